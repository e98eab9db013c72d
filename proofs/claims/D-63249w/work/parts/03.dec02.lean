set_option maxRecDepth 100000
theorem dX9_isLike_50 : decode cX9_isLike 50 = .ok (.if_icmp .eq 61, 3) := by decide +kernel
theorem dX9_isLike_53 : decode cX9_isLike 53 = .ok (.aload_n 0, 1) := by decide +kernel
theorem dX9_isLike_54 : decode cX9_isLike 54 = .ok (.getfield 19, 3) := by decide +kernel
theorem dX9_isLike_57 : decode cX9_isLike 57 = .ok (.iload_n 3, 1) := by decide +kernel
theorem dX9_isLike_58 : decode cX9_isLike 58 = .ok (.caload, 1) := by decide +kernel
theorem dX9_isLike_59 : decode cX9_isLike 59 = .ok (.aload_n 0, 1) := by decide +kernel
theorem dX9_isLike_60 : decode cX9_isLike 60 = .ok (.getfield 19, 3) := by decide +kernel
theorem dX9_isLike_63 : decode cX9_isLike 63 = .ok (.iload 4, 2) := by decide +kernel
theorem dX9_isLike_65 : decode cX9_isLike 65 = .ok (.caload, 1) := by decide +kernel
theorem dX9_isLike_66 : decode cX9_isLike 66 = .ok (.if_icmp .ne 23, 3) := by decide +kernel
theorem dX9_isLike_69 : decode cX9_isLike 69 = .ok (.aload_n 0, 1) := by decide +kernel
theorem dX9_isLike_70 : decode cX9_isLike 70 = .ok (.getfield 23, 3) := by decide +kernel
theorem dX9_isLike_73 : decode cX9_isLike 73 = .ok (.iload_n 3, 1) := by decide +kernel
theorem dX9_isLike_74 : decode cX9_isLike 74 = .ok (.iaload, 1) := by decide +kernel
theorem dX9_isLike_75 : decode cX9_isLike 75 = .ok (.aload_n 0, 1) := by decide +kernel
theorem dX9_isLike_76 : decode cX9_isLike 76 = .ok (.getfield 23, 3) := by decide +kernel
theorem dX9_isLike_79 : decode cX9_isLike 79 = .ok (.iload 4, 2) := by decide +kernel
theorem dX9_isLike_81 : decode cX9_isLike 81 = .ok (.iaload, 1) := by decide +kernel
theorem dX9_isLike_82 : decode cX9_isLike 82 = .ok (.if_icmp .ne 7, 3) := by decide +kernel
theorem dX9_isLike_85 : decode cX9_isLike 85 = .ok (.iconst 1, 1) := by decide +kernel
theorem dX9_isLike_86 : decode cX9_isLike 86 = .ok (.goto 4, 3) := by decide +kernel
theorem dX9_isLike_89 : decode cX9_isLike 89 = .ok (.iconst 0, 1) := by decide +kernel
theorem dX9_isLike_90 : decode cX9_isLike 90 = .ok (.istore 5, 2) := by decide +kernel
theorem dX9_isLike_92 : decode cX9_isLike 92 = .ok (.aload_n 0, 1) := by decide +kernel
theorem dX9_isLike_93 : decode cX9_isLike 93 = .ok (.getfield 26, 3) := by decide +kernel
theorem dX9_isLike_96 : decode cX9_isLike 96 = .ok (.iload_n 3, 1) := by decide +kernel
theorem dX9_isLike_97 : decode cX9_isLike 97 = .ok (.iaload, 1) := by decide +kernel
theorem dX9_isLike_98 : decode cX9_isLike 98 = .ok (.istore_n 3, 1) := by decide +kernel
theorem dX9_isLike_99 : decode cX9_isLike 99 = .ok (.aload_n 0, 1) := by decide +kernel
theorem dX9_isLike_100 : decode cX9_isLike 100 = .ok (.getfield 26, 3) := by decide +kernel
theorem dX9_isLike_103 : decode cX9_isLike 103 = .ok (.iload 4, 2) := by decide +kernel
theorem dX9_isLike_105 : decode cX9_isLike 105 = .ok (.iaload, 1) := by decide +kernel
theorem dX9_isLike_106 : decode cX9_isLike 106 = .ok (.istore 4, 2) := by decide +kernel
theorem dX9_isLike_108 : decode cX9_isLike 108 = .ok (.goto (-71), 3) := by decide +kernel
theorem dX9_isLike_111 : decode cX9_isLike 111 = .ok (.iload 5, 2) := by decide +kernel
theorem dX9_isLike_113 : decode cX9_isLike 113 = .ok (.ifCond .eq 13, 3) := by decide +kernel
theorem dX9_isLike_116 : decode cX9_isLike 116 = .ok (.iload_n 3, 1) := by decide +kernel
theorem dX9_isLike_117 : decode cX9_isLike 117 = .ok (.iload 4, 2) := by decide +kernel
theorem dX9_isLike_119 : decode cX9_isLike 119 = .ok (.if_icmp .ne 7, 3) := by decide +kernel
theorem dX9_isLike_122 : decode cX9_isLike 122 = .ok (.iconst 1, 1) := by decide +kernel
theorem dX9_isLike_123 : decode cX9_isLike 123 = .ok (.goto 4, 3) := by decide +kernel
theorem dX9_isLike_126 : decode cX9_isLike 126 = .ok (.iconst 0, 1) := by decide +kernel
theorem dX9_isLike_127 : decode cX9_isLike 127 = .ok (.ireturn, 1) := by decide +kernel
theorem dX10_init_0 : decode cX10_init 0 = .ok (.aload_n 0, 1) := by decide +kernel
theorem dX10_init_1 : decode cX10_init 1 = .ok (.invokespecial 3, 3) := by decide +kernel
theorem dX10_init_4 : decode cX10_init 4 = .ok (.aload_n 0, 1) := by decide +kernel
theorem dX10_init_5 : decode cX10_init 5 = .ok (.bipush 20, 2) := by decide +kernel
theorem dX10_init_7 : decode cX10_init 7 = .ok (.anewarray 9, 3) := by decide +kernel
theorem dX10_init_10 : decode cX10_init 10 = .ok (.putfield 11, 3) := by decide +kernel
theorem dX10_init_13 : decode cX10_init 13 = .ok (.aload_n 0, 1) := by decide +kernel
theorem dX10_init_14 : decode cX10_init 14 = .ok (.bipush 120, 2) := by decide +kernel
theorem dX10_init_16 : decode cX10_init 16 = .ok (.newarray .int, 2) := by decide +kernel
theorem dX10_init_18 : decode cX10_init 18 = .ok (.putfield 17, 3) := by decide +kernel
theorem dX10_init_21 : decode cX10_init 21 = .ok (.aload_n 0, 1) := by decide +kernel
theorem dX10_init_22 : decode cX10_init 22 = .ok (.bipush 120, 2) := by decide +kernel
theorem dX10_init_24 : decode cX10_init 24 = .ok (.newarray .int, 2) := by decide +kernel
theorem dX10_init_26 : decode cX10_init 26 = .ok (.putfield 21, 3) := by decide +kernel
theorem dX10_init_29 : decode cX10_init 29 = .ok (.aload_n 0, 1) := by decide +kernel
theorem dX10_init_30 : decode cX10_init 30 = .ok (.bipush 120, 2) := by decide +kernel
theorem dX10_init_32 : decode cX10_init 32 = .ok (.newarray .int, 2) := by decide +kernel
theorem dX10_init_34 : decode cX10_init 34 = .ok (.putfield 24, 3) := by decide +kernel
theorem dX10_init_37 : decode cX10_init 37 = .ok (.aload_n 0, 1) := by decide +kernel
theorem dX10_init_38 : decode cX10_init 38 = .ok (.bipush 120, 2) := by decide +kernel
theorem dX10_init_40 : decode cX10_init 40 = .ok (.newarray .int, 2) := by decide +kernel
theorem dX10_init_42 : decode cX10_init 42 = .ok (.putfield 27, 3) := by decide +kernel
theorem dX10_init_45 : decode cX10_init 45 = .ok (.return_, 1) := by decide +kernel
theorem dX10_undo_0 : decode cX10_undo 0 = .ok (.aload_n 0, 1) := by decide +kernel
theorem dX10_undo_1 : decode cX10_undo 1 = .ok (.getfield 38, 3) := by decide +kernel
theorem dX10_undo_4 : decode cX10_undo 4 = .ok (.ifCond .ne 5, 3) := by decide +kernel
theorem dX10_undo_7 : decode cX10_undo 7 = .ok (.iconst (-1), 1) := by decide +kernel
theorem dX10_undo_8 : decode cX10_undo 8 = .ok (.ireturn, 1) := by decide +kernel
theorem dX10_undo_9 : decode cX10_undo 9 = .ok (.aload_n 0, 1) := by decide +kernel
theorem dX10_undo_10 : decode cX10_undo 10 = .ok (.dup, 1) := by decide +kernel
theorem dX10_undo_11 : decode cX10_undo 11 = .ok (.getfield 38, 3) := by decide +kernel
theorem dX10_undo_14 : decode cX10_undo 14 = .ok (.iconst 1, 1) := by decide +kernel
theorem dX10_undo_15 : decode cX10_undo 15 = .ok (.isub, 1) := by decide +kernel
theorem dX10_undo_16 : decode cX10_undo 16 = .ok (.putfield 38, 3) := by decide +kernel
theorem dX10_undo_19 : decode cX10_undo 19 = .ok (.aload_n 0, 1) := by decide +kernel
theorem dX10_undo_20 : decode cX10_undo 20 = .ok (.aload_n 0, 1) := by decide +kernel
theorem dX10_undo_21 : decode cX10_undo 21 = .ok (.getfield 11, 3) := by decide +kernel
theorem dX10_undo_24 : decode cX10_undo 24 = .ok (.aload_n 0, 1) := by decide +kernel
theorem dX10_undo_25 : decode cX10_undo 25 = .ok (.getfield 38, 3) := by decide +kernel
theorem dX10_undo_28 : decode cX10_undo 28 = .ok (.aaload, 1) := by decide +kernel
theorem dX10_undo_29 : decode cX10_undo 29 = .ok (.putfield 30, 3) := by decide +kernel
theorem dX10_undo_32 : decode cX10_undo 32 = .ok (.aload_n 0, 1) := by decide +kernel
theorem dX10_undo_33 : decode cX10_undo 33 = .ok (.iconst 0, 1) := by decide +kernel
theorem dX10_undo_34 : decode cX10_undo 34 = .ok (.putfield 41, 3) := by decide +kernel
theorem dX10_undo_37 : decode cX10_undo 37 = .ok (.aload_n 0, 1) := by decide +kernel
theorem dX10_undo_38 : decode cX10_undo 38 = .ok (.invokevirtual 45, 3) := by decide +kernel
theorem dX10_undo_41 : decode cX10_undo 41 = .ok (.ireturn, 1) := by decide +kernel
theorem dX10_length_0 : decode cX10_length 0 = .ok (.aload_n 0, 1) := by decide +kernel
theorem dX10_length_1 : decode cX10_length 1 = .ok (.getfield 30, 3) := by decide +kernel
theorem dX10_length_4 : decode cX10_length 4 = .ok (.ifnonnull 7, 3) := by decide +kernel
theorem dX10_length_7 : decode cX10_length 7 = .ok (.iconst 0, 1) := by decide +kernel
theorem dX10_length_8 : decode cX10_length 8 = .ok (.goto 10, 3) := by decide +kernel
theorem dX10_length_11 : decode cX10_length 11 = .ok (.aload_n 0, 1) := by decide +kernel
theorem dX10_length_12 : decode cX10_length 12 = .ok (.getfield 30, 3) := by decide +kernel
theorem dX10_length_15 : decode cX10_length 15 = .ok (.getfield 34, 3) := by decide +kernel
theorem dX10_length_18 : decode cX10_length 18 = .ok (.ireturn, 1) := by decide +kernel
theorem dX10_sum_0 : decode cX10_sum 0 = .ok (.iconst 0, 1) := by decide +kernel
theorem dX10_sum_1 : decode cX10_sum 1 = .ok (.istore_n 1, 1) := by decide +kernel
theorem dX10_sum_2 : decode cX10_sum 2 = .ok (.iconst 0, 1) := by decide +kernel
theorem dX10_sum_3 : decode cX10_sum 3 = .ok (.istore_n 2, 1) := by decide +kernel
theorem dX10_sum_4 : decode cX10_sum 4 = .ok (.iload_n 2, 1) := by decide +kernel
theorem dX10_sum_5 : decode cX10_sum 5 = .ok (.aload_n 0, 1) := by decide +kernel
theorem dX10_sum_6 : decode cX10_sum 6 = .ok (.invokevirtual 45, 3) := by decide +kernel
theorem dX10_sum_9 : decode cX10_sum 9 = .ok (.if_icmp .ge 23, 3) := by decide +kernel
theorem dX10_sum_12 : decode cX10_sum 12 = .ok (.bipush 31, 2) := by decide +kernel
theorem dX10_sum_14 : decode cX10_sum 14 = .ok (.iload_n 1, 1) := by decide +kernel
theorem dX10_sum_15 : decode cX10_sum 15 = .ok (.imul, 1) := by decide +kernel
theorem dX10_sum_16 : decode cX10_sum 16 = .ok (.aload_n 0, 1) := by decide +kernel
theorem dX10_sum_17 : decode cX10_sum 17 = .ok (.getfield 30, 3) := by decide +kernel
theorem dX10_sum_20 : decode cX10_sum 20 = .ok (.iload_n 2, 1) := by decide +kernel
theorem dX10_sum_21 : decode cX10_sum 21 = .ok (.invokevirtual 73, 3) := by decide +kernel
theorem dX10_sum_24 : decode cX10_sum 24 = .ok (.iadd, 1) := by decide +kernel
theorem dX10_sum_25 : decode cX10_sum 25 = .ok (.istore_n 1, 1) := by decide +kernel
theorem dX10_sum_26 : decode cX10_sum 26 = .ok (.iinc 2 1, 3) := by decide +kernel
theorem dX10_sum_29 : decode cX10_sum 29 = .ok (.goto (-25), 3) := by decide +kernel
theorem dX10_sum_32 : decode cX10_sum 32 = .ok (.iload_n 1, 1) := by decide +kernel
theorem dX10_sum_33 : decode cX10_sum 33 = .ok (.ireturn, 1) := by decide +kernel
theorem dX10_sort_0 : decode cX10_sort 0 = .ok (.aload_n 0, 1) := by decide +kernel
theorem dX10_sort_1 : decode cX10_sort 1 = .ok (.getfield 41, 3) := by decide +kernel
theorem dX10_sort_4 : decode cX10_sort 4 = .ok (.ifCond .eq 4, 3) := by decide +kernel
theorem dX10_sort_7 : decode cX10_sort 7 = .ok (.return_, 1) := by decide +kernel
theorem dX10_sort_8 : decode cX10_sort 8 = .ok (.aload_n 0, 1) := by decide +kernel
theorem dX10_sort_9 : decode cX10_sort 9 = .ok (.iconst 1, 1) := by decide +kernel
theorem dX10_sort_10 : decode cX10_sort 10 = .ok (.putfield 41, 3) := by decide +kernel
theorem dX10_sort_13 : decode cX10_sort 13 = .ok (.aload_n 0, 1) := by decide +kernel
theorem dX10_sort_14 : decode cX10_sort 14 = .ok (.invokevirtual 45, 3) := by decide +kernel
theorem dX10_sort_17 : decode cX10_sort 17 = .ok (.istore_n 1, 1) := by decide +kernel
theorem dX10_sort_18 : decode cX10_sort 18 = .ok (.iconst 0, 1) := by decide +kernel
theorem dX10_sort_19 : decode cX10_sort 19 = .ok (.istore_n 2, 1) := by decide +kernel
theorem dX10_sort_20 : decode cX10_sort 20 = .ok (.iload_n 2, 1) := by decide +kernel
theorem dX10_sort_21 : decode cX10_sort 21 = .ok (.iload_n 1, 1) := by decide +kernel
theorem dX10_sort_22 : decode cX10_sort 22 = .ok (.if_icmp .ge 30, 3) := by decide +kernel
theorem dX10_sort_25 : decode cX10_sort 25 = .ok (.aload_n 0, 1) := by decide +kernel
theorem dX10_sort_26 : decode cX10_sort 26 = .ok (.getfield 17, 3) := by decide +kernel
theorem dX10_sort_29 : decode cX10_sort 29 = .ok (.iload_n 2, 1) := by decide +kernel
theorem dX10_sort_30 : decode cX10_sort 30 = .ok (.iload_n 2, 1) := by decide +kernel
theorem dX10_sort_31 : decode cX10_sort 31 = .ok (.iastore, 1) := by decide +kernel
theorem dX10_sort_32 : decode cX10_sort 32 = .ok (.aload_n 0, 1) := by decide +kernel
theorem dX10_sort_33 : decode cX10_sort 33 = .ok (.getfield 21, 3) := by decide +kernel
theorem dX10_sort_36 : decode cX10_sort 36 = .ok (.iload_n 2, 1) := by decide +kernel
theorem dX10_sort_37 : decode cX10_sort 37 = .ok (.aload_n 0, 1) := by decide +kernel
theorem dX10_sort_38 : decode cX10_sort 38 = .ok (.getfield 30, 3) := by decide +kernel
theorem dX10_sort_41 : decode cX10_sort 41 = .ok (.iload_n 2, 1) := by decide +kernel
theorem dX10_sort_42 : decode cX10_sort 42 = .ok (.invokevirtual 73, 3) := by decide +kernel
theorem dX10_sort_45 : decode cX10_sort 45 = .ok (.iastore, 1) := by decide +kernel
theorem dX10_sort_46 : decode cX10_sort 46 = .ok (.iinc 2 1, 3) := by decide +kernel
theorem dX10_sort_49 : decode cX10_sort 49 = .ok (.goto (-29), 3) := by decide +kernel
theorem dX10_sort_52 : decode cX10_sort 52 = .ok (.iload_n 1, 1) := by decide +kernel
theorem dX10_sort_53 : decode cX10_sort 53 = .ok (.ifCond .ne 7, 3) := by decide +kernel
theorem dX10_sort_56 : decode cX10_sort 56 = .ok (.iconst 1, 1) := by decide +kernel
theorem dX10_sort_57 : decode cX10_sort 57 = .ok (.goto 4, 3) := by decide +kernel
theorem dX10_sort_60 : decode cX10_sort 60 = .ok (.iconst 0, 1) := by decide +kernel
theorem dX10_sort_61 : decode cX10_sort 61 = .ok (.istore_n 2, 1) := by decide +kernel
theorem dX10_sort_62 : decode cX10_sort 62 = .ok (.iconst 1, 1) := by decide +kernel
theorem dX10_sort_63 : decode cX10_sort 63 = .ok (.istore_n 3, 1) := by decide +kernel
theorem dX10_sort_64 : decode cX10_sort 64 = .ok (.iload_n 2, 1) := by decide +kernel
theorem dX10_sort_65 : decode cX10_sort 65 = .ok (.ifCond .ne 230, 3) := by decide +kernel
theorem dX10_sort_68 : decode cX10_sort 68 = .ok (.iconst 1, 1) := by decide +kernel
theorem dX10_sort_69 : decode cX10_sort 69 = .ok (.istore 4, 2) := by decide +kernel
theorem dX10_sort_71 : decode cX10_sort 71 = .ok (.iload 4, 2) := by decide +kernel
theorem dX10_sort_73 : decode cX10_sort 73 = .ok (.iload_n 1, 1) := by decide +kernel
theorem dX10_sort_74 : decode cX10_sort 74 = .ok (.if_icmp .ge 77, 3) := by decide +kernel
theorem dX10_sort_77 : decode cX10_sort 77 = .ok (.aload_n 0, 1) := by decide +kernel
theorem dX10_sort_78 : decode cX10_sort 78 = .ok (.getfield 17, 3) := by decide +kernel
theorem dX10_sort_81 : decode cX10_sort 81 = .ok (.iload 4, 2) := by decide +kernel
theorem dX10_sort_83 : decode cX10_sort 83 = .ok (.iaload, 1) := by decide +kernel
theorem dX10_sort_84 : decode cX10_sort 84 = .ok (.istore 5, 2) := by decide +kernel
theorem dX10_sort_86 : decode cX10_sort 86 = .ok (.iload 4, 2) := by decide +kernel
theorem dX10_sort_88 : decode cX10_sort 88 = .ok (.istore 6, 2) := by decide +kernel
theorem dX10_sort_90 : decode cX10_sort 90 = .ok (.iload 6, 2) := by decide +kernel
theorem dX10_sort_92 : decode cX10_sort 92 = .ok (.ifCond .le 44, 3) := by decide +kernel
theorem dX10_sort_95 : decode cX10_sort 95 = .ok (.aload_n 0, 1) := by decide +kernel
theorem dX10_sort_96 : decode cX10_sort 96 = .ok (.aload_n 0, 1) := by decide +kernel
theorem dX10_sort_97 : decode cX10_sort 97 = .ok (.getfield 17, 3) := by decide +kernel
theorem dX10_sort_100 : decode cX10_sort 100 = .ok (.iload 6, 2) := by decide +kernel
theorem dX10_sort_102 : decode cX10_sort 102 = .ok (.iconst 1, 1) := by decide +kernel
theorem dX10_sort_103 : decode cX10_sort 103 = .ok (.isub, 1) := by decide +kernel
theorem dX10_sort_104 : decode cX10_sort 104 = .ok (.iaload, 1) := by decide +kernel
theorem dX10_sort_105 : decode cX10_sort 105 = .ok (.iload 5, 2) := by decide +kernel
theorem dX10_sort_107 : decode cX10_sort 107 = .ok (.iload_n 3, 1) := by decide +kernel
theorem dX10_sort_108 : decode cX10_sort 108 = .ok (.invokevirtual 87, 3) := by decide +kernel
theorem dX10_sort_111 : decode cX10_sort 111 = .ok (.ifCond .le 25, 3) := by decide +kernel
theorem dX10_sort_114 : decode cX10_sort 114 = .ok (.aload_n 0, 1) := by decide +kernel
theorem dX10_sort_115 : decode cX10_sort 115 = .ok (.getfield 17, 3) := by decide +kernel
theorem dX10_sort_118 : decode cX10_sort 118 = .ok (.iload 6, 2) := by decide +kernel
theorem dX10_sort_120 : decode cX10_sort 120 = .ok (.aload_n 0, 1) := by decide +kernel
theorem dX10_sort_121 : decode cX10_sort 121 = .ok (.getfield 17, 3) := by decide +kernel
theorem dX10_sort_124 : decode cX10_sort 124 = .ok (.iload 6, 2) := by decide +kernel
theorem dX10_sort_126 : decode cX10_sort 126 = .ok (.iconst 1, 1) := by decide +kernel
theorem dX10_sort_127 : decode cX10_sort 127 = .ok (.isub, 1) := by decide +kernel
theorem dX10_sort_128 : decode cX10_sort 128 = .ok (.iaload, 1) := by decide +kernel
theorem dX10_sort_129 : decode cX10_sort 129 = .ok (.iastore, 1) := by decide +kernel
theorem dX10_sort_130 : decode cX10_sort 130 = .ok (.iinc 6 (-1), 3) := by decide +kernel
theorem dX10_sort_133 : decode cX10_sort 133 = .ok (.goto (-43), 3) := by decide +kernel
theorem dX10_sort_136 : decode cX10_sort 136 = .ok (.aload_n 0, 1) := by decide +kernel
theorem dX10_sort_137 : decode cX10_sort 137 = .ok (.getfield 17, 3) := by decide +kernel
theorem dX10_sort_140 : decode cX10_sort 140 = .ok (.iload 6, 2) := by decide +kernel
theorem dX10_sort_142 : decode cX10_sort 142 = .ok (.iload 5, 2) := by decide +kernel
theorem dX10_sort_144 : decode cX10_sort 144 = .ok (.iastore, 1) := by decide +kernel
theorem dX10_sort_145 : decode cX10_sort 145 = .ok (.iinc 4 1, 3) := by decide +kernel
theorem dX10_sort_148 : decode cX10_sort 148 = .ok (.goto (-77), 3) := by decide +kernel
theorem dX10_sort_151 : decode cX10_sort 151 = .ok (.aload_n 0, 1) := by decide +kernel
theorem dX10_sort_152 : decode cX10_sort 152 = .ok (.getfield 24, 3) := by decide +kernel
theorem dX10_sort_155 : decode cX10_sort 155 = .ok (.aload_n 0, 1) := by decide +kernel
theorem dX10_sort_156 : decode cX10_sort 156 = .ok (.getfield 17, 3) := by decide +kernel
theorem dX10_sort_159 : decode cX10_sort 159 = .ok (.iconst 0, 1) := by decide +kernel
theorem dX10_sort_160 : decode cX10_sort 160 = .ok (.iaload, 1) := by decide +kernel
theorem dX10_sort_161 : decode cX10_sort 161 = .ok (.iconst 0, 1) := by decide +kernel
theorem dX10_sort_162 : decode cX10_sort 162 = .ok (.iastore, 1) := by decide +kernel
theorem dX10_sort_163 : decode cX10_sort 163 = .ok (.iconst 1, 1) := by decide +kernel
theorem dX10_sort_164 : decode cX10_sort 164 = .ok (.istore 4, 2) := by decide +kernel
theorem dX10_sort_166 : decode cX10_sort 166 = .ok (.iload 4, 2) := by decide +kernel
theorem dX10_sort_168 : decode cX10_sort 168 = .ok (.iload_n 1, 1) := by decide +kernel
theorem dX10_sort_169 : decode cX10_sort 169 = .ok (.if_icmp .ge 65, 3) := by decide +kernel
theorem dX10_sort_172 : decode cX10_sort 172 = .ok (.aload_n 0, 1) := by decide +kernel
theorem dX10_sort_173 : decode cX10_sort 173 = .ok (.getfield 24, 3) := by decide +kernel
theorem dX10_sort_176 : decode cX10_sort 176 = .ok (.aload_n 0, 1) := by decide +kernel
theorem dX10_sort_177 : decode cX10_sort 177 = .ok (.getfield 17, 3) := by decide +kernel
theorem dX10_sort_180 : decode cX10_sort 180 = .ok (.iload 4, 2) := by decide +kernel
theorem dX10_sort_182 : decode cX10_sort 182 = .ok (.iaload, 1) := by decide +kernel
theorem dX10_sort_183 : decode cX10_sort 183 = .ok (.aload_n 0, 1) := by decide +kernel
theorem dX10_sort_184 : decode cX10_sort 184 = .ok (.getfield 24, 3) := by decide +kernel
theorem dX10_sort_187 : decode cX10_sort 187 = .ok (.aload_n 0, 1) := by decide +kernel
theorem dX10_sort_188 : decode cX10_sort 188 = .ok (.getfield 17, 3) := by decide +kernel
theorem dX10_sort_191 : decode cX10_sort 191 = .ok (.iload 4, 2) := by decide +kernel
theorem dX10_sort_193 : decode cX10_sort 193 = .ok (.iconst 1, 1) := by decide +kernel
theorem dX10_sort_194 : decode cX10_sort 194 = .ok (.isub, 1) := by decide +kernel
theorem dX10_sort_195 : decode cX10_sort 195 = .ok (.iaload, 1) := by decide +kernel
theorem dX10_sort_196 : decode cX10_sort 196 = .ok (.iaload, 1) := by decide +kernel
theorem dX10_sort_197 : decode cX10_sort 197 = .ok (.aload_n 0, 1) := by decide +kernel
theorem dX10_sort_198 : decode cX10_sort 198 = .ok (.aload_n 0, 1) := by decide +kernel
theorem dX10_sort_199 : decode cX10_sort 199 = .ok (.getfield 17, 3) := by decide +kernel
theorem dX10_sort_202 : decode cX10_sort 202 = .ok (.iload 4, 2) := by decide +kernel
theorem dX10_sort_204 : decode cX10_sort 204 = .ok (.iconst 1, 1) := by decide +kernel
theorem dX10_sort_205 : decode cX10_sort 205 = .ok (.isub, 1) := by decide +kernel
theorem dX10_sort_206 : decode cX10_sort 206 = .ok (.iaload, 1) := by decide +kernel
theorem dX10_sort_207 : decode cX10_sort 207 = .ok (.aload_n 0, 1) := by decide +kernel
theorem dX10_sort_208 : decode cX10_sort 208 = .ok (.getfield 17, 3) := by decide +kernel
theorem dX10_sort_211 : decode cX10_sort 211 = .ok (.iload 4, 2) := by decide +kernel
theorem dX10_sort_213 : decode cX10_sort 213 = .ok (.iaload, 1) := by decide +kernel
theorem dX10_sort_214 : decode cX10_sort 214 = .ok (.iload_n 3, 1) := by decide +kernel
theorem dX10_sort_215 : decode cX10_sort 215 = .ok (.invokevirtual 87, 3) := by decide +kernel
theorem dX10_sort_218 : decode cX10_sort 218 = .ok (.ifCond .ge 7, 3) := by decide +kernel
theorem dX10_sort_221 : decode cX10_sort 221 = .ok (.iconst 1, 1) := by decide +kernel
theorem dX10_sort_222 : decode cX10_sort 222 = .ok (.goto 4, 3) := by decide +kernel
theorem dX10_sort_225 : decode cX10_sort 225 = .ok (.iconst 0, 1) := by decide +kernel
theorem dX10_sort_226 : decode cX10_sort 226 = .ok (.iadd, 1) := by decide +kernel
theorem dX10_sort_227 : decode cX10_sort 227 = .ok (.iastore, 1) := by decide +kernel
theorem dX10_sort_228 : decode cX10_sort 228 = .ok (.iinc 4 1, 3) := by decide +kernel
theorem dX10_sort_231 : decode cX10_sort 231 = .ok (.goto (-65), 3) := by decide +kernel
theorem dX10_sort_234 : decode cX10_sort 234 = .ok (.iconst 0, 1) := by decide +kernel
theorem dX10_sort_235 : decode cX10_sort 235 = .ok (.istore 4, 2) := by decide +kernel
theorem dX10_sort_237 : decode cX10_sort 237 = .ok (.iload 4, 2) := by decide +kernel
theorem dX10_sort_239 : decode cX10_sort 239 = .ok (.iload_n 1, 1) := by decide +kernel
theorem dX10_sort_240 : decode cX10_sort 240 = .ok (.if_icmp .ge 23, 3) := by decide +kernel
theorem dX10_sort_243 : decode cX10_sort 243 = .ok (.aload_n 0, 1) := by decide +kernel
theorem dX10_sort_244 : decode cX10_sort 244 = .ok (.getfield 21, 3) := by decide +kernel
theorem dX10_sort_247 : decode cX10_sort 247 = .ok (.iload 4, 2) := by decide +kernel
theorem dX10_sort_249 : decode cX10_sort 249 = .ok (.aload_n 0, 1) := by decide +kernel
theorem dX10_sort_250 : decode cX10_sort 250 = .ok (.getfield 24, 3) := by decide +kernel
theorem dX10_sort_253 : decode cX10_sort 253 = .ok (.iload 4, 2) := by decide +kernel
theorem dX10_sort_255 : decode cX10_sort 255 = .ok (.iaload, 1) := by decide +kernel
theorem dX10_sort_256 : decode cX10_sort 256 = .ok (.iastore, 1) := by decide +kernel
theorem dX10_sort_257 : decode cX10_sort 257 = .ok (.iinc 4 1, 3) := by decide +kernel
theorem dX10_sort_260 : decode cX10_sort 260 = .ok (.goto (-23), 3) := by decide +kernel
theorem dX10_sort_263 : decode cX10_sort 263 = .ok (.aload_n 0, 1) := by decide +kernel
theorem dX10_sort_264 : decode cX10_sort 264 = .ok (.getfield 21, 3) := by decide +kernel
theorem dX10_sort_267 : decode cX10_sort 267 = .ok (.aload_n 0, 1) := by decide +kernel
theorem dX10_sort_268 : decode cX10_sort 268 = .ok (.getfield 17, 3) := by decide +kernel
theorem dX10_sort_271 : decode cX10_sort 271 = .ok (.iload_n 1, 1) := by decide +kernel
theorem dX10_sort_272 : decode cX10_sort 272 = .ok (.iconst 1, 1) := by decide +kernel
theorem dX10_sort_273 : decode cX10_sort 273 = .ok (.isub, 1) := by decide +kernel
theorem dX10_sort_274 : decode cX10_sort 274 = .ok (.iaload, 1) := by decide +kernel
theorem dX10_sort_275 : decode cX10_sort 275 = .ok (.iaload, 1) := by decide +kernel
theorem dX10_sort_276 : decode cX10_sort 276 = .ok (.iload_n 1, 1) := by decide +kernel
theorem dX10_sort_277 : decode cX10_sort 277 = .ok (.iconst 1, 1) := by decide +kernel
theorem dX10_sort_278 : decode cX10_sort 278 = .ok (.isub, 1) := by decide +kernel
theorem dX10_sort_279 : decode cX10_sort 279 = .ok (.if_icmp .ne 7, 3) := by decide +kernel
theorem dX10_sort_282 : decode cX10_sort 282 = .ok (.iconst 1, 1) := by decide +kernel
theorem dX10_sort_283 : decode cX10_sort 283 = .ok (.goto 4, 3) := by decide +kernel
theorem dX10_sort_286 : decode cX10_sort 286 = .ok (.iconst 0, 1) := by decide +kernel
theorem dX10_sort_287 : decode cX10_sort 287 = .ok (.istore_n 2, 1) := by decide +kernel
theorem dX10_sort_288 : decode cX10_sort 288 = .ok (.iload_n 3, 1) := by decide +kernel
theorem dX10_sort_289 : decode cX10_sort 289 = .ok (.iconst 2, 1) := by decide +kernel
theorem dX10_sort_290 : decode cX10_sort 290 = .ok (.imul, 1) := by decide +kernel
theorem dX10_sort_291 : decode cX10_sort 291 = .ok (.istore_n 3, 1) := by decide +kernel
theorem dX10_sort_292 : decode cX10_sort 292 = .ok (.goto (-228), 3) := by decide +kernel
theorem dX10_sort_295 : decode cX10_sort 295 = .ok (.aload_n 0, 1) := by decide +kernel
theorem dX10_sort_296 : decode cX10_sort 296 = .ok (.iload_n 1, 1) := by decide +kernel
theorem dX10_sort_297 : decode cX10_sort 297 = .ok (.invokevirtual 90, 3) := by decide +kernel
theorem dX10_sort_300 : decode cX10_sort 300 = .ok (.return_, 1) := by decide +kernel
theorem dX10_compare_0 : decode cX10_compare 0 = .ok (.aload_n 0, 1) := by decide +kernel
theorem dX10_compare_1 : decode cX10_compare 1 = .ok (.getfield 21, 3) := by decide +kernel
theorem dX10_compare_4 : decode cX10_compare 4 = .ok (.iload_n 1, 1) := by decide +kernel
theorem dX10_compare_5 : decode cX10_compare 5 = .ok (.iaload, 1) := by decide +kernel
theorem dX10_compare_6 : decode cX10_compare 6 = .ok (.aload_n 0, 1) := by decide +kernel
theorem dX10_compare_7 : decode cX10_compare 7 = .ok (.getfield 21, 3) := by decide +kernel
theorem dX10_compare_10 : decode cX10_compare 10 = .ok (.iload_n 2, 1) := by decide +kernel
theorem dX10_compare_11 : decode cX10_compare 11 = .ok (.iaload, 1) := by decide +kernel
theorem dX10_compare_12 : decode cX10_compare 12 = .ok (.if_icmp .eq 21, 3) := by decide +kernel
theorem dX10_compare_15 : decode cX10_compare 15 = .ok (.aload_n 0, 1) := by decide +kernel
theorem dX10_compare_16 : decode cX10_compare 16 = .ok (.getfield 21, 3) := by decide +kernel
theorem dX10_compare_19 : decode cX10_compare 19 = .ok (.iload_n 1, 1) := by decide +kernel
theorem dX10_compare_20 : decode cX10_compare 20 = .ok (.iaload, 1) := by decide +kernel
theorem dX10_compare_21 : decode cX10_compare 21 = .ok (.aload_n 0, 1) := by decide +kernel
theorem dX10_compare_22 : decode cX10_compare 22 = .ok (.getfield 21, 3) := by decide +kernel
theorem dX10_compare_25 : decode cX10_compare 25 = .ok (.iload_n 2, 1) := by decide +kernel
theorem dX10_compare_26 : decode cX10_compare 26 = .ok (.iaload, 1) := by decide +kernel
theorem dX10_compare_27 : decode cX10_compare 27 = .ok (.invokestatic 77, 3) := by decide +kernel
theorem dX10_compare_30 : decode cX10_compare 30 = .ok (.goto 20, 3) := by decide +kernel
theorem dX10_compare_33 : decode cX10_compare 33 = .ok (.aload_n 0, 1) := by decide +kernel
theorem dX10_compare_34 : decode cX10_compare 34 = .ok (.iload_n 1, 1) := by decide +kernel
theorem dX10_compare_35 : decode cX10_compare 35 = .ok (.iload_n 3, 1) := by decide +kernel
theorem dX10_compare_36 : decode cX10_compare 36 = .ok (.iadd, 1) := by decide +kernel
theorem dX10_compare_37 : decode cX10_compare 37 = .ok (.invokevirtual 83, 3) := by decide +kernel
theorem dX10_compare_40 : decode cX10_compare 40 = .ok (.aload_n 0, 1) := by decide +kernel
theorem dX10_compare_41 : decode cX10_compare 41 = .ok (.iload_n 2, 1) := by decide +kernel
theorem dX10_compare_42 : decode cX10_compare 42 = .ok (.iload_n 3, 1) := by decide +kernel
theorem dX10_compare_43 : decode cX10_compare 43 = .ok (.iadd, 1) := by decide +kernel
theorem dX10_compare_44 : decode cX10_compare 44 = .ok (.invokevirtual 83, 3) := by decide +kernel
theorem dX10_compare_47 : decode cX10_compare 47 = .ok (.invokestatic 77, 3) := by decide +kernel
theorem dX10_compare_50 : decode cX10_compare 50 = .ok (.ireturn, 1) := by decide +kernel
theorem dX10_rank_0 : decode cX10_rank 0 = .ok (.iload_n 1, 1) := by decide +kernel
theorem dX10_rank_1 : decode cX10_rank 1 = .ok (.aload_n 0, 1) := by decide +kernel
theorem dX10_rank_2 : decode cX10_rank 2 = .ok (.invokevirtual 45, 3) := by decide +kernel
theorem dX10_rank_5 : decode cX10_rank 5 = .ok (.if_icmp .ge 12, 3) := by decide +kernel
theorem dX10_rank_8 : decode cX10_rank 8 = .ok (.aload_n 0, 1) := by decide +kernel
theorem dX10_rank_9 : decode cX10_rank 9 = .ok (.getfield 21, 3) := by decide +kernel
theorem dX10_rank_12 : decode cX10_rank 12 = .ok (.iload_n 1, 1) := by decide +kernel
theorem dX10_rank_13 : decode cX10_rank 13 = .ok (.iaload, 1) := by decide +kernel
theorem dX10_rank_14 : decode cX10_rank 14 = .ok (.goto 4, 3) := by decide +kernel
theorem dX10_rank_17 : decode cX10_rank 17 = .ok (.iconst (-1), 1) := by decide +kernel
theorem dX10_rank_18 : decode cX10_rank 18 = .ok (.ireturn, 1) := by decide +kernel
theorem dX10_share_0 : decode cX10_share 0 = .ok (.iconst 0, 1) := by decide +kernel
theorem dX10_share_1 : decode cX10_share 1 = .ok (.istore_n 2, 1) := by decide +kernel
theorem dX10_share_2 : decode cX10_share 2 = .ok (.iconst 0, 1) := by decide +kernel
theorem dX10_share_3 : decode cX10_share 3 = .ok (.istore_n 3, 1) := by decide +kernel
theorem dX10_share_4 : decode cX10_share 4 = .ok (.iload_n 3, 1) := by decide +kernel
theorem dX10_share_5 : decode cX10_share 5 = .ok (.iload_n 1, 1) := by decide +kernel
theorem dX10_share_6 : decode cX10_share 6 = .ok (.if_icmp .ge 110, 3) := by decide +kernel
theorem dX10_share_9 : decode cX10_share 9 = .ok (.aload_n 0, 1) := by decide +kernel
theorem dX10_share_10 : decode cX10_share 10 = .ok (.getfield 21, 3) := by decide +kernel
theorem dX10_share_13 : decode cX10_share 13 = .ok (.iload_n 3, 1) := by decide +kernel
theorem dX10_share_14 : decode cX10_share 14 = .ok (.iaload, 1) := by decide +kernel
theorem dX10_share_15 : decode cX10_share 15 = .ok (.ifCond .ne 15, 3) := by decide +kernel
theorem dX10_share_18 : decode cX10_share 18 = .ok (.aload_n 0, 1) := by decide +kernel
theorem dX10_share_19 : decode cX10_share 19 = .ok (.getfield 27, 3) := by decide +kernel
theorem dX10_share_22 : decode cX10_share 22 = .ok (.iconst 0, 1) := by decide +kernel
theorem dX10_share_23 : decode cX10_share 23 = .ok (.iconst 0, 1) := by decide +kernel
theorem dX10_share_24 : decode cX10_share 24 = .ok (.iastore, 1) := by decide +kernel
theorem dX10_share_25 : decode cX10_share 25 = .ok (.iconst 0, 1) := by decide +kernel
theorem dX10_share_26 : decode cX10_share 26 = .ok (.istore_n 2, 1) := by decide +kernel
theorem dX10_share_27 : decode cX10_share 27 = .ok (.goto 83, 3) := by decide +kernel
theorem dX10_share_30 : decode cX10_share 30 = .ok (.aload_n 0, 1) := by decide +kernel
theorem dX10_share_31 : decode cX10_share 31 = .ok (.getfield 17, 3) := by decide +kernel
theorem dX10_share_34 : decode cX10_share 34 = .ok (.aload_n 0, 1) := by decide +kernel
theorem dX10_share_35 : decode cX10_share 35 = .ok (.getfield 21, 3) := by decide +kernel
theorem dX10_share_38 : decode cX10_share 38 = .ok (.iload_n 3, 1) := by decide +kernel
theorem dX10_share_39 : decode cX10_share 39 = .ok (.iaload, 1) := by decide +kernel
theorem dX10_share_40 : decode cX10_share 40 = .ok (.iconst 1, 1) := by decide +kernel
theorem dX10_share_41 : decode cX10_share 41 = .ok (.isub, 1) := by decide +kernel
theorem dX10_share_42 : decode cX10_share 42 = .ok (.iaload, 1) := by decide +kernel
theorem dX10_share_43 : decode cX10_share 43 = .ok (.istore 4, 2) := by decide +kernel
theorem dX10_share_45 : decode cX10_share 45 = .ok (.iload_n 3, 1) := by decide +kernel
theorem dX10_share_46 : decode cX10_share 46 = .ok (.iload_n 2, 1) := by decide +kernel
theorem dX10_share_47 : decode cX10_share 47 = .ok (.iadd, 1) := by decide +kernel
theorem dX10_share_48 : decode cX10_share 48 = .ok (.iload_n 1, 1) := by decide +kernel
theorem dX10_share_49 : decode cX10_share 49 = .ok (.if_icmp .ge 41, 3) := by decide +kernel
theorem dX10_share_52 : decode cX10_share 52 = .ok (.iload 4, 2) := by decide +kernel
theorem dX10_share_54 : decode cX10_share 54 = .ok (.iload_n 2, 1) := by decide +kernel
theorem dX10_share_55 : decode cX10_share 55 = .ok (.iadd, 1) := by decide +kernel
theorem dX10_share_56 : decode cX10_share 56 = .ok (.iload_n 1, 1) := by decide +kernel
theorem dX10_share_57 : decode cX10_share 57 = .ok (.if_icmp .ge 33, 3) := by decide +kernel
theorem dX10_share_60 : decode cX10_share 60 = .ok (.aload_n 0, 1) := by decide +kernel
theorem dX10_share_61 : decode cX10_share 61 = .ok (.getfield 30, 3) := by decide +kernel
theorem dX10_share_64 : decode cX10_share 64 = .ok (.iload_n 3, 1) := by decide +kernel
theorem dX10_share_65 : decode cX10_share 65 = .ok (.iload_n 2, 1) := by decide +kernel
theorem dX10_share_66 : decode cX10_share 66 = .ok (.iadd, 1) := by decide +kernel
theorem dX10_share_67 : decode cX10_share 67 = .ok (.invokevirtual 73, 3) := by decide +kernel
theorem dX10_share_70 : decode cX10_share 70 = .ok (.aload_n 0, 1) := by decide +kernel
theorem dX10_share_71 : decode cX10_share 71 = .ok (.getfield 30, 3) := by decide +kernel
theorem dX10_share_74 : decode cX10_share 74 = .ok (.iload 4, 2) := by decide +kernel
theorem dX10_share_76 : decode cX10_share 76 = .ok (.iload_n 2, 1) := by decide +kernel
theorem dX10_share_77 : decode cX10_share 77 = .ok (.iadd, 1) := by decide +kernel
theorem dX10_share_78 : decode cX10_share 78 = .ok (.invokevirtual 73, 3) := by decide +kernel
theorem dX10_share_81 : decode cX10_share 81 = .ok (.if_icmp .ne 9, 3) := by decide +kernel
theorem dX10_share_84 : decode cX10_share 84 = .ok (.iinc 2 1, 3) := by decide +kernel
theorem dX10_share_87 : decode cX10_share 87 = .ok (.goto (-42), 3) := by decide +kernel
theorem dX10_share_90 : decode cX10_share 90 = .ok (.aload_n 0, 1) := by decide +kernel
theorem dX10_share_91 : decode cX10_share 91 = .ok (.getfield 27, 3) := by decide +kernel
theorem dX10_share_94 : decode cX10_share 94 = .ok (.aload_n 0, 1) := by decide +kernel
theorem dX10_share_95 : decode cX10_share 95 = .ok (.getfield 21, 3) := by decide +kernel
theorem dX10_share_98 : decode cX10_share 98 = .ok (.iload_n 3, 1) := by decide +kernel
theorem dX10_share_99 : decode cX10_share 99 = .ok (.iaload, 1) := by decide +kernel
theorem dX10_share_100 : decode cX10_share 100 = .ok (.iload_n 2, 1) := by decide +kernel
theorem dX10_share_101 : decode cX10_share 101 = .ok (.iastore, 1) := by decide +kernel
theorem dX10_share_102 : decode cX10_share 102 = .ok (.iconst 0, 1) := by decide +kernel
theorem dX10_share_103 : decode cX10_share 103 = .ok (.iload_n 2, 1) := by decide +kernel
theorem dX10_share_104 : decode cX10_share 104 = .ok (.iconst 1, 1) := by decide +kernel
theorem dX10_share_105 : decode cX10_share 105 = .ok (.isub, 1) := by decide +kernel
theorem dX10_share_106 : decode cX10_share 106 = .ok (.invokestatic 94, 3) := by decide +kernel
theorem dX10_share_109 : decode cX10_share 109 = .ok (.istore_n 2, 1) := by decide +kernel
theorem dX10_share_110 : decode cX10_share 110 = .ok (.iinc 3 1, 3) := by decide +kernel
theorem dX10_share_113 : decode cX10_share 113 = .ok (.goto (-109), 3) := by decide +kernel
theorem dX10_share_116 : decode cX10_share 116 = .ok (.return_, 1) := by decide +kernel
theorem dX10_bound_0 : decode cX10_bound 0 = .ok (.aload_n 0, 1) := by decide +kernel
theorem dX10_bound_1 : decode cX10_bound 1 = .ok (.invokevirtual 99, 3) := by decide +kernel
theorem dX10_bound_4 : decode cX10_bound 4 = .ok (.iconst 0, 1) := by decide +kernel
theorem dX10_bound_5 : decode cX10_bound 5 = .ok (.istore_n 3, 1) := by decide +kernel
theorem dX10_bound_6 : decode cX10_bound 6 = .ok (.aload_n 0, 1) := by decide +kernel
theorem dX10_bound_7 : decode cX10_bound 7 = .ok (.invokevirtual 45, 3) := by decide +kernel
theorem dX10_bound_10 : decode cX10_bound 10 = .ok (.istore 4, 2) := by decide +kernel
theorem dX10_bound_12 : decode cX10_bound 12 = .ok (.iload_n 3, 1) := by decide +kernel
theorem dX10_bound_13 : decode cX10_bound 13 = .ok (.iload 4, 2) := by decide +kernel
theorem dX10_bound_15 : decode cX10_bound 15 = .ok (.if_icmp .ge 42, 3) := by decide +kernel
theorem dX10_bound_18 : decode cX10_bound 18 = .ok (.iload_n 3, 1) := by decide +kernel
theorem dX10_bound_19 : decode cX10_bound 19 = .ok (.iload 4, 2) := by decide +kernel
theorem dX10_bound_21 : decode cX10_bound 21 = .ok (.iadd, 1) := by decide +kernel
theorem dX10_bound_22 : decode cX10_bound 22 = .ok (.iconst 2, 1) := by decide +kernel
theorem dX10_bound_23 : decode cX10_bound 23 = .ok (.idiv, 1) := by decide +kernel
theorem dX10_bound_24 : decode cX10_bound 24 = .ok (.istore 5, 2) := by decide +kernel
theorem dX10_bound_26 : decode cX10_bound 26 = .ok (.aload_n 0, 1) := by decide +kernel
theorem dX10_bound_27 : decode cX10_bound 27 = .ok (.aload_n 0, 1) := by decide +kernel
theorem dX10_bound_28 : decode cX10_bound 28 = .ok (.getfield 17, 3) := by decide +kernel
theorem dX10_bound_31 : decode cX10_bound 31 = .ok (.iload 5, 2) := by decide +kernel
theorem dX10_bound_33 : decode cX10_bound 33 = .ok (.iaload, 1) := by decide +kernel
theorem dX10_bound_34 : decode cX10_bound 34 = .ok (.aload_n 1, 1) := by decide +kernel
theorem dX10_bound_35 : decode cX10_bound 35 = .ok (.iload_n 2, 1) := by decide +kernel
theorem dX10_bound_36 : decode cX10_bound 36 = .ok (.invokevirtual 102, 3) := by decide +kernel
theorem dX10_bound_39 : decode cX10_bound 39 = .ok (.ifCond .eq 11, 3) := by decide +kernel
theorem dX10_bound_42 : decode cX10_bound 42 = .ok (.iload 5, 2) := by decide +kernel
theorem dX10_bound_44 : decode cX10_bound 44 = .ok (.iconst 1, 1) := by decide +kernel
theorem dX10_bound_45 : decode cX10_bound 45 = .ok (.iadd, 1) := by decide +kernel
theorem dX10_bound_46 : decode cX10_bound 46 = .ok (.istore_n 3, 1) := by decide +kernel
theorem dX10_bound_47 : decode cX10_bound 47 = .ok (.goto 7, 3) := by decide +kernel
theorem dX10_bound_50 : decode cX10_bound 50 = .ok (.iload 5, 2) := by decide +kernel
theorem dX10_bound_52 : decode cX10_bound 52 = .ok (.istore 4, 2) := by decide +kernel
theorem dX10_bound_54 : decode cX10_bound 54 = .ok (.goto (-42), 3) := by decide +kernel
theorem dX10_bound_57 : decode cX10_bound 57 = .ok (.iload_n 3, 1) := by decide +kernel
theorem dX10_bound_58 : decode cX10_bound 58 = .ok (.ireturn, 1) := by decide +kernel
theorem dX10_isBefore_0 : decode cX10_isBefore 0 = .ok (.iconst 0, 1) := by decide +kernel
theorem dX10_isBefore_1 : decode cX10_isBefore 1 = .ok (.istore 4, 2) := by decide +kernel
theorem dX10_isBefore_3 : decode cX10_isBefore 3 = .ok (.iload 4, 2) := by decide +kernel
theorem dX10_isBefore_5 : decode cX10_isBefore 5 = .ok (.aload_n 2, 1) := by decide +kernel
theorem dX10_isBefore_6 : decode cX10_isBefore 6 = .ok (.getfield 58, 3) := by decide +kernel
theorem dX10_isBefore_9 : decode cX10_isBefore 9 = .ok (.if_icmp .ge 65, 3) := by decide +kernel
theorem dX10_isBefore_12 : decode cX10_isBefore 12 = .ok (.iload_n 1, 1) := by decide +kernel
theorem dX10_isBefore_13 : decode cX10_isBefore 13 = .ok (.iload 4, 2) := by decide +kernel
theorem dX10_isBefore_15 : decode cX10_isBefore 15 = .ok (.iadd, 1) := by decide +kernel
theorem dX10_isBefore_16 : decode cX10_isBefore 16 = .ok (.aload_n 0, 1) := by decide +kernel
theorem dX10_isBefore_17 : decode cX10_isBefore 17 = .ok (.invokevirtual 45, 3) := by decide +kernel
theorem dX10_isBefore_20 : decode cX10_isBefore 20 = .ok (.if_icmp .lt 5, 3) := by decide +kernel
theorem dX10_isBefore_23 : decode cX10_isBefore 23 = .ok (.iconst 1, 1) := by decide +kernel
theorem dX10_isBefore_24 : decode cX10_isBefore 24 = .ok (.ireturn, 1) := by decide +kernel
theorem dX10_isBefore_25 : decode cX10_isBefore 25 = .ok (.aload_n 0, 1) := by decide +kernel
theorem dX10_isBefore_26 : decode cX10_isBefore 26 = .ok (.getfield 30, 3) := by decide +kernel
theorem dX10_isBefore_29 : decode cX10_isBefore 29 = .ok (.iload_n 1, 1) := by decide +kernel
theorem dX10_isBefore_30 : decode cX10_isBefore 30 = .ok (.iload 4, 2) := by decide +kernel
theorem dX10_isBefore_32 : decode cX10_isBefore 32 = .ok (.iadd, 1) := by decide +kernel
theorem dX10_isBefore_33 : decode cX10_isBefore 33 = .ok (.invokevirtual 73, 3) := by decide +kernel
theorem dX10_isBefore_36 : decode cX10_isBefore 36 = .ok (.istore 5, 2) := by decide +kernel
theorem dX10_isBefore_38 : decode cX10_isBefore 38 = .ok (.iload 5, 2) := by decide +kernel
theorem dX10_isBefore_40 : decode cX10_isBefore 40 = .ok (.aload_n 2, 1) := by decide +kernel
theorem dX10_isBefore_41 : decode cX10_isBefore 41 = .ok (.getfield 52, 3) := by decide +kernel
theorem dX10_isBefore_44 : decode cX10_isBefore 44 = .ok (.iload 4, 2) := by decide +kernel
theorem dX10_isBefore_46 : decode cX10_isBefore 46 = .ok (.caload, 1) := by decide +kernel
theorem dX10_isBefore_47 : decode cX10_isBefore 47 = .ok (.if_icmp .eq 21, 3) := by decide +kernel
theorem dX10_isBefore_50 : decode cX10_isBefore 50 = .ok (.iload 5, 2) := by decide +kernel
theorem dX10_isBefore_52 : decode cX10_isBefore 52 = .ok (.aload_n 2, 1) := by decide +kernel
theorem dX10_isBefore_53 : decode cX10_isBefore 53 = .ok (.getfield 52, 3) := by decide +kernel
theorem dX10_isBefore_56 : decode cX10_isBefore 56 = .ok (.iload 4, 2) := by decide +kernel
theorem dX10_isBefore_58 : decode cX10_isBefore 58 = .ok (.caload, 1) := by decide +kernel
theorem dX10_isBefore_59 : decode cX10_isBefore 59 = .ok (.if_icmp .ge 7, 3) := by decide +kernel
theorem dX10_isBefore_62 : decode cX10_isBefore 62 = .ok (.iconst 1, 1) := by decide +kernel
theorem dX10_isBefore_63 : decode cX10_isBefore 63 = .ok (.goto 4, 3) := by decide +kernel
theorem dX10_isBefore_66 : decode cX10_isBefore 66 = .ok (.iconst 0, 1) := by decide +kernel
theorem dX10_isBefore_67 : decode cX10_isBefore 67 = .ok (.ireturn, 1) := by decide +kernel
theorem dX10_isBefore_68 : decode cX10_isBefore 68 = .ok (.iinc 4 1, 3) := by decide +kernel
theorem dX10_isBefore_71 : decode cX10_isBefore 71 = .ok (.goto (-68), 3) := by decide +kernel
theorem dX10_isBefore_74 : decode cX10_isBefore 74 = .ok (.iload_n 3, 1) := by decide +kernel
theorem dX10_isBefore_75 : decode cX10_isBefore 75 = .ok (.ireturn, 1) := by decide +kernel
theorem dX10_insert_0 : decode cX10_insert 0 = .ok (.aload_n 0, 1) := by decide +kernel
theorem dX10_insert_1 : decode cX10_insert 1 = .ok (.aload_n 0, 1) := by decide +kernel
theorem dX10_insert_2 : decode cX10_insert 2 = .ok (.getfield 30, 3) := by decide +kernel
theorem dX10_insert_5 : decode cX10_insert 5 = .ok (.iconst 0, 1) := by decide +kernel
theorem dX10_insert_6 : decode cX10_insert 6 = .ok (.iload_n 1, 1) := by decide +kernel
theorem dX10_insert_7 : decode cX10_insert 7 = .ok (.invokestatic 48, 3) := by decide +kernel
theorem dX10_insert_10 : decode cX10_insert 10 = .ok (.aload_n 2, 1) := by decide +kernel
theorem dX10_insert_11 : decode cX10_insert 11 = .ok (.getfield 52, 3) := by decide +kernel
theorem dX10_insert_14 : decode cX10_insert 14 = .ok (.iconst 0, 1) := by decide +kernel
theorem dX10_insert_15 : decode cX10_insert 15 = .ok (.aload_n 2, 1) := by decide +kernel
theorem dX10_insert_16 : decode cX10_insert 16 = .ok (.getfield 58, 3) := by decide +kernel
theorem dX10_insert_19 : decode cX10_insert 19 = .ok (.invokestatic 61, 3) := by decide +kernel
theorem dX10_insert_22 : decode cX10_insert 22 = .ok (.invokestatic 65, 3) := by decide +kernel
theorem dX10_insert_25 : decode cX10_insert 25 = .ok (.aload_n 0, 1) := by decide +kernel
theorem dX10_insert_26 : decode cX10_insert 26 = .ok (.getfield 30, 3) := by decide +kernel
theorem dX10_insert_29 : decode cX10_insert 29 = .ok (.iload_n 1, 1) := by decide +kernel
theorem dX10_insert_30 : decode cX10_insert 30 = .ok (.aload_n 0, 1) := by decide +kernel
theorem dX10_insert_31 : decode cX10_insert 31 = .ok (.invokevirtual 45, 3) := by decide +kernel
theorem dX10_insert_34 : decode cX10_insert 34 = .ok (.invokestatic 48, 3) := by decide +kernel
theorem dX10_insert_37 : decode cX10_insert 37 = .ok (.invokestatic 65, 3) := by decide +kernel
theorem dX10_insert_40 : decode cX10_insert 40 = .ok (.invokevirtual 69, 3) := by decide +kernel
theorem dX10_insert_43 : decode cX10_insert 43 = .ok (.ireturn, 1) := by decide +kernel
theorem dX10_become_0 : decode cX10_become 0 = .ok (.aload_n 0, 1) := by decide +kernel
theorem dX10_become_1 : decode cX10_become 1 = .ok (.getfield 38, 3) := by decide +kernel
theorem dX10_become_4 : decode cX10_become 4 = .ok (.bipush 20, 2) := by decide +kernel
theorem dX10_become_6 : decode cX10_become 6 = .ok (.if_icmp .ne 41, 3) := by decide +kernel
theorem dX10_become_9 : decode cX10_become 9 = .ok (.iconst 1, 1) := by decide +kernel
theorem dX10_become_10 : decode cX10_become 10 = .ok (.istore_n 2, 1) := by decide +kernel
theorem dX10_become_11 : decode cX10_become 11 = .ok (.iload_n 2, 1) := by decide +kernel
theorem dX10_become_12 : decode cX10_become 12 = .ok (.bipush 20, 2) := by decide +kernel
theorem dX10_become_14 : decode cX10_become 14 = .ok (.if_icmp .ge 23, 3) := by decide +kernel
theorem dX10_become_17 : decode cX10_become 17 = .ok (.aload_n 0, 1) := by decide +kernel
theorem dX10_become_18 : decode cX10_become 18 = .ok (.getfield 11, 3) := by decide +kernel
theorem dX10_become_21 : decode cX10_become 21 = .ok (.iload_n 2, 1) := by decide +kernel
theorem dX10_become_22 : decode cX10_become 22 = .ok (.iconst 1, 1) := by decide +kernel
theorem dX10_become_23 : decode cX10_become 23 = .ok (.isub, 1) := by decide +kernel
theorem dX10_become_24 : decode cX10_become 24 = .ok (.aload_n 0, 1) := by decide +kernel
theorem dX10_become_25 : decode cX10_become 25 = .ok (.getfield 11, 3) := by decide +kernel
theorem dX10_become_28 : decode cX10_become 28 = .ok (.iload_n 2, 1) := by decide +kernel
theorem dX10_become_29 : decode cX10_become 29 = .ok (.aaload, 1) := by decide +kernel
theorem dX10_become_30 : decode cX10_become 30 = .ok (.aastore, 1) := by decide +kernel
theorem dX10_become_31 : decode cX10_become 31 = .ok (.iinc 2 1, 3) := by decide +kernel
theorem dX10_become_34 : decode cX10_become 34 = .ok (.goto (-23), 3) := by decide +kernel
theorem dX10_become_37 : decode cX10_become 37 = .ok (.aload_n 0, 1) := by decide +kernel
theorem dX10_become_38 : decode cX10_become 38 = .ok (.dup, 1) := by decide +kernel
theorem dX10_become_39 : decode cX10_become 39 = .ok (.getfield 38, 3) := by decide +kernel
theorem dX10_become_42 : decode cX10_become 42 = .ok (.iconst 1, 1) := by decide +kernel
theorem dX10_become_43 : decode cX10_become 43 = .ok (.isub, 1) := by decide +kernel
theorem dX10_become_44 : decode cX10_become 44 = .ok (.putfield 38, 3) := by decide +kernel
theorem dX10_become_47 : decode cX10_become 47 = .ok (.aload_n 0, 1) := by decide +kernel
theorem dX10_become_48 : decode cX10_become 48 = .ok (.getfield 11, 3) := by decide +kernel
theorem dX10_become_51 : decode cX10_become 51 = .ok (.aload_n 0, 1) := by decide +kernel
theorem dX10_become_52 : decode cX10_become 52 = .ok (.getfield 38, 3) := by decide +kernel
theorem dX10_become_55 : decode cX10_become 55 = .ok (.aload_n 0, 1) := by decide +kernel
theorem dX10_become_56 : decode cX10_become 56 = .ok (.getfield 30, 3) := by decide +kernel
theorem dX10_become_59 : decode cX10_become 59 = .ok (.aastore, 1) := by decide +kernel
theorem dX10_become_60 : decode cX10_become 60 = .ok (.aload_n 0, 1) := by decide +kernel
theorem dX10_become_61 : decode cX10_become 61 = .ok (.dup, 1) := by decide +kernel
theorem dX10_become_62 : decode cX10_become 62 = .ok (.getfield 38, 3) := by decide +kernel
theorem dX10_become_65 : decode cX10_become 65 = .ok (.iconst 1, 1) := by decide +kernel
theorem dX10_become_66 : decode cX10_become 66 = .ok (.iadd, 1) := by decide +kernel
theorem dX10_become_67 : decode cX10_become 67 = .ok (.putfield 38, 3) := by decide +kernel
theorem dX10_become_70 : decode cX10_become 70 = .ok (.aload_n 0, 1) := by decide +kernel
theorem dX10_become_71 : decode cX10_become 71 = .ok (.aload_n 1, 1) := by decide +kernel
theorem dX10_become_72 : decode cX10_become 72 = .ok (.putfield 30, 3) := by decide +kernel
theorem dX10_become_75 : decode cX10_become 75 = .ok (.aload_n 0, 1) := by decide +kernel
theorem dX10_become_76 : decode cX10_become 76 = .ok (.iconst 0, 1) := by decide +kernel
theorem dX10_become_77 : decode cX10_become 77 = .ok (.putfield 41, 3) := by decide +kernel
theorem dX10_become_80 : decode cX10_become 80 = .ok (.aload_n 0, 1) := by decide +kernel
theorem dX10_become_81 : decode cX10_become 81 = .ok (.invokevirtual 45, 3) := by decide +kernel
theorem dX10_become_84 : decode cX10_become 84 = .ok (.ireturn, 1) := by decide +kernel
theorem dX10_delete_0 : decode cX10_delete 0 = .ok (.aload_n 0, 1) := by decide +kernel
theorem dX10_delete_1 : decode cX10_delete 1 = .ok (.aload_n 0, 1) := by decide +kernel
theorem dX10_delete_2 : decode cX10_delete 2 = .ok (.getfield 30, 3) := by decide +kernel
theorem dX10_delete_5 : decode cX10_delete 5 = .ok (.iconst 0, 1) := by decide +kernel
theorem dX10_delete_6 : decode cX10_delete 6 = .ok (.iload_n 1, 1) := by decide +kernel
theorem dX10_delete_7 : decode cX10_delete 7 = .ok (.invokestatic 48, 3) := by decide +kernel
theorem dX10_delete_10 : decode cX10_delete 10 = .ok (.aload_n 0, 1) := by decide +kernel
theorem dX10_delete_11 : decode cX10_delete 11 = .ok (.getfield 30, 3) := by decide +kernel
theorem dX10_delete_14 : decode cX10_delete 14 = .ok (.iload_n 2, 1) := by decide +kernel
theorem dX10_delete_15 : decode cX10_delete 15 = .ok (.aload_n 0, 1) := by decide +kernel
theorem dX10_delete_16 : decode cX10_delete 16 = .ok (.invokevirtual 45, 3) := by decide +kernel
theorem dX10_delete_19 : decode cX10_delete 19 = .ok (.invokestatic 48, 3) := by decide +kernel
theorem dX10_delete_22 : decode cX10_delete 22 = .ok (.invokestatic 65, 3) := by decide +kernel
theorem dX10_delete_25 : decode cX10_delete 25 = .ok (.invokevirtual 69, 3) := by decide +kernel
theorem dX10_delete_28 : decode cX10_delete 28 = .ok (.ireturn, 1) := by decide +kernel
theorem dX11_init_0 : decode cX11_init 0 = .ok (.aload_n 0, 1) := by decide +kernel
theorem dX11_init_1 : decode cX11_init 1 = .ok (.invokespecial 1, 3) := by decide +kernel
theorem dX11_init_4 : decode cX11_init 4 = .ok (.aload_n 0, 1) := by decide +kernel
theorem dX11_init_5 : decode cX11_init 5 = .ok (.aload_n 1, 1) := by decide +kernel
theorem dX11_init_6 : decode cX11_init 6 = .ok (.putfield 7, 3) := by decide +kernel
theorem dX11_init_9 : decode cX11_init 9 = .ok (.return_, 1) := by decide +kernel
theorem dX11_size_0 : decode cX11_size 0 = .ok (.iconst 0, 1) := by decide +kernel
theorem dX11_size_1 : decode cX11_size 1 = .ok (.istore_n 1, 1) := by decide +kernel
theorem dX11_size_2 : decode cX11_size 2 = .ok (.aload_n 0, 1) := by decide +kernel
theorem dX11_size_3 : decode cX11_size 3 = .ok (.aconst_null, 1) := by decide +kernel
theorem dX11_size_4 : decode cX11_size 4 = .ok (.iconst 0, 1) := by decide +kernel
theorem dX11_size_5 : decode cX11_size 5 = .ok (.invokevirtual 71, 3) := by decide +kernel
theorem dX11_size_8 : decode cX11_size 8 = .ok (.astore_n 2, 1) := by decide +kernel
theorem dX11_size_9 : decode cX11_size 9 = .ok (.aload_n 2, 1) := by decide +kernel
theorem dX11_size_10 : decode cX11_size 10 = .ok (.ifnull 16, 3) := by decide +kernel
theorem dX11_size_13 : decode cX11_size 13 = .ok (.iinc 1 1, 3) := by decide +kernel
theorem dX11_size_16 : decode cX11_size 16 = .ok (.aload_n 0, 1) := by decide +kernel
theorem dX11_size_17 : decode cX11_size 17 = .ok (.aload_n 2, 1) := by decide +kernel
theorem dX11_size_18 : decode cX11_size 18 = .ok (.iconst 1, 1) := by decide +kernel
theorem dX11_size_19 : decode cX11_size 19 = .ok (.invokevirtual 71, 3) := by decide +kernel
theorem dX11_size_22 : decode cX11_size 22 = .ok (.astore_n 2, 1) := by decide +kernel
theorem dX11_size_23 : decode cX11_size 23 = .ok (.goto (-14), 3) := by decide +kernel
theorem dX11_size_26 : decode cX11_size 26 = .ok (.iload_n 1, 1) := by decide +kernel
theorem dX11_size_27 : decode cX11_size 27 = .ok (.ireturn, 1) := by decide +kernel
theorem dX11_up_0 : decode cX11_up 0 = .ok (.aload_n 0, 1) := by decide +kernel
theorem dX11_up_1 : decode cX11_up 1 = .ok (.getfield 16, 3) := by decide +kernel
theorem dX11_up_4 : decode cX11_up 4 = .ok (.ifnull 22, 3) := by decide +kernel
theorem dX11_up_7 : decode cX11_up 7 = .ok (.aload_n 1, 1) := by decide +kernel
theorem dX11_up_8 : decode cX11_up 8 = .ok (.ifnull 14, 3) := by decide +kernel
theorem dX11_up_11 : decode cX11_up 11 = .ok (.aload_n 0, 1) := by decide +kernel
theorem dX11_up_12 : decode cX11_up 12 = .ok (.getfield 16, 3) := by decide +kernel
theorem dX11_up_15 : decode cX11_up 15 = .ok (.aload_n 1, 1) := by decide +kernel
theorem dX11_up_16 : decode cX11_up 16 = .ok (.invokevirtual 27, 3) := by decide +kernel
theorem dX11_up_19 : decode cX11_up 19 = .ok (.ifCond .le 7, 3) := by decide +kernel
theorem dX11_up_22 : decode cX11_up 22 = .ok (.iconst 1, 1) := by decide +kernel
theorem dX11_up_23 : decode cX11_up 23 = .ok (.goto 4, 3) := by decide +kernel
theorem dX11_up_26 : decode cX11_up 26 = .ok (.iconst 0, 1) := by decide +kernel
theorem dX11_up_27 : decode cX11_up 27 = .ok (.istore_n 3, 1) := by decide +kernel
theorem dX11_up_28 : decode cX11_up 28 = .ok (.iload_n 3, 1) := by decide +kernel
theorem dX11_up_29 : decode cX11_up 29 = .ok (.ifCond .eq 18, 3) := by decide +kernel
theorem dX11_up_32 : decode cX11_up 32 = .ok (.aload_n 0, 1) := by decide +kernel
theorem dX11_up_33 : decode cX11_up 33 = .ok (.getfield 7, 3) := by decide +kernel
theorem dX11_up_36 : decode cX11_up 36 = .ok (.aload_n 0, 1) := by decide +kernel
theorem dX11_up_37 : decode cX11_up 37 = .ok (.getfield 16, 3) := by decide +kernel
theorem dX11_up_40 : decode cX11_up 40 = .ok (.iconst 0, 1) := by decide +kernel
theorem dX11_up_41 : decode cX11_up 41 = .ok (.invokevirtual 56, 3) := by decide +kernel
theorem dX11_up_44 : decode cX11_up 44 = .ok (.goto 12, 3) := by decide +kernel
theorem dX11_up_47 : decode cX11_up 47 = .ok (.aload_n 0, 1) := by decide +kernel
theorem dX11_up_48 : decode cX11_up 48 = .ok (.getfield 7, 3) := by decide +kernel
theorem dX11_up_51 : decode cX11_up 51 = .ok (.aload_n 1, 1) := by decide +kernel
theorem dX11_up_52 : decode cX11_up 52 = .ok (.iload_n 2, 1) := by decide +kernel
theorem dX11_up_53 : decode cX11_up 53 = .ok (.invokevirtual 56, 3) := by decide +kernel
theorem dX11_up_56 : decode cX11_up 56 = .ok (.astore 4, 2) := by decide +kernel
theorem dX11_up_58 : decode cX11_up 58 = .ok (.aload 4, 2) := by decide +kernel
theorem dX11_up_60 : decode cX11_up 60 = .ok (.ifnull 27, 3) := by decide +kernel
theorem dX11_up_63 : decode cX11_up 63 = .ok (.aload_n 0, 1) := by decide +kernel
theorem dX11_up_64 : decode cX11_up 64 = .ok (.getfield 20, 3) := by decide +kernel
theorem dX11_up_67 : decode cX11_up 67 = .ok (.ifnull 15, 3) := by decide +kernel
theorem dX11_up_70 : decode cX11_up 70 = .ok (.aload 4, 2) := by decide +kernel
theorem dX11_up_72 : decode cX11_up 72 = .ok (.aload_n 0, 1) := by decide +kernel
theorem dX11_up_73 : decode cX11_up 73 = .ok (.getfield 20, 3) := by decide +kernel
theorem dX11_up_76 : decode cX11_up 76 = .ok (.invokevirtual 62, 3) := by decide +kernel
theorem dX11_up_79 : decode cX11_up 79 = .ok (.ifCond .ge 8, 3) := by decide +kernel
theorem dX11_up_82 : decode cX11_up 82 = .ok (.aload 4, 2) := by decide +kernel
theorem dX11_up_84 : decode cX11_up 84 = .ok (.goto 4, 3) := by decide +kernel
theorem dX11_up_87 : decode cX11_up 87 = .ok (.aconst_null, 1) := by decide +kernel
theorem dX11_up_88 : decode cX11_up 88 = .ok (.areturn, 1) := by decide +kernel
theorem dX11_iterate_0 : decode cX11_iterate 0 = .ok (.aload_n 0, 1) := by decide +kernel
theorem dX11_iterate_1 : decode cX11_iterate 1 = .ok (.iconst 1, 1) := by decide +kernel
theorem dX11_iterate_2 : decode cX11_iterate 2 = .ok (.putfield 74, 3) := by decide +kernel
theorem dX11_iterate_5 : decode cX11_iterate 5 = .ok (.aload_n 0, 1) := by decide +kernel
theorem dX11_iterate_6 : decode cX11_iterate 6 = .ok (.aload_n 0, 1) := by decide +kernel
theorem dX11_iterate_7 : decode cX11_iterate 7 = .ok (.getfield 7, 3) := by decide +kernel
theorem dX11_iterate_10 : decode cX11_iterate 10 = .ok (.getfield 77, 3) := by decide +kernel
theorem dX11_iterate_13 : decode cX11_iterate 13 = .ok (.putfield 80, 3) := by decide +kernel
theorem dX11_iterate_16 : decode cX11_iterate 16 = .ok (.aload_n 0, 1) := by decide +kernel
theorem dX11_iterate_17 : decode cX11_iterate 17 = .ok (.aconst_null, 1) := by decide +kernel
theorem dX11_iterate_18 : decode cX11_iterate 18 = .ok (.putfield 81, 3) := by decide +kernel
theorem dX11_iterate_21 : decode cX11_iterate 21 = .ok (.aload_n 0, 1) := by decide +kernel
theorem dX11_iterate_22 : decode cX11_iterate 22 = .ok (.iconst 0, 1) := by decide +kernel
theorem dX11_iterate_23 : decode cX11_iterate 23 = .ok (.putfield 85, 3) := by decide +kernel
theorem dX11_iterate_26 : decode cX11_iterate 26 = .ok (.return_, 1) := by decide +kernel
theorem dX11_copy_0 : decode cX11_copy 0 = .ok (.new 8, 3) := by decide +kernel
theorem dX11_copy_3 : decode cX11_copy 3 = .ok (.dup, 1) := by decide +kernel
theorem dX11_copy_4 : decode cX11_copy 4 = .ok (.aload_n 0, 1) := by decide +kernel
theorem dX11_copy_5 : decode cX11_copy 5 = .ok (.getfield 7, 3) := by decide +kernel
theorem dX11_copy_8 : decode cX11_copy 8 = .ok (.invokespecial 13, 3) := by decide +kernel
theorem dX11_copy_11 : decode cX11_copy 11 = .ok (.astore_n 1, 1) := by decide +kernel
theorem dX11_copy_12 : decode cX11_copy 12 = .ok (.aload_n 1, 1) := by decide +kernel
theorem dX11_copy_13 : decode cX11_copy 13 = .ok (.aload_n 0, 1) := by decide +kernel
theorem dX11_copy_14 : decode cX11_copy 14 = .ok (.getfield 16, 3) := by decide +kernel
theorem dX11_copy_17 : decode cX11_copy 17 = .ok (.putfield 16, 3) := by decide +kernel
theorem dX11_copy_20 : decode cX11_copy 20 = .ok (.aload_n 1, 1) := by decide +kernel
theorem dX11_copy_21 : decode cX11_copy 21 = .ok (.aload_n 0, 1) := by decide +kernel
theorem dX11_copy_22 : decode cX11_copy 22 = .ok (.getfield 20, 3) := by decide +kernel
theorem dX11_copy_25 : decode cX11_copy 25 = .ok (.putfield 20, 3) := by decide +kernel
theorem dX11_copy_28 : decode cX11_copy 28 = .ok (.aload_n 1, 1) := by decide +kernel
theorem dX11_copy_29 : decode cX11_copy 29 = .ok (.aload_n 0, 1) := by decide +kernel
theorem dX11_copy_30 : decode cX11_copy 30 = .ok (.getfield 23, 3) := by decide +kernel
theorem dX11_copy_33 : decode cX11_copy 33 = .ok (.putfield 23, 3) := by decide +kernel
theorem dX11_copy_36 : decode cX11_copy 36 = .ok (.aload_n 1, 1) := by decide +kernel
theorem dX11_copy_37 : decode cX11_copy 37 = .ok (.areturn, 1) := by decide +kernel
theorem dX11_begin_0 : decode cX11_begin 0 = .ok (.aload_n 0, 1) := by decide +kernel
theorem dX11_begin_1 : decode cX11_begin 1 = .ok (.aload_n 1, 1) := by decide +kernel
theorem dX11_begin_2 : decode cX11_begin 2 = .ok (.invokevirtual 33, 3) := by decide +kernel
theorem dX11_begin_5 : decode cX11_begin 5 = .ok (.new 28, 3) := by decide +kernel
theorem dX11_begin_8 : decode cX11_begin 8 = .ok (.dup, 1) := by decide +kernel
theorem dX11_begin_9 : decode cX11_begin 9 = .ok (.invokespecial 37, 3) := by decide +kernel
theorem dX11_begin_12 : decode cX11_begin 12 = .ok (.aload_n 1, 1) := by decide +kernel
theorem dX11_begin_13 : decode cX11_begin 13 = .ok (.invokevirtual 38, 3) := by decide +kernel
theorem dX11_begin_16 : decode cX11_begin 16 = .ok (.astore_n 2, 1) := by decide +kernel
theorem dX11_begin_17 : decode cX11_begin 17 = .ok (.aload_n 2, 1) := by decide +kernel
theorem dX11_begin_18 : decode cX11_begin 18 = .ok (.getfield 42, 3) := by decide +kernel
theorem dX11_begin_21 : decode cX11_begin 21 = .ok (.ifCond .le 32, 3) := by decide +kernel
theorem dX11_begin_24 : decode cX11_begin 24 = .ok (.aload_n 2, 1) := by decide +kernel
theorem dX11_begin_25 : decode cX11_begin 25 = .ok (.getfield 46, 3) := by decide +kernel
theorem dX11_begin_28 : decode cX11_begin 28 = .ok (.aload_n 2, 1) := by decide +kernel
theorem dX11_begin_29 : decode cX11_begin 29 = .ok (.getfield 42, 3) := by decide +kernel
theorem dX11_begin_32 : decode cX11_begin 32 = .ok (.iconst 1, 1) := by decide +kernel
theorem dX11_begin_33 : decode cX11_begin 33 = .ok (.isub, 1) := by decide +kernel
theorem dX11_begin_34 : decode cX11_begin 34 = .ok (.caload, 1) := by decide +kernel
theorem dX11_begin_35 : decode cX11_begin 35 = .ok (.ldc 52, 2) := by decide +kernel
theorem dX11_begin_37 : decode cX11_begin 37 = .ok (.if_icmp .ne 16, 3) := by decide +kernel
theorem dX11_begin_40 : decode cX11_begin 40 = .ok (.aload_n 2, 1) := by decide +kernel
theorem dX11_begin_41 : decode cX11_begin 41 = .ok (.dup, 1) := by decide +kernel
theorem dX11_begin_42 : decode cX11_begin 42 = .ok (.getfield 42, 3) := by decide +kernel
theorem dX11_begin_45 : decode cX11_begin 45 = .ok (.iconst 1, 1) := by decide +kernel
theorem dX11_begin_46 : decode cX11_begin 46 = .ok (.isub, 1) := by decide +kernel
theorem dX11_begin_47 : decode cX11_begin 47 = .ok (.putfield 42, 3) := by decide +kernel
theorem dX11_begin_50 : decode cX11_begin 50 = .ok (.goto (-33), 3) := by decide +kernel
theorem dX11_begin_53 : decode cX11_begin 53 = .ok (.aload_n 2, 1) := by decide +kernel
theorem dX11_begin_54 : decode cX11_begin 54 = .ok (.getfield 42, 3) := by decide +kernel
theorem dX11_begin_57 : decode cX11_begin 57 = .ok (.ifCond .ne 4, 3) := by decide +kernel
theorem dX11_begin_60 : decode cX11_begin 60 = .ok (.return_, 1) := by decide +kernel
theorem dX11_begin_61 : decode cX11_begin 61 = .ok (.aload_n 2, 1) := by decide +kernel
theorem dX11_begin_62 : decode cX11_begin 62 = .ok (.getfield 46, 3) := by decide +kernel
theorem dX11_begin_65 : decode cX11_begin 65 = .ok (.aload_n 2, 1) := by decide +kernel
theorem dX11_begin_66 : decode cX11_begin 66 = .ok (.getfield 42, 3) := by decide +kernel
theorem dX11_begin_69 : decode cX11_begin 69 = .ok (.iconst 1, 1) := by decide +kernel
theorem dX11_begin_70 : decode cX11_begin 70 = .ok (.isub, 1) := by decide +kernel
theorem dX11_begin_71 : decode cX11_begin 71 = .ok (.dup2, 1) := by decide +kernel
theorem dX11_begin_72 : decode cX11_begin 72 = .ok (.caload, 1) := by decide +kernel
theorem dX11_begin_73 : decode cX11_begin 73 = .ok (.iconst 1, 1) := by decide +kernel
theorem dX11_begin_74 : decode cX11_begin 74 = .ok (.iadd, 1) := by decide +kernel
theorem dX11_begin_75 : decode cX11_begin 75 = .ok (.i2c, 1) := by decide +kernel
theorem dX11_begin_76 : decode cX11_begin 76 = .ok (.castore, 1) := by decide +kernel
theorem dX11_begin_77 : decode cX11_begin 77 = .ok (.aload_n 0, 1) := by decide +kernel
theorem dX11_begin_78 : decode cX11_begin 78 = .ok (.aload_n 2, 1) := by decide +kernel
theorem dX11_begin_79 : decode cX11_begin 79 = .ok (.invokevirtual 53, 3) := by decide +kernel
theorem dX11_begin_82 : decode cX11_begin 82 = .ok (.return_, 1) := by decide +kernel
theorem dX11_from_0 : decode cX11_from 0 = .ok (.aload_n 0, 1) := by decide +kernel
theorem dX11_from_1 : decode cX11_from 1 = .ok (.getfield 16, 3) := by decide +kernel
theorem dX11_from_4 : decode cX11_from 4 = .ok (.ifnull 14, 3) := by decide +kernel
theorem dX11_from_7 : decode cX11_from 7 = .ok (.aload_n 1, 1) := by decide +kernel
theorem dX11_from_8 : decode cX11_from 8 = .ok (.aload_n 0, 1) := by decide +kernel
theorem dX11_from_9 : decode cX11_from 9 = .ok (.getfield 16, 3) := by decide +kernel
theorem dX11_from_12 : decode cX11_from 12 = .ok (.invokevirtual 27, 3) := by decide +kernel
theorem dX11_from_15 : decode cX11_from 15 = .ok (.ifCond .le 8, 3) := by decide +kernel
theorem dX11_from_18 : decode cX11_from 18 = .ok (.aload_n 0, 1) := by decide +kernel
theorem dX11_from_19 : decode cX11_from 19 = .ok (.aload_n 1, 1) := by decide +kernel
theorem dX11_from_20 : decode cX11_from 20 = .ok (.putfield 16, 3) := by decide +kernel
theorem dX11_from_23 : decode cX11_from 23 = .ok (.return_, 1) := by decide +kernel
theorem dX11_to_0 : decode cX11_to 0 = .ok (.aload_n 0, 1) := by decide +kernel
theorem dX11_to_1 : decode cX11_to 1 = .ok (.getfield 20, 3) := by decide +kernel
theorem dX11_to_4 : decode cX11_to 4 = .ok (.ifnull 14, 3) := by decide +kernel
theorem dX11_to_7 : decode cX11_to 7 = .ok (.aload_n 1, 1) := by decide +kernel
theorem dX11_to_8 : decode cX11_to 8 = .ok (.aload_n 0, 1) := by decide +kernel
theorem dX11_to_9 : decode cX11_to 9 = .ok (.getfield 20, 3) := by decide +kernel
theorem dX11_to_12 : decode cX11_to 12 = .ok (.invokevirtual 27, 3) := by decide +kernel
theorem dX11_to_15 : decode cX11_to 15 = .ok (.ifCond .ge 8, 3) := by decide +kernel
theorem dX11_to_18 : decode cX11_to 18 = .ok (.aload_n 0, 1) := by decide +kernel
theorem dX11_to_19 : decode cX11_to 19 = .ok (.aload_n 1, 1) := by decide +kernel
theorem dX11_to_20 : decode cX11_to 20 = .ok (.putfield 20, 3) := by decide +kernel
theorem dX11_to_23 : decode cX11_to 23 = .ok (.return_, 1) := by decide +kernel
theorem dX11_has_0 : decode cX11_has 0 = .ok (.aload_n 0, 1) := by decide +kernel
theorem dX11_has_1 : decode cX11_has 1 = .ok (.getfield 16, 3) := by decide +kernel
theorem dX11_has_4 : decode cX11_has 4 = .ok (.ifnull 14, 3) := by decide +kernel
theorem dX11_has_7 : decode cX11_has 7 = .ok (.aload_n 1, 1) := by decide +kernel
theorem dX11_has_8 : decode cX11_has 8 = .ok (.aload_n 0, 1) := by decide +kernel
theorem dX11_has_9 : decode cX11_has 9 = .ok (.getfield 16, 3) := by decide +kernel
theorem dX11_has_12 : decode cX11_has 12 = .ok (.invokevirtual 27, 3) := by decide +kernel
theorem dX11_has_15 : decode cX11_has 15 = .ok (.ifCond .lt 25, 3) := by decide +kernel
theorem dX11_has_18 : decode cX11_has 18 = .ok (.aload_n 0, 1) := by decide +kernel
theorem dX11_has_19 : decode cX11_has 19 = .ok (.getfield 20, 3) := by decide +kernel
theorem dX11_has_22 : decode cX11_has 22 = .ok (.ifnull 14, 3) := by decide +kernel
theorem dX11_has_25 : decode cX11_has 25 = .ok (.aload_n 1, 1) := by decide +kernel
theorem dX11_has_26 : decode cX11_has 26 = .ok (.aload_n 0, 1) := by decide +kernel
theorem dX11_has_27 : decode cX11_has 27 = .ok (.getfield 20, 3) := by decide +kernel
theorem dX11_has_30 : decode cX11_has 30 = .ok (.invokevirtual 27, 3) := by decide +kernel
theorem dX11_has_33 : decode cX11_has 33 = .ok (.ifCond .ge 7, 3) := by decide +kernel
theorem dX11_has_36 : decode cX11_has 36 = .ok (.iconst 1, 1) := by decide +kernel
theorem dX11_has_37 : decode cX11_has 37 = .ok (.goto 4, 3) := by decide +kernel
theorem dX11_has_40 : decode cX11_has 40 = .ok (.iconst 0, 1) := by decide +kernel
theorem dX11_has_41 : decode cX11_has 41 = .ok (.ireturn, 1) := by decide +kernel
theorem dX11_before_0 : decode cX11_before 0 = .ok (.aload_n 0, 1) := by decide +kernel
theorem dX11_before_1 : decode cX11_before 1 = .ok (.getfield 23, 3) := by decide +kernel
theorem dX11_before_4 : decode cX11_before 4 = .ok (.ifCond .eq 12, 3) := by decide +kernel
theorem dX11_before_7 : decode cX11_before 7 = .ok (.aload_n 0, 1) := by decide +kernel
theorem dX11_before_8 : decode cX11_before 8 = .ok (.aload_n 1, 1) := by decide +kernel
theorem dX11_before_9 : decode cX11_before 9 = .ok (.iload_n 2, 1) := by decide +kernel
theorem dX11_before_10 : decode cX11_before 10 = .ok (.invokevirtual 71, 3) := by decide +kernel
theorem dX11_before_13 : decode cX11_before 13 = .ok (.goto 9, 3) := by decide +kernel
theorem dX11_before_16 : decode cX11_before 16 = .ok (.aload_n 0, 1) := by decide +kernel
theorem dX11_before_17 : decode cX11_before 17 = .ok (.aload_n 1, 1) := by decide +kernel
theorem dX11_before_18 : decode cX11_before 18 = .ok (.iload_n 2, 1) := by decide +kernel
theorem dX11_before_19 : decode cX11_before 19 = .ok (.invokevirtual 68, 3) := by decide +kernel
theorem dX11_before_22 : decode cX11_before 22 = .ok (.areturn, 1) := by decide +kernel
theorem dX11_down_0 : decode cX11_down 0 = .ok (.aload_n 0, 1) := by decide +kernel
theorem dX11_down_1 : decode cX11_down 1 = .ok (.getfield 20, 3) := by decide +kernel
theorem dX11_down_4 : decode cX11_down 4 = .ok (.ifnull 22, 3) := by decide +kernel
theorem dX11_down_7 : decode cX11_down 7 = .ok (.aload_n 1, 1) := by decide +kernel
theorem dX11_down_8 : decode cX11_down 8 = .ok (.ifnull 14, 3) := by decide +kernel
theorem dX11_down_11 : decode cX11_down 11 = .ok (.aload_n 0, 1) := by decide +kernel
theorem dX11_down_12 : decode cX11_down 12 = .ok (.getfield 20, 3) := by decide +kernel
theorem dX11_down_15 : decode cX11_down 15 = .ok (.aload_n 1, 1) := by decide +kernel
theorem dX11_down_16 : decode cX11_down 16 = .ok (.invokevirtual 27, 3) := by decide +kernel
theorem dX11_down_19 : decode cX11_down 19 = .ok (.ifCond .gt 7, 3) := by decide +kernel
theorem dX11_down_22 : decode cX11_down 22 = .ok (.iconst 1, 1) := by decide +kernel
theorem dX11_down_23 : decode cX11_down 23 = .ok (.goto 4, 3) := by decide +kernel
theorem dX11_down_26 : decode cX11_down 26 = .ok (.iconst 0, 1) := by decide +kernel
theorem dX11_down_27 : decode cX11_down 27 = .ok (.istore_n 3, 1) := by decide +kernel
theorem dX11_down_28 : decode cX11_down 28 = .ok (.iload_n 3, 1) := by decide +kernel
theorem dX11_down_29 : decode cX11_down 29 = .ok (.ifCond .eq 18, 3) := by decide +kernel
theorem dX11_down_32 : decode cX11_down 32 = .ok (.aload_n 0, 1) := by decide +kernel
theorem dX11_down_33 : decode cX11_down 33 = .ok (.getfield 7, 3) := by decide +kernel
theorem dX11_down_36 : decode cX11_down 36 = .ok (.aload_n 0, 1) := by decide +kernel
theorem dX11_down_37 : decode cX11_down 37 = .ok (.getfield 20, 3) := by decide +kernel
theorem dX11_down_40 : decode cX11_down 40 = .ok (.iconst 1, 1) := by decide +kernel
theorem dX11_down_41 : decode cX11_down 41 = .ok (.invokevirtual 65, 3) := by decide +kernel
theorem dX11_down_44 : decode cX11_down 44 = .ok (.goto 12, 3) := by decide +kernel
theorem dX11_down_47 : decode cX11_down 47 = .ok (.aload_n 0, 1) := by decide +kernel
theorem dX11_down_48 : decode cX11_down 48 = .ok (.getfield 7, 3) := by decide +kernel
theorem dX11_down_51 : decode cX11_down 51 = .ok (.aload_n 1, 1) := by decide +kernel
theorem dX11_down_52 : decode cX11_down 52 = .ok (.iload_n 2, 1) := by decide +kernel
theorem dX11_down_53 : decode cX11_down 53 = .ok (.invokevirtual 65, 3) := by decide +kernel
theorem dX11_down_56 : decode cX11_down 56 = .ok (.astore 4, 2) := by decide +kernel
theorem dX11_down_58 : decode cX11_down 58 = .ok (.aload 4, 2) := by decide +kernel
theorem dX11_down_60 : decode cX11_down 60 = .ok (.ifnull 27, 3) := by decide +kernel
theorem dX11_down_63 : decode cX11_down 63 = .ok (.aload_n 0, 1) := by decide +kernel
theorem dX11_down_64 : decode cX11_down 64 = .ok (.getfield 16, 3) := by decide +kernel
theorem dX11_down_67 : decode cX11_down 67 = .ok (.ifnull 15, 3) := by decide +kernel
theorem dX11_down_70 : decode cX11_down 70 = .ok (.aload 4, 2) := by decide +kernel
theorem dX11_down_72 : decode cX11_down 72 = .ok (.aload_n 0, 1) := by decide +kernel
theorem dX11_down_73 : decode cX11_down 73 = .ok (.getfield 16, 3) := by decide +kernel
theorem dX11_down_76 : decode cX11_down 76 = .ok (.invokevirtual 62, 3) := by decide +kernel
theorem dX11_down_79 : decode cX11_down 79 = .ok (.ifCond .lt 8, 3) := by decide +kernel
theorem dX11_down_82 : decode cX11_down 82 = .ok (.aload 4, 2) := by decide +kernel
theorem dX11_down_84 : decode cX11_down 84 = .ok (.goto 4, 3) := by decide +kernel
theorem dX11_down_87 : decode cX11_down 87 = .ok (.aconst_null, 1) := by decide +kernel
theorem dX11_down_88 : decode cX11_down 88 = .ok (.areturn, 1) := by decide +kernel
theorem dX11_after_0 : decode cX11_after 0 = .ok (.aload_n 0, 1) := by decide +kernel
theorem dX11_after_1 : decode cX11_after 1 = .ok (.getfield 23, 3) := by decide +kernel
theorem dX11_after_4 : decode cX11_after 4 = .ok (.ifCond .eq 12, 3) := by decide +kernel
theorem dX11_after_7 : decode cX11_after 7 = .ok (.aload_n 0, 1) := by decide +kernel
theorem dX11_after_8 : decode cX11_after 8 = .ok (.aload_n 1, 1) := by decide +kernel
theorem dX11_after_9 : decode cX11_after 9 = .ok (.iload_n 2, 1) := by decide +kernel
theorem dX11_after_10 : decode cX11_after 10 = .ok (.invokevirtual 68, 3) := by decide +kernel
theorem dX11_after_13 : decode cX11_after 13 = .ok (.goto 9, 3) := by decide +kernel
theorem dX11_after_16 : decode cX11_after 16 = .ok (.aload_n 0, 1) := by decide +kernel
theorem dX11_after_17 : decode cX11_after 17 = .ok (.aload_n 1, 1) := by decide +kernel
theorem dX11_after_18 : decode cX11_after 18 = .ok (.iload_n 2, 1) := by decide +kernel
theorem dX11_after_19 : decode cX11_after 19 = .ok (.invokevirtual 71, 3) := by decide +kernel
theorem dX11_after_22 : decode cX11_after 22 = .ok (.areturn, 1) := by decide +kernel
theorem dX11_isCurrent_0 : decode cX11_isCurrent 0 = .ok (.aload_n 0, 1) := by decide +kernel
theorem dX11_isCurrent_1 : decode cX11_isCurrent 1 = .ok (.getfield 74, 3) := by decide +kernel
theorem dX11_isCurrent_4 : decode cX11_isCurrent 4 = .ok (.ifCond .eq 21, 3) := by decide +kernel
theorem dX11_isCurrent_7 : decode cX11_isCurrent 7 = .ok (.aload_n 0, 1) := by decide +kernel
theorem dX11_isCurrent_8 : decode cX11_isCurrent 8 = .ok (.getfield 80, 3) := by decide +kernel
theorem dX11_isCurrent_11 : decode cX11_isCurrent 11 = .ok (.aload_n 0, 1) := by decide +kernel
theorem dX11_isCurrent_12 : decode cX11_isCurrent 12 = .ok (.getfield 7, 3) := by decide +kernel
theorem dX11_isCurrent_15 : decode cX11_isCurrent 15 = .ok (.getfield 77, 3) := by decide +kernel
theorem dX11_isCurrent_18 : decode cX11_isCurrent 18 = .ok (.if_icmp .ne 7, 3) := by decide +kernel
theorem dX11_isCurrent_21 : decode cX11_isCurrent 21 = .ok (.iconst 1, 1) := by decide +kernel
theorem dX11_isCurrent_22 : decode cX11_isCurrent 22 = .ok (.goto 4, 3) := by decide +kernel
theorem dX11_isCurrent_25 : decode cX11_isCurrent 25 = .ok (.iconst 0, 1) := by decide +kernel
theorem dX11_isCurrent_26 : decode cX11_isCurrent 26 = .ok (.ireturn, 1) := by decide +kernel
theorem dX12_init_0 : decode cX12_init 0 = .ok (.aload_n 0, 1) := by decide +kernel
theorem dX12_init_1 : decode cX12_init 1 = .ok (.invokespecial 1, 3) := by decide +kernel
theorem dX12_init_4 : decode cX12_init 4 = .ok (.return_, 1) := by decide +kernel
theorem dX12_above_0 : decode cX12_above 0 = .ok (.aload_n 0, 1) := by decide +kernel
theorem dX12_above_1 : decode cX12_above 1 = .ok (.getfield 13, 3) := by decide +kernel
theorem dX12_above_4 : decode cX12_above 4 = .ok (.ifnull 23, 3) := by decide +kernel
theorem dX12_above_7 : decode cX12_above 7 = .ok (.aload_n 1, 1) := by decide +kernel
theorem dX12_above_8 : decode cX12_above 8 = .ok (.ifnull 14, 3) := by decide +kernel
theorem dX12_above_11 : decode cX12_above 11 = .ok (.aload_n 1, 1) := by decide +kernel
theorem dX12_above_12 : decode cX12_above 12 = .ok (.getfield 7, 3) := by decide +kernel
theorem dX12_above_15 : decode cX12_above 15 = .ok (.ifCond .ne 12, 3) := by decide +kernel
theorem dX12_above_18 : decode cX12_above 18 = .ok (.iload_n 2, 1) := by decide +kernel
theorem dX12_above_19 : decode cX12_above 19 = .ok (.ifCond .ne 8, 3) := by decide +kernel
theorem dX12_above_22 : decode cX12_above 22 = .ok (.aload_n 0, 1) := by decide +kernel
theorem dX12_above_23 : decode cX12_above 23 = .ok (.getfield 13, 3) := by decide +kernel
theorem dX12_above_26 : decode cX12_above 26 = .ok (.areturn, 1) := by decide +kernel
theorem dX12_above_27 : decode cX12_above 27 = .ok (.aload_n 1, 1) := by decide +kernel
theorem dX12_above_28 : decode cX12_above 28 = .ok (.ifnonnull 13, 3) := by decide +kernel
theorem dX12_above_31 : decode cX12_above 31 = .ok (.aload_n 0, 1) := by decide +kernel
theorem dX12_above_32 : decode cX12_above 32 = .ok (.getfield 19, 3) := by decide +kernel
theorem dX12_above_35 : decode cX12_above 35 = .ok (.invokestatic 66, 3) := by decide +kernel
theorem dX12_above_38 : decode cX12_above 38 = .ok (.goto 13, 3) := by decide +kernel
theorem dX12_above_41 : decode cX12_above 41 = .ok (.aload_n 0, 1) := by decide +kernel
theorem dX12_above_42 : decode cX12_above 42 = .ok (.getfield 19, 3) := by decide +kernel
theorem dX12_above_45 : decode cX12_above 45 = .ok (.aload_n 1, 1) := by decide +kernel
theorem dX12_above_46 : decode cX12_above 46 = .ok (.iconst 0, 1) := by decide +kernel
theorem dX12_above_47 : decode cX12_above 47 = .ok (.iload_n 2, 1) := by decide +kernel
theorem dX12_above_48 : decode cX12_above 48 = .ok (.invokestatic 72, 3) := by decide +kernel
theorem dX12_above_51 : decode cX12_above 51 = .ok (.areturn, 1) := by decide +kernel
theorem dX12_first_0 : decode cX12_first 0 = .ok (.aload_n 0, 1) := by decide +kernel
theorem dX12_first_1 : decode cX12_first 1 = .ok (.astore_n 1, 1) := by decide +kernel
theorem dX12_first_2 : decode cX12_first 2 = .ok (.aload_n 1, 1) := by decide +kernel
theorem dX12_first_3 : decode cX12_first 3 = .ok (.ifnonnull 5, 3) := by decide +kernel
theorem dX12_first_6 : decode cX12_first 6 = .ok (.aconst_null, 1) := by decide +kernel
theorem dX12_first_7 : decode cX12_first 7 = .ok (.areturn, 1) := by decide +kernel
theorem dX12_first_8 : decode cX12_first 8 = .ok (.aload_n 1, 1) := by decide +kernel
theorem dX12_first_9 : decode cX12_first 9 = .ok (.getfield 32, 3) := by decide +kernel
theorem dX12_first_12 : decode cX12_first 12 = .ok (.ifnull 11, 3) := by decide +kernel
theorem dX12_first_15 : decode cX12_first 15 = .ok (.aload_n 1, 1) := by decide +kernel
theorem dX12_first_16 : decode cX12_first 16 = .ok (.getfield 32, 3) := by decide +kernel
theorem dX12_first_19 : decode cX12_first 19 = .ok (.astore_n 1, 1) := by decide +kernel
theorem dX12_first_20 : decode cX12_first 20 = .ok (.goto (-12), 3) := by decide +kernel
theorem dX12_first_23 : decode cX12_first 23 = .ok (.aload_n 1, 1) := by decide +kernel
theorem dX12_first_24 : decode cX12_first 24 = .ok (.invokestatic 62, 3) := by decide +kernel
theorem dX12_first_27 : decode cX12_first 27 = .ok (.areturn, 1) := by decide +kernel
theorem dX12_here_0 : decode cX12_here 0 = .ok (.aload_n 0, 1) := by decide +kernel
theorem dX12_here_1 : decode cX12_here 1 = .ok (.getfield 38, 3) := by decide +kernel
theorem dX12_here_4 : decode cX12_here 4 = .ok (.ifnull 10, 3) := by decide +kernel
theorem dX12_here_7 : decode cX12_here 7 = .ok (.aload_n 0, 1) := by decide +kernel
theorem dX12_here_8 : decode cX12_here 8 = .ok (.getfield 38, 3) := by decide +kernel
theorem dX12_here_11 : decode cX12_here 11 = .ok (.goto 10, 3) := by decide +kernel
theorem dX12_here_14 : decode cX12_here 14 = .ok (.aload_n 0, 1) := by decide +kernel
theorem dX12_here_15 : decode cX12_here 15 = .ok (.getfield 41, 3) := by decide +kernel
theorem dX12_here_18 : decode cX12_here 18 = .ok (.invokestatic 66, 3) := by decide +kernel
theorem dX12_here_21 : decode cX12_here 21 = .ok (.areturn, 1) := by decide +kernel
theorem dX12_above_2_0 : decode cX12_above_2 0 = .ok (.aload_n 0, 1) := by decide +kernel
theorem dX12_above_2_1 : decode cX12_above_2 1 = .ok (.ifnonnull 5, 3) := by decide +kernel
theorem dX12_above_2_4 : decode cX12_above_2 4 = .ok (.aconst_null, 1) := by decide +kernel
theorem dX12_above_2_5 : decode cX12_above_2 5 = .ok (.areturn, 1) := by decide +kernel
theorem dX12_above_2_6 : decode cX12_above_2 6 = .ok (.iload_n 2, 1) := by decide +kernel
theorem dX12_above_2_7 : decode cX12_above_2 7 = .ok (.aload_n 1, 1) := by decide +kernel
theorem dX12_above_2_8 : decode cX12_above_2 8 = .ok (.getfield 7, 3) := by decide +kernel
theorem dX12_above_2_11 : decode cX12_above_2 11 = .ok (.if_icmp .ne 8, 3) := by decide +kernel
theorem dX12_above_2_14 : decode cX12_above_2 14 = .ok (.aload_n 0, 1) := by decide +kernel
theorem dX12_above_2_15 : decode cX12_above_2 15 = .ok (.invokestatic 66, 3) := by decide +kernel
theorem dX12_above_2_18 : decode cX12_above_2 18 = .ok (.areturn, 1) := by decide +kernel
theorem dX12_above_2_19 : decode cX12_above_2 19 = .ok (.aload_n 1, 1) := by decide +kernel
theorem dX12_above_2_20 : decode cX12_above_2 20 = .ok (.getfield 23, 3) := by decide +kernel
theorem dX12_above_2_23 : decode cX12_above_2 23 = .ok (.iload_n 2, 1) := by decide +kernel
theorem dX12_above_2_24 : decode cX12_above_2 24 = .ok (.caload, 1) := by decide +kernel
theorem dX12_above_2_25 : decode cX12_above_2 25 = .ok (.aload_n 0, 1) := by decide +kernel
theorem dX12_above_2_26 : decode cX12_above_2 26 = .ok (.getfield 27, 3) := by decide +kernel
theorem dX12_above_2_29 : decode cX12_above_2 29 = .ok (.if_icmp .le 14, 3) := by decide +kernel
theorem dX12_above_2_32 : decode cX12_above_2 32 = .ok (.aload_n 0, 1) := by decide +kernel
theorem dX12_above_2_33 : decode cX12_above_2 33 = .ok (.getfield 35, 3) := by decide +kernel
theorem dX12_above_2_36 : decode cX12_above_2 36 = .ok (.aload_n 1, 1) := by decide +kernel
theorem dX12_above_2_37 : decode cX12_above_2 37 = .ok (.iload_n 2, 1) := by decide +kernel
theorem dX12_above_2_38 : decode cX12_above_2 38 = .ok (.iload_n 3, 1) := by decide +kernel
theorem dX12_above_2_39 : decode cX12_above_2 39 = .ok (.invokestatic 72, 3) := by decide +kernel
theorem dX12_above_2_42 : decode cX12_above_2 42 = .ok (.areturn, 1) := by decide +kernel
theorem dX12_above_2_43 : decode cX12_above_2 43 = .ok (.aconst_null, 1) := by decide +kernel
theorem dX12_above_2_44 : decode cX12_above_2 44 = .ok (.astore 4, 2) := by decide +kernel
theorem dX12_above_2_46 : decode cX12_above_2 46 = .ok (.aload_n 1, 1) := by decide +kernel
theorem dX12_above_2_47 : decode cX12_above_2 47 = .ok (.getfield 23, 3) := by decide +kernel
theorem dX12_above_2_50 : decode cX12_above_2 50 = .ok (.iload_n 2, 1) := by decide +kernel
theorem dX12_above_2_51 : decode cX12_above_2 51 = .ok (.caload, 1) := by decide +kernel
theorem dX12_above_2_52 : decode cX12_above_2 52 = .ok (.aload_n 0, 1) := by decide +kernel
theorem dX12_above_2_53 : decode cX12_above_2 53 = .ok (.getfield 27, 3) := by decide +kernel
theorem dX12_above_2_56 : decode cX12_above_2 56 = .ok (.if_icmp .ge 30, 3) := by decide +kernel
theorem dX12_above_2_59 : decode cX12_above_2 59 = .ok (.aload_n 0, 1) := by decide +kernel
theorem dX12_above_2_60 : decode cX12_above_2 60 = .ok (.getfield 32, 3) := by decide +kernel
theorem dX12_above_2_63 : decode cX12_above_2 63 = .ok (.aload_n 1, 1) := by decide +kernel
theorem dX12_above_2_64 : decode cX12_above_2 64 = .ok (.iload_n 2, 1) := by decide +kernel
theorem dX12_above_2_65 : decode cX12_above_2 65 = .ok (.iload_n 3, 1) := by decide +kernel
theorem dX12_above_2_66 : decode cX12_above_2 66 = .ok (.invokestatic 72, 3) := by decide +kernel
theorem dX12_above_2_69 : decode cX12_above_2 69 = .ok (.astore 4, 2) := by decide +kernel
theorem dX12_above_2_71 : decode cX12_above_2 71 = .ok (.aload 4, 2) := by decide +kernel
theorem dX12_above_2_73 : decode cX12_above_2 73 = .ok (.ifnull 8, 3) := by decide +kernel
theorem dX12_above_2_76 : decode cX12_above_2 76 = .ok (.aload 4, 2) := by decide +kernel
theorem dX12_above_2_78 : decode cX12_above_2 78 = .ok (.goto 7, 3) := by decide +kernel
theorem dX12_above_2_81 : decode cX12_above_2 81 = .ok (.aload_n 0, 1) := by decide +kernel
theorem dX12_above_2_82 : decode cX12_above_2 82 = .ok (.invokestatic 62, 3) := by decide +kernel
theorem dX12_above_2_85 : decode cX12_above_2 85 = .ok (.areturn, 1) := by decide +kernel
theorem dX12_above_2_86 : decode cX12_above_2 86 = .ok (.iload_n 2, 1) := by decide +kernel
theorem dX12_above_2_87 : decode cX12_above_2 87 = .ok (.iconst 1, 1) := by decide +kernel
theorem dX12_above_2_88 : decode cX12_above_2 88 = .ok (.iadd, 1) := by decide +kernel
theorem dX12_above_2_89 : decode cX12_above_2 89 = .ok (.aload_n 1, 1) := by decide +kernel
theorem dX12_above_2_90 : decode cX12_above_2 90 = .ok (.getfield 7, 3) := by decide +kernel
theorem dX12_above_2_93 : decode cX12_above_2 93 = .ok (.if_icmp .ne 19, 3) := by decide +kernel
theorem dX12_above_2_96 : decode cX12_above_2 96 = .ok (.iload_n 3, 1) := by decide +kernel
theorem dX12_above_2_97 : decode cX12_above_2 97 = .ok (.ifCond .ne 15, 3) := by decide +kernel
theorem dX12_above_2_100 : decode cX12_above_2 100 = .ok (.aload_n 0, 1) := by decide +kernel
theorem dX12_above_2_101 : decode cX12_above_2 101 = .ok (.getfield 38, 3) := by decide +kernel
theorem dX12_above_2_104 : decode cX12_above_2 104 = .ok (.ifnull 8, 3) := by decide +kernel
theorem dX12_above_2_107 : decode cX12_above_2 107 = .ok (.aload_n 0, 1) := by decide +kernel
theorem dX12_above_2_108 : decode cX12_above_2 108 = .ok (.getfield 38, 3) := by decide +kernel
theorem dX12_above_2_111 : decode cX12_above_2 111 = .ok (.areturn, 1) := by decide +kernel
theorem dX12_above_2_112 : decode cX12_above_2 112 = .ok (.aload_n 0, 1) := by decide +kernel
theorem dX12_above_2_113 : decode cX12_above_2 113 = .ok (.getfield 41, 3) := by decide +kernel
theorem dX12_above_2_116 : decode cX12_above_2 116 = .ok (.aload_n 1, 1) := by decide +kernel
theorem dX12_above_2_117 : decode cX12_above_2 117 = .ok (.iload_n 2, 1) := by decide +kernel
theorem dX12_above_2_118 : decode cX12_above_2 118 = .ok (.iconst 1, 1) := by decide +kernel
theorem dX12_above_2_119 : decode cX12_above_2 119 = .ok (.iadd, 1) := by decide +kernel
theorem dX12_above_2_120 : decode cX12_above_2 120 = .ok (.iload_n 3, 1) := by decide +kernel
theorem dX12_above_2_121 : decode cX12_above_2 121 = .ok (.invokestatic 72, 3) := by decide +kernel
theorem dX12_above_2_124 : decode cX12_above_2 124 = .ok (.astore 4, 2) := by decide +kernel
theorem dX12_above_2_126 : decode cX12_above_2 126 = .ok (.aload 4, 2) := by decide +kernel
theorem dX12_above_2_128 : decode cX12_above_2 128 = .ok (.ifnull 8, 3) := by decide +kernel
theorem dX12_above_2_131 : decode cX12_above_2 131 = .ok (.aload 4, 2) := by decide +kernel
theorem dX12_above_2_133 : decode cX12_above_2 133 = .ok (.goto 10, 3) := by decide +kernel
theorem dX12_above_2_136 : decode cX12_above_2 136 = .ok (.aload_n 0, 1) := by decide +kernel
theorem dX12_above_2_137 : decode cX12_above_2 137 = .ok (.getfield 35, 3) := by decide +kernel
theorem dX12_above_2_140 : decode cX12_above_2 140 = .ok (.invokestatic 66, 3) := by decide +kernel
theorem dX12_above_2_143 : decode cX12_above_2 143 = .ok (.areturn, 1) := by decide +kernel
theorem dX12_get_0 : decode cX12_get 0 = .ok (.aload_n 1, 1) := by decide +kernel
theorem dX12_get_1 : decode cX12_get 1 = .ok (.getfield 7, 3) := by decide +kernel
theorem dX12_get_4 : decode cX12_get 4 = .ok (.ifCond .ne 8, 3) := by decide +kernel
theorem dX12_get_7 : decode cX12_get 7 = .ok (.aload_n 0, 1) := by decide +kernel
theorem dX12_get_8 : decode cX12_get 8 = .ok (.getfield 13, 3) := by decide +kernel
theorem dX12_get_11 : decode cX12_get 11 = .ok (.areturn, 1) := by decide +kernel
theorem dX12_get_12 : decode cX12_get 12 = .ok (.aload_n 0, 1) := by decide +kernel
theorem dX12_get_13 : decode cX12_get 13 = .ok (.getfield 19, 3) := by decide +kernel
theorem dX12_get_16 : decode cX12_get 16 = .ok (.astore_n 2, 1) := by decide +kernel
theorem dX12_get_17 : decode cX12_get 17 = .ok (.iconst 0, 1) := by decide +kernel
theorem dX12_get_18 : decode cX12_get 18 = .ok (.istore_n 3, 1) := by decide +kernel
theorem dX12_get_19 : decode cX12_get 19 = .ok (.aload_n 2, 1) := by decide +kernel
theorem dX12_get_20 : decode cX12_get 20 = .ok (.ifnull 69, 3) := by decide +kernel
theorem dX12_get_23 : decode cX12_get 23 = .ok (.aload_n 1, 1) := by decide +kernel
theorem dX12_get_24 : decode cX12_get 24 = .ok (.getfield 23, 3) := by decide +kernel
theorem dX12_get_27 : decode cX12_get 27 = .ok (.iload_n 3, 1) := by decide +kernel
theorem dX12_get_28 : decode cX12_get 28 = .ok (.caload, 1) := by decide +kernel
theorem dX12_get_29 : decode cX12_get 29 = .ok (.aload_n 2, 1) := by decide +kernel
theorem dX12_get_30 : decode cX12_get 30 = .ok (.getfield 27, 3) := by decide +kernel
theorem dX12_get_33 : decode cX12_get 33 = .ok (.if_icmp .ge 11, 3) := by decide +kernel
theorem dX12_get_36 : decode cX12_get 36 = .ok (.aload_n 2, 1) := by decide +kernel
theorem dX12_get_37 : decode cX12_get 37 = .ok (.getfield 32, 3) := by decide +kernel
theorem dX12_get_40 : decode cX12_get 40 = .ok (.astore_n 2, 1) := by decide +kernel
theorem dX12_get_41 : decode cX12_get 41 = .ok (.goto (-22), 3) := by decide +kernel
theorem dX12_get_44 : decode cX12_get 44 = .ok (.aload_n 1, 1) := by decide +kernel
theorem dX12_get_45 : decode cX12_get 45 = .ok (.getfield 23, 3) := by decide +kernel
theorem dX12_get_48 : decode cX12_get 48 = .ok (.iload_n 3, 1) := by decide +kernel
theorem dX12_get_49 : decode cX12_get 49 = .ok (.caload, 1) := by decide +kernel
theorem dX12_get_50 : decode cX12_get 50 = .ok (.aload_n 2, 1) := by decide +kernel
theorem dX12_get_51 : decode cX12_get 51 = .ok (.getfield 27, 3) := by decide +kernel
theorem dX12_get_54 : decode cX12_get 54 = .ok (.if_icmp .le 11, 3) := by decide +kernel
theorem dX12_get_57 : decode cX12_get 57 = .ok (.aload_n 2, 1) := by decide +kernel
theorem dX12_get_58 : decode cX12_get 58 = .ok (.getfield 35, 3) := by decide +kernel
theorem dX12_get_61 : decode cX12_get 61 = .ok (.astore_n 2, 1) := by decide +kernel
theorem dX12_get_62 : decode cX12_get 62 = .ok (.goto (-43), 3) := by decide +kernel
theorem dX12_get_65 : decode cX12_get 65 = .ok (.iinc 3 1, 3) := by decide +kernel
theorem dX12_get_68 : decode cX12_get 68 = .ok (.iload_n 3, 1) := by decide +kernel
theorem dX12_get_69 : decode cX12_get 69 = .ok (.aload_n 1, 1) := by decide +kernel
theorem dX12_get_70 : decode cX12_get 70 = .ok (.getfield 7, 3) := by decide +kernel
theorem dX12_get_73 : decode cX12_get 73 = .ok (.if_icmp .ne 8, 3) := by decide +kernel
theorem dX12_get_76 : decode cX12_get 76 = .ok (.aload_n 2, 1) := by decide +kernel
theorem dX12_get_77 : decode cX12_get 77 = .ok (.getfield 38, 3) := by decide +kernel
theorem dX12_get_80 : decode cX12_get 80 = .ok (.areturn, 1) := by decide +kernel
theorem dX12_get_81 : decode cX12_get 81 = .ok (.aload_n 2, 1) := by decide +kernel
theorem dX12_get_82 : decode cX12_get 82 = .ok (.getfield 41, 3) := by decide +kernel
theorem dX12_get_85 : decode cX12_get 85 = .ok (.astore_n 2, 1) := by decide +kernel
theorem dX12_get_86 : decode cX12_get 86 = .ok (.goto (-67), 3) := by decide +kernel
theorem dX12_get_89 : decode cX12_get 89 = .ok (.aconst_null, 1) := by decide +kernel
theorem dX12_get_90 : decode cX12_get 90 = .ok (.areturn, 1) := by decide +kernel
theorem dX12_put_0 : decode cX12_put 0 = .ok (.aload_n 1, 1) := by decide +kernel
theorem dX12_put_1 : decode cX12_put 1 = .ok (.getfield 44, 3) := by decide +kernel
theorem dX12_put_4 : decode cX12_put 4 = .ok (.ifCond .ne 11, 3) := by decide +kernel
theorem dX12_put_7 : decode cX12_put 7 = .ok (.aload_n 0, 1) := by decide +kernel
theorem dX12_put_8 : decode cX12_put 8 = .ok (.aload_n 1, 1) := by decide +kernel
theorem dX12_put_9 : decode cX12_put 9 = .ok (.putfield 13, 3) := by decide +kernel
theorem dX12_put_12 : decode cX12_put 12 = .ok (.goto 16, 3) := by decide +kernel
theorem dX12_put_15 : decode cX12_put 15 = .ok (.aload_n 0, 1) := by decide +kernel
theorem dX12_put_16 : decode cX12_put 16 = .ok (.aload_n 0, 1) := by decide +kernel
theorem dX12_put_17 : decode cX12_put 17 = .ok (.getfield 19, 3) := by decide +kernel
theorem dX12_put_20 : decode cX12_put 20 = .ok (.aload_n 1, 1) := by decide +kernel
theorem dX12_put_21 : decode cX12_put 21 = .ok (.iconst 0, 1) := by decide +kernel
theorem dX12_put_22 : decode cX12_put 22 = .ok (.invokestatic 47, 3) := by decide +kernel
theorem dX12_put_25 : decode cX12_put 25 = .ok (.putfield 19, 3) := by decide +kernel
theorem dX12_put_28 : decode cX12_put 28 = .ok (.return_, 1) := by decide +kernel
theorem dX12_plant_0 : decode cX12_plant 0 = .ok (.aload_n 0, 1) := by decide +kernel
theorem dX12_plant_1 : decode cX12_plant 1 = .ok (.ifnonnull 19, 3) := by decide +kernel
theorem dX12_plant_4 : decode cX12_plant 4 = .ok (.new 28, 3) := by decide +kernel
theorem dX12_plant_7 : decode cX12_plant 7 = .ok (.dup, 1) := by decide +kernel
theorem dX12_plant_8 : decode cX12_plant 8 = .ok (.aload_n 1, 1) := by decide +kernel
theorem dX12_plant_9 : decode cX12_plant 9 = .ok (.getfield 51, 3) := by decide +kernel
theorem dX12_plant_12 : decode cX12_plant 12 = .ok (.iload_n 2, 1) := by decide +kernel
theorem dX12_plant_13 : decode cX12_plant 13 = .ok (.caload, 1) := by decide +kernel
theorem dX12_plant_14 : decode cX12_plant 14 = .ok (.invokespecial 52, 3) := by decide +kernel
theorem dX12_plant_17 : decode cX12_plant 17 = .ok (.goto 4, 3) := by decide +kernel
theorem dX12_plant_20 : decode cX12_plant 20 = .ok (.aload_n 0, 1) := by decide +kernel
theorem dX12_plant_21 : decode cX12_plant 21 = .ok (.astore_n 3, 1) := by decide +kernel
theorem dX12_plant_22 : decode cX12_plant 22 = .ok (.aload_n 1, 1) := by decide +kernel
theorem dX12_plant_23 : decode cX12_plant 23 = .ok (.getfield 51, 3) := by decide +kernel
theorem dX12_plant_26 : decode cX12_plant 26 = .ok (.iload_n 2, 1) := by decide +kernel
theorem dX12_plant_27 : decode cX12_plant 27 = .ok (.caload, 1) := by decide +kernel
theorem dX12_plant_28 : decode cX12_plant 28 = .ok (.aload_n 3, 1) := by decide +kernel
theorem dX12_plant_29 : decode cX12_plant 29 = .ok (.getfield 27, 3) := by decide +kernel
theorem dX12_plant_32 : decode cX12_plant 32 = .ok (.if_icmp .ge 19, 3) := by decide +kernel
theorem dX12_plant_35 : decode cX12_plant 35 = .ok (.aload_n 3, 1) := by decide +kernel
theorem dX12_plant_36 : decode cX12_plant 36 = .ok (.aload_n 3, 1) := by decide +kernel
theorem dX12_plant_37 : decode cX12_plant 37 = .ok (.getfield 32, 3) := by decide +kernel
theorem dX12_plant_40 : decode cX12_plant 40 = .ok (.aload_n 1, 1) := by decide +kernel
theorem dX12_plant_41 : decode cX12_plant 41 = .ok (.iload_n 2, 1) := by decide +kernel
theorem dX12_plant_42 : decode cX12_plant 42 = .ok (.invokestatic 47, 3) := by decide +kernel
theorem dX12_plant_45 : decode cX12_plant 45 = .ok (.putfield 32, 3) := by decide +kernel
theorem dX12_plant_48 : decode cX12_plant 48 = .ok (.goto 65, 3) := by decide +kernel
theorem dX12_plant_51 : decode cX12_plant 51 = .ok (.aload_n 1, 1) := by decide +kernel
theorem dX12_plant_52 : decode cX12_plant 52 = .ok (.getfield 51, 3) := by decide +kernel
theorem dX12_plant_55 : decode cX12_plant 55 = .ok (.iload_n 2, 1) := by decide +kernel
theorem dX12_plant_56 : decode cX12_plant 56 = .ok (.caload, 1) := by decide +kernel
theorem dX12_plant_57 : decode cX12_plant 57 = .ok (.aload_n 3, 1) := by decide +kernel
theorem dX12_plant_58 : decode cX12_plant 58 = .ok (.getfield 27, 3) := by decide +kernel
theorem dX12_plant_61 : decode cX12_plant 61 = .ok (.if_icmp .le 19, 3) := by decide +kernel
theorem dX12_plant_64 : decode cX12_plant 64 = .ok (.aload_n 3, 1) := by decide +kernel
theorem dX12_plant_65 : decode cX12_plant 65 = .ok (.aload_n 3, 1) := by decide +kernel
theorem dX12_plant_66 : decode cX12_plant 66 = .ok (.getfield 35, 3) := by decide +kernel
theorem dX12_plant_69 : decode cX12_plant 69 = .ok (.aload_n 1, 1) := by decide +kernel
theorem dX12_plant_70 : decode cX12_plant 70 = .ok (.iload_n 2, 1) := by decide +kernel
theorem dX12_plant_71 : decode cX12_plant 71 = .ok (.invokestatic 47, 3) := by decide +kernel
theorem dX12_plant_74 : decode cX12_plant 74 = .ok (.putfield 35, 3) := by decide +kernel
theorem dX12_plant_77 : decode cX12_plant 77 = .ok (.goto 36, 3) := by decide +kernel
theorem dX12_plant_80 : decode cX12_plant 80 = .ok (.iload_n 2, 1) := by decide +kernel
theorem dX12_plant_81 : decode cX12_plant 81 = .ok (.iconst 1, 1) := by decide +kernel
theorem dX12_plant_82 : decode cX12_plant 82 = .ok (.iadd, 1) := by decide +kernel
theorem dX12_plant_83 : decode cX12_plant 83 = .ok (.aload_n 1, 1) := by decide +kernel
theorem dX12_plant_84 : decode cX12_plant 84 = .ok (.getfield 44, 3) := by decide +kernel
theorem dX12_plant_87 : decode cX12_plant 87 = .ok (.if_icmp .ge 21, 3) := by decide +kernel
theorem dX12_plant_90 : decode cX12_plant 90 = .ok (.aload_n 3, 1) := by decide +kernel
theorem dX12_plant_91 : decode cX12_plant 91 = .ok (.aload_n 3, 1) := by decide +kernel
theorem dX12_plant_92 : decode cX12_plant 92 = .ok (.getfield 41, 3) := by decide +kernel
theorem dX12_plant_95 : decode cX12_plant 95 = .ok (.aload_n 1, 1) := by decide +kernel
theorem dX12_plant_96 : decode cX12_plant 96 = .ok (.iload_n 2, 1) := by decide +kernel
theorem dX12_plant_97 : decode cX12_plant 97 = .ok (.iconst 1, 1) := by decide +kernel
theorem dX12_plant_98 : decode cX12_plant 98 = .ok (.iadd, 1) := by decide +kernel
theorem dX12_plant_99 : decode cX12_plant 99 = .ok (.invokestatic 47, 3) := by decide +kernel
theorem dX12_plant_102 : decode cX12_plant 102 = .ok (.putfield 41, 3) := by decide +kernel
theorem dX12_plant_105 : decode cX12_plant 105 = .ok (.goto 8, 3) := by decide +kernel
theorem dX12_plant_108 : decode cX12_plant 108 = .ok (.aload_n 3, 1) := by decide +kernel
theorem dX12_plant_109 : decode cX12_plant 109 = .ok (.aload_n 1, 1) := by decide +kernel
theorem dX12_plant_110 : decode cX12_plant 110 = .ok (.putfield 38, 3) := by decide +kernel
theorem dX12_plant_113 : decode cX12_plant 113 = .ok (.aload_n 3, 1) := by decide +kernel
theorem dX12_plant_114 : decode cX12_plant 114 = .ok (.areturn, 1) := by decide +kernel
theorem dX12_take_0 : decode cX12_take 0 = .ok (.aload_n 1, 1) := by decide +kernel
theorem dX12_take_1 : decode cX12_take 1 = .ok (.getfield 44, 3) := by decide +kernel
theorem dX12_take_4 : decode cX12_take 4 = .ok (.ifCond .ne 11, 3) := by decide +kernel
theorem dX12_take_7 : decode cX12_take 7 = .ok (.aload_n 0, 1) := by decide +kernel
theorem dX12_take_8 : decode cX12_take 8 = .ok (.aconst_null, 1) := by decide +kernel
theorem dX12_take_9 : decode cX12_take 9 = .ok (.putfield 13, 3) := by decide +kernel
theorem dX12_take_12 : decode cX12_take 12 = .ok (.goto 16, 3) := by decide +kernel
theorem dX12_take_15 : decode cX12_take 15 = .ok (.aload_n 0, 1) := by decide +kernel
theorem dX12_take_16 : decode cX12_take 16 = .ok (.aload_n 0, 1) := by decide +kernel
theorem dX12_take_17 : decode cX12_take 17 = .ok (.getfield 19, 3) := by decide +kernel
theorem dX12_take_20 : decode cX12_take 20 = .ok (.aload_n 1, 1) := by decide +kernel
theorem dX12_take_21 : decode cX12_take 21 = .ok (.iconst 0, 1) := by decide +kernel
theorem dX12_take_22 : decode cX12_take 22 = .ok (.invokestatic 55, 3) := by decide +kernel
theorem dX12_take_25 : decode cX12_take 25 = .ok (.putfield 19, 3) := by decide +kernel
theorem dX12_take_28 : decode cX12_take 28 = .ok (.return_, 1) := by decide +kernel
theorem dX12_take_2_0 : decode cX12_take_2 0 = .ok (.aload_n 1, 1) := by decide +kernel
theorem dX12_take_2_1 : decode cX12_take_2 1 = .ok (.getfield 51, 3) := by decide +kernel
theorem dX12_take_2_4 : decode cX12_take_2 4 = .ok (.iload_n 2, 1) := by decide +kernel
theorem dX12_take_2_5 : decode cX12_take_2 5 = .ok (.caload, 1) := by decide +kernel
theorem dX12_take_2_6 : decode cX12_take_2 6 = .ok (.aload_n 0, 1) := by decide +kernel
theorem dX12_take_2_7 : decode cX12_take_2 7 = .ok (.getfield 27, 3) := by decide +kernel
theorem dX12_take_2_10 : decode cX12_take_2 10 = .ok (.if_icmp .ge 19, 3) := by decide +kernel
theorem dX12_take_2_13 : decode cX12_take_2 13 = .ok (.aload_n 0, 1) := by decide +kernel
theorem dX12_take_2_14 : decode cX12_take_2 14 = .ok (.aload_n 0, 1) := by decide +kernel
theorem dX12_take_2_15 : decode cX12_take_2 15 = .ok (.getfield 32, 3) := by decide +kernel
theorem dX12_take_2_18 : decode cX12_take_2 18 = .ok (.aload_n 1, 1) := by decide +kernel
theorem dX12_take_2_19 : decode cX12_take_2 19 = .ok (.iload_n 2, 1) := by decide +kernel
theorem dX12_take_2_20 : decode cX12_take_2 20 = .ok (.invokestatic 55, 3) := by decide +kernel
theorem dX12_take_2_23 : decode cX12_take_2 23 = .ok (.putfield 32, 3) := by decide +kernel
theorem dX12_take_2_26 : decode cX12_take_2 26 = .ok (.goto 65, 3) := by decide +kernel
theorem dX12_take_2_29 : decode cX12_take_2 29 = .ok (.aload_n 1, 1) := by decide +kernel
theorem dX12_take_2_30 : decode cX12_take_2 30 = .ok (.getfield 51, 3) := by decide +kernel
theorem dX12_take_2_33 : decode cX12_take_2 33 = .ok (.iload_n 2, 1) := by decide +kernel
theorem dX12_take_2_34 : decode cX12_take_2 34 = .ok (.caload, 1) := by decide +kernel
theorem dX12_take_2_35 : decode cX12_take_2 35 = .ok (.aload_n 0, 1) := by decide +kernel
theorem dX12_take_2_36 : decode cX12_take_2 36 = .ok (.getfield 27, 3) := by decide +kernel
theorem dX12_take_2_39 : decode cX12_take_2 39 = .ok (.if_icmp .le 19, 3) := by decide +kernel
theorem dX12_take_2_42 : decode cX12_take_2 42 = .ok (.aload_n 0, 1) := by decide +kernel
theorem dX12_take_2_43 : decode cX12_take_2 43 = .ok (.aload_n 0, 1) := by decide +kernel
theorem dX12_take_2_44 : decode cX12_take_2 44 = .ok (.getfield 35, 3) := by decide +kernel
theorem dX12_take_2_47 : decode cX12_take_2 47 = .ok (.aload_n 1, 1) := by decide +kernel
theorem dX12_take_2_48 : decode cX12_take_2 48 = .ok (.iload_n 2, 1) := by decide +kernel
theorem dX12_take_2_49 : decode cX12_take_2 49 = .ok (.invokestatic 55, 3) := by decide +kernel
theorem dX12_take_2_52 : decode cX12_take_2 52 = .ok (.putfield 35, 3) := by decide +kernel
theorem dX12_take_2_55 : decode cX12_take_2 55 = .ok (.goto 36, 3) := by decide +kernel
theorem dX12_take_2_58 : decode cX12_take_2 58 = .ok (.iload_n 2, 1) := by decide +kernel
theorem dX12_take_2_59 : decode cX12_take_2 59 = .ok (.iconst 1, 1) := by decide +kernel
theorem dX12_take_2_60 : decode cX12_take_2 60 = .ok (.iadd, 1) := by decide +kernel
theorem dX12_take_2_61 : decode cX12_take_2 61 = .ok (.aload_n 1, 1) := by decide +kernel
theorem dX12_take_2_62 : decode cX12_take_2 62 = .ok (.getfield 44, 3) := by decide +kernel
theorem dX12_take_2_65 : decode cX12_take_2 65 = .ok (.if_icmp .ge 21, 3) := by decide +kernel
theorem dX12_take_2_68 : decode cX12_take_2 68 = .ok (.aload_n 0, 1) := by decide +kernel
theorem dX12_take_2_69 : decode cX12_take_2 69 = .ok (.aload_n 0, 1) := by decide +kernel
theorem dX12_take_2_70 : decode cX12_take_2 70 = .ok (.getfield 41, 3) := by decide +kernel
theorem dX12_take_2_73 : decode cX12_take_2 73 = .ok (.aload_n 1, 1) := by decide +kernel
theorem dX12_take_2_74 : decode cX12_take_2 74 = .ok (.iload_n 2, 1) := by decide +kernel
theorem dX12_take_2_75 : decode cX12_take_2 75 = .ok (.iconst 1, 1) := by decide +kernel
theorem dX12_take_2_76 : decode cX12_take_2 76 = .ok (.iadd, 1) := by decide +kernel
theorem dX12_take_2_77 : decode cX12_take_2 77 = .ok (.invokestatic 55, 3) := by decide +kernel
theorem dX12_take_2_80 : decode cX12_take_2 80 = .ok (.putfield 41, 3) := by decide +kernel
theorem dX12_take_2_83 : decode cX12_take_2 83 = .ok (.goto 8, 3) := by decide +kernel
theorem dX12_take_2_86 : decode cX12_take_2 86 = .ok (.aload_n 0, 1) := by decide +kernel
theorem dX12_take_2_87 : decode cX12_take_2 87 = .ok (.aconst_null, 1) := by decide +kernel
theorem dX12_take_2_88 : decode cX12_take_2 88 = .ok (.putfield 38, 3) := by decide +kernel
theorem dX12_take_2_91 : decode cX12_take_2 91 = .ok (.aload_n 0, 1) := by decide +kernel
theorem dX12_take_2_92 : decode cX12_take_2 92 = .ok (.getfield 38, 3) := by decide +kernel
theorem dX12_take_2_95 : decode cX12_take_2 95 = .ok (.ifnonnull 24, 3) := by decide +kernel
theorem dX12_take_2_98 : decode cX12_take_2 98 = .ok (.aload_n 0, 1) := by decide +kernel
theorem dX12_take_2_99 : decode cX12_take_2 99 = .ok (.getfield 41, 3) := by decide +kernel
theorem dX12_take_2_102 : decode cX12_take_2 102 = .ok (.ifnonnull 17, 3) := by decide +kernel
theorem dX12_take_2_105 : decode cX12_take_2 105 = .ok (.aload_n 0, 1) := by decide +kernel
theorem dX12_take_2_106 : decode cX12_take_2 106 = .ok (.getfield 32, 3) := by decide +kernel
theorem dX12_take_2_109 : decode cX12_take_2 109 = .ok (.aload_n 0, 1) := by decide +kernel
theorem dX12_take_2_110 : decode cX12_take_2 110 = .ok (.getfield 35, 3) := by decide +kernel
theorem dX12_take_2_113 : decode cX12_take_2 113 = .ok (.invokestatic 58, 3) := by decide +kernel
theorem dX12_take_2_116 : decode cX12_take_2 116 = .ok (.goto 4, 3) := by decide +kernel
theorem dX12_take_2_119 : decode cX12_take_2 119 = .ok (.aload_n 0, 1) := by decide +kernel
theorem dX12_take_2_120 : decode cX12_take_2 120 = .ok (.areturn, 1) := by decide +kernel
theorem dX12_join_0 : decode cX12_join 0 = .ok (.aload_n 0, 1) := by decide +kernel
theorem dX12_join_1 : decode cX12_join 1 = .ok (.ifnonnull 5, 3) := by decide +kernel
theorem dX12_join_4 : decode cX12_join 4 = .ok (.aload_n 1, 1) := by decide +kernel
theorem dX12_join_5 : decode cX12_join 5 = .ok (.areturn, 1) := by decide +kernel
theorem dX12_join_6 : decode cX12_join 6 = .ok (.aload_n 0, 1) := by decide +kernel
theorem dX12_join_7 : decode cX12_join 7 = .ok (.astore_n 2, 1) := by decide +kernel
theorem dX12_join_8 : decode cX12_join 8 = .ok (.aload_n 2, 1) := by decide +kernel
theorem dX12_join_9 : decode cX12_join 9 = .ok (.getfield 35, 3) := by decide +kernel
theorem dX12_join_12 : decode cX12_join 12 = .ok (.ifnull 11, 3) := by decide +kernel
theorem dX12_join_15 : decode cX12_join 15 = .ok (.aload_n 2, 1) := by decide +kernel
theorem dX12_join_16 : decode cX12_join 16 = .ok (.getfield 35, 3) := by decide +kernel
theorem dX12_join_19 : decode cX12_join 19 = .ok (.astore_n 2, 1) := by decide +kernel
theorem dX12_join_20 : decode cX12_join 20 = .ok (.goto (-12), 3) := by decide +kernel
theorem dX12_join_23 : decode cX12_join 23 = .ok (.aload_n 2, 1) := by decide +kernel
theorem dX12_join_24 : decode cX12_join 24 = .ok (.aload_n 1, 1) := by decide +kernel
theorem dX12_join_25 : decode cX12_join 25 = .ok (.putfield 35, 3) := by decide +kernel
theorem dX12_join_28 : decode cX12_join 28 = .ok (.aload_n 0, 1) := by decide +kernel
theorem dX12_join_29 : decode cX12_join 29 = .ok (.areturn, 1) := by decide +kernel
theorem dX12_below_0 : decode cX12_below 0 = .ok (.aload_n 1, 1) := by decide +kernel
theorem dX12_below_1 : decode cX12_below 1 = .ok (.ifnonnull 13, 3) := by decide +kernel
theorem dX12_below_4 : decode cX12_below 4 = .ok (.aload_n 0, 1) := by decide +kernel
theorem dX12_below_5 : decode cX12_below 5 = .ok (.getfield 19, 3) := by decide +kernel
theorem dX12_below_8 : decode cX12_below 8 = .ok (.invokestatic 69, 3) := by decide +kernel
theorem dX12_below_11 : decode cX12_below 11 = .ok (.goto 13, 3) := by decide +kernel
theorem dX12_below_14 : decode cX12_below 14 = .ok (.aload_n 0, 1) := by decide +kernel
theorem dX12_below_15 : decode cX12_below 15 = .ok (.getfield 19, 3) := by decide +kernel
theorem dX12_below_18 : decode cX12_below 18 = .ok (.aload_n 1, 1) := by decide +kernel
theorem dX12_below_19 : decode cX12_below 19 = .ok (.iconst 0, 1) := by decide +kernel
theorem dX12_below_20 : decode cX12_below 20 = .ok (.iload_n 2, 1) := by decide +kernel
theorem dX12_below_21 : decode cX12_below 21 = .ok (.invokestatic 76, 3) := by decide +kernel
theorem dX12_below_24 : decode cX12_below 24 = .ok (.astore_n 3, 1) := by decide +kernel
theorem dX12_below_25 : decode cX12_below 25 = .ok (.aload_n 3, 1) := by decide +kernel
theorem dX12_below_26 : decode cX12_below 26 = .ok (.ifnull 5, 3) := by decide +kernel
theorem dX12_below_29 : decode cX12_below 29 = .ok (.aload_n 3, 1) := by decide +kernel
theorem dX12_below_30 : decode cX12_below 30 = .ok (.areturn, 1) := by decide +kernel
theorem dX12_below_31 : decode cX12_below 31 = .ok (.aload_n 1, 1) := by decide +kernel
theorem dX12_below_32 : decode cX12_below 32 = .ok (.ifnull 14, 3) := by decide +kernel
theorem dX12_below_35 : decode cX12_below 35 = .ok (.aload_n 1, 1) := by decide +kernel
theorem dX12_below_36 : decode cX12_below 36 = .ok (.getfield 7, 3) := by decide +kernel
theorem dX12_below_39 : decode cX12_below 39 = .ok (.ifCond .gt 7, 3) := by decide +kernel
theorem dX12_below_42 : decode cX12_below 42 = .ok (.iload_n 2, 1) := by decide +kernel
theorem dX12_below_43 : decode cX12_below 43 = .ok (.ifCond .ne 10, 3) := by decide +kernel
theorem dX12_below_46 : decode cX12_below 46 = .ok (.aload_n 0, 1) := by decide +kernel
theorem dX12_below_47 : decode cX12_below 47 = .ok (.getfield 13, 3) := by decide +kernel
theorem dX12_below_50 : decode cX12_below 50 = .ok (.goto 4, 3) := by decide +kernel
theorem dX12_below_53 : decode cX12_below 53 = .ok (.aconst_null, 1) := by decide +kernel
theorem dX12_below_54 : decode cX12_below 54 = .ok (.areturn, 1) := by decide +kernel
theorem dX12_last_0 : decode cX12_last 0 = .ok (.aload_n 0, 1) := by decide +kernel
theorem dX12_last_1 : decode cX12_last 1 = .ok (.astore_n 1, 1) := by decide +kernel
theorem dX12_last_2 : decode cX12_last 2 = .ok (.aload_n 1, 1) := by decide +kernel
theorem dX12_last_3 : decode cX12_last 3 = .ok (.ifnonnull 5, 3) := by decide +kernel
theorem dX12_last_6 : decode cX12_last 6 = .ok (.aconst_null, 1) := by decide +kernel
theorem dX12_last_7 : decode cX12_last 7 = .ok (.areturn, 1) := by decide +kernel
theorem dX12_last_8 : decode cX12_last 8 = .ok (.aload_n 1, 1) := by decide +kernel
theorem dX12_last_9 : decode cX12_last 9 = .ok (.getfield 35, 3) := by decide +kernel
theorem dX12_last_12 : decode cX12_last 12 = .ok (.ifnull 11, 3) := by decide +kernel
theorem dX12_last_15 : decode cX12_last 15 = .ok (.aload_n 1, 1) := by decide +kernel
theorem dX12_last_16 : decode cX12_last 16 = .ok (.getfield 35, 3) := by decide +kernel
theorem dX12_last_19 : decode cX12_last 19 = .ok (.astore_n 1, 1) := by decide +kernel
theorem dX12_last_20 : decode cX12_last 20 = .ok (.goto (-12), 3) := by decide +kernel
theorem dX12_last_23 : decode cX12_last 23 = .ok (.aload_n 1, 1) := by decide +kernel
theorem dX12_last_24 : decode cX12_last 24 = .ok (.getfield 41, 3) := by decide +kernel
theorem dX12_last_27 : decode cX12_last 27 = .ok (.ifnull 13, 3) := by decide +kernel
theorem dX12_last_30 : decode cX12_last 30 = .ok (.aload_n 1, 1) := by decide +kernel
theorem dX12_last_31 : decode cX12_last 31 = .ok (.getfield 41, 3) := by decide +kernel
theorem dX12_last_34 : decode cX12_last 34 = .ok (.invokestatic 69, 3) := by decide +kernel
theorem dX12_last_37 : decode cX12_last 37 = .ok (.goto 7, 3) := by decide +kernel
theorem dX12_last_40 : decode cX12_last 40 = .ok (.aload_n 1, 1) := by decide +kernel
theorem dX12_last_41 : decode cX12_last 41 = .ok (.getfield 38, 3) := by decide +kernel
theorem dX12_last_44 : decode cX12_last 44 = .ok (.areturn, 1) := by decide +kernel
theorem dX12_below_2_0 : decode cX12_below_2 0 = .ok (.aload_n 0, 1) := by decide +kernel
theorem dX12_below_2_1 : decode cX12_below_2 1 = .ok (.ifnull 11, 3) := by decide +kernel
theorem dX12_below_2_4 : decode cX12_below_2 4 = .ok (.iload_n 2, 1) := by decide +kernel
theorem dX12_below_2_5 : decode cX12_below_2 5 = .ok (.aload_n 1, 1) := by decide +kernel
theorem dX12_below_2_6 : decode cX12_below_2 6 = .ok (.getfield 7, 3) := by decide +kernel
theorem dX12_below_2_9 : decode cX12_below_2 9 = .ok (.if_icmp .ne 5, 3) := by decide +kernel
theorem dX12_below_2_12 : decode cX12_below_2 12 = .ok (.aconst_null, 1) := by decide +kernel
theorem dX12_below_2_13 : decode cX12_below_2 13 = .ok (.areturn, 1) := by decide +kernel
theorem dX12_below_2_14 : decode cX12_below_2 14 = .ok (.aload_n 1, 1) := by decide +kernel
theorem dX12_below_2_15 : decode cX12_below_2 15 = .ok (.getfield 23, 3) := by decide +kernel
theorem dX12_below_2_18 : decode cX12_below_2 18 = .ok (.iload_n 2, 1) := by decide +kernel
theorem dX12_below_2_19 : decode cX12_below_2 19 = .ok (.caload, 1) := by decide +kernel
theorem dX12_below_2_20 : decode cX12_below_2 20 = .ok (.aload_n 0, 1) := by decide +kernel
theorem dX12_below_2_21 : decode cX12_below_2 21 = .ok (.getfield 27, 3) := by decide +kernel
theorem dX12_below_2_24 : decode cX12_below_2 24 = .ok (.if_icmp .ge 14, 3) := by decide +kernel
theorem dX12_below_2_27 : decode cX12_below_2 27 = .ok (.aload_n 0, 1) := by decide +kernel
theorem dX12_below_2_28 : decode cX12_below_2 28 = .ok (.getfield 32, 3) := by decide +kernel
theorem dX12_below_2_31 : decode cX12_below_2 31 = .ok (.aload_n 1, 1) := by decide +kernel
theorem dX12_below_2_32 : decode cX12_below_2 32 = .ok (.iload_n 2, 1) := by decide +kernel
theorem dX12_below_2_33 : decode cX12_below_2 33 = .ok (.iload_n 3, 1) := by decide +kernel
theorem dX12_below_2_34 : decode cX12_below_2 34 = .ok (.invokestatic 76, 3) := by decide +kernel
theorem dX12_below_2_37 : decode cX12_below_2 37 = .ok (.areturn, 1) := by decide +kernel
theorem dX12_below_2_38 : decode cX12_below_2 38 = .ok (.aconst_null, 1) := by decide +kernel
theorem dX12_below_2_39 : decode cX12_below_2 39 = .ok (.astore 4, 2) := by decide +kernel
theorem dX12_below_2_41 : decode cX12_below_2 41 = .ok (.aload_n 1, 1) := by decide +kernel
theorem dX12_below_2_42 : decode cX12_below_2 42 = .ok (.getfield 23, 3) := by decide +kernel
theorem dX12_below_2_45 : decode cX12_below_2 45 = .ok (.iload_n 2, 1) := by decide +kernel
theorem dX12_below_2_46 : decode cX12_below_2 46 = .ok (.caload, 1) := by decide +kernel
theorem dX12_below_2_47 : decode cX12_below_2 47 = .ok (.aload_n 0, 1) := by decide +kernel
theorem dX12_below_2_48 : decode cX12_below_2 48 = .ok (.getfield 27, 3) := by decide +kernel
theorem dX12_below_2_51 : decode cX12_below_2 51 = .ok (.if_icmp .le 45, 3) := by decide +kernel
theorem dX12_below_2_54 : decode cX12_below_2 54 = .ok (.aload_n 0, 1) := by decide +kernel
theorem dX12_below_2_55 : decode cX12_below_2 55 = .ok (.getfield 35, 3) := by decide +kernel
theorem dX12_below_2_58 : decode cX12_below_2 58 = .ok (.aload_n 1, 1) := by decide +kernel
theorem dX12_below_2_59 : decode cX12_below_2 59 = .ok (.iload_n 2, 1) := by decide +kernel
theorem dX12_below_2_60 : decode cX12_below_2 60 = .ok (.iload_n 3, 1) := by decide +kernel
theorem dX12_below_2_61 : decode cX12_below_2 61 = .ok (.invokestatic 76, 3) := by decide +kernel
theorem dX12_below_2_64 : decode cX12_below_2 64 = .ok (.astore 4, 2) := by decide +kernel
theorem dX12_below_2_66 : decode cX12_below_2 66 = .ok (.aload 4, 2) := by decide +kernel
theorem dX12_below_2_68 : decode cX12_below_2 68 = .ok (.ifnull 6, 3) := by decide +kernel
theorem dX12_below_2_71 : decode cX12_below_2 71 = .ok (.aload 4, 2) := by decide +kernel
theorem dX12_below_2_73 : decode cX12_below_2 73 = .ok (.areturn, 1) := by decide +kernel
theorem dX12_below_2_74 : decode cX12_below_2 74 = .ok (.aload_n 0, 1) := by decide +kernel
theorem dX12_below_2_75 : decode cX12_below_2 75 = .ok (.getfield 41, 3) := by decide +kernel
theorem dX12_below_2_78 : decode cX12_below_2 78 = .ok (.ifnull 13, 3) := by decide +kernel
theorem dX12_below_2_81 : decode cX12_below_2 81 = .ok (.aload_n 0, 1) := by decide +kernel
theorem dX12_below_2_82 : decode cX12_below_2 82 = .ok (.getfield 41, 3) := by decide +kernel
theorem dX12_below_2_85 : decode cX12_below_2 85 = .ok (.invokestatic 69, 3) := by decide +kernel
theorem dX12_below_2_88 : decode cX12_below_2 88 = .ok (.goto 7, 3) := by decide +kernel
theorem dX12_below_2_91 : decode cX12_below_2 91 = .ok (.aload_n 0, 1) := by decide +kernel
theorem dX12_below_2_92 : decode cX12_below_2 92 = .ok (.getfield 38, 3) := by decide +kernel
theorem dX12_below_2_95 : decode cX12_below_2 95 = .ok (.areturn, 1) := by decide +kernel
theorem dX12_below_2_96 : decode cX12_below_2 96 = .ok (.aload_n 0, 1) := by decide +kernel
theorem dX12_below_2_97 : decode cX12_below_2 97 = .ok (.getfield 41, 3) := by decide +kernel
theorem dX12_below_2_100 : decode cX12_below_2 100 = .ok (.aload_n 1, 1) := by decide +kernel
theorem dX12_below_2_101 : decode cX12_below_2 101 = .ok (.iload_n 2, 1) := by decide +kernel
theorem dX12_below_2_102 : decode cX12_below_2 102 = .ok (.iconst 1, 1) := by decide +kernel
theorem dX12_below_2_103 : decode cX12_below_2 103 = .ok (.iadd, 1) := by decide +kernel
theorem dX12_below_2_104 : decode cX12_below_2 104 = .ok (.iload_n 3, 1) := by decide +kernel
theorem dX12_below_2_105 : decode cX12_below_2 105 = .ok (.invokestatic 76, 3) := by decide +kernel
theorem dX12_below_2_108 : decode cX12_below_2 108 = .ok (.astore 4, 2) := by decide +kernel
theorem dX12_below_2_110 : decode cX12_below_2 110 = .ok (.aload 4, 2) := by decide +kernel
theorem dX12_below_2_112 : decode cX12_below_2 112 = .ok (.ifnonnull 23, 3) := by decide +kernel
theorem dX12_below_2_115 : decode cX12_below_2 115 = .ok (.iload_n 2, 1) := by decide +kernel
theorem dX12_below_2_116 : decode cX12_below_2 116 = .ok (.iconst 1, 1) := by decide +kernel
theorem dX12_below_2_117 : decode cX12_below_2 117 = .ok (.iadd, 1) := by decide +kernel
theorem dX12_below_2_118 : decode cX12_below_2 118 = .ok (.aload_n 1, 1) := by decide +kernel
theorem dX12_below_2_119 : decode cX12_below_2 119 = .ok (.getfield 7, 3) := by decide +kernel
theorem dX12_below_2_122 : decode cX12_below_2 122 = .ok (.if_icmp .lt 7, 3) := by decide +kernel
theorem dX12_below_2_125 : decode cX12_below_2 125 = .ok (.iload_n 3, 1) := by decide +kernel
theorem dX12_below_2_126 : decode cX12_below_2 126 = .ok (.ifCond .ne 9, 3) := by decide +kernel
theorem dX12_below_2_129 : decode cX12_below_2 129 = .ok (.aload_n 0, 1) := by decide +kernel
theorem dX12_below_2_130 : decode cX12_below_2 130 = .ok (.getfield 38, 3) := by decide +kernel
theorem dX12_below_2_133 : decode cX12_below_2 133 = .ok (.astore 4, 2) := by decide +kernel
theorem dX12_below_2_135 : decode cX12_below_2 135 = .ok (.aload 4, 2) := by decide +kernel
theorem dX12_below_2_137 : decode cX12_below_2 137 = .ok (.ifnull 8, 3) := by decide +kernel
theorem dX12_below_2_140 : decode cX12_below_2 140 = .ok (.aload 4, 2) := by decide +kernel
theorem dX12_below_2_142 : decode cX12_below_2 142 = .ok (.goto 10, 3) := by decide +kernel
theorem dX12_below_2_145 : decode cX12_below_2 145 = .ok (.aload_n 0, 1) := by decide +kernel
theorem dX12_below_2_146 : decode cX12_below_2 146 = .ok (.getfield 32, 3) := by decide +kernel
theorem dX12_below_2_149 : decode cX12_below_2 149 = .ok (.invokestatic 69, 3) := by decide +kernel
theorem dX12_below_2_152 : decode cX12_below_2 152 = .ok (.areturn, 1) := by decide +kernel
theorem dX13_init_0 : decode cX13_init 0 = .ok (.aload_n 0, 1) := by decide +kernel
theorem dX13_init_1 : decode cX13_init 1 = .ok (.invokespecial 1, 3) := by decide +kernel
theorem dX13_init_4 : decode cX13_init 4 = .ok (.aload_n 0, 1) := by decide +kernel
theorem dX13_init_5 : decode cX13_init 5 = .ok (.bipush 8, 2) := by decide +kernel
theorem dX13_init_7 : decode cX13_init 7 = .ok (.newarray .int, 2) := by decide +kernel
theorem dX13_init_9 : decode cX13_init 9 = .ok (.putfield 7, 3) := by decide +kernel
theorem dX13_init_12 : decode cX13_init 12 = .ok (.aload_n 0, 1) := by decide +kernel
theorem dX13_init_13 : decode cX13_init 13 = .ok (.iconst 3, 1) := by decide +kernel
theorem dX13_init_14 : decode cX13_init 14 = .ok (.newarray .int, 2) := by decide +kernel
theorem dX13_init_16 : decode cX13_init 16 = .ok (.putfield 13, 3) := by decide +kernel
theorem dX13_init_19 : decode cX13_init 19 = .ok (.aload_n 0, 1) := by decide +kernel
theorem dX13_init_20 : decode cX13_init 20 = .ok (.iconst 3, 1) := by decide +kernel
theorem dX13_init_21 : decode cX13_init 21 = .ok (.newarray .int, 2) := by decide +kernel
theorem dX13_init_23 : decode cX13_init 23 = .ok (.putfield 16, 3) := by decide +kernel
theorem dX13_init_26 : decode cX13_init 26 = .ok (.aload_n 0, 1) := by decide +kernel
theorem dX13_init_27 : decode cX13_init 27 = .ok (.sipush 1536, 3) := by decide +kernel
theorem dX13_init_30 : decode cX13_init 30 = .ok (.newarray .int, 2) := by decide +kernel
theorem dX13_init_32 : decode cX13_init 32 = .ok (.putfield 19, 3) := by decide +kernel
theorem dX13_init_35 : decode cX13_init 35 = .ok (.aload_n 0, 1) := by decide +kernel
theorem dX13_init_36 : decode cX13_init 36 = .ok (.sipush 192, 3) := by decide +kernel
theorem dX13_init_39 : decode cX13_init 39 = .ok (.newarray .int, 2) := by decide +kernel
theorem dX13_init_41 : decode cX13_init 41 = .ok (.putfield 22, 3) := by decide +kernel
theorem dX13_init_44 : decode cX13_init 44 = .ok (.aload_n 0, 1) := by decide +kernel
theorem dX13_init_45 : decode cX13_init 45 = .ok (.sipush 192, 3) := by decide +kernel
theorem dX13_init_48 : decode cX13_init 48 = .ok (.newarray .int, 2) := by decide +kernel
theorem dX13_init_50 : decode cX13_init 50 = .ok (.putfield 25, 3) := by decide +kernel
theorem dX13_init_53 : decode cX13_init 53 = .ok (.aload_n 0, 1) := by decide +kernel
theorem dX13_init_54 : decode cX13_init 54 = .ok (.iconst 3, 1) := by decide +kernel
theorem dX13_init_55 : decode cX13_init 55 = .ok (.putfield 28, 3) := by decide +kernel
theorem dX13_init_58 : decode cX13_init 58 = .ok (.aload_n 0, 1) := by decide +kernel
theorem dX13_init_59 : decode cX13_init 59 = .ok (.bipush 12, 2) := by decide +kernel
theorem dX13_init_61 : decode cX13_init 61 = .ok (.newarray .int, 2) := by decide +kernel
theorem dX13_init_63 : decode cX13_init 63 = .ok (.putfield 32, 3) := by decide +kernel
theorem dX13_init_66 : decode cX13_init 66 = .ok (.aload_n 0, 1) := by decide +kernel
theorem dX13_init_67 : decode cX13_init 67 = .ok (.bipush 12, 2) := by decide +kernel
theorem dX13_init_69 : decode cX13_init 69 = .ok (.newarray .int, 2) := by decide +kernel
theorem dX13_init_71 : decode cX13_init 71 = .ok (.putfield 35, 3) := by decide +kernel
theorem dX13_init_74 : decode cX13_init 74 = .ok (.aload_n 0, 1) := by decide +kernel
theorem dX13_init_75 : decode cX13_init 75 = .ok (.bipush 12, 2) := by decide +kernel
theorem dX13_init_77 : decode cX13_init 77 = .ok (.newarray .int, 2) := by decide +kernel
theorem dX13_init_79 : decode cX13_init 79 = .ok (.putfield 38, 3) := by decide +kernel
theorem dX13_init_82 : decode cX13_init 82 = .ok (.aload_n 0, 1) := by decide +kernel
theorem dX13_init_83 : decode cX13_init 83 = .ok (.bipush 96, 2) := by decide +kernel
theorem dX13_init_85 : decode cX13_init 85 = .ok (.newarray .int, 2) := by decide +kernel
theorem dX13_init_87 : decode cX13_init 87 = .ok (.putfield 41, 3) := by decide +kernel
theorem dX13_init_90 : decode cX13_init 90 = .ok (.aload_n 0, 1) := by decide +kernel
theorem dX13_init_91 : decode cX13_init 91 = .ok (.bipush 12, 2) := by decide +kernel
theorem dX13_init_93 : decode cX13_init 93 = .ok (.newarray .boolean, 2) := by decide +kernel
theorem dX13_init_95 : decode cX13_init 95 = .ok (.putfield 44, 3) := by decide +kernel
theorem dX13_init_98 : decode cX13_init 98 = .ok (.aload_n 0, 1) := by decide +kernel
theorem dX13_init_99 : decode cX13_init 99 = .ok (.bipush 12, 2) := by decide +kernel
theorem dX13_init_101 : decode cX13_init 101 = .ok (.newarray .boolean, 2) := by decide +kernel
theorem dX13_init_103 : decode cX13_init 103 = .ok (.putfield 48, 3) := by decide +kernel
theorem dX13_init_106 : decode cX13_init 106 = .ok (.aload_n 0, 1) := by decide +kernel
theorem dX13_init_107 : decode cX13_init 107 = .ok (.bipush 12, 2) := by decide +kernel
theorem dX13_init_109 : decode cX13_init 109 = .ok (.newarray .boolean, 2) := by decide +kernel
theorem dX13_init_111 : decode cX13_init 111 = .ok (.putfield 51, 3) := by decide +kernel
theorem dX13_init_114 : decode cX13_init 114 = .ok (.aload_n 0, 1) := by decide +kernel
theorem dX13_init_115 : decode cX13_init 115 = .ok (.bipush 12, 2) := by decide +kernel
theorem dX13_init_117 : decode cX13_init 117 = .ok (.newarray .int, 2) := by decide +kernel
theorem dX13_init_119 : decode cX13_init 119 = .ok (.putfield 54, 3) := by decide +kernel
theorem dX13_init_122 : decode cX13_init 122 = .ok (.aload_n 0, 1) := by decide +kernel
theorem dX13_init_123 : decode cX13_init 123 = .ok (.bipush 12, 2) := by decide +kernel
theorem dX13_init_125 : decode cX13_init 125 = .ok (.newarray .int, 2) := by decide +kernel
theorem dX13_init_127 : decode cX13_init 127 = .ok (.putfield 57, 3) := by decide +kernel
theorem dX13_init_130 : decode cX13_init 130 = .ok (.aload_n 0, 1) := by decide +kernel
theorem dX13_init_131 : decode cX13_init 131 = .ok (.bipush 96, 2) := by decide +kernel
theorem dX13_init_133 : decode cX13_init 133 = .ok (.newarray .int, 2) := by decide +kernel
theorem dX13_init_135 : decode cX13_init 135 = .ok (.putfield 60, 3) := by decide +kernel
theorem dX13_init_138 : decode cX13_init 138 = .ok (.aload_n 0, 1) := by decide +kernel
theorem dX13_init_139 : decode cX13_init 139 = .ok (.bipush 8, 2) := by decide +kernel
theorem dX13_init_141 : decode cX13_init 141 = .ok (.newarray .int, 2) := by decide +kernel
theorem dX13_init_143 : decode cX13_init 143 = .ok (.putfield 63, 3) := by decide +kernel
theorem dX13_init_146 : decode cX13_init 146 = .ok (.aload_n 0, 1) := by decide +kernel
theorem dX13_init_147 : decode cX13_init 147 = .ok (.sipush 140, 3) := by decide +kernel
theorem dX13_init_150 : decode cX13_init 150 = .ok (.newarray .boolean, 2) := by decide +kernel
theorem dX13_init_152 : decode cX13_init 152 = .ok (.putfield 66, 3) := by decide +kernel
theorem dX13_init_155 : decode cX13_init 155 = .ok (.aload_n 0, 1) := by decide +kernel
theorem dX13_init_156 : decode cX13_init 156 = .ok (.sipush 580, 3) := by decide +kernel
theorem dX13_init_159 : decode cX13_init 159 = .ok (.newarray .int, 2) := by decide +kernel
theorem dX13_init_161 : decode cX13_init 161 = .ok (.putfield 69, 3) := by decide +kernel
theorem dX13_init_164 : decode cX13_init 164 = .ok (.aload_n 0, 1) := by decide +kernel
theorem dX13_init_165 : decode cX13_init 165 = .ok (.sipush 580, 3) := by decide +kernel
theorem dX13_init_168 : decode cX13_init 168 = .ok (.newarray .int, 2) := by decide +kernel
theorem dX13_init_170 : decode cX13_init 170 = .ok (.putfield 72, 3) := by decide +kernel
theorem dX13_init_173 : decode cX13_init 173 = .ok (.aload_n 0, 1) := by decide +kernel
theorem dX13_init_174 : decode cX13_init 174 = .ok (.sipush 580, 3) := by decide +kernel
theorem dX13_init_177 : decode cX13_init 177 = .ok (.newarray .int, 2) := by decide +kernel
theorem dX13_init_179 : decode cX13_init 179 = .ok (.putfield 75, 3) := by decide +kernel
theorem dX13_init_182 : decode cX13_init 182 = .ok (.aload_n 0, 1) := by decide +kernel
theorem dX13_init_183 : decode cX13_init 183 = .ok (.sipush 580, 3) := by decide +kernel
theorem dX13_init_186 : decode cX13_init 186 = .ok (.newarray .boolean, 2) := by decide +kernel
theorem dX13_init_188 : decode cX13_init 188 = .ok (.putfield 78, 3) := by decide +kernel
theorem dX13_init_191 : decode cX13_init 191 = .ok (.aload_n 0, 1) := by decide +kernel
theorem dX13_init_192 : decode cX13_init 192 = .ok (.sipush 580, 3) := by decide +kernel
theorem dX13_init_195 : decode cX13_init 195 = .ok (.newarray .int, 2) := by decide +kernel
theorem dX13_init_197 : decode cX13_init 197 = .ok (.putfield 81, 3) := by decide +kernel
theorem dX13_init_200 : decode cX13_init 200 = .ok (.aload_n 0, 1) := by decide +kernel
theorem dX13_init_201 : decode cX13_init 201 = .ok (.sipush 580, 3) := by decide +kernel
theorem dX13_init_204 : decode cX13_init 204 = .ok (.newarray .int, 2) := by decide +kernel
theorem dX13_init_206 : decode cX13_init 206 = .ok (.putfield 84, 3) := by decide +kernel
theorem dX13_init_209 : decode cX13_init 209 = .ok (.aload_n 0, 1) := by decide +kernel
theorem dX13_init_210 : decode cX13_init 210 = .ok (.sipush 580, 3) := by decide +kernel
theorem dX13_init_213 : decode cX13_init 213 = .ok (.newarray .int, 2) := by decide +kernel
theorem dX13_init_215 : decode cX13_init 215 = .ok (.putfield 87, 3) := by decide +kernel
theorem dX13_init_218 : decode cX13_init 218 = .ok (.aload_n 0, 1) := by decide +kernel
theorem dX13_init_219 : decode cX13_init 219 = .ok (.bipush 120, 2) := by decide +kernel
theorem dX13_init_221 : decode cX13_init 221 = .ok (.newarray .int, 2) := by decide +kernel
theorem dX13_init_223 : decode cX13_init 223 = .ok (.putfield 90, 3) := by decide +kernel
theorem dX13_init_226 : decode cX13_init 226 = .ok (.aload_n 0, 1) := by decide +kernel
theorem dX13_init_227 : decode cX13_init 227 = .ok (.sipush 2520, 3) := by decide +kernel
theorem dX13_init_230 : decode cX13_init 230 = .ok (.newarray .int, 2) := by decide +kernel
theorem dX13_init_232 : decode cX13_init 232 = .ok (.putfield 93, 3) := by decide +kernel
theorem dX13_init_235 : decode cX13_init 235 = .ok (.aload_n 0, 1) := by decide +kernel
theorem dX13_init_236 : decode cX13_init 236 = .ok (.bipush 21, 2) := by decide +kernel
theorem dX13_init_238 : decode cX13_init 238 = .ok (.newarray .int, 2) := by decide +kernel
theorem dX13_init_240 : decode cX13_init 240 = .ok (.putfield 96, 3) := by decide +kernel
theorem dX13_init_243 : decode cX13_init 243 = .ok (.iconst 0, 1) := by decide +kernel
theorem dX13_init_244 : decode cX13_init 244 = .ok (.istore_n 1, 1) := by decide +kernel
theorem dX13_init_245 : decode cX13_init 245 = .ok (.iload_n 1, 1) := by decide +kernel
theorem dX13_init_246 : decode cX13_init 246 = .ok (.iconst 3, 1) := by decide +kernel
theorem dX13_init_247 : decode cX13_init 247 = .ok (.if_icmp .ge 16, 3) := by decide +kernel
theorem dX13_init_250 : decode cX13_init 250 = .ok (.aload_n 0, 1) := by decide +kernel
theorem dX13_init_251 : decode cX13_init 251 = .ok (.getfield 32, 3) := by decide +kernel
theorem dX13_init_254 : decode cX13_init 254 = .ok (.iload_n 1, 1) := by decide +kernel
theorem dX13_init_255 : decode cX13_init 255 = .ok (.iconst (-1), 1) := by decide +kernel
theorem dX13_init_256 : decode cX13_init 256 = .ok (.iastore, 1) := by decide +kernel
theorem dX13_init_257 : decode cX13_init 257 = .ok (.iinc 1 1, 3) := by decide +kernel
theorem dX13_init_260 : decode cX13_init 260 = .ok (.goto (-15), 3) := by decide +kernel
theorem dX13_init_263 : decode cX13_init 263 = .ok (.return_, 1) := by decide +kernel
theorem dX13_thrown_0 : decode cX13_thrown 0 = .ok (.aload_n 0, 1) := by decide +kernel
theorem dX13_thrown_1 : decode cX13_thrown 1 = .ok (.getfield 99, 3) := by decide +kernel
theorem dX13_thrown_4 : decode cX13_thrown 4 = .ok (.ireturn, 1) := by decide +kernel
theorem dX13_type_0 : decode cX13_type 0 = .ok (.aload_n 0, 1) := by decide +kernel
theorem dX13_type_1 : decode cX13_type 1 = .ok (.iconst 0, 1) := by decide +kernel
theorem dX13_type_2 : decode cX13_type 2 = .ok (.putfield 99, 3) := by decide +kernel
theorem dX13_type_5 : decode cX13_type 5 = .ok (.iload_n 3, 1) := by decide +kernel
theorem dX13_type_6 : decode cX13_type 6 = .ok (.iconst 1, 1) := by decide +kernel
theorem dX13_type_7 : decode cX13_type 7 = .ok (.if_icmp .lt 19, 3) := by decide +kernel
theorem dX13_type_10 : decode cX13_type 10 = .ok (.iload_n 3, 1) := by decide +kernel
theorem dX13_type_11 : decode cX13_type 11 = .ok (.iconst 4, 1) := by decide +kernel
theorem dX13_type_12 : decode cX13_type 12 = .ok (.if_icmp .gt 14, 3) := by decide +kernel
theorem dX13_type_15 : decode cX13_type 15 = .ok (.aload_n 0, 1) := by decide +kernel
theorem dX13_type_16 : decode cX13_type 16 = .ok (.getfield 102, 3) := by decide +kernel
theorem dX13_type_19 : decode cX13_type 19 = .ok (.iload_n 3, 1) := by decide +kernel
theorem dX13_type_20 : decode cX13_type 20 = .ok (.iadd, 1) := by decide +kernel
theorem dX13_type_21 : decode cX13_type 21 = .ok (.bipush 8, 2) := by decide +kernel
theorem dX13_type_23 : decode cX13_type 23 = .ok (.if_icmp .le 5, 3) := by decide +kernel
theorem dX13_type_26 : decode cX13_type 26 = .ok (.iconst 0, 1) := by decide +kernel
theorem dX13_type_27 : decode cX13_type 27 = .ok (.ireturn, 1) := by decide +kernel
theorem dX13_type_28 : decode cX13_type 28 = .ok (.iload_n 3, 1) := by decide +kernel
theorem dX13_type_29 : decode cX13_type 29 = .ok (.iconst 1, 1) := by decide +kernel
theorem dX13_type_30 : decode cX13_type 30 = .ok (.isub, 1) := by decide +kernel
theorem dX13_type_31 : decode cX13_type 31 = .ok (.istore 4, 2) := by decide +kernel
theorem dX13_type_33 : decode cX13_type 33 = .ok (.iload 4, 2) := by decide +kernel
theorem dX13_type_35 : decode cX13_type 35 = .ok (.ifCond .lt 39, 3) := by decide +kernel
theorem dX13_type_38 : decode cX13_type 38 = .ok (.aload_n 0, 1) := by decide +kernel
theorem dX13_type_39 : decode cX13_type 39 = .ok (.getfield 7, 3) := by decide +kernel
theorem dX13_type_42 : decode cX13_type 42 = .ok (.aload_n 0, 1) := by decide +kernel
theorem dX13_type_43 : decode cX13_type 43 = .ok (.getfield 102, 3) := by decide +kernel
theorem dX13_type_46 : decode cX13_type 46 = .ok (.lload_n 1, 1) := by decide +kernel
theorem dX13_type_47 : decode cX13_type 47 = .ok (.bipush 16, 2) := by decide +kernel
theorem dX13_type_49 : decode cX13_type 49 = .ok (.iload 4, 2) := by decide +kernel
