set_option maxRecDepth 100000
theorem dX13_type_51 : decode cX13_type 51 = .ok (.imul, 1) := by decide +kernel
theorem dX13_type_52 : decode cX13_type 52 = .ok (.lshr, 1) := by decide +kernel
theorem dX13_type_53 : decode cX13_type 53 = .ok (.l2i, 1) := by decide +kernel
theorem dX13_type_54 : decode cX13_type 54 = .ok (.ldc 105, 2) := by decide +kernel
theorem dX13_type_56 : decode cX13_type 56 = .ok (.iand, 1) := by decide +kernel
theorem dX13_type_57 : decode cX13_type 57 = .ok (.iastore, 1) := by decide +kernel
theorem dX13_type_58 : decode cX13_type 58 = .ok (.aload_n 0, 1) := by decide +kernel
theorem dX13_type_59 : decode cX13_type 59 = .ok (.dup, 1) := by decide +kernel
theorem dX13_type_60 : decode cX13_type 60 = .ok (.getfield 102, 3) := by decide +kernel
theorem dX13_type_63 : decode cX13_type 63 = .ok (.iconst 1, 1) := by decide +kernel
theorem dX13_type_64 : decode cX13_type 64 = .ok (.iadd, 1) := by decide +kernel
theorem dX13_type_65 : decode cX13_type 65 = .ok (.putfield 102, 3) := by decide +kernel
theorem dX13_type_68 : decode cX13_type 68 = .ok (.iinc 4 (-1), 3) := by decide +kernel
theorem dX13_type_71 : decode cX13_type 71 = .ok (.goto (-38), 3) := by decide +kernel
theorem dX13_type_74 : decode cX13_type 74 = .ok (.iconst 1, 1) := by decide +kernel
theorem dX13_type_75 : decode cX13_type 75 = .ok (.ireturn, 1) := by decide +kernel
theorem dX13_view_0 : decode cX13_view 0 = .ok (.aload_n 0, 1) := by decide +kernel
theorem dX13_view_1 : decode cX13_view 1 = .ok (.iload_n 1, 1) := by decide +kernel
theorem dX13_view_2 : decode cX13_view 2 = .ok (.invokevirtual 122, 3) := by decide +kernel
theorem dX13_view_5 : decode cX13_view 5 = .ok (.ifCond .eq 12, 3) := by decide +kernel
theorem dX13_view_8 : decode cX13_view 8 = .ok (.iload_n 2, 1) := by decide +kernel
theorem dX13_view_9 : decode cX13_view 9 = .ok (.ifCond .lt 8, 3) := by decide +kernel
theorem dX13_view_12 : decode cX13_view 12 = .ok (.iload_n 2, 1) := by decide +kernel
theorem dX13_view_13 : decode cX13_view 13 = .ok (.iconst 3, 1) := by decide +kernel
theorem dX13_view_14 : decode cX13_view 14 = .ok (.if_icmp .le 9, 3) := by decide +kernel
theorem dX13_view_17 : decode cX13_view 17 = .ok (.aload_n 0, 1) := by decide +kernel
theorem dX13_view_18 : decode cX13_view 18 = .ok (.iconst 1, 1) := by decide +kernel
theorem dX13_view_19 : decode cX13_view 19 = .ok (.invokevirtual 126, 3) := by decide +kernel
theorem dX13_view_22 : decode cX13_view 22 = .ok (.ireturn, 1) := by decide +kernel
theorem dX13_view_23 : decode cX13_view 23 = .ok (.aload_n 0, 1) := by decide +kernel
theorem dX13_view_24 : decode cX13_view 24 = .ok (.iconst 0, 1) := by decide +kernel
theorem dX13_view_25 : decode cX13_view 25 = .ok (.putfield 99, 3) := by decide +kernel
theorem dX13_view_28 : decode cX13_view 28 = .ok (.aload_n 0, 1) := by decide +kernel
theorem dX13_view_29 : decode cX13_view 29 = .ok (.getfield 102, 3) := by decide +kernel
theorem dX13_view_32 : decode cX13_view 32 = .ok (.istore_n 3, 1) := by decide +kernel
theorem dX13_view_33 : decode cX13_view 33 = .ok (.aload_n 0, 1) := by decide +kernel
theorem dX13_view_34 : decode cX13_view 34 = .ok (.iconst 0, 1) := by decide +kernel
theorem dX13_view_35 : decode cX13_view 35 = .ok (.putfield 102, 3) := by decide +kernel
theorem dX13_view_38 : decode cX13_view 38 = .ok (.aload_n 0, 1) := by decide +kernel
theorem dX13_view_39 : decode cX13_view 39 = .ok (.getfield 28, 3) := by decide +kernel
theorem dX13_view_42 : decode cX13_view 42 = .ok (.bipush 12, 2) := by decide +kernel
theorem dX13_view_44 : decode cX13_view 44 = .ok (.if_icmp .ne 5, 3) := by decide +kernel
theorem dX13_view_47 : decode cX13_view 47 = .ok (.iconst (-1), 1) := by decide +kernel
theorem dX13_view_48 : decode cX13_view 48 = .ok (.ireturn, 1) := by decide +kernel
theorem dX13_view_49 : decode cX13_view 49 = .ok (.aload_n 0, 1) := by decide +kernel
theorem dX13_view_50 : decode cX13_view 50 = .ok (.getfield 28, 3) := by decide +kernel
theorem dX13_view_53 : decode cX13_view 53 = .ok (.istore 4, 2) := by decide +kernel
theorem dX13_view_55 : decode cX13_view 55 = .ok (.aload_n 0, 1) := by decide +kernel
theorem dX13_view_56 : decode cX13_view 56 = .ok (.dup, 1) := by decide +kernel
theorem dX13_view_57 : decode cX13_view 57 = .ok (.getfield 28, 3) := by decide +kernel
theorem dX13_view_60 : decode cX13_view 60 = .ok (.iconst 1, 1) := by decide +kernel
theorem dX13_view_61 : decode cX13_view 61 = .ok (.iadd, 1) := by decide +kernel
theorem dX13_view_62 : decode cX13_view 62 = .ok (.putfield 28, 3) := by decide +kernel
theorem dX13_view_65 : decode cX13_view 65 = .ok (.aload_n 0, 1) := by decide +kernel
theorem dX13_view_66 : decode cX13_view 66 = .ok (.getfield 32, 3) := by decide +kernel
theorem dX13_view_69 : decode cX13_view 69 = .ok (.iload 4, 2) := by decide +kernel
theorem dX13_view_71 : decode cX13_view 71 = .ok (.iload_n 1, 1) := by decide +kernel
theorem dX13_view_72 : decode cX13_view 72 = .ok (.iastore, 1) := by decide +kernel
theorem dX13_view_73 : decode cX13_view 73 = .ok (.aload_n 0, 1) := by decide +kernel
theorem dX13_view_74 : decode cX13_view 74 = .ok (.getfield 35, 3) := by decide +kernel
theorem dX13_view_77 : decode cX13_view 77 = .ok (.iload 4, 2) := by decide +kernel
theorem dX13_view_79 : decode cX13_view 79 = .ok (.iload_n 2, 1) := by decide +kernel
theorem dX13_view_80 : decode cX13_view 80 = .ok (.iastore, 1) := by decide +kernel
theorem dX13_view_81 : decode cX13_view 81 = .ok (.aload_n 0, 1) := by decide +kernel
theorem dX13_view_82 : decode cX13_view 82 = .ok (.getfield 38, 3) := by decide +kernel
theorem dX13_view_85 : decode cX13_view 85 = .ok (.iload 4, 2) := by decide +kernel
theorem dX13_view_87 : decode cX13_view 87 = .ok (.iload_n 3, 1) := by decide +kernel
theorem dX13_view_88 : decode cX13_view 88 = .ok (.iastore, 1) := by decide +kernel
theorem dX13_view_89 : decode cX13_view 89 = .ok (.iconst 0, 1) := by decide +kernel
theorem dX13_view_90 : decode cX13_view 90 = .ok (.istore 5, 2) := by decide +kernel
theorem dX13_view_92 : decode cX13_view 92 = .ok (.iload 5, 2) := by decide +kernel
theorem dX13_view_94 : decode cX13_view 94 = .ok (.iload_n 3, 1) := by decide +kernel
theorem dX13_view_95 : decode cX13_view 95 = .ok (.if_icmp .ge 29, 3) := by decide +kernel
theorem dX13_view_98 : decode cX13_view 98 = .ok (.aload_n 0, 1) := by decide +kernel
theorem dX13_view_99 : decode cX13_view 99 = .ok (.getfield 41, 3) := by decide +kernel
theorem dX13_view_102 : decode cX13_view 102 = .ok (.bipush 8, 2) := by decide +kernel
theorem dX13_view_104 : decode cX13_view 104 = .ok (.iload 4, 2) := by decide +kernel
theorem dX13_view_106 : decode cX13_view 106 = .ok (.imul, 1) := by decide +kernel
theorem dX13_view_107 : decode cX13_view 107 = .ok (.iload 5, 2) := by decide +kernel
theorem dX13_view_109 : decode cX13_view 109 = .ok (.iadd, 1) := by decide +kernel
theorem dX13_view_110 : decode cX13_view 110 = .ok (.aload_n 0, 1) := by decide +kernel
theorem dX13_view_111 : decode cX13_view 111 = .ok (.getfield 7, 3) := by decide +kernel
theorem dX13_view_114 : decode cX13_view 114 = .ok (.iload 5, 2) := by decide +kernel
theorem dX13_view_116 : decode cX13_view 116 = .ok (.iaload, 1) := by decide +kernel
theorem dX13_view_117 : decode cX13_view 117 = .ok (.iastore, 1) := by decide +kernel
theorem dX13_view_118 : decode cX13_view 118 = .ok (.iinc 5 1, 3) := by decide +kernel
theorem dX13_view_121 : decode cX13_view 121 = .ok (.goto (-29), 3) := by decide +kernel
theorem dX13_view_124 : decode cX13_view 124 = .ok (.iload 4, 2) := by decide +kernel
theorem dX13_view_126 : decode cX13_view 126 = .ok (.ireturn, 1) := by decide +kernel
theorem dX13_isView_0 : decode cX13_isView 0 = .ok (.iload_n 1, 1) := by decide +kernel
theorem dX13_isView_1 : decode cX13_isView 1 = .ok (.ifCond .lt 15, 3) := by decide +kernel
theorem dX13_isView_4 : decode cX13_isView 4 = .ok (.iload_n 1, 1) := by decide +kernel
theorem dX13_isView_5 : decode cX13_isView 5 = .ok (.aload_n 0, 1) := by decide +kernel
theorem dX13_isView_6 : decode cX13_isView 6 = .ok (.getfield 28, 3) := by decide +kernel
theorem dX13_isView_9 : decode cX13_isView 9 = .ok (.if_icmp .ge 7, 3) := by decide +kernel
theorem dX13_isView_12 : decode cX13_isView 12 = .ok (.iconst 1, 1) := by decide +kernel
theorem dX13_isView_13 : decode cX13_isView 13 = .ok (.goto 4, 3) := by decide +kernel
theorem dX13_isView_16 : decode cX13_isView 16 = .ok (.iconst 0, 1) := by decide +kernel
theorem dX13_isView_17 : decode cX13_isView 17 = .ok (.ireturn, 1) := by decide +kernel
theorem dX13_raise_0 : decode cX13_raise 0 = .ok (.aload_n 0, 1) := by decide +kernel
theorem dX13_raise_1 : decode cX13_raise 1 = .ok (.iload_n 1, 1) := by decide +kernel
theorem dX13_raise_2 : decode cX13_raise 2 = .ok (.putfield 99, 3) := by decide +kernel
theorem dX13_raise_5 : decode cX13_raise 5 = .ok (.iconst 0, 1) := by decide +kernel
theorem dX13_raise_6 : decode cX13_raise 6 = .ok (.ireturn, 1) := by decide +kernel
theorem dX13_put_0 : decode cX13_put 0 = .ok (.aload_n 0, 1) := by decide +kernel
theorem dX13_put_1 : decode cX13_put 1 = .ok (.iload_n 1, 1) := by decide +kernel
theorem dX13_put_2 : decode cX13_put 2 = .ok (.invokevirtual 122, 3) := by decide +kernel
theorem dX13_put_5 : decode cX13_put 5 = .ok (.ifCond .ne 9, 3) := by decide +kernel
theorem dX13_put_8 : decode cX13_put 8 = .ok (.aload_n 0, 1) := by decide +kernel
theorem dX13_put_9 : decode cX13_put 9 = .ok (.iconst 1, 1) := by decide +kernel
theorem dX13_put_10 : decode cX13_put 10 = .ok (.invokevirtual 126, 3) := by decide +kernel
theorem dX13_put_13 : decode cX13_put 13 = .ok (.ireturn, 1) := by decide +kernel
theorem dX13_put_14 : decode cX13_put 14 = .ok (.aload_n 0, 1) := by decide +kernel
theorem dX13_put_15 : decode cX13_put 15 = .ok (.getfield 102, 3) := by decide +kernel
theorem dX13_put_18 : decode cX13_put 18 = .ok (.istore_n 3, 1) := by decide +kernel
theorem dX13_put_19 : decode cX13_put 19 = .ok (.aload_n 0, 1) := by decide +kernel
theorem dX13_put_20 : decode cX13_put 20 = .ok (.iconst 0, 1) := by decide +kernel
theorem dX13_put_21 : decode cX13_put 21 = .ok (.putfield 102, 3) := by decide +kernel
theorem dX13_put_24 : decode cX13_put 24 = .ok (.iload_n 2, 1) := by decide +kernel
theorem dX13_put_25 : decode cX13_put 25 = .ok (.ifCond .lt 17, 3) := by decide +kernel
theorem dX13_put_28 : decode cX13_put 28 = .ok (.aload_n 0, 1) := by decide +kernel
theorem dX13_put_29 : decode cX13_put 29 = .ok (.iload_n 1, 1) := by decide +kernel
theorem dX13_put_30 : decode cX13_put 30 = .ok (.aload_n 0, 1) := by decide +kernel
theorem dX13_put_31 : decode cX13_put 31 = .ok (.getfield 7, 3) := by decide +kernel
theorem dX13_put_34 : decode cX13_put 34 = .ok (.iconst 0, 1) := by decide +kernel
theorem dX13_put_35 : decode cX13_put 35 = .ok (.iload_n 3, 1) := by decide +kernel
theorem dX13_put_36 : decode cX13_put 36 = .ok (.invokevirtual 118, 3) := by decide +kernel
theorem dX13_put_39 : decode cX13_put 39 = .ok (.ifCond .ne 9, 3) := by decide +kernel
theorem dX13_put_42 : decode cX13_put 42 = .ok (.aload_n 0, 1) := by decide +kernel
theorem dX13_put_43 : decode cX13_put 43 = .ok (.iconst 2, 1) := by decide +kernel
theorem dX13_put_44 : decode cX13_put 44 = .ok (.invokevirtual 126, 3) := by decide +kernel
theorem dX13_put_47 : decode cX13_put 47 = .ok (.ireturn, 1) := by decide +kernel
theorem dX13_put_48 : decode cX13_put 48 = .ok (.aload_n 0, 1) := by decide +kernel
theorem dX13_put_49 : decode cX13_put 49 = .ok (.iload_n 1, 1) := by decide +kernel
theorem dX13_put_50 : decode cX13_put 50 = .ok (.invokevirtual 114, 3) := by decide +kernel
theorem dX13_put_53 : decode cX13_put 53 = .ok (.istore 4, 2) := by decide +kernel
theorem dX13_put_55 : decode cX13_put 55 = .ok (.aload_n 0, 1) := by decide +kernel
theorem dX13_put_56 : decode cX13_put 56 = .ok (.iload 4, 2) := by decide +kernel
theorem dX13_put_58 : decode cX13_put 58 = .ok (.aload_n 0, 1) := by decide +kernel
theorem dX13_put_59 : decode cX13_put 59 = .ok (.getfield 7, 3) := by decide +kernel
theorem dX13_put_62 : decode cX13_put 62 = .ok (.iconst 0, 1) := by decide +kernel
theorem dX13_put_63 : decode cX13_put 63 = .ok (.iload_n 3, 1) := by decide +kernel
theorem dX13_put_64 : decode cX13_put 64 = .ok (.invokevirtual 133, 3) := by decide +kernel
theorem dX13_put_67 : decode cX13_put 67 = .ok (.istore 5, 2) := by decide +kernel
theorem dX13_put_69 : decode cX13_put 69 = .ok (.iload 5, 2) := by decide +kernel
theorem dX13_put_71 : decode cX13_put 71 = .ok (.iconst (-1), 1) := by decide +kernel
theorem dX13_put_72 : decode cX13_put 72 = .ok (.if_icmp .ne 21, 3) := by decide +kernel
theorem dX13_put_75 : decode cX13_put 75 = .ok (.aload_n 0, 1) := by decide +kernel
theorem dX13_put_76 : decode cX13_put 76 = .ok (.getfield 13, 3) := by decide +kernel
theorem dX13_put_79 : decode cX13_put 79 = .ok (.iload 4, 2) := by decide +kernel
theorem dX13_put_81 : decode cX13_put 81 = .ok (.iaload, 1) := by decide +kernel
theorem dX13_put_82 : decode cX13_put 82 = .ok (.bipush 64, 2) := by decide +kernel
theorem dX13_put_84 : decode cX13_put 84 = .ok (.if_icmp .ne 9, 3) := by decide +kernel
theorem dX13_put_87 : decode cX13_put 87 = .ok (.aload_n 0, 1) := by decide +kernel
theorem dX13_put_88 : decode cX13_put 88 = .ok (.iconst 3, 1) := by decide +kernel
theorem dX13_put_89 : decode cX13_put 89 = .ok (.invokevirtual 126, 3) := by decide +kernel
theorem dX13_put_92 : decode cX13_put 92 = .ok (.ireturn, 1) := by decide +kernel
theorem dX13_put_93 : decode cX13_put 93 = .ok (.aload_n 0, 1) := by decide +kernel
theorem dX13_put_94 : decode cX13_put 94 = .ok (.iconst 0, 1) := by decide +kernel
theorem dX13_put_95 : decode cX13_put 95 = .ok (.putfield 99, 3) := by decide +kernel
theorem dX13_put_98 : decode cX13_put 98 = .ok (.iload 5, 2) := by decide +kernel
theorem dX13_put_100 : decode cX13_put 100 = .ok (.iconst (-1), 1) := by decide +kernel
theorem dX13_put_101 : decode cX13_put 101 = .ok (.if_icmp .eq 23, 3) := by decide +kernel
theorem dX13_put_104 : decode cX13_put 104 = .ok (.aload_n 0, 1) := by decide +kernel
theorem dX13_put_105 : decode cX13_put 105 = .ok (.getfield 25, 3) := by decide +kernel
theorem dX13_put_108 : decode cX13_put 108 = .ok (.iload 5, 2) := by decide +kernel
theorem dX13_put_110 : decode cX13_put 110 = .ok (.iaload, 1) := by decide +kernel
theorem dX13_put_111 : decode cX13_put 111 = .ok (.istore 6, 2) := by decide +kernel
theorem dX13_put_113 : decode cX13_put 113 = .ok (.aload_n 0, 1) := by decide +kernel
theorem dX13_put_114 : decode cX13_put 114 = .ok (.getfield 25, 3) := by decide +kernel
theorem dX13_put_117 : decode cX13_put 117 = .ok (.iload 5, 2) := by decide +kernel
theorem dX13_put_119 : decode cX13_put 119 = .ok (.iload_n 2, 1) := by decide +kernel
theorem dX13_put_120 : decode cX13_put 120 = .ok (.iastore, 1) := by decide +kernel
theorem dX13_put_121 : decode cX13_put 121 = .ok (.iload 6, 2) := by decide +kernel
theorem dX13_put_123 : decode cX13_put 123 = .ok (.ireturn, 1) := by decide +kernel
theorem dX13_put_124 : decode cX13_put 124 = .ok (.bipush 64, 2) := by decide +kernel
theorem dX13_put_126 : decode cX13_put 126 = .ok (.iload 4, 2) := by decide +kernel
theorem dX13_put_128 : decode cX13_put 128 = .ok (.imul, 1) := by decide +kernel
theorem dX13_put_129 : decode cX13_put 129 = .ok (.aload_n 0, 1) := by decide +kernel
theorem dX13_put_130 : decode cX13_put 130 = .ok (.getfield 13, 3) := by decide +kernel
theorem dX13_put_133 : decode cX13_put 133 = .ok (.iload 4, 2) := by decide +kernel
theorem dX13_put_135 : decode cX13_put 135 = .ok (.iaload, 1) := by decide +kernel
theorem dX13_put_136 : decode cX13_put 136 = .ok (.iadd, 1) := by decide +kernel
theorem dX13_put_137 : decode cX13_put 137 = .ok (.istore 5, 2) := by decide +kernel
theorem dX13_put_139 : decode cX13_put 139 = .ok (.iconst 0, 1) := by decide +kernel
theorem dX13_put_140 : decode cX13_put 140 = .ok (.istore 6, 2) := by decide +kernel
theorem dX13_put_142 : decode cX13_put 142 = .ok (.iload 6, 2) := by decide +kernel
theorem dX13_put_144 : decode cX13_put 144 = .ok (.iload_n 3, 1) := by decide +kernel
theorem dX13_put_145 : decode cX13_put 145 = .ok (.if_icmp .ge 29, 3) := by decide +kernel
theorem dX13_put_148 : decode cX13_put 148 = .ok (.aload_n 0, 1) := by decide +kernel
theorem dX13_put_149 : decode cX13_put 149 = .ok (.getfield 19, 3) := by decide +kernel
theorem dX13_put_152 : decode cX13_put 152 = .ok (.bipush 8, 2) := by decide +kernel
theorem dX13_put_154 : decode cX13_put 154 = .ok (.iload 5, 2) := by decide +kernel
theorem dX13_put_156 : decode cX13_put 156 = .ok (.imul, 1) := by decide +kernel
theorem dX13_put_157 : decode cX13_put 157 = .ok (.iload 6, 2) := by decide +kernel
theorem dX13_put_159 : decode cX13_put 159 = .ok (.iadd, 1) := by decide +kernel
theorem dX13_put_160 : decode cX13_put 160 = .ok (.aload_n 0, 1) := by decide +kernel
theorem dX13_put_161 : decode cX13_put 161 = .ok (.getfield 7, 3) := by decide +kernel
theorem dX13_put_164 : decode cX13_put 164 = .ok (.iload 6, 2) := by decide +kernel
theorem dX13_put_166 : decode cX13_put 166 = .ok (.iaload, 1) := by decide +kernel
theorem dX13_put_167 : decode cX13_put 167 = .ok (.iastore, 1) := by decide +kernel
theorem dX13_put_168 : decode cX13_put 168 = .ok (.iinc 6 1, 3) := by decide +kernel
theorem dX13_put_171 : decode cX13_put 171 = .ok (.goto (-29), 3) := by decide +kernel
theorem dX13_put_174 : decode cX13_put 174 = .ok (.aload_n 0, 1) := by decide +kernel
theorem dX13_put_175 : decode cX13_put 175 = .ok (.getfield 22, 3) := by decide +kernel
theorem dX13_put_178 : decode cX13_put 178 = .ok (.iload 5, 2) := by decide +kernel
theorem dX13_put_180 : decode cX13_put 180 = .ok (.iload_n 3, 1) := by decide +kernel
theorem dX13_put_181 : decode cX13_put 181 = .ok (.iastore, 1) := by decide +kernel
theorem dX13_put_182 : decode cX13_put 182 = .ok (.aload_n 0, 1) := by decide +kernel
theorem dX13_put_183 : decode cX13_put 183 = .ok (.getfield 25, 3) := by decide +kernel
theorem dX13_put_186 : decode cX13_put 186 = .ok (.iload 5, 2) := by decide +kernel
theorem dX13_put_188 : decode cX13_put 188 = .ok (.iload_n 2, 1) := by decide +kernel
theorem dX13_put_189 : decode cX13_put 189 = .ok (.iastore, 1) := by decide +kernel
theorem dX13_put_190 : decode cX13_put 190 = .ok (.aload_n 0, 1) := by decide +kernel
theorem dX13_put_191 : decode cX13_put 191 = .ok (.getfield 13, 3) := by decide +kernel
theorem dX13_put_194 : decode cX13_put 194 = .ok (.iload 4, 2) := by decide +kernel
theorem dX13_put_196 : decode cX13_put 196 = .ok (.dup2, 1) := by decide +kernel
theorem dX13_put_197 : decode cX13_put 197 = .ok (.iaload, 1) := by decide +kernel
theorem dX13_put_198 : decode cX13_put 198 = .ok (.iconst 1, 1) := by decide +kernel
theorem dX13_put_199 : decode cX13_put 199 = .ok (.iadd, 1) := by decide +kernel
theorem dX13_put_200 : decode cX13_put 200 = .ok (.iastore, 1) := by decide +kernel
theorem dX13_put_201 : decode cX13_put 201 = .ok (.aload_n 0, 1) := by decide +kernel
theorem dX13_put_202 : decode cX13_put 202 = .ok (.getfield 16, 3) := by decide +kernel
theorem dX13_put_205 : decode cX13_put 205 = .ok (.iload 4, 2) := by decide +kernel
theorem dX13_put_207 : decode cX13_put 207 = .ok (.dup2, 1) := by decide +kernel
theorem dX13_put_208 : decode cX13_put 208 = .ok (.iaload, 1) := by decide +kernel
theorem dX13_put_209 : decode cX13_put 209 = .ok (.iconst 1, 1) := by decide +kernel
theorem dX13_put_210 : decode cX13_put 210 = .ok (.iadd, 1) := by decide +kernel
theorem dX13_put_211 : decode cX13_put 211 = .ok (.iastore, 1) := by decide +kernel
theorem dX13_put_212 : decode cX13_put 212 = .ok (.iconst (-1), 1) := by decide +kernel
theorem dX13_put_213 : decode cX13_put 213 = .ok (.ireturn, 1) := by decide +kernel
theorem dX13_within_0 : decode cX13_within 0 = .ok (.iconst 1, 1) := by decide +kernel
theorem dX13_within_1 : decode cX13_within 1 = .ok (.istore 5, 2) := by decide +kernel
theorem dX13_within_3 : decode cX13_within 3 = .ok (.iload_n 1, 1) := by decide +kernel
theorem dX13_within_4 : decode cX13_within 4 = .ok (.istore 6, 2) := by decide +kernel
theorem dX13_within_6 : decode cX13_within 6 = .ok (.aload_n 0, 1) := by decide +kernel
theorem dX13_within_7 : decode cX13_within 7 = .ok (.getfield 32, 3) := by decide +kernel
theorem dX13_within_10 : decode cX13_within 10 = .ok (.iload 6, 2) := by decide +kernel
theorem dX13_within_12 : decode cX13_within 12 = .ok (.iaload, 1) := by decide +kernel
theorem dX13_within_13 : decode cX13_within 13 = .ok (.iconst (-1), 1) := by decide +kernel
theorem dX13_within_14 : decode cX13_within 14 = .ok (.if_icmp .eq 161, 3) := by decide +kernel
theorem dX13_within_17 : decode cX13_within 17 = .ok (.aload_n 0, 1) := by decide +kernel
theorem dX13_within_18 : decode cX13_within 18 = .ok (.getfield 35, 3) := by decide +kernel
theorem dX13_within_21 : decode cX13_within 21 = .ok (.iload 6, 2) := by decide +kernel
theorem dX13_within_23 : decode cX13_within 23 = .ok (.iaload, 1) := by decide +kernel
theorem dX13_within_24 : decode cX13_within 24 = .ok (.ifCond .ne 41, 3) := by decide +kernel
theorem dX13_within_27 : decode cX13_within 27 = .ok (.iload 5, 2) := by decide +kernel
theorem dX13_within_29 : decode cX13_within 29 = .ok (.ifCond .eq 33, 3) := by decide +kernel
theorem dX13_within_32 : decode cX13_within 32 = .ok (.aload_n 2, 1) := by decide +kernel
theorem dX13_within_33 : decode cX13_within 33 = .ok (.iload_n 3, 1) := by decide +kernel
theorem dX13_within_34 : decode cX13_within 34 = .ok (.iload 4, 2) := by decide +kernel
theorem dX13_within_36 : decode cX13_within 36 = .ok (.aload_n 0, 1) := by decide +kernel
theorem dX13_within_37 : decode cX13_within 37 = .ok (.getfield 41, 3) := by decide +kernel
theorem dX13_within_40 : decode cX13_within 40 = .ok (.bipush 8, 2) := by decide +kernel
theorem dX13_within_42 : decode cX13_within 42 = .ok (.iload 6, 2) := by decide +kernel
theorem dX13_within_44 : decode cX13_within 44 = .ok (.imul, 1) := by decide +kernel
theorem dX13_within_45 : decode cX13_within 45 = .ok (.aload_n 0, 1) := by decide +kernel
theorem dX13_within_46 : decode cX13_within 46 = .ok (.getfield 38, 3) := by decide +kernel
theorem dX13_within_49 : decode cX13_within 49 = .ok (.iload 6, 2) := by decide +kernel
theorem dX13_within_51 : decode cX13_within 51 = .ok (.iaload, 1) := by decide +kernel
theorem dX13_within_52 : decode cX13_within 52 = .ok (.invokestatic 110, 3) := by decide +kernel
theorem dX13_within_55 : decode cX13_within 55 = .ok (.ifCond .eq 7, 3) := by decide +kernel
theorem dX13_within_58 : decode cX13_within 58 = .ok (.iconst 1, 1) := by decide +kernel
theorem dX13_within_59 : decode cX13_within 59 = .ok (.goto 4, 3) := by decide +kernel
theorem dX13_within_62 : decode cX13_within 62 = .ok (.iconst 0, 1) := by decide +kernel
theorem dX13_within_63 : decode cX13_within 63 = .ok (.istore 5, 2) := by decide +kernel
theorem dX13_within_65 : decode cX13_within 65 = .ok (.aload_n 0, 1) := by decide +kernel
theorem dX13_within_66 : decode cX13_within 66 = .ok (.getfield 35, 3) := by decide +kernel
theorem dX13_within_69 : decode cX13_within 69 = .ok (.iload 6, 2) := by decide +kernel
theorem dX13_within_71 : decode cX13_within 71 = .ok (.iaload, 1) := by decide +kernel
theorem dX13_within_72 : decode cX13_within 72 = .ok (.iconst 1, 1) := by decide +kernel
theorem dX13_within_73 : decode cX13_within 73 = .ok (.if_icmp .ne 41, 3) := by decide +kernel
theorem dX13_within_76 : decode cX13_within 76 = .ok (.iload 5, 2) := by decide +kernel
theorem dX13_within_78 : decode cX13_within 78 = .ok (.ifCond .eq 33, 3) := by decide +kernel
theorem dX13_within_81 : decode cX13_within 81 = .ok (.aload_n 2, 1) := by decide +kernel
theorem dX13_within_82 : decode cX13_within 82 = .ok (.iload_n 3, 1) := by decide +kernel
theorem dX13_within_83 : decode cX13_within 83 = .ok (.iload 4, 2) := by decide +kernel
theorem dX13_within_85 : decode cX13_within 85 = .ok (.aload_n 0, 1) := by decide +kernel
theorem dX13_within_86 : decode cX13_within 86 = .ok (.getfield 41, 3) := by decide +kernel
theorem dX13_within_89 : decode cX13_within 89 = .ok (.bipush 8, 2) := by decide +kernel
theorem dX13_within_91 : decode cX13_within 91 = .ok (.iload 6, 2) := by decide +kernel
theorem dX13_within_93 : decode cX13_within 93 = .ok (.imul, 1) := by decide +kernel
theorem dX13_within_94 : decode cX13_within 94 = .ok (.aload_n 0, 1) := by decide +kernel
theorem dX13_within_95 : decode cX13_within 95 = .ok (.getfield 38, 3) := by decide +kernel
theorem dX13_within_98 : decode cX13_within 98 = .ok (.iload 6, 2) := by decide +kernel
theorem dX13_within_100 : decode cX13_within 100 = .ok (.iaload, 1) := by decide +kernel
theorem dX13_within_101 : decode cX13_within 101 = .ok (.invokestatic 106, 3) := by decide +kernel
theorem dX13_within_104 : decode cX13_within 104 = .ok (.ifCond .ge 7, 3) := by decide +kernel
theorem dX13_within_107 : decode cX13_within 107 = .ok (.iconst 1, 1) := by decide +kernel
theorem dX13_within_108 : decode cX13_within 108 = .ok (.goto 4, 3) := by decide +kernel
theorem dX13_within_111 : decode cX13_within 111 = .ok (.iconst 0, 1) := by decide +kernel
theorem dX13_within_112 : decode cX13_within 112 = .ok (.istore 5, 2) := by decide +kernel
theorem dX13_within_114 : decode cX13_within 114 = .ok (.aload_n 0, 1) := by decide +kernel
theorem dX13_within_115 : decode cX13_within 115 = .ok (.getfield 35, 3) := by decide +kernel
theorem dX13_within_118 : decode cX13_within 118 = .ok (.iload 6, 2) := by decide +kernel
theorem dX13_within_120 : decode cX13_within 120 = .ok (.iaload, 1) := by decide +kernel
theorem dX13_within_121 : decode cX13_within 121 = .ok (.iconst 2, 1) := by decide +kernel
theorem dX13_within_122 : decode cX13_within 122 = .ok (.if_icmp .ne 41, 3) := by decide +kernel
theorem dX13_within_125 : decode cX13_within 125 = .ok (.iload 5, 2) := by decide +kernel
theorem dX13_within_127 : decode cX13_within 127 = .ok (.ifCond .eq 33, 3) := by decide +kernel
theorem dX13_within_130 : decode cX13_within 130 = .ok (.aload_n 2, 1) := by decide +kernel
theorem dX13_within_131 : decode cX13_within 131 = .ok (.iload_n 3, 1) := by decide +kernel
theorem dX13_within_132 : decode cX13_within 132 = .ok (.iload 4, 2) := by decide +kernel
theorem dX13_within_134 : decode cX13_within 134 = .ok (.aload_n 0, 1) := by decide +kernel
theorem dX13_within_135 : decode cX13_within 135 = .ok (.getfield 41, 3) := by decide +kernel
theorem dX13_within_138 : decode cX13_within 138 = .ok (.bipush 8, 2) := by decide +kernel
theorem dX13_within_140 : decode cX13_within 140 = .ok (.iload 6, 2) := by decide +kernel
theorem dX13_within_142 : decode cX13_within 142 = .ok (.imul, 1) := by decide +kernel
theorem dX13_within_143 : decode cX13_within 143 = .ok (.aload_n 0, 1) := by decide +kernel
theorem dX13_within_144 : decode cX13_within 144 = .ok (.getfield 38, 3) := by decide +kernel
theorem dX13_within_147 : decode cX13_within 147 = .ok (.iload 6, 2) := by decide +kernel
theorem dX13_within_149 : decode cX13_within 149 = .ok (.iaload, 1) := by decide +kernel
theorem dX13_within_150 : decode cX13_within 150 = .ok (.invokestatic 106, 3) := by decide +kernel
theorem dX13_within_153 : decode cX13_within 153 = .ok (.ifCond .lt 7, 3) := by decide +kernel
theorem dX13_within_156 : decode cX13_within 156 = .ok (.iconst 1, 1) := by decide +kernel
theorem dX13_within_157 : decode cX13_within 157 = .ok (.goto 4, 3) := by decide +kernel
theorem dX13_within_160 : decode cX13_within 160 = .ok (.iconst 0, 1) := by decide +kernel
theorem dX13_within_161 : decode cX13_within 161 = .ok (.istore 5, 2) := by decide +kernel
theorem dX13_within_163 : decode cX13_within 163 = .ok (.aload_n 0, 1) := by decide +kernel
theorem dX13_within_164 : decode cX13_within 164 = .ok (.getfield 32, 3) := by decide +kernel
theorem dX13_within_167 : decode cX13_within 167 = .ok (.iload 6, 2) := by decide +kernel
theorem dX13_within_169 : decode cX13_within 169 = .ok (.iaload, 1) := by decide +kernel
theorem dX13_within_170 : decode cX13_within 170 = .ok (.istore 6, 2) := by decide +kernel
theorem dX13_within_172 : decode cX13_within 172 = .ok (.goto (-166), 3) := by decide +kernel
theorem dX13_within_175 : decode cX13_within 175 = .ok (.iload 5, 2) := by decide +kernel
theorem dX13_within_177 : decode cX13_within 177 = .ok (.ireturn, 1) := by decide +kernel
theorem dX13_begins_0 : decode cX13_begins 0 = .ok (.iload 5, 2) := by decide +kernel
theorem dX13_begins_2 : decode cX13_begins 2 = .ok (.iload_n 2, 1) := by decide +kernel
theorem dX13_begins_3 : decode cX13_begins 3 = .ok (.if_icmp .gt 22, 3) := by decide +kernel
theorem dX13_begins_6 : decode cX13_begins 6 = .ok (.aload_n 0, 1) := by decide +kernel
theorem dX13_begins_7 : decode cX13_begins 7 = .ok (.iload_n 1, 1) := by decide +kernel
theorem dX13_begins_8 : decode cX13_begins 8 = .ok (.iload 5, 2) := by decide +kernel
theorem dX13_begins_10 : decode cX13_begins 10 = .ok (.aload_n 3, 1) := by decide +kernel
theorem dX13_begins_11 : decode cX13_begins 11 = .ok (.iload 4, 2) := by decide +kernel
theorem dX13_begins_13 : decode cX13_begins 13 = .ok (.iload 5, 2) := by decide +kernel
theorem dX13_begins_15 : decode cX13_begins 15 = .ok (.invokestatic 106, 3) := by decide +kernel
theorem dX13_begins_18 : decode cX13_begins 18 = .ok (.ifCond .ne 7, 3) := by decide +kernel
theorem dX13_begins_21 : decode cX13_begins 21 = .ok (.iconst 1, 1) := by decide +kernel
theorem dX13_begins_22 : decode cX13_begins 22 = .ok (.goto 4, 3) := by decide +kernel
theorem dX13_begins_25 : decode cX13_begins 25 = .ok (.iconst 0, 1) := by decide +kernel
theorem dX13_begins_26 : decode cX13_begins 26 = .ok (.ireturn, 1) := by decide +kernel
theorem dX13_order_0 : decode cX13_order 0 = .ok (.iconst 0, 1) := by decide +kernel
theorem dX13_order_1 : decode cX13_order 1 = .ok (.istore 6, 2) := by decide +kernel
theorem dX13_order_3 : decode cX13_order 3 = .ok (.iload 6, 2) := by decide +kernel
theorem dX13_order_5 : decode cX13_order 5 = .ok (.iload_n 2, 1) := by decide +kernel
theorem dX13_order_6 : decode cX13_order 6 = .ok (.if_icmp .ge 47, 3) := by decide +kernel
theorem dX13_order_9 : decode cX13_order 9 = .ok (.iload 6, 2) := by decide +kernel
theorem dX13_order_11 : decode cX13_order 11 = .ok (.iload 5, 2) := by decide +kernel
theorem dX13_order_13 : decode cX13_order 13 = .ok (.if_icmp .ge 40, 3) := by decide +kernel
theorem dX13_order_16 : decode cX13_order 16 = .ok (.aload_n 0, 1) := by decide +kernel
theorem dX13_order_17 : decode cX13_order 17 = .ok (.iload_n 1, 1) := by decide +kernel
theorem dX13_order_18 : decode cX13_order 18 = .ok (.iload 6, 2) := by decide +kernel
theorem dX13_order_20 : decode cX13_order 20 = .ok (.iadd, 1) := by decide +kernel
theorem dX13_order_21 : decode cX13_order 21 = .ok (.iaload, 1) := by decide +kernel
theorem dX13_order_22 : decode cX13_order 22 = .ok (.aload_n 3, 1) := by decide +kernel
theorem dX13_order_23 : decode cX13_order 23 = .ok (.iload 4, 2) := by decide +kernel
theorem dX13_order_25 : decode cX13_order 25 = .ok (.iload 6, 2) := by decide +kernel
theorem dX13_order_27 : decode cX13_order 27 = .ok (.iadd, 1) := by decide +kernel
theorem dX13_order_28 : decode cX13_order 28 = .ok (.iaload, 1) := by decide +kernel
theorem dX13_order_29 : decode cX13_order 29 = .ok (.if_icmp .eq 18, 3) := by decide +kernel
theorem dX13_order_32 : decode cX13_order 32 = .ok (.aload_n 0, 1) := by decide +kernel
theorem dX13_order_33 : decode cX13_order 33 = .ok (.iload_n 1, 1) := by decide +kernel
theorem dX13_order_34 : decode cX13_order 34 = .ok (.iload 6, 2) := by decide +kernel
theorem dX13_order_36 : decode cX13_order 36 = .ok (.iadd, 1) := by decide +kernel
theorem dX13_order_37 : decode cX13_order 37 = .ok (.iaload, 1) := by decide +kernel
theorem dX13_order_38 : decode cX13_order 38 = .ok (.aload_n 3, 1) := by decide +kernel
theorem dX13_order_39 : decode cX13_order 39 = .ok (.iload 4, 2) := by decide +kernel
theorem dX13_order_41 : decode cX13_order 41 = .ok (.iload 6, 2) := by decide +kernel
theorem dX13_order_43 : decode cX13_order 43 = .ok (.iadd, 1) := by decide +kernel
theorem dX13_order_44 : decode cX13_order 44 = .ok (.iaload, 1) := by decide +kernel
theorem dX13_order_45 : decode cX13_order 45 = .ok (.isub, 1) := by decide +kernel
theorem dX13_order_46 : decode cX13_order 46 = .ok (.ireturn, 1) := by decide +kernel
theorem dX13_order_47 : decode cX13_order 47 = .ok (.iinc 6 1, 3) := by decide +kernel
theorem dX13_order_50 : decode cX13_order 50 = .ok (.goto (-47), 3) := by decide +kernel
theorem dX13_order_53 : decode cX13_order 53 = .ok (.iload_n 2, 1) := by decide +kernel
theorem dX13_order_54 : decode cX13_order 54 = .ok (.iload 5, 2) := by decide +kernel
theorem dX13_order_56 : decode cX13_order 56 = .ok (.isub, 1) := by decide +kernel
theorem dX13_order_57 : decode cX13_order 57 = .ok (.ireturn, 1) := by decide +kernel
theorem dX13_mapOf_0 : decode cX13_mapOf 0 = .ok (.iload_n 1, 1) := by decide +kernel
theorem dX13_mapOf_1 : decode cX13_mapOf 1 = .ok (.istore_n 2, 1) := by decide +kernel
theorem dX13_mapOf_2 : decode cX13_mapOf 2 = .ok (.aload_n 0, 1) := by decide +kernel
theorem dX13_mapOf_3 : decode cX13_mapOf 3 = .ok (.getfield 32, 3) := by decide +kernel
theorem dX13_mapOf_6 : decode cX13_mapOf 6 = .ok (.iload_n 2, 1) := by decide +kernel
theorem dX13_mapOf_7 : decode cX13_mapOf 7 = .ok (.iaload, 1) := by decide +kernel
theorem dX13_mapOf_8 : decode cX13_mapOf 8 = .ok (.iconst (-1), 1) := by decide +kernel
theorem dX13_mapOf_9 : decode cX13_mapOf 9 = .ok (.if_icmp .eq 13, 3) := by decide +kernel
theorem dX13_mapOf_12 : decode cX13_mapOf 12 = .ok (.aload_n 0, 1) := by decide +kernel
theorem dX13_mapOf_13 : decode cX13_mapOf 13 = .ok (.getfield 32, 3) := by decide +kernel
theorem dX13_mapOf_16 : decode cX13_mapOf 16 = .ok (.iload_n 2, 1) := by decide +kernel
theorem dX13_mapOf_17 : decode cX13_mapOf 17 = .ok (.iaload, 1) := by decide +kernel
theorem dX13_mapOf_18 : decode cX13_mapOf 18 = .ok (.istore_n 2, 1) := by decide +kernel
theorem dX13_mapOf_19 : decode cX13_mapOf 19 = .ok (.goto (-17), 3) := by decide +kernel
theorem dX13_mapOf_22 : decode cX13_mapOf 22 = .ok (.iload_n 2, 1) := by decide +kernel
theorem dX13_mapOf_23 : decode cX13_mapOf 23 = .ok (.ireturn, 1) := by decide +kernel
theorem dX13_keyOf_0 : decode cX13_keyOf 0 = .ok (.iconst 0, 1) := by decide +kernel
theorem dX13_keyOf_1 : decode cX13_keyOf 1 = .ok (.istore 5, 2) := by decide +kernel
theorem dX13_keyOf_3 : decode cX13_keyOf 3 = .ok (.iload 5, 2) := by decide +kernel
theorem dX13_keyOf_5 : decode cX13_keyOf 5 = .ok (.aload_n 0, 1) := by decide +kernel
theorem dX13_keyOf_6 : decode cX13_keyOf 6 = .ok (.getfield 13, 3) := by decide +kernel
theorem dX13_keyOf_9 : decode cX13_keyOf 9 = .ok (.iload_n 1, 1) := by decide +kernel
theorem dX13_keyOf_10 : decode cX13_keyOf 10 = .ok (.iaload, 1) := by decide +kernel
theorem dX13_keyOf_11 : decode cX13_keyOf 11 = .ok (.if_icmp .ge 35, 3) := by decide +kernel
theorem dX13_keyOf_14 : decode cX13_keyOf 14 = .ok (.aload_n 0, 1) := by decide +kernel
theorem dX13_keyOf_15 : decode cX13_keyOf 15 = .ok (.bipush 64, 2) := by decide +kernel
theorem dX13_keyOf_17 : decode cX13_keyOf 17 = .ok (.iload_n 1, 1) := by decide +kernel
theorem dX13_keyOf_18 : decode cX13_keyOf 18 = .ok (.imul, 1) := by decide +kernel
theorem dX13_keyOf_19 : decode cX13_keyOf 19 = .ok (.iload 5, 2) := by decide +kernel
theorem dX13_keyOf_21 : decode cX13_keyOf 21 = .ok (.iadd, 1) := by decide +kernel
theorem dX13_keyOf_22 : decode cX13_keyOf 22 = .ok (.aload_n 2, 1) := by decide +kernel
theorem dX13_keyOf_23 : decode cX13_keyOf 23 = .ok (.iload_n 3, 1) := by decide +kernel
theorem dX13_keyOf_24 : decode cX13_keyOf 24 = .ok (.iload 4, 2) := by decide +kernel
theorem dX13_keyOf_26 : decode cX13_keyOf 26 = .ok (.invokevirtual 129, 3) := by decide +kernel
theorem dX13_keyOf_29 : decode cX13_keyOf 29 = .ok (.ifCond .ne 11, 3) := by decide +kernel
theorem dX13_keyOf_32 : decode cX13_keyOf 32 = .ok (.bipush 64, 2) := by decide +kernel
theorem dX13_keyOf_34 : decode cX13_keyOf 34 = .ok (.iload_n 1, 1) := by decide +kernel
theorem dX13_keyOf_35 : decode cX13_keyOf 35 = .ok (.imul, 1) := by decide +kernel
theorem dX13_keyOf_36 : decode cX13_keyOf 36 = .ok (.iload 5, 2) := by decide +kernel
theorem dX13_keyOf_38 : decode cX13_keyOf 38 = .ok (.iadd, 1) := by decide +kernel
theorem dX13_keyOf_39 : decode cX13_keyOf 39 = .ok (.ireturn, 1) := by decide +kernel
theorem dX13_keyOf_40 : decode cX13_keyOf 40 = .ok (.iinc 5 1, 3) := by decide +kernel
theorem dX13_keyOf_43 : decode cX13_keyOf 43 = .ok (.goto (-40), 3) := by decide +kernel
theorem dX13_keyOf_46 : decode cX13_keyOf 46 = .ok (.iconst (-1), 1) := by decide +kernel
theorem dX13_keyOf_47 : decode cX13_keyOf 47 = .ok (.ireturn, 1) := by decide +kernel
theorem dX13_orderOf_0 : decode cX13_orderOf 0 = .ok (.aload_n 0, 1) := by decide +kernel
theorem dX13_orderOf_1 : decode cX13_orderOf 1 = .ok (.getfield 19, 3) := by decide +kernel
theorem dX13_orderOf_4 : decode cX13_orderOf 4 = .ok (.bipush 8, 2) := by decide +kernel
theorem dX13_orderOf_6 : decode cX13_orderOf 6 = .ok (.iload_n 1, 1) := by decide +kernel
theorem dX13_orderOf_7 : decode cX13_orderOf 7 = .ok (.imul, 1) := by decide +kernel
theorem dX13_orderOf_8 : decode cX13_orderOf 8 = .ok (.aload_n 0, 1) := by decide +kernel
theorem dX13_orderOf_9 : decode cX13_orderOf 9 = .ok (.getfield 22, 3) := by decide +kernel
theorem dX13_orderOf_12 : decode cX13_orderOf 12 = .ok (.iload_n 1, 1) := by decide +kernel
theorem dX13_orderOf_13 : decode cX13_orderOf 13 = .ok (.iaload, 1) := by decide +kernel
theorem dX13_orderOf_14 : decode cX13_orderOf 14 = .ok (.aload_n 2, 1) := by decide +kernel
theorem dX13_orderOf_15 : decode cX13_orderOf 15 = .ok (.iload_n 3, 1) := by decide +kernel
theorem dX13_orderOf_16 : decode cX13_orderOf 16 = .ok (.iload 4, 2) := by decide +kernel
theorem dX13_orderOf_18 : decode cX13_orderOf 18 = .ok (.invokestatic 106, 3) := by decide +kernel
theorem dX13_orderOf_21 : decode cX13_orderOf 21 = .ok (.ireturn, 1) := by decide +kernel
theorem dX13_get_0 : decode cX13_get 0 = .ok (.aload_n 0, 1) := by decide +kernel
theorem dX13_get_1 : decode cX13_get 1 = .ok (.iload_n 1, 1) := by decide +kernel
theorem dX13_get_2 : decode cX13_get 2 = .ok (.invokevirtual 122, 3) := by decide +kernel
theorem dX13_get_5 : decode cX13_get 5 = .ok (.ifCond .ne 9, 3) := by decide +kernel
theorem dX13_get_8 : decode cX13_get 8 = .ok (.aload_n 0, 1) := by decide +kernel
theorem dX13_get_9 : decode cX13_get 9 = .ok (.iconst 1, 1) := by decide +kernel
theorem dX13_get_10 : decode cX13_get 10 = .ok (.invokevirtual 126, 3) := by decide +kernel
theorem dX13_get_13 : decode cX13_get 13 = .ok (.ireturn, 1) := by decide +kernel
theorem dX13_get_14 : decode cX13_get 14 = .ok (.aload_n 0, 1) := by decide +kernel
theorem dX13_get_15 : decode cX13_get 15 = .ok (.iconst 0, 1) := by decide +kernel
theorem dX13_get_16 : decode cX13_get 16 = .ok (.putfield 99, 3) := by decide +kernel
theorem dX13_get_19 : decode cX13_get 19 = .ok (.aload_n 0, 1) := by decide +kernel
theorem dX13_get_20 : decode cX13_get 20 = .ok (.iload_n 1, 1) := by decide +kernel
theorem dX13_get_21 : decode cX13_get 21 = .ok (.invokevirtual 136, 3) := by decide +kernel
theorem dX13_get_24 : decode cX13_get 24 = .ok (.istore_n 2, 1) := by decide +kernel
theorem dX13_get_25 : decode cX13_get 25 = .ok (.iload_n 2, 1) := by decide +kernel
theorem dX13_get_26 : decode cX13_get 26 = .ok (.iconst (-1), 1) := by decide +kernel
theorem dX13_get_27 : decode cX13_get 27 = .ok (.if_icmp .ne 7, 3) := by decide +kernel
theorem dX13_get_30 : decode cX13_get 30 = .ok (.iconst (-1), 1) := by decide +kernel
theorem dX13_get_31 : decode cX13_get 31 = .ok (.goto 9, 3) := by decide +kernel
theorem dX13_get_34 : decode cX13_get 34 = .ok (.aload_n 0, 1) := by decide +kernel
theorem dX13_get_35 : decode cX13_get 35 = .ok (.getfield 25, 3) := by decide +kernel
theorem dX13_get_38 : decode cX13_get 38 = .ok (.iload_n 2, 1) := by decide +kernel
theorem dX13_get_39 : decode cX13_get 39 = .ok (.iaload, 1) := by decide +kernel
theorem dX13_get_40 : decode cX13_get 40 = .ok (.ireturn, 1) := by decide +kernel
theorem dX13_used_0 : decode cX13_used 0 = .ok (.aload_n 0, 1) := by decide +kernel
theorem dX13_used_1 : decode cX13_used 1 = .ok (.getfield 102, 3) := by decide +kernel
theorem dX13_used_4 : decode cX13_used 4 = .ok (.istore_n 2, 1) := by decide +kernel
theorem dX13_used_5 : decode cX13_used 5 = .ok (.aload_n 0, 1) := by decide +kernel
theorem dX13_used_6 : decode cX13_used 6 = .ok (.iconst 0, 1) := by decide +kernel
theorem dX13_used_7 : decode cX13_used 7 = .ok (.putfield 102, 3) := by decide +kernel
theorem dX13_used_10 : decode cX13_used 10 = .ok (.aload_n 0, 1) := by decide +kernel
theorem dX13_used_11 : decode cX13_used 11 = .ok (.iload_n 1, 1) := by decide +kernel
theorem dX13_used_12 : decode cX13_used 12 = .ok (.aload_n 0, 1) := by decide +kernel
theorem dX13_used_13 : decode cX13_used 13 = .ok (.getfield 7, 3) := by decide +kernel
theorem dX13_used_16 : decode cX13_used 16 = .ok (.iconst 0, 1) := by decide +kernel
theorem dX13_used_17 : decode cX13_used 17 = .ok (.iload_n 2, 1) := by decide +kernel
theorem dX13_used_18 : decode cX13_used 18 = .ok (.invokevirtual 118, 3) := by decide +kernel
theorem dX13_used_21 : decode cX13_used 21 = .ok (.ifCond .eq 21, 3) := by decide +kernel
theorem dX13_used_24 : decode cX13_used 24 = .ok (.aload_n 0, 1) := by decide +kernel
theorem dX13_used_25 : decode cX13_used 25 = .ok (.aload_n 0, 1) := by decide +kernel
theorem dX13_used_26 : decode cX13_used 26 = .ok (.iload_n 1, 1) := by decide +kernel
theorem dX13_used_27 : decode cX13_used 27 = .ok (.invokevirtual 114, 3) := by decide +kernel
theorem dX13_used_30 : decode cX13_used 30 = .ok (.aload_n 0, 1) := by decide +kernel
theorem dX13_used_31 : decode cX13_used 31 = .ok (.getfield 7, 3) := by decide +kernel
theorem dX13_used_34 : decode cX13_used 34 = .ok (.iconst 0, 1) := by decide +kernel
theorem dX13_used_35 : decode cX13_used 35 = .ok (.iload_n 2, 1) := by decide +kernel
theorem dX13_used_36 : decode cX13_used 36 = .ok (.invokevirtual 133, 3) := by decide +kernel
theorem dX13_used_39 : decode cX13_used 39 = .ok (.goto 4, 3) := by decide +kernel
theorem dX13_used_42 : decode cX13_used 42 = .ok (.iconst (-1), 1) := by decide +kernel
theorem dX13_used_43 : decode cX13_used 43 = .ok (.ireturn, 1) := by decide +kernel
theorem dX13_remove_0 : decode cX13_remove 0 = .ok (.aload_n 0, 1) := by decide +kernel
theorem dX13_remove_1 : decode cX13_remove 1 = .ok (.iload_n 1, 1) := by decide +kernel
theorem dX13_remove_2 : decode cX13_remove 2 = .ok (.invokevirtual 122, 3) := by decide +kernel
theorem dX13_remove_5 : decode cX13_remove 5 = .ok (.ifCond .ne 9, 3) := by decide +kernel
theorem dX13_remove_8 : decode cX13_remove 8 = .ok (.aload_n 0, 1) := by decide +kernel
theorem dX13_remove_9 : decode cX13_remove 9 = .ok (.iconst 1, 1) := by decide +kernel
theorem dX13_remove_10 : decode cX13_remove 10 = .ok (.invokevirtual 126, 3) := by decide +kernel
theorem dX13_remove_13 : decode cX13_remove 13 = .ok (.ireturn, 1) := by decide +kernel
theorem dX13_remove_14 : decode cX13_remove 14 = .ok (.aload_n 0, 1) := by decide +kernel
theorem dX13_remove_15 : decode cX13_remove 15 = .ok (.iconst 0, 1) := by decide +kernel
theorem dX13_remove_16 : decode cX13_remove 16 = .ok (.putfield 99, 3) := by decide +kernel
theorem dX13_remove_19 : decode cX13_remove 19 = .ok (.aload_n 0, 1) := by decide +kernel
theorem dX13_remove_20 : decode cX13_remove 20 = .ok (.iload_n 1, 1) := by decide +kernel
theorem dX13_remove_21 : decode cX13_remove 21 = .ok (.invokevirtual 136, 3) := by decide +kernel
theorem dX13_remove_24 : decode cX13_remove 24 = .ok (.istore_n 2, 1) := by decide +kernel
theorem dX13_remove_25 : decode cX13_remove 25 = .ok (.iload_n 2, 1) := by decide +kernel
theorem dX13_remove_26 : decode cX13_remove 26 = .ok (.iconst (-1), 1) := by decide +kernel
theorem dX13_remove_27 : decode cX13_remove 27 = .ok (.if_icmp .ne 5, 3) := by decide +kernel
theorem dX13_remove_30 : decode cX13_remove 30 = .ok (.iconst (-1), 1) := by decide +kernel
theorem dX13_remove_31 : decode cX13_remove 31 = .ok (.ireturn, 1) := by decide +kernel
theorem dX13_remove_32 : decode cX13_remove 32 = .ok (.aload_n 0, 1) := by decide +kernel
theorem dX13_remove_33 : decode cX13_remove 33 = .ok (.getfield 25, 3) := by decide +kernel
theorem dX13_remove_36 : decode cX13_remove 36 = .ok (.iload_n 2, 1) := by decide +kernel
theorem dX13_remove_37 : decode cX13_remove 37 = .ok (.iaload, 1) := by decide +kernel
theorem dX13_remove_38 : decode cX13_remove 38 = .ok (.istore_n 3, 1) := by decide +kernel
theorem dX13_remove_39 : decode cX13_remove 39 = .ok (.aload_n 0, 1) := by decide +kernel
theorem dX13_remove_40 : decode cX13_remove 40 = .ok (.aload_n 0, 1) := by decide +kernel
theorem dX13_remove_41 : decode cX13_remove 41 = .ok (.iload_n 1, 1) := by decide +kernel
theorem dX13_remove_42 : decode cX13_remove 42 = .ok (.invokevirtual 114, 3) := by decide +kernel
theorem dX13_remove_45 : decode cX13_remove 45 = .ok (.iload_n 2, 1) := by decide +kernel
theorem dX13_remove_46 : decode cX13_remove 46 = .ok (.invokevirtual 139, 3) := by decide +kernel
theorem dX13_remove_49 : decode cX13_remove 49 = .ok (.iload_n 3, 1) := by decide +kernel
theorem dX13_remove_50 : decode cX13_remove 50 = .ok (.ireturn, 1) := by decide +kernel
theorem dX13_clear_0 : decode cX13_clear 0 = .ok (.bipush 64, 2) := by decide +kernel
theorem dX13_clear_2 : decode cX13_clear 2 = .ok (.iload_n 1, 1) := by decide +kernel
theorem dX13_clear_3 : decode cX13_clear 3 = .ok (.imul, 1) := by decide +kernel
theorem dX13_clear_4 : decode cX13_clear 4 = .ok (.aload_n 0, 1) := by decide +kernel
theorem dX13_clear_5 : decode cX13_clear 5 = .ok (.getfield 13, 3) := by decide +kernel
theorem dX13_clear_8 : decode cX13_clear 8 = .ok (.iload_n 1, 1) := by decide +kernel
theorem dX13_clear_9 : decode cX13_clear 9 = .ok (.iaload, 1) := by decide +kernel
theorem dX13_clear_10 : decode cX13_clear 10 = .ok (.iadd, 1) := by decide +kernel
theorem dX13_clear_11 : decode cX13_clear 11 = .ok (.iconst 1, 1) := by decide +kernel
theorem dX13_clear_12 : decode cX13_clear 12 = .ok (.isub, 1) := by decide +kernel
theorem dX13_clear_13 : decode cX13_clear 13 = .ok (.istore_n 3, 1) := by decide +kernel
theorem dX13_clear_14 : decode cX13_clear 14 = .ok (.iconst 0, 1) := by decide +kernel
theorem dX13_clear_15 : decode cX13_clear 15 = .ok (.istore 4, 2) := by decide +kernel
theorem dX13_clear_17 : decode cX13_clear 17 = .ok (.iload 4, 2) := by decide +kernel
theorem dX13_clear_19 : decode cX13_clear 19 = .ok (.bipush 8, 2) := by decide +kernel
theorem dX13_clear_21 : decode cX13_clear 21 = .ok (.if_icmp .ge 33, 3) := by decide +kernel
theorem dX13_clear_24 : decode cX13_clear 24 = .ok (.aload_n 0, 1) := by decide +kernel
theorem dX13_clear_25 : decode cX13_clear 25 = .ok (.getfield 19, 3) := by decide +kernel
theorem dX13_clear_28 : decode cX13_clear 28 = .ok (.bipush 8, 2) := by decide +kernel
theorem dX13_clear_30 : decode cX13_clear 30 = .ok (.iload_n 2, 1) := by decide +kernel
theorem dX13_clear_31 : decode cX13_clear 31 = .ok (.imul, 1) := by decide +kernel
theorem dX13_clear_32 : decode cX13_clear 32 = .ok (.iload 4, 2) := by decide +kernel
theorem dX13_clear_34 : decode cX13_clear 34 = .ok (.iadd, 1) := by decide +kernel
theorem dX13_clear_35 : decode cX13_clear 35 = .ok (.aload_n 0, 1) := by decide +kernel
theorem dX13_clear_36 : decode cX13_clear 36 = .ok (.getfield 19, 3) := by decide +kernel
theorem dX13_clear_39 : decode cX13_clear 39 = .ok (.bipush 8, 2) := by decide +kernel
theorem dX13_clear_41 : decode cX13_clear 41 = .ok (.iload_n 3, 1) := by decide +kernel
theorem dX13_clear_42 : decode cX13_clear 42 = .ok (.imul, 1) := by decide +kernel
theorem dX13_clear_43 : decode cX13_clear 43 = .ok (.iload 4, 2) := by decide +kernel
theorem dX13_clear_45 : decode cX13_clear 45 = .ok (.iadd, 1) := by decide +kernel
theorem dX13_clear_46 : decode cX13_clear 46 = .ok (.iaload, 1) := by decide +kernel
theorem dX13_clear_47 : decode cX13_clear 47 = .ok (.iastore, 1) := by decide +kernel
theorem dX13_clear_48 : decode cX13_clear 48 = .ok (.iinc 4 1, 3) := by decide +kernel
theorem dX13_clear_51 : decode cX13_clear 51 = .ok (.goto (-34), 3) := by decide +kernel
theorem dX13_clear_54 : decode cX13_clear 54 = .ok (.aload_n 0, 1) := by decide +kernel
theorem dX13_clear_55 : decode cX13_clear 55 = .ok (.getfield 22, 3) := by decide +kernel
theorem dX13_clear_58 : decode cX13_clear 58 = .ok (.iload_n 2, 1) := by decide +kernel
theorem dX13_clear_59 : decode cX13_clear 59 = .ok (.aload_n 0, 1) := by decide +kernel
theorem dX13_clear_60 : decode cX13_clear 60 = .ok (.getfield 22, 3) := by decide +kernel
theorem dX13_clear_63 : decode cX13_clear 63 = .ok (.iload_n 3, 1) := by decide +kernel
theorem dX13_clear_64 : decode cX13_clear 64 = .ok (.iaload, 1) := by decide +kernel
theorem dX13_clear_65 : decode cX13_clear 65 = .ok (.iastore, 1) := by decide +kernel
theorem dX13_clear_66 : decode cX13_clear 66 = .ok (.aload_n 0, 1) := by decide +kernel
theorem dX13_clear_67 : decode cX13_clear 67 = .ok (.getfield 25, 3) := by decide +kernel
theorem dX13_clear_70 : decode cX13_clear 70 = .ok (.iload_n 2, 1) := by decide +kernel
theorem dX13_clear_71 : decode cX13_clear 71 = .ok (.aload_n 0, 1) := by decide +kernel
theorem dX13_clear_72 : decode cX13_clear 72 = .ok (.getfield 25, 3) := by decide +kernel
theorem dX13_clear_75 : decode cX13_clear 75 = .ok (.iload_n 3, 1) := by decide +kernel
theorem dX13_clear_76 : decode cX13_clear 76 = .ok (.iaload, 1) := by decide +kernel
theorem dX13_clear_77 : decode cX13_clear 77 = .ok (.iastore, 1) := by decide +kernel
theorem dX13_clear_78 : decode cX13_clear 78 = .ok (.aload_n 0, 1) := by decide +kernel
theorem dX13_clear_79 : decode cX13_clear 79 = .ok (.getfield 13, 3) := by decide +kernel
theorem dX13_clear_82 : decode cX13_clear 82 = .ok (.iload_n 1, 1) := by decide +kernel
theorem dX13_clear_83 : decode cX13_clear 83 = .ok (.dup2, 1) := by decide +kernel
theorem dX13_clear_84 : decode cX13_clear 84 = .ok (.iaload, 1) := by decide +kernel
theorem dX13_clear_85 : decode cX13_clear 85 = .ok (.iconst 1, 1) := by decide +kernel
theorem dX13_clear_86 : decode cX13_clear 86 = .ok (.isub, 1) := by decide +kernel
theorem dX13_clear_87 : decode cX13_clear 87 = .ok (.iastore, 1) := by decide +kernel
theorem dX13_clear_88 : decode cX13_clear 88 = .ok (.aload_n 0, 1) := by decide +kernel
theorem dX13_clear_89 : decode cX13_clear 89 = .ok (.getfield 16, 3) := by decide +kernel
theorem dX13_clear_92 : decode cX13_clear 92 = .ok (.iload_n 1, 1) := by decide +kernel
theorem dX13_clear_93 : decode cX13_clear 93 = .ok (.dup2, 1) := by decide +kernel
theorem dX13_clear_94 : decode cX13_clear 94 = .ok (.iaload, 1) := by decide +kernel
theorem dX13_clear_95 : decode cX13_clear 95 = .ok (.iconst 1, 1) := by decide +kernel
theorem dX13_clear_96 : decode cX13_clear 96 = .ok (.iadd, 1) := by decide +kernel
theorem dX13_clear_97 : decode cX13_clear 97 = .ok (.iastore, 1) := by decide +kernel
theorem dX13_clear_98 : decode cX13_clear 98 = .ok (.return_, 1) := by decide +kernel
theorem dX13_size_0 : decode cX13_size 0 = .ok (.aload_n 0, 1) := by decide +kernel
theorem dX13_size_1 : decode cX13_size 1 = .ok (.iconst 0, 1) := by decide +kernel
theorem dX13_size_2 : decode cX13_size 2 = .ok (.putfield 99, 3) := by decide +kernel
theorem dX13_size_5 : decode cX13_size 5 = .ok (.aload_n 0, 1) := by decide +kernel
theorem dX13_size_6 : decode cX13_size 6 = .ok (.iload_n 1, 1) := by decide +kernel
theorem dX13_size_7 : decode cX13_size 7 = .ok (.invokevirtual 122, 3) := by decide +kernel
theorem dX13_size_10 : decode cX13_size 10 = .ok (.ifCond .ne 5, 3) := by decide +kernel
theorem dX13_size_13 : decode cX13_size 13 = .ok (.iconst (-1), 1) := by decide +kernel
theorem dX13_size_14 : decode cX13_size 14 = .ok (.ireturn, 1) := by decide +kernel
theorem dX13_size_15 : decode cX13_size 15 = .ok (.iconst 0, 1) := by decide +kernel
theorem dX13_size_16 : decode cX13_size 16 = .ok (.istore_n 2, 1) := by decide +kernel
theorem dX13_size_17 : decode cX13_size 17 = .ok (.iconst 0, 1) := by decide +kernel
theorem dX13_size_18 : decode cX13_size 18 = .ok (.istore_n 3, 1) := by decide +kernel
theorem dX13_size_19 : decode cX13_size 19 = .ok (.iload_n 3, 1) := by decide +kernel
theorem dX13_size_20 : decode cX13_size 20 = .ok (.aload_n 0, 1) := by decide +kernel
theorem dX13_size_21 : decode cX13_size 21 = .ok (.getfield 13, 3) := by decide +kernel
theorem dX13_size_24 : decode cX13_size 24 = .ok (.aload_n 0, 1) := by decide +kernel
theorem dX13_size_25 : decode cX13_size 25 = .ok (.iload_n 1, 1) := by decide +kernel
theorem dX13_size_26 : decode cX13_size 26 = .ok (.invokevirtual 114, 3) := by decide +kernel
theorem dX13_size_29 : decode cX13_size 29 = .ok (.iaload, 1) := by decide +kernel
theorem dX13_size_30 : decode cX13_size 30 = .ok (.if_icmp .ge 26, 3) := by decide +kernel
theorem dX13_size_33 : decode cX13_size 33 = .ok (.iload_n 2, 1) := by decide +kernel
theorem dX13_size_34 : decode cX13_size 34 = .ok (.aload_n 0, 1) := by decide +kernel
theorem dX13_size_35 : decode cX13_size 35 = .ok (.iload_n 1, 1) := by decide +kernel
theorem dX13_size_36 : decode cX13_size 36 = .ok (.iload_n 3, 1) := by decide +kernel
theorem dX13_size_37 : decode cX13_size 37 = .ok (.invokevirtual 143, 3) := by decide +kernel
theorem dX13_size_40 : decode cX13_size 40 = .ok (.ifCond .eq 7, 3) := by decide +kernel
theorem dX13_size_43 : decode cX13_size 43 = .ok (.iconst 1, 1) := by decide +kernel
theorem dX13_size_44 : decode cX13_size 44 = .ok (.goto 4, 3) := by decide +kernel
theorem dX13_size_47 : decode cX13_size 47 = .ok (.iconst 0, 1) := by decide +kernel
theorem dX13_size_48 : decode cX13_size 48 = .ok (.iadd, 1) := by decide +kernel
theorem dX13_size_49 : decode cX13_size 49 = .ok (.istore_n 2, 1) := by decide +kernel
theorem dX13_size_50 : decode cX13_size 50 = .ok (.iinc 3 1, 3) := by decide +kernel
theorem dX13_size_53 : decode cX13_size 53 = .ok (.goto (-34), 3) := by decide +kernel
theorem dX13_size_56 : decode cX13_size 56 = .ok (.iload_n 2, 1) := by decide +kernel
theorem dX13_size_57 : decode cX13_size 57 = .ok (.ireturn, 1) := by decide +kernel
theorem dX13_has_0 : decode cX13_has 0 = .ok (.bipush 64, 2) := by decide +kernel
theorem dX13_has_2 : decode cX13_has 2 = .ok (.aload_n 0, 1) := by decide +kernel
theorem dX13_has_3 : decode cX13_has 3 = .ok (.iload_n 1, 1) := by decide +kernel
theorem dX13_has_4 : decode cX13_has 4 = .ok (.invokevirtual 114, 3) := by decide +kernel
theorem dX13_has_7 : decode cX13_has 7 = .ok (.imul, 1) := by decide +kernel
theorem dX13_has_8 : decode cX13_has 8 = .ok (.iload_n 2, 1) := by decide +kernel
theorem dX13_has_9 : decode cX13_has 9 = .ok (.iadd, 1) := by decide +kernel
theorem dX13_has_10 : decode cX13_has 10 = .ok (.istore_n 3, 1) := by decide +kernel
theorem dX13_has_11 : decode cX13_has 11 = .ok (.aload_n 0, 1) := by decide +kernel
theorem dX13_has_12 : decode cX13_has 12 = .ok (.iload_n 1, 1) := by decide +kernel
theorem dX13_has_13 : decode cX13_has 13 = .ok (.aload_n 0, 1) := by decide +kernel
theorem dX13_has_14 : decode cX13_has 14 = .ok (.getfield 19, 3) := by decide +kernel
theorem dX13_has_17 : decode cX13_has 17 = .ok (.bipush 8, 2) := by decide +kernel
theorem dX13_has_19 : decode cX13_has 19 = .ok (.iload_n 3, 1) := by decide +kernel
theorem dX13_has_20 : decode cX13_has 20 = .ok (.imul, 1) := by decide +kernel
theorem dX13_has_21 : decode cX13_has 21 = .ok (.aload_n 0, 1) := by decide +kernel
theorem dX13_has_22 : decode cX13_has 22 = .ok (.getfield 22, 3) := by decide +kernel
theorem dX13_has_25 : decode cX13_has 25 = .ok (.iload_n 3, 1) := by decide +kernel
theorem dX13_has_26 : decode cX13_has 26 = .ok (.iaload, 1) := by decide +kernel
theorem dX13_has_27 : decode cX13_has 27 = .ok (.invokevirtual 118, 3) := by decide +kernel
theorem dX13_has_30 : decode cX13_has 30 = .ok (.ireturn, 1) := by decide +kernel
theorem dX13_find_0 : decode cX13_find 0 = .ok (.aload_n 0, 1) := by decide +kernel
theorem dX13_find_1 : decode cX13_find 1 = .ok (.iload_n 1, 1) := by decide +kernel
theorem dX13_find_2 : decode cX13_find 2 = .ok (.invokevirtual 122, 3) := by decide +kernel
theorem dX13_find_5 : decode cX13_find 5 = .ok (.ifCond .eq 13, 3) := by decide +kernel
theorem dX13_find_8 : decode cX13_find 8 = .ok (.iload_n 2, 1) := by decide +kernel
theorem dX13_find_9 : decode cX13_find 9 = .ok (.ifCond .lt 9, 3) := by decide +kernel
theorem dX13_find_12 : decode cX13_find 12 = .ok (.iload_n 2, 1) := by decide +kernel
theorem dX13_find_13 : decode cX13_find 13 = .ok (.bipush 6, 2) := by decide +kernel
theorem dX13_find_15 : decode cX13_find 15 = .ok (.if_icmp .le 9, 3) := by decide +kernel
theorem dX13_find_18 : decode cX13_find 18 = .ok (.aload_n 0, 1) := by decide +kernel
theorem dX13_find_19 : decode cX13_find 19 = .ok (.iconst 1, 1) := by decide +kernel
theorem dX13_find_20 : decode cX13_find 20 = .ok (.invokevirtual 126, 3) := by decide +kernel
theorem dX13_find_23 : decode cX13_find 23 = .ok (.ireturn, 1) := by decide +kernel
theorem dX13_find_24 : decode cX13_find 24 = .ok (.aload_n 0, 1) := by decide +kernel
theorem dX13_find_25 : decode cX13_find 25 = .ok (.getfield 102, 3) := by decide +kernel
theorem dX13_find_28 : decode cX13_find 28 = .ok (.istore_n 3, 1) := by decide +kernel
theorem dX13_find_29 : decode cX13_find 29 = .ok (.aload_n 0, 1) := by decide +kernel
theorem dX13_find_30 : decode cX13_find 30 = .ok (.iconst 0, 1) := by decide +kernel
theorem dX13_find_31 : decode cX13_find 31 = .ok (.putfield 102, 3) := by decide +kernel
theorem dX13_find_34 : decode cX13_find 34 = .ok (.iload_n 2, 1) := by decide +kernel
theorem dX13_find_35 : decode cX13_find 35 = .ok (.tableswitch 120 0 5 #[37, 37, 64, 64, 92, 92], 37) := by decide +kernel
theorem dX13_find_72 : decode cX13_find 72 = .ok (.aload_n 0, 1) := by decide +kernel
theorem dX13_find_73 : decode cX13_find 73 = .ok (.aload_n 0, 1) := by decide +kernel
theorem dX13_find_74 : decode cX13_find 74 = .ok (.iload_n 1, 1) := by decide +kernel
theorem dX13_find_75 : decode cX13_find 75 = .ok (.iconst 0, 1) := by decide +kernel
theorem dX13_find_76 : decode cX13_find 76 = .ok (.iload_n 2, 1) := by decide +kernel
theorem dX13_find_77 : decode cX13_find 77 = .ok (.ifCond .ne 7, 3) := by decide +kernel
theorem dX13_find_80 : decode cX13_find 80 = .ok (.iconst 1, 1) := by decide +kernel
theorem dX13_find_81 : decode cX13_find 81 = .ok (.goto 4, 3) := by decide +kernel
theorem dX13_find_84 : decode cX13_find 84 = .ok (.iconst 0, 1) := by decide +kernel
theorem dX13_find_85 : decode cX13_find 85 = .ok (.aload_n 0, 1) := by decide +kernel
theorem dX13_find_86 : decode cX13_find 86 = .ok (.getfield 7, 3) := by decide +kernel
theorem dX13_find_89 : decode cX13_find 89 = .ok (.iconst 0, 1) := by decide +kernel
theorem dX13_find_90 : decode cX13_find 90 = .ok (.iload_n 3, 1) := by decide +kernel
theorem dX13_find_91 : decode cX13_find 91 = .ok (.invokevirtual 157, 3) := by decide +kernel
theorem dX13_find_94 : decode cX13_find 94 = .ok (.iconst 2, 1) := by decide +kernel
theorem dX13_find_95 : decode cX13_find 95 = .ok (.invokevirtual 161, 3) := by decide +kernel
theorem dX13_find_98 : decode cX13_find 98 = .ok (.ireturn, 1) := by decide +kernel
theorem dX13_find_99 : decode cX13_find 99 = .ok (.aload_n 0, 1) := by decide +kernel
theorem dX13_find_100 : decode cX13_find 100 = .ok (.aload_n 0, 1) := by decide +kernel
theorem dX13_find_101 : decode cX13_find 101 = .ok (.iload_n 1, 1) := by decide +kernel
theorem dX13_find_102 : decode cX13_find 102 = .ok (.iconst 1, 1) := by decide +kernel
theorem dX13_find_103 : decode cX13_find 103 = .ok (.iload_n 2, 1) := by decide +kernel
theorem dX13_find_104 : decode cX13_find 104 = .ok (.iconst 2, 1) := by decide +kernel
theorem dX13_find_105 : decode cX13_find 105 = .ok (.if_icmp .ne 7, 3) := by decide +kernel
theorem dX13_find_108 : decode cX13_find 108 = .ok (.iconst 1, 1) := by decide +kernel
theorem dX13_find_109 : decode cX13_find 109 = .ok (.goto 4, 3) := by decide +kernel
theorem dX13_find_112 : decode cX13_find 112 = .ok (.iconst 0, 1) := by decide +kernel
theorem dX13_find_113 : decode cX13_find 113 = .ok (.aload_n 0, 1) := by decide +kernel
theorem dX13_find_114 : decode cX13_find 114 = .ok (.getfield 7, 3) := by decide +kernel
theorem dX13_find_117 : decode cX13_find 117 = .ok (.iconst 0, 1) := by decide +kernel
theorem dX13_find_118 : decode cX13_find 118 = .ok (.iload_n 3, 1) := by decide +kernel
theorem dX13_find_119 : decode cX13_find 119 = .ok (.invokevirtual 157, 3) := by decide +kernel
theorem dX13_find_122 : decode cX13_find 122 = .ok (.iconst 2, 1) := by decide +kernel
theorem dX13_find_123 : decode cX13_find 123 = .ok (.invokevirtual 161, 3) := by decide +kernel
theorem dX13_find_126 : decode cX13_find 126 = .ok (.ireturn, 1) := by decide +kernel
theorem dX13_find_127 : decode cX13_find 127 = .ok (.aload_n 0, 1) := by decide +kernel
theorem dX13_find_128 : decode cX13_find 128 = .ok (.aload_n 0, 1) := by decide +kernel
theorem dX13_find_129 : decode cX13_find 129 = .ok (.iload_n 1, 1) := by decide +kernel
theorem dX13_find_130 : decode cX13_find 130 = .ok (.iload_n 2, 1) := by decide +kernel
theorem dX13_find_131 : decode cX13_find 131 = .ok (.iconst 4, 1) := by decide +kernel
theorem dX13_find_132 : decode cX13_find 132 = .ok (.if_icmp .ne 7, 3) := by decide +kernel
theorem dX13_find_135 : decode cX13_find 135 = .ok (.iconst 1, 1) := by decide +kernel
theorem dX13_find_136 : decode cX13_find 136 = .ok (.goto 4, 3) := by decide +kernel
theorem dX13_find_139 : decode cX13_find 139 = .ok (.iconst 0, 1) := by decide +kernel
theorem dX13_find_140 : decode cX13_find 140 = .ok (.iconst 1, 1) := by decide +kernel
theorem dX13_find_141 : decode cX13_find 141 = .ok (.aload_n 0, 1) := by decide +kernel
theorem dX13_find_142 : decode cX13_find 142 = .ok (.getfield 7, 3) := by decide +kernel
theorem dX13_find_145 : decode cX13_find 145 = .ok (.iconst 0, 1) := by decide +kernel
theorem dX13_find_146 : decode cX13_find 146 = .ok (.iconst (-1), 1) := by decide +kernel
theorem dX13_find_147 : decode cX13_find 147 = .ok (.invokevirtual 157, 3) := by decide +kernel
theorem dX13_find_150 : decode cX13_find 150 = .ok (.iconst 2, 1) := by decide +kernel
theorem dX13_find_151 : decode cX13_find 151 = .ok (.invokevirtual 161, 3) := by decide +kernel
theorem dX13_find_154 : decode cX13_find 154 = .ok (.ireturn, 1) := by decide +kernel
theorem dX13_find_155 : decode cX13_find 155 = .ok (.aload_n 0, 1) := by decide +kernel
theorem dX13_find_156 : decode cX13_find 156 = .ok (.aload_n 0, 1) := by decide +kernel
theorem dX13_find_157 : decode cX13_find 157 = .ok (.iload_n 1, 1) := by decide +kernel
theorem dX13_find_158 : decode cX13_find 158 = .ok (.iload_n 3, 1) := by decide +kernel
theorem dX13_find_159 : decode cX13_find 159 = .ok (.invokevirtual 165, 3) := by decide +kernel
theorem dX13_find_162 : decode cX13_find 162 = .ok (.iconst 2, 1) := by decide +kernel
theorem dX13_find_163 : decode cX13_find 163 = .ok (.invokevirtual 161, 3) := by decide +kernel
theorem dX13_find_166 : decode cX13_find 166 = .ok (.ireturn, 1) := by decide +kernel
theorem dX13_nearest_0 : decode cX13_nearest 0 = .ok (.aload_n 0, 1) := by decide +kernel
theorem dX13_nearest_1 : decode cX13_nearest 1 = .ok (.iload_n 1, 1) := by decide +kernel
theorem dX13_nearest_2 : decode cX13_nearest 2 = .ok (.invokevirtual 114, 3) := by decide +kernel
theorem dX13_nearest_5 : decode cX13_nearest 5 = .ok (.istore 7, 2) := by decide +kernel
theorem dX13_nearest_7 : decode cX13_nearest 7 = .ok (.iconst (-1), 1) := by decide +kernel
theorem dX13_nearest_8 : decode cX13_nearest 8 = .ok (.istore 8, 2) := by decide +kernel
theorem dX13_nearest_10 : decode cX13_nearest 10 = .ok (.iconst 0, 1) := by decide +kernel
theorem dX13_nearest_11 : decode cX13_nearest 11 = .ok (.istore 9, 2) := by decide +kernel
theorem dX13_nearest_13 : decode cX13_nearest 13 = .ok (.iload 9, 2) := by decide +kernel
theorem dX13_nearest_15 : decode cX13_nearest 15 = .ok (.aload_n 0, 1) := by decide +kernel
theorem dX13_nearest_16 : decode cX13_nearest 16 = .ok (.getfield 13, 3) := by decide +kernel
theorem dX13_nearest_19 : decode cX13_nearest 19 = .ok (.iload 7, 2) := by decide +kernel
theorem dX13_nearest_21 : decode cX13_nearest 21 = .ok (.iaload, 1) := by decide +kernel
theorem dX13_nearest_22 : decode cX13_nearest 22 = .ok (.if_icmp .ge 156, 3) := by decide +kernel
theorem dX13_nearest_25 : decode cX13_nearest 25 = .ok (.bipush 64, 2) := by decide +kernel
theorem dX13_nearest_27 : decode cX13_nearest 27 = .ok (.iload 7, 2) := by decide +kernel
theorem dX13_nearest_29 : decode cX13_nearest 29 = .ok (.imul, 1) := by decide +kernel
theorem dX13_nearest_30 : decode cX13_nearest 30 = .ok (.iload 9, 2) := by decide +kernel
theorem dX13_nearest_32 : decode cX13_nearest 32 = .ok (.iadd, 1) := by decide +kernel
theorem dX13_nearest_33 : decode cX13_nearest 33 = .ok (.istore 10, 2) := by decide +kernel
theorem dX13_nearest_35 : decode cX13_nearest 35 = .ok (.aload_n 0, 1) := by decide +kernel
theorem dX13_nearest_36 : decode cX13_nearest 36 = .ok (.iload_n 1, 1) := by decide +kernel
theorem dX13_nearest_37 : decode cX13_nearest 37 = .ok (.iload 9, 2) := by decide +kernel
theorem dX13_nearest_39 : decode cX13_nearest 39 = .ok (.invokevirtual 143, 3) := by decide +kernel
theorem dX13_nearest_42 : decode cX13_nearest 42 = .ok (.ifCond .ne 6, 3) := by decide +kernel
theorem dX13_nearest_45 : decode cX13_nearest 45 = .ok (.goto 127, 3) := by decide +kernel
theorem dX13_nearest_48 : decode cX13_nearest 48 = .ok (.iload 6, 2) := by decide +kernel
theorem dX13_nearest_50 : decode cX13_nearest 50 = .ok (.iconst (-1), 1) := by decide +kernel
theorem dX13_nearest_51 : decode cX13_nearest 51 = .ok (.if_icmp .ne 15, 3) := by decide +kernel
theorem dX13_nearest_54 : decode cX13_nearest 54 = .ok (.iload_n 2, 1) := by decide +kernel
theorem dX13_nearest_55 : decode cX13_nearest 55 = .ok (.ifCond .eq 7, 3) := by decide +kernel
theorem dX13_nearest_58 : decode cX13_nearest 58 = .ok (.iconst 1, 1) := by decide +kernel
theorem dX13_nearest_59 : decode cX13_nearest 59 = .ok (.goto 20, 3) := by decide +kernel
theorem dX13_nearest_62 : decode cX13_nearest 62 = .ok (.iconst (-1), 1) := by decide +kernel
theorem dX13_nearest_63 : decode cX13_nearest 63 = .ok (.goto 16, 3) := by decide +kernel
theorem dX13_nearest_66 : decode cX13_nearest 66 = .ok (.aload_n 0, 1) := by decide +kernel
theorem dX13_nearest_67 : decode cX13_nearest 67 = .ok (.iload_n 1, 1) := by decide +kernel
theorem dX13_nearest_68 : decode cX13_nearest 68 = .ok (.iload 10, 2) := by decide +kernel
theorem dX13_nearest_70 : decode cX13_nearest 70 = .ok (.aload 4, 2) := by decide +kernel
theorem dX13_nearest_72 : decode cX13_nearest 72 = .ok (.iload 5, 2) := by decide +kernel
theorem dX13_nearest_74 : decode cX13_nearest 74 = .ok (.iload 6, 2) := by decide +kernel
theorem dX13_nearest_76 : decode cX13_nearest 76 = .ok (.invokevirtual 150, 3) := by decide +kernel
theorem dX13_nearest_79 : decode cX13_nearest 79 = .ok (.istore 11, 2) := by decide +kernel
theorem dX13_nearest_81 : decode cX13_nearest 81 = .ok (.iload 11, 2) := by decide +kernel
theorem dX13_nearest_83 : decode cX13_nearest 83 = .ok (.ifCond .ne 10, 3) := by decide +kernel
theorem dX13_nearest_86 : decode cX13_nearest 86 = .ok (.iload_n 3, 1) := by decide +kernel
theorem dX13_nearest_87 : decode cX13_nearest 87 = .ok (.ifCond .ne 23, 3) := by decide +kernel
theorem dX13_nearest_90 : decode cX13_nearest 90 = .ok (.goto 82, 3) := by decide +kernel
theorem dX13_nearest_93 : decode cX13_nearest 93 = .ok (.iload 11, 2) := by decide +kernel
theorem dX13_nearest_95 : decode cX13_nearest 95 = .ok (.ifCond .le 7, 3) := by decide +kernel
theorem dX13_nearest_98 : decode cX13_nearest 98 = .ok (.iconst 1, 1) := by decide +kernel
theorem dX13_nearest_99 : decode cX13_nearest 99 = .ok (.goto 4, 3) := by decide +kernel
theorem dX13_nearest_102 : decode cX13_nearest 102 = .ok (.iconst 0, 1) := by decide +kernel
theorem dX13_nearest_103 : decode cX13_nearest 103 = .ok (.iload_n 2, 1) := by decide +kernel
theorem dX13_nearest_104 : decode cX13_nearest 104 = .ok (.if_icmp .eq 6, 3) := by decide +kernel
theorem dX13_nearest_107 : decode cX13_nearest 107 = .ok (.goto 65, 3) := by decide +kernel
theorem dX13_nearest_110 : decode cX13_nearest 110 = .ok (.iload 8, 2) := by decide +kernel
theorem dX13_nearest_112 : decode cX13_nearest 112 = .ok (.iconst (-1), 1) := by decide +kernel
theorem dX13_nearest_113 : decode cX13_nearest 113 = .ok (.if_icmp .ne 7, 3) := by decide +kernel
theorem dX13_nearest_116 : decode cX13_nearest 116 = .ok (.iconst 0, 1) := by decide +kernel
theorem dX13_nearest_117 : decode cX13_nearest 117 = .ok (.goto 26, 3) := by decide +kernel
theorem dX13_nearest_120 : decode cX13_nearest 120 = .ok (.aload_n 0, 1) := by decide +kernel
theorem dX13_nearest_121 : decode cX13_nearest 121 = .ok (.iload_n 1, 1) := by decide +kernel
theorem dX13_nearest_122 : decode cX13_nearest 122 = .ok (.iload 10, 2) := by decide +kernel
theorem dX13_nearest_124 : decode cX13_nearest 124 = .ok (.aload_n 0, 1) := by decide +kernel
theorem dX13_nearest_125 : decode cX13_nearest 125 = .ok (.getfield 19, 3) := by decide +kernel
theorem dX13_nearest_128 : decode cX13_nearest 128 = .ok (.bipush 8, 2) := by decide +kernel
theorem dX13_nearest_130 : decode cX13_nearest 130 = .ok (.iload 8, 2) := by decide +kernel
theorem dX13_nearest_132 : decode cX13_nearest 132 = .ok (.imul, 1) := by decide +kernel
theorem dX13_nearest_133 : decode cX13_nearest 133 = .ok (.aload_n 0, 1) := by decide +kernel
theorem dX13_nearest_134 : decode cX13_nearest 134 = .ok (.getfield 22, 3) := by decide +kernel
theorem dX13_nearest_137 : decode cX13_nearest 137 = .ok (.iload 8, 2) := by decide +kernel
theorem dX13_nearest_139 : decode cX13_nearest 139 = .ok (.iaload, 1) := by decide +kernel
theorem dX13_nearest_140 : decode cX13_nearest 140 = .ok (.invokevirtual 150, 3) := by decide +kernel
theorem dX13_nearest_143 : decode cX13_nearest 143 = .ok (.istore 12, 2) := by decide +kernel
theorem dX13_nearest_145 : decode cX13_nearest 145 = .ok (.iload 8, 2) := by decide +kernel
theorem dX13_nearest_147 : decode cX13_nearest 147 = .ok (.iconst (-1), 1) := by decide +kernel
theorem dX13_nearest_148 : decode cX13_nearest 148 = .ok (.if_icmp .eq 20, 3) := by decide +kernel
theorem dX13_nearest_151 : decode cX13_nearest 151 = .ok (.iload_n 2, 1) := by decide +kernel
theorem dX13_nearest_152 : decode cX13_nearest 152 = .ok (.ifCond .eq 11, 3) := by decide +kernel
theorem dX13_nearest_155 : decode cX13_nearest 155 = .ok (.iload 12, 2) := by decide +kernel
theorem dX13_nearest_157 : decode cX13_nearest 157 = .ok (.ifCond .ge 15, 3) := by decide +kernel
theorem dX13_nearest_160 : decode cX13_nearest 160 = .ok (.goto 8, 3) := by decide +kernel
theorem dX13_nearest_163 : decode cX13_nearest 163 = .ok (.iload 12, 2) := by decide +kernel
theorem dX13_nearest_165 : decode cX13_nearest 165 = .ok (.ifCond .le 7, 3) := by decide +kernel
theorem dX13_nearest_168 : decode cX13_nearest 168 = .ok (.iload 10, 2) := by decide +kernel
theorem dX13_nearest_170 : decode cX13_nearest 170 = .ok (.istore 8, 2) := by decide +kernel
theorem dX13_nearest_172 : decode cX13_nearest 172 = .ok (.iinc 9 1, 3) := by decide +kernel
theorem dX13_nearest_175 : decode cX13_nearest 175 = .ok (.goto (-162), 3) := by decide +kernel
theorem dX13_nearest_178 : decode cX13_nearest 178 = .ok (.iload 8, 2) := by decide +kernel
theorem dX13_nearest_180 : decode cX13_nearest 180 = .ok (.ireturn, 1) := by decide +kernel
theorem dX13_side_0 : decode cX13_side 0 = .ok (.aload_n 0, 1) := by decide +kernel
theorem dX13_side_1 : decode cX13_side 1 = .ok (.iload_n 1, 1) := by decide +kernel
theorem dX13_side_2 : decode cX13_side 2 = .ok (.invokevirtual 147, 3) := by decide +kernel
theorem dX13_side_5 : decode cX13_side 5 = .ok (.ifCond .eq 17, 3) := by decide +kernel
theorem dX13_side_8 : decode cX13_side 8 = .ok (.aload_n 0, 1) := by decide +kernel
theorem dX13_side_9 : decode cX13_side 9 = .ok (.iload_n 2, 1) := by decide +kernel
theorem dX13_side_10 : decode cX13_side 10 = .ok (.aload_n 3, 1) := by decide +kernel
theorem dX13_side_11 : decode cX13_side 11 = .ok (.iload 4, 2) := by decide +kernel
theorem dX13_side_13 : decode cX13_side 13 = .ok (.iload 5, 2) := by decide +kernel
theorem dX13_side_15 : decode cX13_side 15 = .ok (.invokevirtual 129, 3) := by decide +kernel
theorem dX13_side_18 : decode cX13_side 18 = .ok (.ineg, 1) := by decide +kernel
theorem dX13_side_19 : decode cX13_side 19 = .ok (.goto 13, 3) := by decide +kernel
theorem dX13_side_22 : decode cX13_side 22 = .ok (.aload_n 0, 1) := by decide +kernel
theorem dX13_side_23 : decode cX13_side 23 = .ok (.iload_n 2, 1) := by decide +kernel
theorem dX13_side_24 : decode cX13_side 24 = .ok (.aload_n 3, 1) := by decide +kernel
theorem dX13_side_25 : decode cX13_side 25 = .ok (.iload 4, 2) := by decide +kernel
theorem dX13_side_27 : decode cX13_side 27 = .ok (.iload 5, 2) := by decide +kernel
theorem dX13_side_29 : decode cX13_side 29 = .ok (.invokevirtual 129, 3) := by decide +kernel
theorem dX13_side_32 : decode cX13_side 32 = .ok (.ireturn, 1) := by decide +kernel
theorem dX13_isTurned_0 : decode cX13_isTurned 0 = .ok (.iconst 0, 1) := by decide +kernel
theorem dX13_isTurned_1 : decode cX13_isTurned 1 = .ok (.istore_n 2, 1) := by decide +kernel
theorem dX13_isTurned_2 : decode cX13_isTurned 2 = .ok (.iload_n 1, 1) := by decide +kernel
theorem dX13_isTurned_3 : decode cX13_isTurned 3 = .ok (.istore_n 3, 1) := by decide +kernel
theorem dX13_isTurned_4 : decode cX13_isTurned 4 = .ok (.aload_n 0, 1) := by decide +kernel
theorem dX13_isTurned_5 : decode cX13_isTurned 5 = .ok (.getfield 32, 3) := by decide +kernel
theorem dX13_isTurned_8 : decode cX13_isTurned 8 = .ok (.iload_n 3, 1) := by decide +kernel
theorem dX13_isTurned_9 : decode cX13_isTurned 9 = .ok (.iaload, 1) := by decide +kernel
theorem dX13_isTurned_10 : decode cX13_isTurned 10 = .ok (.iconst (-1), 1) := by decide +kernel
theorem dX13_isTurned_11 : decode cX13_isTurned 11 = .ok (.if_icmp .eq 37, 3) := by decide +kernel
theorem dX13_isTurned_14 : decode cX13_isTurned 14 = .ok (.aload_n 0, 1) := by decide +kernel
theorem dX13_isTurned_15 : decode cX13_isTurned 15 = .ok (.getfield 35, 3) := by decide +kernel
theorem dX13_isTurned_18 : decode cX13_isTurned 18 = .ok (.iload_n 3, 1) := by decide +kernel
theorem dX13_isTurned_19 : decode cX13_isTurned 19 = .ok (.iaload, 1) := by decide +kernel
theorem dX13_isTurned_20 : decode cX13_isTurned 20 = .ok (.iconst 3, 1) := by decide +kernel
theorem dX13_isTurned_21 : decode cX13_isTurned 21 = .ok (.if_icmp .ne 15, 3) := by decide +kernel
theorem dX13_isTurned_24 : decode cX13_isTurned 24 = .ok (.iload_n 2, 1) := by decide +kernel
theorem dX13_isTurned_25 : decode cX13_isTurned 25 = .ok (.ifCond .ne 7, 3) := by decide +kernel
theorem dX13_isTurned_28 : decode cX13_isTurned 28 = .ok (.iconst 1, 1) := by decide +kernel
theorem dX13_isTurned_29 : decode cX13_isTurned 29 = .ok (.goto 8, 3) := by decide +kernel
theorem dX13_isTurned_32 : decode cX13_isTurned 32 = .ok (.iconst 0, 1) := by decide +kernel
theorem dX13_isTurned_33 : decode cX13_isTurned 33 = .ok (.goto 4, 3) := by decide +kernel
theorem dX13_isTurned_36 : decode cX13_isTurned 36 = .ok (.iload_n 2, 1) := by decide +kernel
theorem dX13_isTurned_37 : decode cX13_isTurned 37 = .ok (.istore_n 2, 1) := by decide +kernel
theorem dX13_isTurned_38 : decode cX13_isTurned 38 = .ok (.aload_n 0, 1) := by decide +kernel
theorem dX13_isTurned_39 : decode cX13_isTurned 39 = .ok (.getfield 32, 3) := by decide +kernel
theorem dX13_isTurned_42 : decode cX13_isTurned 42 = .ok (.iload_n 3, 1) := by decide +kernel
theorem dX13_isTurned_43 : decode cX13_isTurned 43 = .ok (.iaload, 1) := by decide +kernel
theorem dX13_isTurned_44 : decode cX13_isTurned 44 = .ok (.istore_n 3, 1) := by decide +kernel
theorem dX13_isTurned_45 : decode cX13_isTurned 45 = .ok (.goto (-41), 3) := by decide +kernel
theorem dX13_isTurned_48 : decode cX13_isTurned 48 = .ok (.iload_n 2, 1) := by decide +kernel
theorem dX13_isTurned_49 : decode cX13_isTurned 49 = .ok (.ireturn, 1) := by decide +kernel
theorem dX13_tell_0 : decode cX13_tell 0 = .ok (.iload_n 1, 1) := by decide +kernel
theorem dX13_tell_1 : decode cX13_tell 1 = .ok (.iconst (-1), 1) := by decide +kernel
theorem dX13_tell_2 : decode cX13_tell 2 = .ok (.if_icmp .ne 9, 3) := by decide +kernel
theorem dX13_tell_5 : decode cX13_tell 5 = .ok (.aload_n 0, 1) := by decide +kernel
theorem dX13_tell_6 : decode cX13_tell 6 = .ok (.iload_n 2, 1) := by decide +kernel
theorem dX13_tell_7 : decode cX13_tell 7 = .ok (.invokevirtual 126, 3) := by decide +kernel
theorem dX13_tell_10 : decode cX13_tell 10 = .ok (.ireturn, 1) := by decide +kernel
theorem dX13_tell_11 : decode cX13_tell 11 = .ok (.aload_n 0, 1) := by decide +kernel
theorem dX13_tell_12 : decode cX13_tell 12 = .ok (.iconst 0, 1) := by decide +kernel
theorem dX13_tell_13 : decode cX13_tell 13 = .ok (.putfield 99, 3) := by decide +kernel
theorem dX13_tell_16 : decode cX13_tell 16 = .ok (.aload_n 0, 1) := by decide +kernel
theorem dX13_tell_17 : decode cX13_tell 17 = .ok (.aload_n 0, 1) := by decide +kernel
theorem dX13_tell_18 : decode cX13_tell 18 = .ok (.getfield 22, 3) := by decide +kernel
theorem dX13_tell_21 : decode cX13_tell 21 = .ok (.iload_n 1, 1) := by decide +kernel
theorem dX13_tell_22 : decode cX13_tell 22 = .ok (.iaload, 1) := by decide +kernel
theorem dX13_tell_23 : decode cX13_tell 23 = .ok (.putfield 154, 3) := by decide +kernel
theorem dX13_tell_26 : decode cX13_tell 26 = .ok (.iconst 0, 1) := by decide +kernel
theorem dX13_tell_27 : decode cX13_tell 27 = .ok (.istore_n 3, 1) := by decide +kernel
theorem dX13_tell_28 : decode cX13_tell 28 = .ok (.iload_n 3, 1) := by decide +kernel
theorem dX13_tell_29 : decode cX13_tell 29 = .ok (.aload_n 0, 1) := by decide +kernel
theorem dX13_tell_30 : decode cX13_tell 30 = .ok (.getfield 154, 3) := by decide +kernel
theorem dX13_tell_33 : decode cX13_tell 33 = .ok (.if_icmp .ge 26, 3) := by decide +kernel
theorem dX13_tell_36 : decode cX13_tell 36 = .ok (.aload_n 0, 1) := by decide +kernel
theorem dX13_tell_37 : decode cX13_tell 37 = .ok (.getfield 63, 3) := by decide +kernel
theorem dX13_tell_40 : decode cX13_tell 40 = .ok (.iload_n 3, 1) := by decide +kernel
theorem dX13_tell_41 : decode cX13_tell 41 = .ok (.aload_n 0, 1) := by decide +kernel
theorem dX13_tell_42 : decode cX13_tell 42 = .ok (.getfield 19, 3) := by decide +kernel
theorem dX13_tell_45 : decode cX13_tell 45 = .ok (.bipush 8, 2) := by decide +kernel
theorem dX13_tell_47 : decode cX13_tell 47 = .ok (.iload_n 1, 1) := by decide +kernel
theorem dX13_tell_48 : decode cX13_tell 48 = .ok (.imul, 1) := by decide +kernel
theorem dX13_tell_49 : decode cX13_tell 49 = .ok (.iload_n 3, 1) := by decide +kernel
theorem dX13_tell_50 : decode cX13_tell 50 = .ok (.iadd, 1) := by decide +kernel
theorem dX13_tell_51 : decode cX13_tell 51 = .ok (.iaload, 1) := by decide +kernel
theorem dX13_tell_52 : decode cX13_tell 52 = .ok (.iastore, 1) := by decide +kernel
theorem dX13_tell_53 : decode cX13_tell 53 = .ok (.iinc 3 1, 3) := by decide +kernel
theorem dX13_tell_56 : decode cX13_tell 56 = .ok (.goto (-28), 3) := by decide +kernel
theorem dX13_tell_59 : decode cX13_tell 59 = .ok (.aload_n 0, 1) := by decide +kernel
theorem dX13_tell_60 : decode cX13_tell 60 = .ok (.getfield 25, 3) := by decide +kernel
theorem dX13_tell_63 : decode cX13_tell 63 = .ok (.iload_n 1, 1) := by decide +kernel
theorem dX13_tell_64 : decode cX13_tell 64 = .ok (.iaload, 1) := by decide +kernel
theorem dX13_tell_65 : decode cX13_tell 65 = .ok (.ireturn, 1) := by decide +kernel
theorem dX13_longest_0 : decode cX13_longest 0 = .ok (.aload_n 0, 1) := by decide +kernel
theorem dX13_longest_1 : decode cX13_longest 1 = .ok (.iload_n 1, 1) := by decide +kernel
theorem dX13_longest_2 : decode cX13_longest 2 = .ok (.invokevirtual 114, 3) := by decide +kernel
theorem dX13_longest_5 : decode cX13_longest 5 = .ok (.istore_n 3, 1) := by decide +kernel
theorem dX13_longest_6 : decode cX13_longest 6 = .ok (.iconst (-1), 1) := by decide +kernel
theorem dX13_longest_7 : decode cX13_longest 7 = .ok (.istore 4, 2) := by decide +kernel
theorem dX13_longest_9 : decode cX13_longest 9 = .ok (.iconst 0, 1) := by decide +kernel
theorem dX13_longest_10 : decode cX13_longest 10 = .ok (.istore 5, 2) := by decide +kernel
theorem dX13_longest_12 : decode cX13_longest 12 = .ok (.iload 5, 2) := by decide +kernel
theorem dX13_longest_14 : decode cX13_longest 14 = .ok (.aload_n 0, 1) := by decide +kernel
theorem dX13_longest_15 : decode cX13_longest 15 = .ok (.getfield 13, 3) := by decide +kernel
theorem dX13_longest_18 : decode cX13_longest 18 = .ok (.iload_n 3, 1) := by decide +kernel
theorem dX13_longest_19 : decode cX13_longest 19 = .ok (.iaload, 1) := by decide +kernel
theorem dX13_longest_20 : decode cX13_longest 20 = .ok (.if_icmp .ge 95, 3) := by decide +kernel
theorem dX13_longest_23 : decode cX13_longest 23 = .ok (.bipush 64, 2) := by decide +kernel
theorem dX13_longest_25 : decode cX13_longest 25 = .ok (.iload_n 3, 1) := by decide +kernel
theorem dX13_longest_26 : decode cX13_longest 26 = .ok (.imul, 1) := by decide +kernel
theorem dX13_longest_27 : decode cX13_longest 27 = .ok (.iload 5, 2) := by decide +kernel
theorem dX13_longest_29 : decode cX13_longest 29 = .ok (.iadd, 1) := by decide +kernel
theorem dX13_longest_30 : decode cX13_longest 30 = .ok (.istore 6, 2) := by decide +kernel
theorem dX13_longest_32 : decode cX13_longest 32 = .ok (.aload_n 0, 1) := by decide +kernel
theorem dX13_longest_33 : decode cX13_longest 33 = .ok (.iload_n 1, 1) := by decide +kernel
theorem dX13_longest_34 : decode cX13_longest 34 = .ok (.iload 5, 2) := by decide +kernel
theorem dX13_longest_36 : decode cX13_longest 36 = .ok (.invokevirtual 143, 3) := by decide +kernel
theorem dX13_longest_39 : decode cX13_longest 39 = .ok (.ifCond .eq 35, 3) := by decide +kernel
theorem dX13_longest_42 : decode cX13_longest 42 = .ok (.aload_n 0, 1) := by decide +kernel
theorem dX13_longest_43 : decode cX13_longest 43 = .ok (.getfield 7, 3) := by decide +kernel
theorem dX13_longest_46 : decode cX13_longest 46 = .ok (.iconst 0, 1) := by decide +kernel
theorem dX13_longest_47 : decode cX13_longest 47 = .ok (.iload_n 2, 1) := by decide +kernel
theorem dX13_longest_48 : decode cX13_longest 48 = .ok (.aload_n 0, 1) := by decide +kernel
theorem dX13_longest_49 : decode cX13_longest 49 = .ok (.getfield 19, 3) := by decide +kernel
theorem dX13_longest_52 : decode cX13_longest 52 = .ok (.bipush 8, 2) := by decide +kernel
theorem dX13_longest_54 : decode cX13_longest 54 = .ok (.iload 6, 2) := by decide +kernel
theorem dX13_longest_56 : decode cX13_longest 56 = .ok (.imul, 1) := by decide +kernel
theorem dX13_longest_57 : decode cX13_longest 57 = .ok (.aload_n 0, 1) := by decide +kernel
theorem dX13_longest_58 : decode cX13_longest 58 = .ok (.getfield 22, 3) := by decide +kernel
theorem dX13_longest_61 : decode cX13_longest 61 = .ok (.iload 6, 2) := by decide +kernel
theorem dX13_longest_63 : decode cX13_longest 63 = .ok (.iaload, 1) := by decide +kernel
theorem dX13_longest_64 : decode cX13_longest 64 = .ok (.invokestatic 110, 3) := by decide +kernel
theorem dX13_longest_67 : decode cX13_longest 67 = .ok (.ifCond .eq 7, 3) := by decide +kernel
theorem dX13_longest_70 : decode cX13_longest 70 = .ok (.iconst 1, 1) := by decide +kernel
theorem dX13_longest_71 : decode cX13_longest 71 = .ok (.goto 4, 3) := by decide +kernel
theorem dX13_longest_74 : decode cX13_longest 74 = .ok (.iconst 0, 1) := by decide +kernel
theorem dX13_longest_75 : decode cX13_longest 75 = .ok (.istore 7, 2) := by decide +kernel
theorem dX13_longest_77 : decode cX13_longest 77 = .ok (.iload 7, 2) := by decide +kernel
theorem dX13_longest_79 : decode cX13_longest 79 = .ok (.ifCond .eq 30, 3) := by decide +kernel
theorem dX13_longest_82 : decode cX13_longest 82 = .ok (.iload 4, 2) := by decide +kernel
theorem dX13_longest_84 : decode cX13_longest 84 = .ok (.iconst (-1), 1) := by decide +kernel
theorem dX13_longest_85 : decode cX13_longest 85 = .ok (.if_icmp .eq 20, 3) := by decide +kernel
theorem dX13_longest_88 : decode cX13_longest 88 = .ok (.aload_n 0, 1) := by decide +kernel
theorem dX13_longest_89 : decode cX13_longest 89 = .ok (.getfield 22, 3) := by decide +kernel
theorem dX13_longest_92 : decode cX13_longest 92 = .ok (.iload 6, 2) := by decide +kernel
theorem dX13_longest_94 : decode cX13_longest 94 = .ok (.iaload, 1) := by decide +kernel
theorem dX13_longest_95 : decode cX13_longest 95 = .ok (.aload_n 0, 1) := by decide +kernel
theorem dX13_longest_96 : decode cX13_longest 96 = .ok (.getfield 22, 3) := by decide +kernel
theorem dX13_longest_99 : decode cX13_longest 99 = .ok (.iload 4, 2) := by decide +kernel
theorem dX13_longest_101 : decode cX13_longest 101 = .ok (.iaload, 1) := by decide +kernel
theorem dX13_longest_102 : decode cX13_longest 102 = .ok (.if_icmp .le 7, 3) := by decide +kernel
theorem dX13_longest_105 : decode cX13_longest 105 = .ok (.iload 6, 2) := by decide +kernel
theorem dX13_longest_107 : decode cX13_longest 107 = .ok (.istore 4, 2) := by decide +kernel
theorem dX13_longest_109 : decode cX13_longest 109 = .ok (.iinc 5 1, 3) := by decide +kernel
theorem dX13_longest_112 : decode cX13_longest 112 = .ok (.goto (-100), 3) := by decide +kernel
theorem dX13_longest_115 : decode cX13_longest 115 = .ok (.iload 4, 2) := by decide +kernel
theorem dX13_longest_117 : decode cX13_longest 117 = .ok (.ireturn, 1) := by decide +kernel
theorem dX13_at_0 : decode cX13_at 0 = .ok (.aload_n 0, 1) := by decide +kernel
theorem dX13_at_1 : decode cX13_at 1 = .ok (.iload_n 1, 1) := by decide +kernel
theorem dX13_at_2 : decode cX13_at 2 = .ok (.invokevirtual 122, 3) := by decide +kernel
theorem dX13_at_5 : decode cX13_at 5 = .ok (.ifCond .ne 9, 3) := by decide +kernel
theorem dX13_at_8 : decode cX13_at 8 = .ok (.aload_n 0, 1) := by decide +kernel
theorem dX13_at_9 : decode cX13_at 9 = .ok (.iconst 1, 1) := by decide +kernel
theorem dX13_at_10 : decode cX13_at 10 = .ok (.invokevirtual 126, 3) := by decide +kernel
theorem dX13_at_13 : decode cX13_at 13 = .ok (.ireturn, 1) := by decide +kernel
theorem dX13_at_14 : decode cX13_at 14 = .ok (.iload_n 2, 1) := by decide +kernel
theorem dX13_at_15 : decode cX13_at 15 = .ok (.ifCond .lt 12, 3) := by decide +kernel
theorem dX13_at_18 : decode cX13_at 18 = .ok (.iload_n 2, 1) := by decide +kernel
theorem dX13_at_19 : decode cX13_at 19 = .ok (.aload_n 0, 1) := by decide +kernel
theorem dX13_at_20 : decode cX13_at 20 = .ok (.iload_n 1, 1) := by decide +kernel
theorem dX13_at_21 : decode cX13_at 21 = .ok (.invokevirtual 168, 3) := by decide +kernel
theorem dX13_at_24 : decode cX13_at 24 = .ok (.if_icmp .lt 7, 3) := by decide +kernel
theorem dX13_at_27 : decode cX13_at 27 = .ok (.iconst (-1), 1) := by decide +kernel
theorem dX13_at_28 : decode cX13_at 28 = .ok (.goto 16, 3) := by decide +kernel
theorem dX13_at_31 : decode cX13_at 31 = .ok (.aload_n 0, 1) := by decide +kernel
theorem dX13_at_32 : decode cX13_at 32 = .ok (.iload_n 1, 1) := by decide +kernel
theorem dX13_at_33 : decode cX13_at 33 = .ok (.iconst 1, 1) := by decide +kernel
theorem dX13_at_34 : decode cX13_at 34 = .ok (.iconst 1, 1) := by decide +kernel
theorem dX13_at_35 : decode cX13_at 35 = .ok (.aload_n 0, 1) := by decide +kernel
theorem dX13_at_36 : decode cX13_at 36 = .ok (.getfield 7, 3) := by decide +kernel
theorem dX13_at_39 : decode cX13_at 39 = .ok (.iconst 0, 1) := by decide +kernel
theorem dX13_at_40 : decode cX13_at 40 = .ok (.iconst (-1), 1) := by decide +kernel
theorem dX13_at_41 : decode cX13_at 41 = .ok (.invokevirtual 157, 3) := by decide +kernel
theorem dX13_at_44 : decode cX13_at 44 = .ok (.istore_n 3, 1) := by decide +kernel
theorem dX13_at_45 : decode cX13_at 45 = .ok (.iconst 0, 1) := by decide +kernel
theorem dX13_at_46 : decode cX13_at 46 = .ok (.istore 4, 2) := by decide +kernel
theorem dX13_at_48 : decode cX13_at 48 = .ok (.iload 4, 2) := by decide +kernel
theorem dX13_at_50 : decode cX13_at 50 = .ok (.iload_n 2, 1) := by decide +kernel
theorem dX13_at_51 : decode cX13_at 51 = .ok (.if_icmp .ge 36, 3) := by decide +kernel
theorem dX13_at_54 : decode cX13_at 54 = .ok (.iload_n 3, 1) := by decide +kernel
theorem dX13_at_55 : decode cX13_at 55 = .ok (.iconst (-1), 1) := by decide +kernel
theorem dX13_at_56 : decode cX13_at 56 = .ok (.if_icmp .eq 31, 3) := by decide +kernel
theorem dX13_at_59 : decode cX13_at 59 = .ok (.aload_n 0, 1) := by decide +kernel
theorem dX13_at_60 : decode cX13_at 60 = .ok (.iload_n 1, 1) := by decide +kernel
theorem dX13_at_61 : decode cX13_at 61 = .ok (.iconst 1, 1) := by decide +kernel
theorem dX13_at_62 : decode cX13_at 62 = .ok (.iconst 0, 1) := by decide +kernel
theorem dX13_at_63 : decode cX13_at 63 = .ok (.aload_n 0, 1) := by decide +kernel
theorem dX13_at_64 : decode cX13_at 64 = .ok (.getfield 19, 3) := by decide +kernel
theorem dX13_at_67 : decode cX13_at 67 = .ok (.bipush 8, 2) := by decide +kernel
theorem dX13_at_69 : decode cX13_at 69 = .ok (.iload_n 3, 1) := by decide +kernel
theorem dX13_at_70 : decode cX13_at 70 = .ok (.imul, 1) := by decide +kernel
theorem dX13_at_71 : decode cX13_at 71 = .ok (.aload_n 0, 1) := by decide +kernel
theorem dX13_at_72 : decode cX13_at 72 = .ok (.getfield 22, 3) := by decide +kernel
theorem dX13_at_75 : decode cX13_at 75 = .ok (.iload_n 3, 1) := by decide +kernel
theorem dX13_at_76 : decode cX13_at 76 = .ok (.iaload, 1) := by decide +kernel
theorem dX13_at_77 : decode cX13_at 77 = .ok (.invokevirtual 157, 3) := by decide +kernel
theorem dX13_at_80 : decode cX13_at 80 = .ok (.istore_n 3, 1) := by decide +kernel
theorem dX13_at_81 : decode cX13_at 81 = .ok (.iinc 4 1, 3) := by decide +kernel
theorem dX13_at_84 : decode cX13_at 84 = .ok (.goto (-36), 3) := by decide +kernel
theorem dX13_at_87 : decode cX13_at 87 = .ok (.aload_n 0, 1) := by decide +kernel
theorem dX13_at_88 : decode cX13_at 88 = .ok (.iload_n 3, 1) := by decide +kernel
theorem dX13_at_89 : decode cX13_at 89 = .ok (.iconst 2, 1) := by decide +kernel
theorem dX13_at_90 : decode cX13_at 90 = .ok (.invokevirtual 161, 3) := by decide +kernel
theorem dX13_at_93 : decode cX13_at 93 = .ok (.ireturn, 1) := by decide +kernel
theorem dX13_poll_0 : decode cX13_poll 0 = .ok (.aload_n 0, 1) := by decide +kernel
theorem dX13_poll_1 : decode cX13_poll 1 = .ok (.iload_n 1, 1) := by decide +kernel
theorem dX13_poll_2 : decode cX13_poll 2 = .ok (.invokevirtual 122, 3) := by decide +kernel
theorem dX13_poll_5 : decode cX13_poll 5 = .ok (.ifCond .ne 9, 3) := by decide +kernel
theorem dX13_poll_8 : decode cX13_poll 8 = .ok (.aload_n 0, 1) := by decide +kernel
theorem dX13_poll_9 : decode cX13_poll 9 = .ok (.iconst 1, 1) := by decide +kernel
theorem dX13_poll_10 : decode cX13_poll 10 = .ok (.invokevirtual 126, 3) := by decide +kernel
theorem dX13_poll_13 : decode cX13_poll 13 = .ok (.ireturn, 1) := by decide +kernel
theorem dX13_poll_14 : decode cX13_poll 14 = .ok (.aload_n 0, 1) := by decide +kernel
theorem dX13_poll_15 : decode cX13_poll 15 = .ok (.iload_n 1, 1) := by decide +kernel
theorem dX13_poll_16 : decode cX13_poll 16 = .ok (.iload_n 2, 1) := by decide +kernel
theorem dX13_poll_17 : decode cX13_poll 17 = .ok (.ifCond .ne 7, 3) := by decide +kernel
theorem dX13_poll_20 : decode cX13_poll 20 = .ok (.iconst 1, 1) := by decide +kernel
theorem dX13_poll_21 : decode cX13_poll 21 = .ok (.goto 4, 3) := by decide +kernel
theorem dX13_poll_24 : decode cX13_poll 24 = .ok (.iconst 0, 1) := by decide +kernel
theorem dX13_poll_25 : decode cX13_poll 25 = .ok (.iconst 1, 1) := by decide +kernel
theorem dX13_poll_26 : decode cX13_poll 26 = .ok (.aload_n 0, 1) := by decide +kernel
theorem dX13_poll_27 : decode cX13_poll 27 = .ok (.getfield 7, 3) := by decide +kernel
theorem dX13_poll_30 : decode cX13_poll 30 = .ok (.iconst 0, 1) := by decide +kernel
theorem dX13_poll_31 : decode cX13_poll 31 = .ok (.iconst (-1), 1) := by decide +kernel
theorem dX13_poll_32 : decode cX13_poll 32 = .ok (.invokevirtual 157, 3) := by decide +kernel
theorem dX13_poll_35 : decode cX13_poll 35 = .ok (.istore_n 3, 1) := by decide +kernel
theorem dX13_poll_36 : decode cX13_poll 36 = .ok (.aload_n 0, 1) := by decide +kernel
theorem dX13_poll_37 : decode cX13_poll 37 = .ok (.iload_n 3, 1) := by decide +kernel
theorem dX13_poll_38 : decode cX13_poll 38 = .ok (.iconst 2, 1) := by decide +kernel
theorem dX13_poll_39 : decode cX13_poll 39 = .ok (.invokevirtual 161, 3) := by decide +kernel
theorem dX13_poll_42 : decode cX13_poll 42 = .ok (.istore 4, 2) := by decide +kernel
theorem dX13_poll_44 : decode cX13_poll 44 = .ok (.aload_n 0, 1) := by decide +kernel
theorem dX13_poll_45 : decode cX13_poll 45 = .ok (.getfield 99, 3) := by decide +kernel
theorem dX13_poll_48 : decode cX13_poll 48 = .ok (.ifCond .ne 13, 3) := by decide +kernel
theorem dX13_poll_51 : decode cX13_poll 51 = .ok (.aload_n 0, 1) := by decide +kernel
theorem dX13_poll_52 : decode cX13_poll 52 = .ok (.aload_n 0, 1) := by decide +kernel
theorem dX13_poll_53 : decode cX13_poll 53 = .ok (.iload_n 1, 1) := by decide +kernel
theorem dX13_poll_54 : decode cX13_poll 54 = .ok (.invokevirtual 114, 3) := by decide +kernel
theorem dX13_poll_57 : decode cX13_poll 57 = .ok (.iload_n 3, 1) := by decide +kernel
theorem dX13_poll_58 : decode cX13_poll 58 = .ok (.invokevirtual 139, 3) := by decide +kernel
theorem dX13_poll_61 : decode cX13_poll 61 = .ok (.iload 4, 2) := by decide +kernel
theorem dX13_poll_63 : decode cX13_poll 63 = .ok (.ireturn, 1) := by decide +kernel
theorem dX13_found_0 : decode cX13_found 0 = .ok (.aload_n 0, 1) := by decide +kernel
theorem dX13_found_1 : decode cX13_found 1 = .ok (.iconst 0, 1) := by decide +kernel
theorem dX13_found_2 : decode cX13_found 2 = .ok (.putfield 99, 3) := by decide +kernel
theorem dX13_found_5 : decode cX13_found 5 = .ok (.iload_n 1, 1) := by decide +kernel
theorem dX13_found_6 : decode cX13_found 6 = .ok (.iconst (-1), 1) := by decide +kernel
theorem dX13_found_7 : decode cX13_found 7 = .ok (.if_icmp .ne 10, 3) := by decide +kernel
theorem dX13_found_10 : decode cX13_found 10 = .ok (.aload_n 0, 1) := by decide +kernel
theorem dX13_found_11 : decode cX13_found 11 = .ok (.getfield 154, 3) := by decide +kernel
theorem dX13_found_14 : decode cX13_found 14 = .ok (.goto 25, 3) := by decide +kernel
theorem dX13_found_17 : decode cX13_found 17 = .ok (.iload_n 1, 1) := by decide +kernel
theorem dX13_found_18 : decode cX13_found 18 = .ok (.ifCond .lt 11, 3) := by decide +kernel
theorem dX13_found_21 : decode cX13_found 21 = .ok (.iload_n 1, 1) := by decide +kernel
theorem dX13_found_22 : decode cX13_found 22 = .ok (.aload_n 0, 1) := by decide +kernel
theorem dX13_found_23 : decode cX13_found 23 = .ok (.getfield 154, 3) := by decide +kernel
theorem dX13_found_26 : decode cX13_found 26 = .ok (.if_icmp .lt 7, 3) := by decide +kernel
theorem dX13_found_29 : decode cX13_found 29 = .ok (.iconst (-1), 1) := by decide +kernel
theorem dX13_found_30 : decode cX13_found 30 = .ok (.goto 9, 3) := by decide +kernel
theorem dX13_found_33 : decode cX13_found 33 = .ok (.aload_n 0, 1) := by decide +kernel
theorem dX13_found_34 : decode cX13_found 34 = .ok (.getfield 63, 3) := by decide +kernel
theorem dX13_found_37 : decode cX13_found 37 = .ok (.iload_n 1, 1) := by decide +kernel
theorem dX13_found_38 : decode cX13_found 38 = .ok (.iaload, 1) := by decide +kernel
theorem dX13_found_39 : decode cX13_found 39 = .ok (.ireturn, 1) := by decide +kernel
theorem dX13_iterate_0 : decode cX13_iterate 0 = .ok (.aload_n 0, 1) := by decide +kernel
theorem dX13_iterate_1 : decode cX13_iterate 1 = .ok (.iconst 0, 1) := by decide +kernel
theorem dX13_iterate_2 : decode cX13_iterate 2 = .ok (.putfield 99, 3) := by decide +kernel
theorem dX13_iterate_5 : decode cX13_iterate 5 = .ok (.aload_n 0, 1) := by decide +kernel
theorem dX13_iterate_6 : decode cX13_iterate 6 = .ok (.iload_n 1, 1) := by decide +kernel
theorem dX13_iterate_7 : decode cX13_iterate 7 = .ok (.invokevirtual 122, 3) := by decide +kernel
theorem dX13_iterate_10 : decode cX13_iterate 10 = .ok (.ifCond .ne 5, 3) := by decide +kernel
theorem dX13_iterate_13 : decode cX13_iterate 13 = .ok (.iconst 0, 1) := by decide +kernel
theorem dX13_iterate_14 : decode cX13_iterate 14 = .ok (.ireturn, 1) := by decide +kernel
theorem dX13_iterate_15 : decode cX13_iterate 15 = .ok (.aload_n 0, 1) := by decide +kernel
theorem dX13_iterate_16 : decode cX13_iterate 16 = .ok (.getfield 44, 3) := by decide +kernel
theorem dX13_iterate_19 : decode cX13_iterate 19 = .ok (.iload_n 1, 1) := by decide +kernel
theorem dX13_iterate_20 : decode cX13_iterate 20 = .ok (.iconst 1, 1) := by decide +kernel
theorem dX13_iterate_21 : decode cX13_iterate 21 = .ok (.bastore, 1) := by decide +kernel
theorem dX13_iterate_22 : decode cX13_iterate 22 = .ok (.aload_n 0, 1) := by decide +kernel
theorem dX13_iterate_23 : decode cX13_iterate 23 = .ok (.getfield 48, 3) := by decide +kernel
theorem dX13_iterate_26 : decode cX13_iterate 26 = .ok (.iload_n 1, 1) := by decide +kernel
theorem dX13_iterate_27 : decode cX13_iterate 27 = .ok (.iconst 0, 1) := by decide +kernel
theorem dX13_iterate_28 : decode cX13_iterate 28 = .ok (.bastore, 1) := by decide +kernel
theorem dX13_iterate_29 : decode cX13_iterate 29 = .ok (.aload_n 0, 1) := by decide +kernel
theorem dX13_iterate_30 : decode cX13_iterate 30 = .ok (.getfield 51, 3) := by decide +kernel
theorem dX13_iterate_33 : decode cX13_iterate 33 = .ok (.iload_n 1, 1) := by decide +kernel
theorem dX13_iterate_34 : decode cX13_iterate 34 = .ok (.iconst 0, 1) := by decide +kernel
theorem dX13_iterate_35 : decode cX13_iterate 35 = .ok (.bastore, 1) := by decide +kernel
theorem dX13_iterate_36 : decode cX13_iterate 36 = .ok (.aload_n 0, 1) := by decide +kernel
theorem dX13_iterate_37 : decode cX13_iterate 37 = .ok (.getfield 54, 3) := by decide +kernel
theorem dX13_iterate_40 : decode cX13_iterate 40 = .ok (.iload_n 1, 1) := by decide +kernel
theorem dX13_iterate_41 : decode cX13_iterate 41 = .ok (.aload_n 0, 1) := by decide +kernel
theorem dX13_iterate_42 : decode cX13_iterate 42 = .ok (.getfield 16, 3) := by decide +kernel
theorem dX13_iterate_45 : decode cX13_iterate 45 = .ok (.aload_n 0, 1) := by decide +kernel
theorem dX13_iterate_46 : decode cX13_iterate 46 = .ok (.iload_n 1, 1) := by decide +kernel
theorem dX13_iterate_47 : decode cX13_iterate 47 = .ok (.invokevirtual 114, 3) := by decide +kernel
theorem dX13_iterate_50 : decode cX13_iterate 50 = .ok (.iaload, 1) := by decide +kernel
theorem dX13_iterate_51 : decode cX13_iterate 51 = .ok (.iastore, 1) := by decide +kernel
theorem dX13_iterate_52 : decode cX13_iterate 52 = .ok (.iconst 1, 1) := by decide +kernel
theorem dX13_iterate_53 : decode cX13_iterate 53 = .ok (.ireturn, 1) := by decide +kernel
theorem dX13_next_0 : decode cX13_next 0 = .ok (.aload_n 0, 1) := by decide +kernel
theorem dX13_next_1 : decode cX13_next 1 = .ok (.iload_n 1, 1) := by decide +kernel
theorem dX13_next_2 : decode cX13_next 2 = .ok (.invokevirtual 122, 3) := by decide +kernel
theorem dX13_next_5 : decode cX13_next 5 = .ok (.ifCond .ne 9, 3) := by decide +kernel
theorem dX13_next_8 : decode cX13_next 8 = .ok (.aload_n 0, 1) := by decide +kernel
theorem dX13_next_9 : decode cX13_next 9 = .ok (.iconst 1, 1) := by decide +kernel
theorem dX13_next_10 : decode cX13_next 10 = .ok (.invokevirtual 126, 3) := by decide +kernel
theorem dX13_next_13 : decode cX13_next 13 = .ok (.ireturn, 1) := by decide +kernel
theorem dX13_next_14 : decode cX13_next 14 = .ok (.aload_n 0, 1) := by decide +kernel
theorem dX13_next_15 : decode cX13_next 15 = .ok (.iload_n 1, 1) := by decide +kernel
theorem dX13_next_16 : decode cX13_next 16 = .ok (.invokevirtual 171, 3) := by decide +kernel
theorem dX13_next_19 : decode cX13_next 19 = .ok (.ifCond .eq 9, 3) := by decide +kernel
theorem dX13_next_22 : decode cX13_next 22 = .ok (.aload_n 0, 1) := by decide +kernel
theorem dX13_next_23 : decode cX13_next 23 = .ok (.iconst 2, 1) := by decide +kernel
theorem dX13_next_24 : decode cX13_next 24 = .ok (.invokevirtual 126, 3) := by decide +kernel
theorem dX13_next_27 : decode cX13_next 27 = .ok (.ireturn, 1) := by decide +kernel
theorem dX13_next_28 : decode cX13_next 28 = .ok (.aload_n 0, 1) := by decide +kernel
theorem dX13_next_29 : decode cX13_next 29 = .ok (.getfield 48, 3) := by decide +kernel
theorem dX13_next_32 : decode cX13_next 32 = .ok (.iload_n 1, 1) := by decide +kernel
theorem dX13_next_33 : decode cX13_next 33 = .ok (.baload, 1) := by decide +kernel
theorem dX13_next_34 : decode cX13_next 34 = .ok (.ifCond .eq 27, 3) := by decide +kernel
theorem dX13_next_37 : decode cX13_next 37 = .ok (.aload_n 0, 1) := by decide +kernel
theorem dX13_next_38 : decode cX13_next 38 = .ok (.iload_n 1, 1) := by decide +kernel
theorem dX13_next_39 : decode cX13_next 39 = .ok (.iconst 1, 1) := by decide +kernel
theorem dX13_next_40 : decode cX13_next 40 = .ok (.iconst 0, 1) := by decide +kernel
theorem dX13_next_41 : decode cX13_next 41 = .ok (.aload_n 0, 1) := by decide +kernel
theorem dX13_next_42 : decode cX13_next 42 = .ok (.getfield 60, 3) := by decide +kernel
theorem dX13_next_45 : decode cX13_next 45 = .ok (.bipush 8, 2) := by decide +kernel
theorem dX13_next_47 : decode cX13_next 47 = .ok (.iload_n 1, 1) := by decide +kernel
theorem dX13_next_48 : decode cX13_next 48 = .ok (.imul, 1) := by decide +kernel
theorem dX13_next_49 : decode cX13_next 49 = .ok (.aload_n 0, 1) := by decide +kernel
theorem dX13_next_50 : decode cX13_next 50 = .ok (.getfield 57, 3) := by decide +kernel
theorem dX13_next_53 : decode cX13_next 53 = .ok (.iload_n 1, 1) := by decide +kernel
theorem dX13_next_54 : decode cX13_next 54 = .ok (.iaload, 1) := by decide +kernel
theorem dX13_next_55 : decode cX13_next 55 = .ok (.invokevirtual 157, 3) := by decide +kernel
theorem dX13_next_58 : decode cX13_next 58 = .ok (.goto 16, 3) := by decide +kernel
theorem dX13_next_61 : decode cX13_next 61 = .ok (.aload_n 0, 1) := by decide +kernel
theorem dX13_next_62 : decode cX13_next 62 = .ok (.iload_n 1, 1) := by decide +kernel
theorem dX13_next_63 : decode cX13_next 63 = .ok (.iconst 1, 1) := by decide +kernel
theorem dX13_next_64 : decode cX13_next 64 = .ok (.iconst 1, 1) := by decide +kernel
theorem dX13_next_65 : decode cX13_next 65 = .ok (.aload_n 0, 1) := by decide +kernel
theorem dX13_next_66 : decode cX13_next 66 = .ok (.getfield 7, 3) := by decide +kernel
theorem dX13_next_69 : decode cX13_next 69 = .ok (.iconst 0, 1) := by decide +kernel
theorem dX13_next_70 : decode cX13_next 70 = .ok (.iconst (-1), 1) := by decide +kernel
theorem dX13_next_71 : decode cX13_next 71 = .ok (.invokevirtual 157, 3) := by decide +kernel
theorem dX13_next_74 : decode cX13_next 74 = .ok (.istore_n 2, 1) := by decide +kernel
theorem dX13_next_75 : decode cX13_next 75 = .ok (.aload_n 0, 1) := by decide +kernel
theorem dX13_next_76 : decode cX13_next 76 = .ok (.iload_n 2, 1) := by decide +kernel
theorem dX13_next_77 : decode cX13_next 77 = .ok (.iconst 3, 1) := by decide +kernel
theorem dX13_next_78 : decode cX13_next 78 = .ok (.invokevirtual 161, 3) := by decide +kernel
theorem dX13_next_81 : decode cX13_next 81 = .ok (.istore_n 3, 1) := by decide +kernel
theorem dX13_next_82 : decode cX13_next 82 = .ok (.aload_n 0, 1) := by decide +kernel
theorem dX13_next_83 : decode cX13_next 83 = .ok (.getfield 99, 3) := by decide +kernel
theorem dX13_next_86 : decode cX13_next 86 = .ok (.ifCond .eq 5, 3) := by decide +kernel
theorem dX13_next_89 : decode cX13_next 89 = .ok (.iconst 0, 1) := by decide +kernel
theorem dX13_next_90 : decode cX13_next 90 = .ok (.ireturn, 1) := by decide +kernel
theorem dX13_next_91 : decode cX13_next 91 = .ok (.aload_n 0, 1) := by decide +kernel
theorem dX13_next_92 : decode cX13_next 92 = .ok (.getfield 48, 3) := by decide +kernel
theorem dX13_next_95 : decode cX13_next 95 = .ok (.iload_n 1, 1) := by decide +kernel
theorem dX13_next_96 : decode cX13_next 96 = .ok (.iconst 1, 1) := by decide +kernel
theorem dX13_next_97 : decode cX13_next 97 = .ok (.bastore, 1) := by decide +kernel
theorem dX13_next_98 : decode cX13_next 98 = .ok (.aload_n 0, 1) := by decide +kernel
theorem dX13_next_99 : decode cX13_next 99 = .ok (.getfield 51, 3) := by decide +kernel
theorem dX13_next_102 : decode cX13_next 102 = .ok (.iload_n 1, 1) := by decide +kernel
theorem dX13_next_103 : decode cX13_next 103 = .ok (.iconst 1, 1) := by decide +kernel
theorem dX13_next_104 : decode cX13_next 104 = .ok (.bastore, 1) := by decide +kernel
theorem dX13_next_105 : decode cX13_next 105 = .ok (.aload_n 0, 1) := by decide +kernel
theorem dX13_next_106 : decode cX13_next 106 = .ok (.getfield 57, 3) := by decide +kernel
theorem dX13_next_109 : decode cX13_next 109 = .ok (.iload_n 1, 1) := by decide +kernel
theorem dX13_next_110 : decode cX13_next 110 = .ok (.aload_n 0, 1) := by decide +kernel
theorem dX13_next_111 : decode cX13_next 111 = .ok (.getfield 22, 3) := by decide +kernel
theorem dX13_next_114 : decode cX13_next 114 = .ok (.iload_n 2, 1) := by decide +kernel
theorem dX13_next_115 : decode cX13_next 115 = .ok (.iaload, 1) := by decide +kernel
theorem dX13_next_116 : decode cX13_next 116 = .ok (.iastore, 1) := by decide +kernel
theorem dX13_next_117 : decode cX13_next 117 = .ok (.iconst 0, 1) := by decide +kernel
theorem dX13_next_118 : decode cX13_next 118 = .ok (.istore 4, 2) := by decide +kernel
theorem dX13_next_120 : decode cX13_next 120 = .ok (.iload 4, 2) := by decide +kernel
theorem dX13_next_122 : decode cX13_next 122 = .ok (.aload_n 0, 1) := by decide +kernel
theorem dX13_next_123 : decode cX13_next 123 = .ok (.getfield 22, 3) := by decide +kernel
theorem dX13_next_126 : decode cX13_next 126 = .ok (.iload_n 2, 1) := by decide +kernel
theorem dX13_next_127 : decode cX13_next 127 = .ok (.iaload, 1) := by decide +kernel
theorem dX13_next_128 : decode cX13_next 128 = .ok (.if_icmp .ge 33, 3) := by decide +kernel
theorem dX13_next_131 : decode cX13_next 131 = .ok (.aload_n 0, 1) := by decide +kernel
theorem dX13_next_132 : decode cX13_next 132 = .ok (.getfield 60, 3) := by decide +kernel
theorem dX13_next_135 : decode cX13_next 135 = .ok (.bipush 8, 2) := by decide +kernel
theorem dX13_next_137 : decode cX13_next 137 = .ok (.iload_n 1, 1) := by decide +kernel
theorem dX13_next_138 : decode cX13_next 138 = .ok (.imul, 1) := by decide +kernel
theorem dX13_next_139 : decode cX13_next 139 = .ok (.iload 4, 2) := by decide +kernel
theorem dX13_next_141 : decode cX13_next 141 = .ok (.iadd, 1) := by decide +kernel
theorem dX13_next_142 : decode cX13_next 142 = .ok (.aload_n 0, 1) := by decide +kernel
theorem dX13_next_143 : decode cX13_next 143 = .ok (.getfield 19, 3) := by decide +kernel
theorem dX13_next_146 : decode cX13_next 146 = .ok (.bipush 8, 2) := by decide +kernel
theorem dX13_next_148 : decode cX13_next 148 = .ok (.iload_n 2, 1) := by decide +kernel
theorem dX13_next_149 : decode cX13_next 149 = .ok (.imul, 1) := by decide +kernel
theorem dX13_next_150 : decode cX13_next 150 = .ok (.iload 4, 2) := by decide +kernel
theorem dX13_next_152 : decode cX13_next 152 = .ok (.iadd, 1) := by decide +kernel
theorem dX13_next_153 : decode cX13_next 153 = .ok (.iaload, 1) := by decide +kernel
theorem dX13_next_154 : decode cX13_next 154 = .ok (.iastore, 1) := by decide +kernel
theorem dX13_next_155 : decode cX13_next 155 = .ok (.iinc 4 1, 3) := by decide +kernel
theorem dX13_next_158 : decode cX13_next 158 = .ok (.goto (-38), 3) := by decide +kernel
theorem dX13_next_161 : decode cX13_next 161 = .ok (.iload_n 3, 1) := by decide +kernel
theorem dX13_next_162 : decode cX13_next 162 = .ok (.ireturn, 1) := by decide +kernel
theorem dX13_stale_0 : decode cX13_stale 0 = .ok (.aload_n 0, 1) := by decide +kernel
theorem dX13_stale_1 : decode cX13_stale 1 = .ok (.getfield 44, 3) := by decide +kernel
theorem dX13_stale_4 : decode cX13_stale 4 = .ok (.iload_n 1, 1) := by decide +kernel
theorem dX13_stale_5 : decode cX13_stale 5 = .ok (.baload, 1) := by decide +kernel
theorem dX13_stale_6 : decode cX13_stale 6 = .ok (.ifCond .eq 22, 3) := by decide +kernel
theorem dX13_stale_9 : decode cX13_stale 9 = .ok (.aload_n 0, 1) := by decide +kernel
theorem dX13_stale_10 : decode cX13_stale 10 = .ok (.getfield 54, 3) := by decide +kernel
theorem dX13_stale_13 : decode cX13_stale 13 = .ok (.iload_n 1, 1) := by decide +kernel
theorem dX13_stale_14 : decode cX13_stale 14 = .ok (.iaload, 1) := by decide +kernel
theorem dX13_stale_15 : decode cX13_stale 15 = .ok (.aload_n 0, 1) := by decide +kernel
theorem dX13_stale_16 : decode cX13_stale 16 = .ok (.getfield 16, 3) := by decide +kernel
theorem dX13_stale_19 : decode cX13_stale 19 = .ok (.aload_n 0, 1) := by decide +kernel
theorem dX13_stale_20 : decode cX13_stale 20 = .ok (.iload_n 1, 1) := by decide +kernel
theorem dX13_stale_21 : decode cX13_stale 21 = .ok (.invokevirtual 114, 3) := by decide +kernel
theorem dX13_stale_24 : decode cX13_stale 24 = .ok (.iaload, 1) := by decide +kernel
theorem dX13_stale_25 : decode cX13_stale 25 = .ok (.if_icmp .eq 7, 3) := by decide +kernel
theorem dX13_stale_28 : decode cX13_stale 28 = .ok (.iconst 1, 1) := by decide +kernel
theorem dX13_stale_29 : decode cX13_stale 29 = .ok (.goto 4, 3) := by decide +kernel
theorem dX13_stale_32 : decode cX13_stale 32 = .ok (.iconst 0, 1) := by decide +kernel
theorem dX13_stale_33 : decode cX13_stale 33 = .ok (.ireturn, 1) := by decide +kernel
theorem dX13_drop_0 : decode cX13_drop 0 = .ok (.aload_n 0, 1) := by decide +kernel
theorem dX13_drop_1 : decode cX13_drop 1 = .ok (.iload_n 1, 1) := by decide +kernel
theorem dX13_drop_2 : decode cX13_drop 2 = .ok (.invokevirtual 122, 3) := by decide +kernel
theorem dX13_drop_5 : decode cX13_drop 5 = .ok (.ifCond .ne 9, 3) := by decide +kernel
theorem dX13_drop_8 : decode cX13_drop 8 = .ok (.aload_n 0, 1) := by decide +kernel
theorem dX13_drop_9 : decode cX13_drop 9 = .ok (.iconst 1, 1) := by decide +kernel
theorem dX13_drop_10 : decode cX13_drop 10 = .ok (.invokevirtual 126, 3) := by decide +kernel
theorem dX13_drop_13 : decode cX13_drop 13 = .ok (.ireturn, 1) := by decide +kernel
theorem dX13_drop_14 : decode cX13_drop 14 = .ok (.aload_n 0, 1) := by decide +kernel
theorem dX13_drop_15 : decode cX13_drop 15 = .ok (.iload_n 1, 1) := by decide +kernel
theorem dX13_drop_16 : decode cX13_drop 16 = .ok (.invokevirtual 171, 3) := by decide +kernel
theorem dX13_drop_19 : decode cX13_drop 19 = .ok (.ifCond .ne 12, 3) := by decide +kernel
theorem dX13_drop_22 : decode cX13_drop 22 = .ok (.aload_n 0, 1) := by decide +kernel
theorem dX13_drop_23 : decode cX13_drop 23 = .ok (.getfield 51, 3) := by decide +kernel
theorem dX13_drop_26 : decode cX13_drop 26 = .ok (.iload_n 1, 1) := by decide +kernel
theorem dX13_drop_27 : decode cX13_drop 27 = .ok (.baload, 1) := by decide +kernel
theorem dX13_drop_28 : decode cX13_drop 28 = .ok (.ifCond .ne 9, 3) := by decide +kernel
theorem dX13_drop_31 : decode cX13_drop 31 = .ok (.aload_n 0, 1) := by decide +kernel
theorem dX13_drop_32 : decode cX13_drop 32 = .ok (.iconst 2, 1) := by decide +kernel
theorem dX13_drop_33 : decode cX13_drop 33 = .ok (.invokevirtual 126, 3) := by decide +kernel
theorem dX13_drop_36 : decode cX13_drop 36 = .ok (.ireturn, 1) := by decide +kernel
theorem dX13_drop_37 : decode cX13_drop 37 = .ok (.aload_n 0, 1) := by decide +kernel
theorem dX13_drop_38 : decode cX13_drop 38 = .ok (.iconst 0, 1) := by decide +kernel
theorem dX13_drop_39 : decode cX13_drop 39 = .ok (.putfield 99, 3) := by decide +kernel
theorem dX13_drop_42 : decode cX13_drop 42 = .ok (.aload_n 0, 1) := by decide +kernel
theorem dX13_drop_43 : decode cX13_drop 43 = .ok (.iload_n 1, 1) := by decide +kernel
theorem dX13_drop_44 : decode cX13_drop 44 = .ok (.invokevirtual 114, 3) := by decide +kernel
theorem dX13_drop_47 : decode cX13_drop 47 = .ok (.istore_n 2, 1) := by decide +kernel
theorem dX13_drop_48 : decode cX13_drop 48 = .ok (.aload_n 0, 1) := by decide +kernel
theorem dX13_drop_49 : decode cX13_drop 49 = .ok (.iload_n 2, 1) := by decide +kernel
theorem dX13_drop_50 : decode cX13_drop 50 = .ok (.aload_n 0, 1) := by decide +kernel
theorem dX13_drop_51 : decode cX13_drop 51 = .ok (.getfield 60, 3) := by decide +kernel
theorem dX13_drop_54 : decode cX13_drop 54 = .ok (.bipush 8, 2) := by decide +kernel
theorem dX13_drop_56 : decode cX13_drop 56 = .ok (.iload_n 1, 1) := by decide +kernel
theorem dX13_drop_57 : decode cX13_drop 57 = .ok (.imul, 1) := by decide +kernel
theorem dX13_drop_58 : decode cX13_drop 58 = .ok (.aload_n 0, 1) := by decide +kernel
theorem dX13_drop_59 : decode cX13_drop 59 = .ok (.getfield 57, 3) := by decide +kernel
theorem dX13_drop_62 : decode cX13_drop 62 = .ok (.iload_n 1, 1) := by decide +kernel
theorem dX13_drop_63 : decode cX13_drop 63 = .ok (.iaload, 1) := by decide +kernel
theorem dX13_drop_64 : decode cX13_drop 64 = .ok (.invokevirtual 133, 3) := by decide +kernel
theorem dX13_drop_67 : decode cX13_drop 67 = .ok (.istore_n 3, 1) := by decide +kernel
theorem dX13_drop_68 : decode cX13_drop 68 = .ok (.aload_n 0, 1) := by decide +kernel
theorem dX13_drop_69 : decode cX13_drop 69 = .ok (.getfield 25, 3) := by decide +kernel
theorem dX13_drop_72 : decode cX13_drop 72 = .ok (.iload_n 3, 1) := by decide +kernel
theorem dX13_drop_73 : decode cX13_drop 73 = .ok (.iaload, 1) := by decide +kernel
theorem dX13_drop_74 : decode cX13_drop 74 = .ok (.istore 4, 2) := by decide +kernel
theorem dX13_drop_76 : decode cX13_drop 76 = .ok (.aload_n 0, 1) := by decide +kernel
theorem dX13_drop_77 : decode cX13_drop 77 = .ok (.iload_n 2, 1) := by decide +kernel
theorem dX13_drop_78 : decode cX13_drop 78 = .ok (.iload_n 3, 1) := by decide +kernel
theorem dX13_drop_79 : decode cX13_drop 79 = .ok (.invokevirtual 139, 3) := by decide +kernel
theorem dX13_drop_82 : decode cX13_drop 82 = .ok (.aload_n 0, 1) := by decide +kernel
theorem dX13_drop_83 : decode cX13_drop 83 = .ok (.getfield 51, 3) := by decide +kernel
theorem dX13_drop_86 : decode cX13_drop 86 = .ok (.iload_n 1, 1) := by decide +kernel
theorem dX13_drop_87 : decode cX13_drop 87 = .ok (.iconst 0, 1) := by decide +kernel
theorem dX13_drop_88 : decode cX13_drop 88 = .ok (.bastore, 1) := by decide +kernel
theorem dX13_drop_89 : decode cX13_drop 89 = .ok (.aload_n 0, 1) := by decide +kernel
theorem dX13_drop_90 : decode cX13_drop 90 = .ok (.getfield 54, 3) := by decide +kernel
theorem dX13_drop_93 : decode cX13_drop 93 = .ok (.iload_n 1, 1) := by decide +kernel
theorem dX13_drop_94 : decode cX13_drop 94 = .ok (.aload_n 0, 1) := by decide +kernel
theorem dX13_drop_95 : decode cX13_drop 95 = .ok (.getfield 16, 3) := by decide +kernel
theorem dX13_drop_98 : decode cX13_drop 98 = .ok (.iload_n 2, 1) := by decide +kernel
theorem dX13_drop_99 : decode cX13_drop 99 = .ok (.iaload, 1) := by decide +kernel
theorem dX13_drop_100 : decode cX13_drop 100 = .ok (.iastore, 1) := by decide +kernel
theorem dX13_drop_101 : decode cX13_drop 101 = .ok (.iload 4, 2) := by decide +kernel
theorem dX13_drop_103 : decode cX13_drop 103 = .ok (.ireturn, 1) := by decide +kernel
theorem dX13_match_0 : decode cX13_match 0 = .ok (.aload_n 0, 1) := by decide +kernel
theorem dX13_match_1 : decode cX13_match 1 = .ok (.iload_n 1, 1) := by decide +kernel
theorem dX13_match_2 : decode cX13_match 2 = .ok (.invokevirtual 122, 3) := by decide +kernel
theorem dX13_match_5 : decode cX13_match 5 = .ok (.ifCond .ne 9, 3) := by decide +kernel
theorem dX13_match_8 : decode cX13_match 8 = .ok (.aload_n 0, 1) := by decide +kernel
theorem dX13_match_9 : decode cX13_match 9 = .ok (.iconst 1, 1) := by decide +kernel
theorem dX13_match_10 : decode cX13_match 10 = .ok (.invokevirtual 126, 3) := by decide +kernel
theorem dX13_match_13 : decode cX13_match 13 = .ok (.ireturn, 1) := by decide +kernel
theorem dX13_match_14 : decode cX13_match 14 = .ok (.aload_n 0, 1) := by decide +kernel
theorem dX13_match_15 : decode cX13_match 15 = .ok (.getfield 102, 3) := by decide +kernel
theorem dX13_match_18 : decode cX13_match 18 = .ok (.istore_n 3, 1) := by decide +kernel
theorem dX13_match_19 : decode cX13_match 19 = .ok (.aload_n 0, 1) := by decide +kernel
theorem dX13_match_20 : decode cX13_match 20 = .ok (.iconst 0, 1) := by decide +kernel
theorem dX13_match_21 : decode cX13_match 21 = .ok (.putfield 102, 3) := by decide +kernel
theorem dX13_match_24 : decode cX13_match 24 = .ok (.iload_n 2, 1) := by decide +kernel
theorem dX13_match_25 : decode cX13_match 25 = .ok (.ifCond .ge 9, 3) := by decide +kernel
theorem dX13_match_28 : decode cX13_match 28 = .ok (.aload_n 0, 1) := by decide +kernel
theorem dX13_match_29 : decode cX13_match 29 = .ok (.iconst 2, 1) := by decide +kernel
theorem dX13_match_30 : decode cX13_match 30 = .ok (.invokevirtual 126, 3) := by decide +kernel
theorem dX13_match_33 : decode cX13_match 33 = .ok (.ireturn, 1) := by decide +kernel
theorem dX13_match_34 : decode cX13_match 34 = .ok (.aload_n 0, 1) := by decide +kernel
theorem dX13_match_35 : decode cX13_match 35 = .ok (.iconst 0, 1) := by decide +kernel
theorem dX13_match_36 : decode cX13_match 36 = .ok (.putfield 99, 3) := by decide +kernel
theorem dX13_match_39 : decode cX13_match 39 = .ok (.iconst 0, 1) := by decide +kernel
theorem dX13_match_40 : decode cX13_match 40 = .ok (.istore 4, 2) := by decide +kernel
theorem dX13_match_42 : decode cX13_match 42 = .ok (.iconst 0, 1) := by decide +kernel
theorem dX13_match_43 : decode cX13_match 43 = .ok (.istore 5, 2) := by decide +kernel
theorem dX13_match_45 : decode cX13_match 45 = .ok (.iload 5, 2) := by decide +kernel
theorem dX13_match_47 : decode cX13_match 47 = .ok (.aload_n 0, 1) := by decide +kernel
theorem dX13_match_48 : decode cX13_match 48 = .ok (.getfield 13, 3) := by decide +kernel
theorem dX13_match_51 : decode cX13_match 51 = .ok (.aload_n 0, 1) := by decide +kernel
theorem dX13_match_52 : decode cX13_match 52 = .ok (.iload_n 1, 1) := by decide +kernel
theorem dX13_match_53 : decode cX13_match 53 = .ok (.invokevirtual 114, 3) := by decide +kernel
theorem dX13_match_56 : decode cX13_match 56 = .ok (.iaload, 1) := by decide +kernel
theorem dX13_match_57 : decode cX13_match 57 = .ok (.if_icmp .ge 125, 3) := by decide +kernel
theorem dX13_match_60 : decode cX13_match 60 = .ok (.bipush 64, 2) := by decide +kernel
theorem dX13_match_62 : decode cX13_match 62 = .ok (.aload_n 0, 1) := by decide +kernel
theorem dX13_match_63 : decode cX13_match 63 = .ok (.iload_n 1, 1) := by decide +kernel
theorem dX13_match_64 : decode cX13_match 64 = .ok (.invokevirtual 114, 3) := by decide +kernel
theorem dX13_match_67 : decode cX13_match 67 = .ok (.imul, 1) := by decide +kernel
theorem dX13_match_68 : decode cX13_match 68 = .ok (.iload 5, 2) := by decide +kernel
theorem dX13_match_70 : decode cX13_match 70 = .ok (.iadd, 1) := by decide +kernel
theorem dX13_match_71 : decode cX13_match 71 = .ok (.istore 6, 2) := by decide +kernel
theorem dX13_match_73 : decode cX13_match 73 = .ok (.aload_n 0, 1) := by decide +kernel
theorem dX13_match_74 : decode cX13_match 74 = .ok (.iload_n 1, 1) := by decide +kernel
theorem dX13_match_75 : decode cX13_match 75 = .ok (.iload 5, 2) := by decide +kernel
theorem dX13_match_77 : decode cX13_match 77 = .ok (.invokevirtual 143, 3) := by decide +kernel
theorem dX13_match_80 : decode cX13_match 80 = .ok (.ifCond .eq 96, 3) := by decide +kernel
theorem dX13_match_83 : decode cX13_match 83 = .ok (.aload_n 0, 1) := by decide +kernel
theorem dX13_match_84 : decode cX13_match 84 = .ok (.getfield 22, 3) := by decide +kernel
theorem dX13_match_87 : decode cX13_match 87 = .ok (.iload 6, 2) := by decide +kernel
theorem dX13_match_89 : decode cX13_match 89 = .ok (.iaload, 1) := by decide +kernel
theorem dX13_match_90 : decode cX13_match 90 = .ok (.iload_n 3, 1) := by decide +kernel
theorem dX13_match_91 : decode cX13_match 91 = .ok (.if_icmp .eq 6, 3) := by decide +kernel
theorem dX13_match_94 : decode cX13_match 94 = .ok (.goto 82, 3) := by decide +kernel
theorem dX13_match_97 : decode cX13_match 97 = .ok (.iconst 0, 1) := by decide +kernel
theorem dX13_match_98 : decode cX13_match 98 = .ok (.istore 7, 2) := by decide +kernel
theorem dX13_match_100 : decode cX13_match 100 = .ok (.iconst 0, 1) := by decide +kernel
theorem dX13_match_101 : decode cX13_match 101 = .ok (.istore 8, 2) := by decide +kernel
theorem dX13_match_103 : decode cX13_match 103 = .ok (.iload 8, 2) := by decide +kernel
theorem dX13_match_105 : decode cX13_match 105 = .ok (.iload_n 3, 1) := by decide +kernel
theorem dX13_match_106 : decode cX13_match 106 = .ok (.if_icmp .ge 54, 3) := by decide +kernel
theorem dX13_match_109 : decode cX13_match 109 = .ok (.iload 7, 2) := by decide +kernel
theorem dX13_match_111 : decode cX13_match 111 = .ok (.aload_n 0, 1) := by decide +kernel
theorem dX13_match_112 : decode cX13_match 112 = .ok (.getfield 7, 3) := by decide +kernel
theorem dX13_match_115 : decode cX13_match 115 = .ok (.iload 8, 2) := by decide +kernel
theorem dX13_match_117 : decode cX13_match 117 = .ok (.iaload, 1) := by decide +kernel
theorem dX13_match_118 : decode cX13_match 118 = .ok (.bipush 63, 2) := by decide +kernel
theorem dX13_match_120 : decode cX13_match 120 = .ok (.if_icmp .eq 26, 3) := by decide +kernel
theorem dX13_match_123 : decode cX13_match 123 = .ok (.aload_n 0, 1) := by decide +kernel
theorem dX13_match_124 : decode cX13_match 124 = .ok (.getfield 7, 3) := by decide +kernel
theorem dX13_match_127 : decode cX13_match 127 = .ok (.iload 8, 2) := by decide +kernel
theorem dX13_match_129 : decode cX13_match 129 = .ok (.iaload, 1) := by decide +kernel
theorem dX13_match_130 : decode cX13_match 130 = .ok (.aload_n 0, 1) := by decide +kernel
theorem dX13_match_131 : decode cX13_match 131 = .ok (.getfield 19, 3) := by decide +kernel
theorem dX13_match_134 : decode cX13_match 134 = .ok (.bipush 8, 2) := by decide +kernel
theorem dX13_match_136 : decode cX13_match 136 = .ok (.iload 6, 2) := by decide +kernel
theorem dX13_match_138 : decode cX13_match 138 = .ok (.imul, 1) := by decide +kernel
theorem dX13_match_139 : decode cX13_match 139 = .ok (.iload 8, 2) := by decide +kernel
theorem dX13_match_141 : decode cX13_match 141 = .ok (.iadd, 1) := by decide +kernel
theorem dX13_match_142 : decode cX13_match 142 = .ok (.iaload, 1) := by decide +kernel
theorem dX13_match_143 : decode cX13_match 143 = .ok (.if_icmp .ne 7, 3) := by decide +kernel
theorem dX13_match_146 : decode cX13_match 146 = .ok (.iconst 0, 1) := by decide +kernel
theorem dX13_match_147 : decode cX13_match 147 = .ok (.goto 4, 3) := by decide +kernel
theorem dX13_match_150 : decode cX13_match 150 = .ok (.iconst 1, 1) := by decide +kernel
theorem dX13_match_151 : decode cX13_match 151 = .ok (.iadd, 1) := by decide +kernel
theorem dX13_match_152 : decode cX13_match 152 = .ok (.istore 7, 2) := by decide +kernel
theorem dX13_match_154 : decode cX13_match 154 = .ok (.iinc 8 1, 3) := by decide +kernel
theorem dX13_match_157 : decode cX13_match 157 = .ok (.goto (-54), 3) := by decide +kernel
theorem dX13_match_160 : decode cX13_match 160 = .ok (.iload 4, 2) := by decide +kernel
theorem dX13_match_162 : decode cX13_match 162 = .ok (.iload 7, 2) := by decide +kernel
theorem dX13_match_164 : decode cX13_match 164 = .ok (.iload_n 2, 1) := by decide +kernel
theorem dX13_match_165 : decode cX13_match 165 = .ok (.if_icmp .gt 7, 3) := by decide +kernel
theorem dX13_match_168 : decode cX13_match 168 = .ok (.iconst 1, 1) := by decide +kernel
theorem dX13_match_169 : decode cX13_match 169 = .ok (.goto 4, 3) := by decide +kernel
theorem dX13_match_172 : decode cX13_match 172 = .ok (.iconst 0, 1) := by decide +kernel
theorem dX13_match_173 : decode cX13_match 173 = .ok (.iadd, 1) := by decide +kernel
theorem dX13_match_174 : decode cX13_match 174 = .ok (.istore 4, 2) := by decide +kernel
theorem dX13_match_176 : decode cX13_match 176 = .ok (.iinc 5 1, 3) := by decide +kernel
theorem dX13_match_179 : decode cX13_match 179 = .ok (.goto (-134), 3) := by decide +kernel
theorem dX13_match_182 : decode cX13_match 182 = .ok (.iload 4, 2) := by decide +kernel
theorem dX13_match_184 : decode cX13_match 184 = .ok (.ireturn, 1) := by decide +kernel
theorem dX13_edges_0 : decode cX13_edges 0 = .ok (.iload_n 1, 1) := by decide +kernel
theorem dX13_edges_1 : decode cX13_edges 1 = .ok (.ifCond .lt 8, 3) := by decide +kernel
theorem dX13_edges_4 : decode cX13_edges 4 = .ok (.iload_n 1, 1) := by decide +kernel
theorem dX13_edges_5 : decode cX13_edges 5 = .ok (.iconst 5, 1) := by decide +kernel
theorem dX13_edges_6 : decode cX13_edges 6 = .ok (.if_icmp .le 9, 3) := by decide +kernel
theorem dX13_edges_9 : decode cX13_edges 9 = .ok (.aload_n 0, 1) := by decide +kernel
theorem dX13_edges_10 : decode cX13_edges 10 = .ok (.iconst 1, 1) := by decide +kernel
theorem dX13_edges_11 : decode cX13_edges 11 = .ok (.invokevirtual 126, 3) := by decide +kernel
theorem dX13_edges_14 : decode cX13_edges 14 = .ok (.ireturn, 1) := by decide +kernel
theorem dX13_edges_15 : decode cX13_edges 15 = .ok (.aload_n 0, 1) := by decide +kernel
theorem dX13_edges_16 : decode cX13_edges 16 = .ok (.iconst 0, 1) := by decide +kernel
theorem dX13_edges_17 : decode cX13_edges 17 = .ok (.putfield 99, 3) := by decide +kernel
theorem dX13_edges_20 : decode cX13_edges 20 = .ok (.iload_n 1, 1) := by decide +kernel
theorem dX13_edges_21 : decode cX13_edges 21 = .ok (.iconst 5, 1) := by decide +kernel
theorem dX13_edges_22 : decode cX13_edges 22 = .ok (.if_icmp .ge 9, 3) := by decide +kernel
theorem dX13_edges_25 : decode cX13_edges 25 = .ok (.aload_n 0, 1) := by decide +kernel
theorem dX13_edges_26 : decode cX13_edges 26 = .ok (.iload_n 1, 1) := by decide +kernel
theorem dX13_edges_27 : decode cX13_edges 27 = .ok (.invokevirtual 187, 3) := by decide +kernel
theorem dX13_edges_30 : decode cX13_edges 30 = .ok (.ireturn, 1) := by decide +kernel
theorem dX13_edges_31 : decode cX13_edges 31 = .ok (.aload_n 0, 1) := by decide +kernel
theorem dX13_edges_32 : decode cX13_edges 32 = .ok (.getfield 102, 3) := by decide +kernel
theorem dX13_edges_35 : decode cX13_edges 35 = .ok (.istore_n 2, 1) := by decide +kernel
theorem dX13_edges_36 : decode cX13_edges 36 = .ok (.aload_n 0, 1) := by decide +kernel
theorem dX13_edges_37 : decode cX13_edges 37 = .ok (.iconst 0, 1) := by decide +kernel
theorem dX13_edges_38 : decode cX13_edges 38 = .ok (.putfield 102, 3) := by decide +kernel
theorem dX13_edges_41 : decode cX13_edges 41 = .ok (.aload_n 0, 1) := by decide +kernel
theorem dX13_edges_42 : decode cX13_edges 42 = .ok (.iconst 0, 1) := by decide +kernel
theorem dX13_edges_43 : decode cX13_edges 43 = .ok (.aload_n 0, 1) := by decide +kernel
theorem dX13_edges_44 : decode cX13_edges 44 = .ok (.getfield 7, 3) := by decide +kernel
theorem dX13_edges_47 : decode cX13_edges 47 = .ok (.iconst 0, 1) := by decide +kernel
theorem dX13_edges_48 : decode cX13_edges 48 = .ok (.iload_n 2, 1) := by decide +kernel
theorem dX13_edges_49 : decode cX13_edges 49 = .ok (.invokevirtual 133, 3) := by decide +kernel
theorem dX13_edges_52 : decode cX13_edges 52 = .ok (.istore_n 3, 1) := by decide +kernel
theorem dX13_edges_53 : decode cX13_edges 53 = .ok (.iload_n 3, 1) := by decide +kernel
theorem dX13_edges_54 : decode cX13_edges 54 = .ok (.iconst (-1), 1) := by decide +kernel
theorem dX13_edges_55 : decode cX13_edges 55 = .ok (.if_icmp .ne 7, 3) := by decide +kernel
theorem dX13_edges_58 : decode cX13_edges 58 = .ok (.iconst (-1), 1) := by decide +kernel
theorem dX13_edges_59 : decode cX13_edges 59 = .ok (.goto 8, 3) := by decide +kernel
theorem dX13_edges_62 : decode cX13_edges 62 = .ok (.aload_n 0, 1) := by decide +kernel
theorem dX13_edges_63 : decode cX13_edges 63 = .ok (.iload_n 3, 1) := by decide +kernel
theorem dX13_edges_64 : decode cX13_edges 64 = .ok (.invokevirtual 190, 3) := by decide +kernel
theorem dX13_edges_67 : decode cX13_edges 67 = .ok (.ireturn, 1) := by decide +kernel
theorem dX13_inner_0 : decode cX13_inner 0 = .ok (.iconst 0, 1) := by decide +kernel
theorem dX13_inner_1 : decode cX13_inner 1 = .ok (.istore_n 2, 1) := by decide +kernel
theorem dX13_inner_2 : decode cX13_inner 2 = .ok (.bipush 64, 2) := by decide +kernel
theorem dX13_inner_4 : decode cX13_inner 4 = .ok (.istore_n 3, 1) := by decide +kernel
theorem dX13_inner_5 : decode cX13_inner 5 = .ok (.iload_n 3, 1) := by decide +kernel
theorem dX13_inner_6 : decode cX13_inner 6 = .ok (.bipush 64, 2) := by decide +kernel
theorem dX13_inner_8 : decode cX13_inner 8 = .ok (.aload_n 0, 1) := by decide +kernel
theorem dX13_inner_9 : decode cX13_inner 9 = .ok (.getfield 13, 3) := by decide +kernel
theorem dX13_inner_12 : decode cX13_inner 12 = .ok (.iconst 1, 1) := by decide +kernel
theorem dX13_inner_13 : decode cX13_inner 13 = .ok (.iaload, 1) := by decide +kernel
theorem dX13_inner_14 : decode cX13_inner 14 = .ok (.iadd, 1) := by decide +kernel
theorem dX13_inner_15 : decode cX13_inner 15 = .ok (.if_icmp .ge 161, 3) := by decide +kernel
theorem dX13_inner_18 : decode cX13_inner 18 = .ok (.iconst 0, 1) := by decide +kernel
theorem dX13_inner_19 : decode cX13_inner 19 = .ok (.istore 4, 2) := by decide +kernel
theorem dX13_inner_21 : decode cX13_inner 21 = .ok (.iload 4, 2) := by decide +kernel
theorem dX13_inner_23 : decode cX13_inner 23 = .ok (.iconst 2, 1) := by decide +kernel
theorem dX13_inner_24 : decode cX13_inner 24 = .ok (.aload_n 0, 1) := by decide +kernel
theorem dX13_inner_25 : decode cX13_inner 25 = .ok (.getfield 22, 3) := by decide +kernel
theorem dX13_inner_28 : decode cX13_inner 28 = .ok (.iload_n 3, 1) := by decide +kernel
theorem dX13_inner_29 : decode cX13_inner 29 = .ok (.iaload, 1) := by decide +kernel
theorem dX13_inner_30 : decode cX13_inner 30 = .ok (.imul, 1) := by decide +kernel
theorem dX13_inner_31 : decode cX13_inner 31 = .ok (.if_icmp .gt 139, 3) := by decide +kernel
theorem dX13_inner_34 : decode cX13_inner 34 = .ok (.aload_n 0, 1) := by decide +kernel
theorem dX13_inner_35 : decode cX13_inner 35 = .ok (.iload_n 3, 1) := by decide +kernel
theorem dX13_inner_36 : decode cX13_inner 36 = .ok (.iload 4, 2) := by decide +kernel
theorem dX13_inner_38 : decode cX13_inner 38 = .ok (.invokevirtual 181, 3) := by decide +kernel
theorem dX13_inner_41 : decode cX13_inner 41 = .ok (.istore 5, 2) := by decide +kernel
theorem dX13_inner_43 : decode cX13_inner 43 = .ok (.iload_n 1, 1) := by decide +kernel
theorem dX13_inner_44 : decode cX13_inner 44 = .ok (.ifCond .ne 16, 3) := by decide +kernel
theorem dX13_inner_47 : decode cX13_inner 47 = .ok (.iload 5, 2) := by decide +kernel
theorem dX13_inner_49 : decode cX13_inner 49 = .ok (.ifCond .le 7, 3) := by decide +kernel
theorem dX13_inner_52 : decode cX13_inner 52 = .ok (.iconst 1, 1) := by decide +kernel
theorem dX13_inner_53 : decode cX13_inner 53 = .ok (.goto 96, 3) := by decide +kernel
theorem dX13_inner_56 : decode cX13_inner 56 = .ok (.iconst 0, 1) := by decide +kernel
theorem dX13_inner_57 : decode cX13_inner 57 = .ok (.goto 92, 3) := by decide +kernel
theorem dX13_inner_60 : decode cX13_inner 60 = .ok (.iload_n 1, 1) := by decide +kernel
theorem dX13_inner_61 : decode cX13_inner 61 = .ok (.iconst 1, 1) := by decide +kernel
theorem dX13_inner_62 : decode cX13_inner 62 = .ok (.if_icmp .ne 22, 3) := by decide +kernel
theorem dX13_inner_65 : decode cX13_inner 65 = .ok (.iload 5, 2) := by decide +kernel
theorem dX13_inner_67 : decode cX13_inner 67 = .ok (.ifCond .le 13, 3) := by decide +kernel
theorem dX13_inner_70 : decode cX13_inner 70 = .ok (.iload 5, 2) := by decide +kernel
theorem dX13_inner_72 : decode cX13_inner 72 = .ok (.iconst 4, 1) := by decide +kernel
