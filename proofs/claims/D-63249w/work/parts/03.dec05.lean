set_option maxRecDepth 100000
theorem dX16_from_2 : decode cX16_from 2 = .ok (.iload_n 2, 1) := by decide +kernel
theorem dX16_from_3 : decode cX16_from 3 = .ok (.sipush 256, 3) := by decide +kernel
theorem dX16_from_6 : decode cX16_from 6 = .ok (.if_icmp .ge 17, 3) := by decide +kernel
theorem dX16_from_9 : decode cX16_from 9 = .ok (.aload_n 0, 1) := by decide +kernel
theorem dX16_from_10 : decode cX16_from 10 = .ok (.iload_n 2, 1) := by decide +kernel
theorem dX16_from_11 : decode cX16_from 11 = .ok (.invokevirtual 32, 3) := by decide +kernel
theorem dX16_from_14 : decode cX16_from 14 = .ok (.ifnonnull 9, 3) := by decide +kernel
theorem dX16_from_17 : decode cX16_from 17 = .ok (.iinc 2 1, 3) := by decide +kernel
theorem dX16_from_20 : decode cX16_from 20 = .ok (.goto (-18), 3) := by decide +kernel
theorem dX16_from_23 : decode cX16_from 23 = .ok (.iload_n 2, 1) := by decide +kernel
theorem dX16_from_24 : decode cX16_from 24 = .ok (.sipush 256, 3) := by decide +kernel
theorem dX16_from_27 : decode cX16_from 27 = .ok (.if_icmp .ge 7, 3) := by decide +kernel
theorem dX16_from_30 : decode cX16_from 30 = .ok (.iload_n 2, 1) := by decide +kernel
theorem dX16_from_31 : decode cX16_from 31 = .ok (.goto 4, 3) := by decide +kernel
theorem dX16_from_34 : decode cX16_from 34 = .ok (.iconst (-1), 1) := by decide +kernel
theorem dX16_from_35 : decode cX16_from 35 = .ok (.ireturn, 1) := by decide +kernel
theorem dX16_get_0 : decode cX16_get 0 = .ok (.aload_n 0, 1) := by decide +kernel
theorem dX16_get_1 : decode cX16_get 1 = .ok (.invokevirtual 21, 3) := by decide +kernel
theorem dX16_get_4 : decode cX16_get 4 = .ok (.ifCond .eq 12, 3) := by decide +kernel
theorem dX16_get_7 : decode cX16_get 7 = .ok (.aload_n 0, 1) := by decide +kernel
theorem dX16_get_8 : decode cX16_get 8 = .ok (.getfield 17, 3) := by decide +kernel
theorem dX16_get_11 : decode cX16_get 11 = .ok (.iload_n 1, 1) := by decide +kernel
theorem dX16_get_12 : decode cX16_get 12 = .ok (.aaload, 1) := by decide +kernel
theorem dX16_get_13 : decode cX16_get 13 = .ok (.goto 29, 3) := by decide +kernel
theorem dX16_get_16 : decode cX16_get 16 = .ok (.aload_n 0, 1) := by decide +kernel
theorem dX16_get_17 : decode cX16_get 17 = .ok (.getfield 11, 3) := by decide +kernel
theorem dX16_get_20 : decode cX16_get 20 = .ok (.iload_n 1, 1) := by decide +kernel
theorem dX16_get_21 : decode cX16_get 21 = .ok (.baload, 1) := by decide +kernel
theorem dX16_get_22 : decode cX16_get 22 = .ok (.ifCond .ne 7, 3) := by decide +kernel
theorem dX16_get_25 : decode cX16_get 25 = .ok (.aconst_null, 1) := by decide +kernel
theorem dX16_get_26 : decode cX16_get 26 = .ok (.goto 16, 3) := by decide +kernel
theorem dX16_get_29 : decode cX16_get 29 = .ok (.aload_n 0, 1) := by decide +kernel
theorem dX16_get_30 : decode cX16_get 30 = .ok (.getfield 17, 3) := by decide +kernel
theorem dX16_get_33 : decode cX16_get 33 = .ok (.aload_n 0, 1) := by decide +kernel
theorem dX16_get_34 : decode cX16_get 34 = .ok (.getfield 11, 3) := by decide +kernel
theorem dX16_get_37 : decode cX16_get 37 = .ok (.iload_n 1, 1) := by decide +kernel
theorem dX16_get_38 : decode cX16_get 38 = .ok (.baload, 1) := by decide +kernel
theorem dX16_get_39 : decode cX16_get 39 = .ok (.iconst 1, 1) := by decide +kernel
theorem dX16_get_40 : decode cX16_get 40 = .ok (.isub, 1) := by decide +kernel
theorem dX16_get_41 : decode cX16_get 41 = .ok (.aaload, 1) := by decide +kernel
theorem dX16_get_42 : decode cX16_get 42 = .ok (.areturn, 1) := by decide +kernel
theorem dX16_isWide_0 : decode cX16_isWide 0 = .ok (.aload_n 0, 1) := by decide +kernel
theorem dX16_isWide_1 : decode cX16_isWide 1 = .ok (.getfield 17, 3) := by decide +kernel
theorem dX16_isWide_4 : decode cX16_isWide 4 = .ok (.arraylength, 1) := by decide +kernel
theorem dX16_isWide_5 : decode cX16_isWide 5 = .ok (.sipush 256, 3) := by decide +kernel
theorem dX16_isWide_8 : decode cX16_isWide 8 = .ok (.if_icmp .ne 7, 3) := by decide +kernel
theorem dX16_isWide_11 : decode cX16_isWide 11 = .ok (.iconst 1, 1) := by decide +kernel
theorem dX16_isWide_12 : decode cX16_isWide 12 = .ok (.goto 4, 3) := by decide +kernel
theorem dX16_isWide_15 : decode cX16_isWide 15 = .ok (.iconst 0, 1) := by decide +kernel
theorem dX16_isWide_16 : decode cX16_isWide 16 = .ok (.ireturn, 1) := by decide +kernel
theorem dX16_init_0 : decode cX16_init 0 = .ok (.aload_n 0, 1) := by decide +kernel
theorem dX16_init_1 : decode cX16_init 1 = .ok (.invokespecial 3, 3) := by decide +kernel
theorem dX16_init_4 : decode cX16_init 4 = .ok (.aload_n 0, 1) := by decide +kernel
theorem dX16_init_5 : decode cX16_init 5 = .ok (.sipush 256, 3) := by decide +kernel
theorem dX16_init_8 : decode cX16_init 8 = .ok (.newarray .byte, 2) := by decide +kernel
theorem dX16_init_10 : decode cX16_init 10 = .ok (.putfield 11, 3) := by decide +kernel
theorem dX16_init_13 : decode cX16_init 13 = .ok (.aload_n 0, 1) := by decide +kernel
theorem dX16_init_14 : decode cX16_init 14 = .ok (.bipush 48, 2) := by decide +kernel
theorem dX16_init_16 : decode cX16_init 16 = .ok (.anewarray 15, 3) := by decide +kernel
theorem dX16_init_19 : decode cX16_init 19 = .ok (.putfield 17, 3) := by decide +kernel
theorem dX16_init_22 : decode cX16_init 22 = .ok (.return_, 1) := by decide +kernel
theorem dX16_put_0 : decode cX16_put 0 = .ok (.aload_n 0, 1) := by decide +kernel
theorem dX16_put_1 : decode cX16_put 1 = .ok (.getfield 25, 3) := by decide +kernel
theorem dX16_put_4 : decode cX16_put 4 = .ok (.bipush 48, 2) := by decide +kernel
theorem dX16_put_6 : decode cX16_put 6 = .ok (.if_icmp .ne 14, 3) := by decide +kernel
theorem dX16_put_9 : decode cX16_put 9 = .ok (.aload_n 0, 1) := by decide +kernel
theorem dX16_put_10 : decode cX16_put 10 = .ok (.invokevirtual 21, 3) := by decide +kernel
theorem dX16_put_13 : decode cX16_put 13 = .ok (.ifCond .ne 7, 3) := by decide +kernel
theorem dX16_put_16 : decode cX16_put 16 = .ok (.aload_n 0, 1) := by decide +kernel
theorem dX16_put_17 : decode cX16_put 17 = .ok (.invokevirtual 29, 3) := by decide +kernel
theorem dX16_put_20 : decode cX16_put 20 = .ok (.aload_n 0, 1) := by decide +kernel
theorem dX16_put_21 : decode cX16_put 21 = .ok (.dup, 1) := by decide +kernel
theorem dX16_put_22 : decode cX16_put 22 = .ok (.getfield 25, 3) := by decide +kernel
theorem dX16_put_25 : decode cX16_put 25 = .ok (.iconst 1, 1) := by decide +kernel
theorem dX16_put_26 : decode cX16_put 26 = .ok (.iadd, 1) := by decide +kernel
theorem dX16_put_27 : decode cX16_put 27 = .ok (.putfield 25, 3) := by decide +kernel
theorem dX16_put_30 : decode cX16_put 30 = .ok (.aload_n 0, 1) := by decide +kernel
theorem dX16_put_31 : decode cX16_put 31 = .ok (.invokevirtual 21, 3) := by decide +kernel
theorem dX16_put_34 : decode cX16_put 34 = .ok (.ifCond .eq 12, 3) := by decide +kernel
theorem dX16_put_37 : decode cX16_put 37 = .ok (.aload_n 0, 1) := by decide +kernel
theorem dX16_put_38 : decode cX16_put 38 = .ok (.getfield 17, 3) := by decide +kernel
theorem dX16_put_41 : decode cX16_put 41 = .ok (.iload_n 1, 1) := by decide +kernel
theorem dX16_put_42 : decode cX16_put 42 = .ok (.aload_n 2, 1) := by decide +kernel
theorem dX16_put_43 : decode cX16_put 43 = .ok (.aastore, 1) := by decide +kernel
theorem dX16_put_44 : decode cX16_put 44 = .ok (.aload_n 0, 1) := by decide +kernel
theorem dX16_put_45 : decode cX16_put 45 = .ok (.areturn, 1) := by decide +kernel
theorem dX16_put_46 : decode cX16_put 46 = .ok (.iconst 0, 1) := by decide +kernel
theorem dX16_put_47 : decode cX16_put 47 = .ok (.istore_n 3, 1) := by decide +kernel
theorem dX16_put_48 : decode cX16_put 48 = .ok (.aload_n 0, 1) := by decide +kernel
theorem dX16_put_49 : decode cX16_put 49 = .ok (.getfield 17, 3) := by decide +kernel
theorem dX16_put_52 : decode cX16_put 52 = .ok (.iload_n 3, 1) := by decide +kernel
theorem dX16_put_53 : decode cX16_put 53 = .ok (.aaload, 1) := by decide +kernel
theorem dX16_put_54 : decode cX16_put 54 = .ok (.ifnull 9, 3) := by decide +kernel
theorem dX16_put_57 : decode cX16_put 57 = .ok (.iinc 3 1, 3) := by decide +kernel
theorem dX16_put_60 : decode cX16_put 60 = .ok (.goto (-12), 3) := by decide +kernel
theorem dX16_put_63 : decode cX16_put 63 = .ok (.aload_n 0, 1) := by decide +kernel
theorem dX16_put_64 : decode cX16_put 64 = .ok (.getfield 17, 3) := by decide +kernel
theorem dX16_put_67 : decode cX16_put 67 = .ok (.iload_n 3, 1) := by decide +kernel
theorem dX16_put_68 : decode cX16_put 68 = .ok (.aload_n 2, 1) := by decide +kernel
theorem dX16_put_69 : decode cX16_put 69 = .ok (.aastore, 1) := by decide +kernel
theorem dX16_put_70 : decode cX16_put 70 = .ok (.aload_n 0, 1) := by decide +kernel
theorem dX16_put_71 : decode cX16_put 71 = .ok (.getfield 11, 3) := by decide +kernel
theorem dX16_put_74 : decode cX16_put 74 = .ok (.iload_n 1, 1) := by decide +kernel
theorem dX16_put_75 : decode cX16_put 75 = .ok (.iload_n 3, 1) := by decide +kernel
theorem dX16_put_76 : decode cX16_put 76 = .ok (.iconst 1, 1) := by decide +kernel
theorem dX16_put_77 : decode cX16_put 77 = .ok (.iadd, 1) := by decide +kernel
theorem dX16_put_78 : decode cX16_put 78 = .ok (.i2b, 1) := by decide +kernel
theorem dX16_put_79 : decode cX16_put 79 = .ok (.bastore, 1) := by decide +kernel
theorem dX16_put_80 : decode cX16_put 80 = .ok (.aload_n 0, 1) := by decide +kernel
theorem dX16_put_81 : decode cX16_put 81 = .ok (.areturn, 1) := by decide +kernel
theorem dX16_widen_0 : decode cX16_widen 0 = .ok (.sipush 256, 3) := by decide +kernel
theorem dX16_widen_3 : decode cX16_widen 3 = .ok (.anewarray 15, 3) := by decide +kernel
theorem dX16_widen_6 : decode cX16_widen 6 = .ok (.astore_n 1, 1) := by decide +kernel
theorem dX16_widen_7 : decode cX16_widen 7 = .ok (.iconst 0, 1) := by decide +kernel
theorem dX16_widen_8 : decode cX16_widen 8 = .ok (.istore_n 2, 1) := by decide +kernel
theorem dX16_widen_9 : decode cX16_widen 9 = .ok (.iload_n 2, 1) := by decide +kernel
theorem dX16_widen_10 : decode cX16_widen 10 = .ok (.sipush 256, 3) := by decide +kernel
theorem dX16_widen_13 : decode cX16_widen 13 = .ok (.if_icmp .ge 17, 3) := by decide +kernel
theorem dX16_widen_16 : decode cX16_widen 16 = .ok (.aload_n 1, 1) := by decide +kernel
theorem dX16_widen_17 : decode cX16_widen 17 = .ok (.iload_n 2, 1) := by decide +kernel
theorem dX16_widen_18 : decode cX16_widen 18 = .ok (.aload_n 0, 1) := by decide +kernel
theorem dX16_widen_19 : decode cX16_widen 19 = .ok (.iload_n 2, 1) := by decide +kernel
theorem dX16_widen_20 : decode cX16_widen 20 = .ok (.invokevirtual 32, 3) := by decide +kernel
theorem dX16_widen_23 : decode cX16_widen 23 = .ok (.aastore, 1) := by decide +kernel
theorem dX16_widen_24 : decode cX16_widen 24 = .ok (.iinc 2 1, 3) := by decide +kernel
theorem dX16_widen_27 : decode cX16_widen 27 = .ok (.goto (-18), 3) := by decide +kernel
theorem dX16_widen_30 : decode cX16_widen 30 = .ok (.aload_n 0, 1) := by decide +kernel
theorem dX16_widen_31 : decode cX16_widen 31 = .ok (.aload_n 1, 1) := by decide +kernel
theorem dX16_widen_32 : decode cX16_widen 32 = .ok (.putfield 17, 3) := by decide +kernel
theorem dX16_widen_35 : decode cX16_widen 35 = .ok (.return_, 1) := by decide +kernel
theorem dX16_take_0 : decode cX16_take 0 = .ok (.aload_n 0, 1) := by decide +kernel
theorem dX16_take_1 : decode cX16_take 1 = .ok (.invokevirtual 21, 3) := by decide +kernel
theorem dX16_take_4 : decode cX16_take 4 = .ok (.ifCond .eq 13, 3) := by decide +kernel
theorem dX16_take_7 : decode cX16_take 7 = .ok (.aload_n 0, 1) := by decide +kernel
theorem dX16_take_8 : decode cX16_take 8 = .ok (.getfield 17, 3) := by decide +kernel
theorem dX16_take_11 : decode cX16_take 11 = .ok (.iload_n 1, 1) := by decide +kernel
theorem dX16_take_12 : decode cX16_take 12 = .ok (.aconst_null, 1) := by decide +kernel
theorem dX16_take_13 : decode cX16_take 13 = .ok (.aastore, 1) := by decide +kernel
theorem dX16_take_14 : decode cX16_take 14 = .ok (.goto 24, 3) := by decide +kernel
theorem dX16_take_17 : decode cX16_take 17 = .ok (.aload_n 0, 1) := by decide +kernel
theorem dX16_take_18 : decode cX16_take 18 = .ok (.getfield 17, 3) := by decide +kernel
theorem dX16_take_21 : decode cX16_take 21 = .ok (.aload_n 0, 1) := by decide +kernel
theorem dX16_take_22 : decode cX16_take 22 = .ok (.getfield 11, 3) := by decide +kernel
theorem dX16_take_25 : decode cX16_take 25 = .ok (.iload_n 1, 1) := by decide +kernel
theorem dX16_take_26 : decode cX16_take 26 = .ok (.baload, 1) := by decide +kernel
theorem dX16_take_27 : decode cX16_take 27 = .ok (.iconst 1, 1) := by decide +kernel
theorem dX16_take_28 : decode cX16_take 28 = .ok (.isub, 1) := by decide +kernel
theorem dX16_take_29 : decode cX16_take 29 = .ok (.aconst_null, 1) := by decide +kernel
theorem dX16_take_30 : decode cX16_take 30 = .ok (.aastore, 1) := by decide +kernel
theorem dX16_take_31 : decode cX16_take 31 = .ok (.aload_n 0, 1) := by decide +kernel
theorem dX16_take_32 : decode cX16_take 32 = .ok (.getfield 11, 3) := by decide +kernel
theorem dX16_take_35 : decode cX16_take 35 = .ok (.iload_n 1, 1) := by decide +kernel
theorem dX16_take_36 : decode cX16_take 36 = .ok (.iconst 0, 1) := by decide +kernel
theorem dX16_take_37 : decode cX16_take 37 = .ok (.bastore, 1) := by decide +kernel
theorem dX16_take_38 : decode cX16_take 38 = .ok (.aload_n 0, 1) := by decide +kernel
theorem dX16_take_39 : decode cX16_take 39 = .ok (.dup, 1) := by decide +kernel
theorem dX16_take_40 : decode cX16_take 40 = .ok (.getfield 25, 3) := by decide +kernel
theorem dX16_take_43 : decode cX16_take 43 = .ok (.iconst 1, 1) := by decide +kernel
theorem dX16_take_44 : decode cX16_take 44 = .ok (.isub, 1) := by decide +kernel
theorem dX16_take_45 : decode cX16_take 45 = .ok (.putfield 25, 3) := by decide +kernel
theorem dX16_take_48 : decode cX16_take 48 = .ok (.aload_n 0, 1) := by decide +kernel
theorem dX16_take_49 : decode cX16_take 49 = .ok (.invokevirtual 21, 3) := by decide +kernel
theorem dX16_take_52 : decode cX16_take 52 = .ok (.ifCond .eq 16, 3) := by decide +kernel
theorem dX16_take_55 : decode cX16_take 55 = .ok (.aload_n 0, 1) := by decide +kernel
theorem dX16_take_56 : decode cX16_take 56 = .ok (.getfield 25, 3) := by decide +kernel
theorem dX16_take_59 : decode cX16_take 59 = .ok (.bipush 48, 2) := by decide +kernel
theorem dX16_take_61 : decode cX16_take 61 = .ok (.if_icmp .ne 7, 3) := by decide +kernel
theorem dX16_take_64 : decode cX16_take 64 = .ok (.aload_n 0, 1) := by decide +kernel
theorem dX16_take_65 : decode cX16_take 65 = .ok (.invokevirtual 36, 3) := by decide +kernel
theorem dX16_take_68 : decode cX16_take 68 = .ok (.aload_n 0, 1) := by decide +kernel
theorem dX16_take_69 : decode cX16_take 69 = .ok (.getfield 25, 3) := by decide +kernel
theorem dX16_take_72 : decode cX16_take 72 = .ok (.bipush 16, 2) := by decide +kernel
theorem dX16_take_74 : decode cX16_take 74 = .ok (.if_icmp .le 5, 3) := by decide +kernel
theorem dX16_take_77 : decode cX16_take 77 = .ok (.aload_n 0, 1) := by decide +kernel
theorem dX16_take_78 : decode cX16_take 78 = .ok (.areturn, 1) := by decide +kernel
theorem dX16_take_79 : decode cX16_take 79 = .ok (.new 39, 3) := by decide +kernel
theorem dX16_take_82 : decode cX16_take 82 = .ok (.dup, 1) := by decide +kernel
theorem dX16_take_83 : decode cX16_take 83 = .ok (.bipush 16, 2) := by decide +kernel
theorem dX16_take_85 : decode cX16_take 85 = .ok (.invokespecial 41, 3) := by decide +kernel
theorem dX16_take_88 : decode cX16_take 88 = .ok (.astore_n 2, 1) := by decide +kernel
theorem dX16_take_89 : decode cX16_take 89 = .ok (.aload_n 0, 1) := by decide +kernel
theorem dX16_take_90 : decode cX16_take 90 = .ok (.iconst 0, 1) := by decide +kernel
theorem dX16_take_91 : decode cX16_take 91 = .ok (.invokevirtual 44, 3) := by decide +kernel
theorem dX16_take_94 : decode cX16_take 94 = .ok (.istore_n 3, 1) := by decide +kernel
theorem dX16_take_95 : decode cX16_take 95 = .ok (.iload_n 3, 1) := by decide +kernel
theorem dX16_take_96 : decode cX16_take 96 = .ok (.iconst (-1), 1) := by decide +kernel
theorem dX16_take_97 : decode cX16_take 97 = .ok (.if_icmp .eq 25, 3) := by decide +kernel
theorem dX16_take_100 : decode cX16_take 100 = .ok (.aload_n 2, 1) := by decide +kernel
theorem dX16_take_101 : decode cX16_take 101 = .ok (.iload_n 3, 1) := by decide +kernel
theorem dX16_take_102 : decode cX16_take 102 = .ok (.aload_n 0, 1) := by decide +kernel
theorem dX16_take_103 : decode cX16_take 103 = .ok (.iload_n 3, 1) := by decide +kernel
theorem dX16_take_104 : decode cX16_take 104 = .ok (.invokevirtual 32, 3) := by decide +kernel
theorem dX16_take_107 : decode cX16_take 107 = .ok (.invokevirtual 48, 3) := by decide +kernel
theorem dX16_take_110 : decode cX16_take 110 = .ok (.pop, 1) := by decide +kernel
theorem dX16_take_111 : decode cX16_take 111 = .ok (.aload_n 0, 1) := by decide +kernel
theorem dX16_take_112 : decode cX16_take 112 = .ok (.iload_n 3, 1) := by decide +kernel
theorem dX16_take_113 : decode cX16_take 113 = .ok (.iconst 1, 1) := by decide +kernel
theorem dX16_take_114 : decode cX16_take 114 = .ok (.iadd, 1) := by decide +kernel
theorem dX16_take_115 : decode cX16_take 115 = .ok (.invokevirtual 44, 3) := by decide +kernel
theorem dX16_take_118 : decode cX16_take 118 = .ok (.istore_n 3, 1) := by decide +kernel
theorem dX16_take_119 : decode cX16_take 119 = .ok (.goto (-24), 3) := by decide +kernel
theorem dX16_take_122 : decode cX16_take 122 = .ok (.aload_n 2, 1) := by decide +kernel
theorem dX16_take_123 : decode cX16_take 123 = .ok (.areturn, 1) := by decide +kernel
theorem dX16_narrow_0 : decode cX16_narrow 0 = .ok (.bipush 48, 2) := by decide +kernel
theorem dX16_narrow_2 : decode cX16_narrow 2 = .ok (.anewarray 15, 3) := by decide +kernel
theorem dX16_narrow_5 : decode cX16_narrow 5 = .ok (.astore_n 1, 1) := by decide +kernel
theorem dX16_narrow_6 : decode cX16_narrow 6 = .ok (.iconst 0, 1) := by decide +kernel
theorem dX16_narrow_7 : decode cX16_narrow 7 = .ok (.istore_n 2, 1) := by decide +kernel
theorem dX16_narrow_8 : decode cX16_narrow 8 = .ok (.iconst 0, 1) := by decide +kernel
theorem dX16_narrow_9 : decode cX16_narrow 9 = .ok (.istore_n 3, 1) := by decide +kernel
theorem dX16_narrow_10 : decode cX16_narrow 10 = .ok (.iload_n 3, 1) := by decide +kernel
theorem dX16_narrow_11 : decode cX16_narrow 11 = .ok (.sipush 256, 3) := by decide +kernel
theorem dX16_narrow_14 : decode cX16_narrow 14 = .ok (.if_icmp .ge 48, 3) := by decide +kernel
theorem dX16_narrow_17 : decode cX16_narrow 17 = .ok (.aload_n 0, 1) := by decide +kernel
theorem dX16_narrow_18 : decode cX16_narrow 18 = .ok (.getfield 11, 3) := by decide +kernel
theorem dX16_narrow_21 : decode cX16_narrow 21 = .ok (.iload_n 3, 1) := by decide +kernel
theorem dX16_narrow_22 : decode cX16_narrow 22 = .ok (.iconst 0, 1) := by decide +kernel
theorem dX16_narrow_23 : decode cX16_narrow 23 = .ok (.bastore, 1) := by decide +kernel
theorem dX16_narrow_24 : decode cX16_narrow 24 = .ok (.aload_n 0, 1) := by decide +kernel
theorem dX16_narrow_25 : decode cX16_narrow 25 = .ok (.getfield 17, 3) := by decide +kernel
theorem dX16_narrow_28 : decode cX16_narrow 28 = .ok (.iload_n 3, 1) := by decide +kernel
theorem dX16_narrow_29 : decode cX16_narrow 29 = .ok (.aaload, 1) := by decide +kernel
theorem dX16_narrow_30 : decode cX16_narrow 30 = .ok (.ifnonnull 6, 3) := by decide +kernel
theorem dX16_narrow_33 : decode cX16_narrow 33 = .ok (.goto 23, 3) := by decide +kernel
theorem dX16_narrow_36 : decode cX16_narrow 36 = .ok (.aload_n 1, 1) := by decide +kernel
theorem dX16_narrow_37 : decode cX16_narrow 37 = .ok (.iload_n 2, 1) := by decide +kernel
theorem dX16_narrow_38 : decode cX16_narrow 38 = .ok (.aload_n 0, 1) := by decide +kernel
theorem dX16_narrow_39 : decode cX16_narrow 39 = .ok (.getfield 17, 3) := by decide +kernel
theorem dX16_narrow_42 : decode cX16_narrow 42 = .ok (.iload_n 3, 1) := by decide +kernel
theorem dX16_narrow_43 : decode cX16_narrow 43 = .ok (.aaload, 1) := by decide +kernel
theorem dX16_narrow_44 : decode cX16_narrow 44 = .ok (.aastore, 1) := by decide +kernel
theorem dX16_narrow_45 : decode cX16_narrow 45 = .ok (.iinc 2 1, 3) := by decide +kernel
theorem dX16_narrow_48 : decode cX16_narrow 48 = .ok (.aload_n 0, 1) := by decide +kernel
theorem dX16_narrow_49 : decode cX16_narrow 49 = .ok (.getfield 11, 3) := by decide +kernel
theorem dX16_narrow_52 : decode cX16_narrow 52 = .ok (.iload_n 3, 1) := by decide +kernel
theorem dX16_narrow_53 : decode cX16_narrow 53 = .ok (.iload_n 2, 1) := by decide +kernel
theorem dX16_narrow_54 : decode cX16_narrow 54 = .ok (.i2b, 1) := by decide +kernel
theorem dX16_narrow_55 : decode cX16_narrow 55 = .ok (.bastore, 1) := by decide +kernel
theorem dX16_narrow_56 : decode cX16_narrow 56 = .ok (.iinc 3 1, 3) := by decide +kernel
theorem dX16_narrow_59 : decode cX16_narrow 59 = .ok (.goto (-49), 3) := by decide +kernel
theorem dX16_narrow_62 : decode cX16_narrow 62 = .ok (.aload_n 0, 1) := by decide +kernel
theorem dX16_narrow_63 : decode cX16_narrow 63 = .ok (.aload_n 1, 1) := by decide +kernel
theorem dX16_narrow_64 : decode cX16_narrow 64 = .ok (.putfield 17, 3) := by decide +kernel
theorem dX16_narrow_67 : decode cX16_narrow 67 = .ok (.return_, 1) := by decide +kernel
theorem dX16_upTo_0 : decode cX16_upTo 0 = .ok (.iload_n 1, 1) := by decide +kernel
theorem dX16_upTo_1 : decode cX16_upTo 1 = .ok (.istore_n 2, 1) := by decide +kernel
theorem dX16_upTo_2 : decode cX16_upTo 2 = .ok (.iload_n 2, 1) := by decide +kernel
theorem dX16_upTo_3 : decode cX16_upTo 3 = .ok (.ifCond .lt 17, 3) := by decide +kernel
theorem dX16_upTo_6 : decode cX16_upTo 6 = .ok (.aload_n 0, 1) := by decide +kernel
theorem dX16_upTo_7 : decode cX16_upTo 7 = .ok (.iload_n 2, 1) := by decide +kernel
theorem dX16_upTo_8 : decode cX16_upTo 8 = .ok (.invokevirtual 32, 3) := by decide +kernel
theorem dX16_upTo_11 : decode cX16_upTo 11 = .ok (.ifnonnull 9, 3) := by decide +kernel
theorem dX16_upTo_14 : decode cX16_upTo 14 = .ok (.iinc 2 (-1), 3) := by decide +kernel
theorem dX16_upTo_17 : decode cX16_upTo 17 = .ok (.goto (-15), 3) := by decide +kernel
theorem dX16_upTo_20 : decode cX16_upTo 20 = .ok (.iload_n 2, 1) := by decide +kernel
theorem dX16_upTo_21 : decode cX16_upTo 21 = .ok (.ireturn, 1) := by decide +kernel
theorem dX17_init_0 : decode cX17_init 0 = .ok (.aload_n 0, 1) := by decide +kernel
theorem dX17_init_1 : decode cX17_init 1 = .ok (.invokespecial 1, 3) := by decide +kernel
theorem dX17_init_4 : decode cX17_init 4 = .ok (.aload_n 0, 1) := by decide +kernel
theorem dX17_init_5 : decode cX17_init 5 = .ok (.iload_n 1, 1) := by decide +kernel
theorem dX17_init_6 : decode cX17_init 6 = .ok (.putfield 7, 3) := by decide +kernel
theorem dX17_init_9 : decode cX17_init 9 = .ok (.return_, 1) := by decide +kernel
theorem dJ10_init_0 : decode cJ10_init 0 = .ok (.aload_n 0, 1) := by decide +kernel
theorem dJ10_init_1 : decode cJ10_init 1 = .ok (.aload_n 1, 1) := by decide +kernel
theorem dJ10_init_2 : decode cJ10_init 2 = .ok (.invokespecial 13, 3) := by decide +kernel
theorem dJ10_init_5 : decode cJ10_init 5 = .ok (.return_, 1) := by decide +kernel
theorem dX18_at_0 : decode cX18_at 0 = .ok (.aload_n 0, 1) := by decide +kernel
theorem dX18_at_1 : decode cX18_at 1 = .ok (.astore_n 2, 1) := by decide +kernel
theorem dX18_at_2 : decode cX18_at 2 = .ok (.iload_n 1, 1) := by decide +kernel
theorem dX18_at_3 : decode cX18_at 3 = .ok (.istore_n 3, 1) := by decide +kernel
theorem dX18_at_4 : decode cX18_at 4 = .ok (.aload_n 2, 1) := by decide +kernel
theorem dX18_at_5 : decode cX18_at 5 = .ok (.getfield 7, 3) := by decide +kernel
theorem dX18_at_8 : decode cX18_at 8 = .ok (.ifnonnull 60, 3) := by decide +kernel
theorem dX18_at_11 : decode cX18_at 11 = .ok (.iload_n 3, 1) := by decide +kernel
theorem dX18_at_12 : decode cX18_at 12 = .ok (.aload_n 2, 1) := by decide +kernel
theorem dX18_at_13 : decode cX18_at 13 = .ok (.getfield 20, 3) := by decide +kernel
theorem dX18_at_16 : decode cX18_at 16 = .ok (.getfield 13, 3) := by decide +kernel
theorem dX18_at_19 : decode cX18_at 19 = .ok (.if_icmp .lt 7, 3) := by decide +kernel
theorem dX18_at_22 : decode cX18_at 22 = .ok (.iconst 1, 1) := by decide +kernel
theorem dX18_at_23 : decode cX18_at 23 = .ok (.goto 4, 3) := by decide +kernel
theorem dX18_at_26 : decode cX18_at 26 = .ok (.iconst 0, 1) := by decide +kernel
theorem dX18_at_27 : decode cX18_at 27 = .ok (.istore 4, 2) := by decide +kernel
theorem dX18_at_29 : decode cX18_at 29 = .ok (.iload_n 3, 1) := by decide +kernel
theorem dX18_at_30 : decode cX18_at 30 = .ok (.iload 4, 2) := by decide +kernel
theorem dX18_at_32 : decode cX18_at 32 = .ok (.ifCond .eq 13, 3) := by decide +kernel
theorem dX18_at_35 : decode cX18_at 35 = .ok (.aload_n 2, 1) := by decide +kernel
theorem dX18_at_36 : decode cX18_at 36 = .ok (.getfield 20, 3) := by decide +kernel
theorem dX18_at_39 : decode cX18_at 39 = .ok (.getfield 13, 3) := by decide +kernel
theorem dX18_at_42 : decode cX18_at 42 = .ok (.goto 4, 3) := by decide +kernel
theorem dX18_at_45 : decode cX18_at 45 = .ok (.iconst 0, 1) := by decide +kernel
theorem dX18_at_46 : decode cX18_at 46 = .ok (.isub, 1) := by decide +kernel
theorem dX18_at_47 : decode cX18_at 47 = .ok (.istore_n 3, 1) := by decide +kernel
theorem dX18_at_48 : decode cX18_at 48 = .ok (.iload 4, 2) := by decide +kernel
theorem dX18_at_50 : decode cX18_at 50 = .ok (.ifCond .eq 10, 3) := by decide +kernel
theorem dX18_at_53 : decode cX18_at 53 = .ok (.aload_n 2, 1) := by decide +kernel
theorem dX18_at_54 : decode cX18_at 54 = .ok (.getfield 24, 3) := by decide +kernel
theorem dX18_at_57 : decode cX18_at 57 = .ok (.goto 7, 3) := by decide +kernel
theorem dX18_at_60 : decode cX18_at 60 = .ok (.aload_n 2, 1) := by decide +kernel
theorem dX18_at_61 : decode cX18_at 61 = .ok (.getfield 20, 3) := by decide +kernel
theorem dX18_at_64 : decode cX18_at 64 = .ok (.astore_n 2, 1) := by decide +kernel
theorem dX18_at_65 : decode cX18_at 65 = .ok (.goto (-61), 3) := by decide +kernel
theorem dX18_at_68 : decode cX18_at 68 = .ok (.aload_n 2, 1) := by decide +kernel
theorem dX18_at_69 : decode cX18_at 69 = .ok (.getfield 7, 3) := by decide +kernel
theorem dX18_at_72 : decode cX18_at 72 = .ok (.iload_n 3, 1) := by decide +kernel
theorem dX18_at_73 : decode cX18_at 73 = .ok (.caload, 1) := by decide +kernel
theorem dX18_at_74 : decode cX18_at 74 = .ok (.ireturn, 1) := by decide +kernel
theorem dX18_part_0 : decode cX18_part 0 = .ok (.aload_n 0, 1) := by decide +kernel
theorem dX18_part_1 : decode cX18_part 1 = .ok (.ifnull 8, 3) := by decide +kernel
theorem dX18_part_4 : decode cX18_part 4 = .ok (.iload_n 1, 1) := by decide +kernel
theorem dX18_part_5 : decode cX18_part 5 = .ok (.iload_n 2, 1) := by decide +kernel
theorem dX18_part_6 : decode cX18_part 6 = .ok (.if_icmp .lt 5, 3) := by decide +kernel
theorem dX18_part_9 : decode cX18_part 9 = .ok (.aconst_null, 1) := by decide +kernel
theorem dX18_part_10 : decode cX18_part 10 = .ok (.areturn, 1) := by decide +kernel
theorem dX18_part_11 : decode cX18_part 11 = .ok (.iload_n 1, 1) := by decide +kernel
theorem dX18_part_12 : decode cX18_part 12 = .ok (.ifCond .gt 13, 3) := by decide +kernel
theorem dX18_part_15 : decode cX18_part 15 = .ok (.iload_n 2, 1) := by decide +kernel
theorem dX18_part_16 : decode cX18_part 16 = .ok (.aload_n 0, 1) := by decide +kernel
theorem dX18_part_17 : decode cX18_part 17 = .ok (.getfield 13, 3) := by decide +kernel
theorem dX18_part_20 : decode cX18_part 20 = .ok (.if_icmp .lt 5, 3) := by decide +kernel
theorem dX18_part_23 : decode cX18_part 23 = .ok (.aload_n 0, 1) := by decide +kernel
theorem dX18_part_24 : decode cX18_part 24 = .ok (.areturn, 1) := by decide +kernel
theorem dX18_part_25 : decode cX18_part 25 = .ok (.aload_n 0, 1) := by decide +kernel
theorem dX18_part_26 : decode cX18_part 26 = .ok (.getfield 7, 3) := by decide +kernel
theorem dX18_part_29 : decode cX18_part 29 = .ok (.ifnull 32, 3) := by decide +kernel
theorem dX18_part_32 : decode cX18_part 32 = .ok (.iconst 0, 1) := by decide +kernel
theorem dX18_part_33 : decode cX18_part 33 = .ok (.iload_n 1, 1) := by decide +kernel
theorem dX18_part_34 : decode cX18_part 34 = .ok (.invokestatic 27, 3) := by decide +kernel
theorem dX18_part_37 : decode cX18_part 37 = .ok (.istore_n 3, 1) := by decide +kernel
theorem dX18_part_38 : decode cX18_part 38 = .ok (.new 8, 3) := by decide +kernel
theorem dX18_part_41 : decode cX18_part 41 = .ok (.dup, 1) := by decide +kernel
theorem dX18_part_42 : decode cX18_part 42 = .ok (.aload_n 0, 1) := by decide +kernel
theorem dX18_part_43 : decode cX18_part 43 = .ok (.getfield 7, 3) := by decide +kernel
theorem dX18_part_46 : decode cX18_part 46 = .ok (.iload_n 3, 1) := by decide +kernel
theorem dX18_part_47 : decode cX18_part 47 = .ok (.iload_n 2, 1) := by decide +kernel
theorem dX18_part_48 : decode cX18_part 48 = .ok (.aload_n 0, 1) := by decide +kernel
theorem dX18_part_49 : decode cX18_part 49 = .ok (.getfield 13, 3) := by decide +kernel
theorem dX18_part_52 : decode cX18_part 52 = .ok (.invokestatic 55, 3) := by decide +kernel
theorem dX18_part_55 : decode cX18_part 55 = .ok (.iload_n 3, 1) := by decide +kernel
theorem dX18_part_56 : decode cX18_part 56 = .ok (.isub, 1) := by decide +kernel
theorem dX18_part_57 : decode cX18_part 57 = .ok (.invokespecial 37, 3) := by decide +kernel
theorem dX18_part_60 : decode cX18_part 60 = .ok (.areturn, 1) := by decide +kernel
theorem dX18_part_61 : decode cX18_part 61 = .ok (.aload_n 0, 1) := by decide +kernel
theorem dX18_part_62 : decode cX18_part 62 = .ok (.getfield 20, 3) := by decide +kernel
theorem dX18_part_65 : decode cX18_part 65 = .ok (.getfield 13, 3) := by decide +kernel
theorem dX18_part_68 : decode cX18_part 68 = .ok (.istore_n 3, 1) := by decide +kernel
theorem dX18_part_69 : decode cX18_part 69 = .ok (.iload_n 1, 1) := by decide +kernel
theorem dX18_part_70 : decode cX18_part 70 = .ok (.iload_n 3, 1) := by decide +kernel
theorem dX18_part_71 : decode cX18_part 71 = .ok (.if_icmp .ge 19, 3) := by decide +kernel
theorem dX18_part_74 : decode cX18_part 74 = .ok (.aload_n 0, 1) := by decide +kernel
theorem dX18_part_75 : decode cX18_part 75 = .ok (.getfield 20, 3) := by decide +kernel
theorem dX18_part_78 : decode cX18_part 78 = .ok (.iload_n 1, 1) := by decide +kernel
theorem dX18_part_79 : decode cX18_part 79 = .ok (.iload_n 2, 1) := by decide +kernel
theorem dX18_part_80 : decode cX18_part 80 = .ok (.iload_n 3, 1) := by decide +kernel
theorem dX18_part_81 : decode cX18_part 81 = .ok (.invokestatic 55, 3) := by decide +kernel
theorem dX18_part_84 : decode cX18_part 84 = .ok (.invokestatic 58, 3) := by decide +kernel
theorem dX18_part_87 : decode cX18_part 87 = .ok (.goto 4, 3) := by decide +kernel
theorem dX18_part_90 : decode cX18_part 90 = .ok (.aconst_null, 1) := by decide +kernel
theorem dX18_part_91 : decode cX18_part 91 = .ok (.iload_n 2, 1) := by decide +kernel
theorem dX18_part_92 : decode cX18_part 92 = .ok (.iload_n 3, 1) := by decide +kernel
theorem dX18_part_93 : decode cX18_part 93 = .ok (.if_icmp .le 23, 3) := by decide +kernel
theorem dX18_part_96 : decode cX18_part 96 = .ok (.aload_n 0, 1) := by decide +kernel
theorem dX18_part_97 : decode cX18_part 97 = .ok (.getfield 24, 3) := by decide +kernel
theorem dX18_part_100 : decode cX18_part 100 = .ok (.iconst 0, 1) := by decide +kernel
theorem dX18_part_101 : decode cX18_part 101 = .ok (.iload_n 1, 1) := by decide +kernel
theorem dX18_part_102 : decode cX18_part 102 = .ok (.iload_n 3, 1) := by decide +kernel
theorem dX18_part_103 : decode cX18_part 103 = .ok (.isub, 1) := by decide +kernel
theorem dX18_part_104 : decode cX18_part 104 = .ok (.invokestatic 27, 3) := by decide +kernel
theorem dX18_part_107 : decode cX18_part 107 = .ok (.iload_n 2, 1) := by decide +kernel
theorem dX18_part_108 : decode cX18_part 108 = .ok (.iload_n 3, 1) := by decide +kernel
theorem dX18_part_109 : decode cX18_part 109 = .ok (.isub, 1) := by decide +kernel
theorem dX18_part_110 : decode cX18_part 110 = .ok (.invokestatic 58, 3) := by decide +kernel
theorem dX18_part_113 : decode cX18_part 113 = .ok (.goto 4, 3) := by decide +kernel
theorem dX18_part_116 : decode cX18_part 116 = .ok (.aconst_null, 1) := by decide +kernel
theorem dX18_part_117 : decode cX18_part 117 = .ok (.invokestatic 62, 3) := by decide +kernel
theorem dX18_part_120 : decode cX18_part 120 = .ok (.areturn, 1) := by decide +kernel
theorem dX18_init_0 : decode cX18_init 0 = .ok (.aload_n 0, 1) := by decide +kernel
theorem dX18_init_1 : decode cX18_init 1 = .ok (.invokespecial 1, 3) := by decide +kernel
theorem dX18_init_4 : decode cX18_init 4 = .ok (.aload_n 0, 1) := by decide +kernel
theorem dX18_init_5 : decode cX18_init 5 = .ok (.iload_n 3, 1) := by decide +kernel
theorem dX18_init_6 : decode cX18_init 6 = .ok (.newarray .char, 2) := by decide +kernel
theorem dX18_init_8 : decode cX18_init 8 = .ok (.putfield 7, 3) := by decide +kernel
theorem dX18_init_11 : decode cX18_init 11 = .ok (.iconst 0, 1) := by decide +kernel
theorem dX18_init_12 : decode cX18_init 12 = .ok (.istore 4, 2) := by decide +kernel
theorem dX18_init_14 : decode cX18_init 14 = .ok (.iload 4, 2) := by decide +kernel
theorem dX18_init_16 : decode cX18_init 16 = .ok (.iload_n 3, 1) := by decide +kernel
theorem dX18_init_17 : decode cX18_init 17 = .ok (.if_icmp .ge 22, 3) := by decide +kernel
theorem dX18_init_20 : decode cX18_init 20 = .ok (.aload_n 0, 1) := by decide +kernel
theorem dX18_init_21 : decode cX18_init 21 = .ok (.getfield 7, 3) := by decide +kernel
theorem dX18_init_24 : decode cX18_init 24 = .ok (.iload 4, 2) := by decide +kernel
theorem dX18_init_26 : decode cX18_init 26 = .ok (.aload_n 1, 1) := by decide +kernel
theorem dX18_init_27 : decode cX18_init 27 = .ok (.iload_n 2, 1) := by decide +kernel
theorem dX18_init_28 : decode cX18_init 28 = .ok (.iload 4, 2) := by decide +kernel
theorem dX18_init_30 : decode cX18_init 30 = .ok (.iadd, 1) := by decide +kernel
theorem dX18_init_31 : decode cX18_init 31 = .ok (.caload, 1) := by decide +kernel
theorem dX18_init_32 : decode cX18_init 32 = .ok (.castore, 1) := by decide +kernel
theorem dX18_init_33 : decode cX18_init 33 = .ok (.iinc 4 1, 3) := by decide +kernel
theorem dX18_init_36 : decode cX18_init 36 = .ok (.goto (-22), 3) := by decide +kernel
theorem dX18_init_39 : decode cX18_init 39 = .ok (.aload_n 0, 1) := by decide +kernel
theorem dX18_init_40 : decode cX18_init 40 = .ok (.iload_n 3, 1) := by decide +kernel
theorem dX18_init_41 : decode cX18_init 41 = .ok (.putfield 13, 3) := by decide +kernel
theorem dX18_init_44 : decode cX18_init 44 = .ok (.aload_n 0, 1) := by decide +kernel
theorem dX18_init_45 : decode cX18_init 45 = .ok (.iconst 0, 1) := by decide +kernel
theorem dX18_init_46 : decode cX18_init 46 = .ok (.putfield 17, 3) := by decide +kernel
theorem dX18_init_49 : decode cX18_init 49 = .ok (.return_, 1) := by decide +kernel
theorem dX18_join_0 : decode cX18_join 0 = .ok (.aload_n 0, 1) := by decide +kernel
theorem dX18_join_1 : decode cX18_join 1 = .ok (.ifnonnull 5, 3) := by decide +kernel
theorem dX18_join_4 : decode cX18_join 4 = .ok (.aload_n 1, 1) := by decide +kernel
theorem dX18_join_5 : decode cX18_join 5 = .ok (.areturn, 1) := by decide +kernel
theorem dX18_join_6 : decode cX18_join 6 = .ok (.aload_n 1, 1) := by decide +kernel
theorem dX18_join_7 : decode cX18_join 7 = .ok (.ifnonnull 5, 3) := by decide +kernel
theorem dX18_join_10 : decode cX18_join 10 = .ok (.aload_n 0, 1) := by decide +kernel
theorem dX18_join_11 : decode cX18_join 11 = .ok (.areturn, 1) := by decide +kernel
theorem dX18_join_12 : decode cX18_join 12 = .ok (.aload_n 0, 1) := by decide +kernel
theorem dX18_join_13 : decode cX18_join 13 = .ok (.getfield 13, 3) := by decide +kernel
theorem dX18_join_16 : decode cX18_join 16 = .ok (.aload_n 1, 1) := by decide +kernel
theorem dX18_join_17 : decode cX18_join 17 = .ok (.getfield 13, 3) := by decide +kernel
theorem dX18_join_20 : decode cX18_join 20 = .ok (.iadd, 1) := by decide +kernel
theorem dX18_join_21 : decode cX18_join 21 = .ok (.bipush 8, 2) := by decide +kernel
theorem dX18_join_23 : decode cX18_join 23 = .ok (.if_icmp .gt 70, 3) := by decide +kernel
theorem dX18_join_26 : decode cX18_join 26 = .ok (.aload_n 0, 1) := by decide +kernel
theorem dX18_join_27 : decode cX18_join 27 = .ok (.getfield 13, 3) := by decide +kernel
theorem dX18_join_30 : decode cX18_join 30 = .ok (.aload_n 1, 1) := by decide +kernel
theorem dX18_join_31 : decode cX18_join 31 = .ok (.getfield 13, 3) := by decide +kernel
theorem dX18_join_34 : decode cX18_join 34 = .ok (.iadd, 1) := by decide +kernel
theorem dX18_join_35 : decode cX18_join 35 = .ok (.newarray .char, 2) := by decide +kernel
theorem dX18_join_37 : decode cX18_join 37 = .ok (.astore_n 2, 1) := by decide +kernel
theorem dX18_join_38 : decode cX18_join 38 = .ok (.iconst 0, 1) := by decide +kernel
theorem dX18_join_39 : decode cX18_join 39 = .ok (.istore_n 3, 1) := by decide +kernel
theorem dX18_join_40 : decode cX18_join 40 = .ok (.iload_n 3, 1) := by decide +kernel
theorem dX18_join_41 : decode cX18_join 41 = .ok (.aload_n 2, 1) := by decide +kernel
theorem dX18_join_42 : decode cX18_join 42 = .ok (.arraylength, 1) := by decide +kernel
theorem dX18_join_43 : decode cX18_join 43 = .ok (.if_icmp .ge 38, 3) := by decide +kernel
theorem dX18_join_46 : decode cX18_join 46 = .ok (.aload_n 2, 1) := by decide +kernel
theorem dX18_join_47 : decode cX18_join 47 = .ok (.iload_n 3, 1) := by decide +kernel
theorem dX18_join_48 : decode cX18_join 48 = .ok (.iload_n 3, 1) := by decide +kernel
theorem dX18_join_49 : decode cX18_join 49 = .ok (.aload_n 0, 1) := by decide +kernel
theorem dX18_join_50 : decode cX18_join 50 = .ok (.getfield 13, 3) := by decide +kernel
theorem dX18_join_53 : decode cX18_join 53 = .ok (.if_icmp .ge 11, 3) := by decide +kernel
theorem dX18_join_56 : decode cX18_join 56 = .ok (.aload_n 0, 1) := by decide +kernel
theorem dX18_join_57 : decode cX18_join 57 = .ok (.iload_n 3, 1) := by decide +kernel
theorem dX18_join_58 : decode cX18_join 58 = .ok (.invokevirtual 33, 3) := by decide +kernel
theorem dX18_join_61 : decode cX18_join 61 = .ok (.goto 13, 3) := by decide +kernel
theorem dX18_join_64 : decode cX18_join 64 = .ok (.aload_n 1, 1) := by decide +kernel
theorem dX18_join_65 : decode cX18_join 65 = .ok (.iload_n 3, 1) := by decide +kernel
theorem dX18_join_66 : decode cX18_join 66 = .ok (.aload_n 0, 1) := by decide +kernel
theorem dX18_join_67 : decode cX18_join 67 = .ok (.getfield 13, 3) := by decide +kernel
theorem dX18_join_70 : decode cX18_join 70 = .ok (.isub, 1) := by decide +kernel
theorem dX18_join_71 : decode cX18_join 71 = .ok (.invokevirtual 33, 3) := by decide +kernel
theorem dX18_join_74 : decode cX18_join 74 = .ok (.castore, 1) := by decide +kernel
theorem dX18_join_75 : decode cX18_join 75 = .ok (.iinc 3 1, 3) := by decide +kernel
theorem dX18_join_78 : decode cX18_join 78 = .ok (.goto (-38), 3) := by decide +kernel
theorem dX18_join_81 : decode cX18_join 81 = .ok (.new 8, 3) := by decide +kernel
theorem dX18_join_84 : decode cX18_join 84 = .ok (.dup, 1) := by decide +kernel
theorem dX18_join_85 : decode cX18_join 85 = .ok (.aload_n 2, 1) := by decide +kernel
theorem dX18_join_86 : decode cX18_join 86 = .ok (.iconst 0, 1) := by decide +kernel
theorem dX18_join_87 : decode cX18_join 87 = .ok (.aload_n 2, 1) := by decide +kernel
theorem dX18_join_88 : decode cX18_join 88 = .ok (.arraylength, 1) := by decide +kernel
theorem dX18_join_89 : decode cX18_join 89 = .ok (.invokespecial 37, 3) := by decide +kernel
theorem dX18_join_92 : decode cX18_join 92 = .ok (.areturn, 1) := by decide +kernel
theorem dX18_join_93 : decode cX18_join 93 = .ok (.new 8, 3) := by decide +kernel
theorem dX18_join_96 : decode cX18_join 96 = .ok (.dup, 1) := by decide +kernel
theorem dX18_join_97 : decode cX18_join 97 = .ok (.aload_n 0, 1) := by decide +kernel
theorem dX18_join_98 : decode cX18_join 98 = .ok (.aload_n 1, 1) := by decide +kernel
theorem dX18_join_99 : decode cX18_join 99 = .ok (.invokespecial 40, 3) := by decide +kernel
theorem dX18_join_102 : decode cX18_join 102 = .ok (.astore_n 2, 1) := by decide +kernel
theorem dX18_join_103 : decode cX18_join 103 = .ok (.aload_n 2, 1) := by decide +kernel
theorem dX18_join_104 : decode cX18_join 104 = .ok (.getfield 17, 3) := by decide +kernel
theorem dX18_join_107 : decode cX18_join 107 = .ok (.getstatic 43, 3) := by decide +kernel
theorem dX18_join_110 : decode cX18_join 110 = .ok (.arraylength, 1) := by decide +kernel
theorem dX18_join_111 : decode cX18_join 111 = .ok (.if_icmp .ge 22, 3) := by decide +kernel
theorem dX18_join_114 : decode cX18_join 114 = .ok (.aload_n 2, 1) := by decide +kernel
theorem dX18_join_115 : decode cX18_join 115 = .ok (.getfield 13, 3) := by decide +kernel
theorem dX18_join_118 : decode cX18_join 118 = .ok (.getstatic 43, 3) := by decide +kernel
theorem dX18_join_121 : decode cX18_join 121 = .ok (.aload_n 2, 1) := by decide +kernel
theorem dX18_join_122 : decode cX18_join 122 = .ok (.getfield 17, 3) := by decide +kernel
theorem dX18_join_125 : decode cX18_join 125 = .ok (.iaload, 1) := by decide +kernel
theorem dX18_join_126 : decode cX18_join 126 = .ok (.if_icmp .lt 7, 3) := by decide +kernel
theorem dX18_join_129 : decode cX18_join 129 = .ok (.aload_n 2, 1) := by decide +kernel
theorem dX18_join_130 : decode cX18_join 130 = .ok (.goto 7, 3) := by decide +kernel
theorem dX18_join_133 : decode cX18_join 133 = .ok (.aload_n 2, 1) := by decide +kernel
theorem dX18_join_134 : decode cX18_join 134 = .ok (.invokevirtual 47, 3) := by decide +kernel
theorem dX18_join_137 : decode cX18_join 137 = .ok (.areturn, 1) := by decide +kernel
theorem dX18_init_2_0 : decode cX18_init_2 0 = .ok (.aload_n 0, 1) := by decide +kernel
theorem dX18_init_2_1 : decode cX18_init_2 1 = .ok (.invokespecial 1, 3) := by decide +kernel
theorem dX18_init_2_4 : decode cX18_init_2 4 = .ok (.aload_n 0, 1) := by decide +kernel
theorem dX18_init_2_5 : decode cX18_init_2 5 = .ok (.aload_n 1, 1) := by decide +kernel
theorem dX18_init_2_6 : decode cX18_init_2 6 = .ok (.putfield 20, 3) := by decide +kernel
theorem dX18_init_2_9 : decode cX18_init_2 9 = .ok (.aload_n 0, 1) := by decide +kernel
theorem dX18_init_2_10 : decode cX18_init_2 10 = .ok (.aload_n 2, 1) := by decide +kernel
theorem dX18_init_2_11 : decode cX18_init_2 11 = .ok (.putfield 24, 3) := by decide +kernel
theorem dX18_init_2_14 : decode cX18_init_2 14 = .ok (.aload_n 0, 1) := by decide +kernel
theorem dX18_init_2_15 : decode cX18_init_2 15 = .ok (.aload_n 1, 1) := by decide +kernel
theorem dX18_init_2_16 : decode cX18_init_2 16 = .ok (.getfield 13, 3) := by decide +kernel
theorem dX18_init_2_19 : decode cX18_init_2 19 = .ok (.aload_n 2, 1) := by decide +kernel
theorem dX18_init_2_20 : decode cX18_init_2 20 = .ok (.getfield 13, 3) := by decide +kernel
theorem dX18_init_2_23 : decode cX18_init_2 23 = .ok (.iadd, 1) := by decide +kernel
theorem dX18_init_2_24 : decode cX18_init_2 24 = .ok (.putfield 13, 3) := by decide +kernel
theorem dX18_init_2_27 : decode cX18_init_2 27 = .ok (.aload_n 0, 1) := by decide +kernel
theorem dX18_init_2_28 : decode cX18_init_2 28 = .ok (.iconst 1, 1) := by decide +kernel
theorem dX18_init_2_29 : decode cX18_init_2 29 = .ok (.aload_n 1, 1) := by decide +kernel
theorem dX18_init_2_30 : decode cX18_init_2 30 = .ok (.getfield 17, 3) := by decide +kernel
theorem dX18_init_2_33 : decode cX18_init_2 33 = .ok (.aload_n 2, 1) := by decide +kernel
theorem dX18_init_2_34 : decode cX18_init_2 34 = .ok (.getfield 17, 3) := by decide +kernel
theorem dX18_init_2_37 : decode cX18_init_2 37 = .ok (.invokestatic 27, 3) := by decide +kernel
theorem dX18_init_2_40 : decode cX18_init_2 40 = .ok (.iadd, 1) := by decide +kernel
theorem dX18_init_2_41 : decode cX18_init_2 41 = .ok (.putfield 17, 3) := by decide +kernel
theorem dX18_init_2_44 : decode cX18_init_2 44 = .ok (.return_, 1) := by decide +kernel
theorem dX18_even_0 : decode cX18_even 0 = .ok (.aload_n 0, 1) := by decide +kernel
theorem dX18_even_1 : decode cX18_even 1 = .ok (.getfield 13, 3) := by decide +kernel
theorem dX18_even_4 : decode cX18_even 4 = .ok (.newarray .char, 2) := by decide +kernel
theorem dX18_even_6 : decode cX18_even 6 = .ok (.astore_n 1, 1) := by decide +kernel
theorem dX18_even_7 : decode cX18_even 7 = .ok (.iconst 0, 1) := by decide +kernel
theorem dX18_even_8 : decode cX18_even 8 = .ok (.istore_n 2, 1) := by decide +kernel
theorem dX18_even_9 : decode cX18_even 9 = .ok (.iload_n 2, 1) := by decide +kernel
theorem dX18_even_10 : decode cX18_even 10 = .ok (.aload_n 0, 1) := by decide +kernel
theorem dX18_even_11 : decode cX18_even 11 = .ok (.getfield 13, 3) := by decide +kernel
theorem dX18_even_14 : decode cX18_even 14 = .ok (.if_icmp .ge 17, 3) := by decide +kernel
theorem dX18_even_17 : decode cX18_even 17 = .ok (.aload_n 1, 1) := by decide +kernel
theorem dX18_even_18 : decode cX18_even 18 = .ok (.iload_n 2, 1) := by decide +kernel
theorem dX18_even_19 : decode cX18_even 19 = .ok (.aload_n 0, 1) := by decide +kernel
theorem dX18_even_20 : decode cX18_even 20 = .ok (.iload_n 2, 1) := by decide +kernel
theorem dX18_even_21 : decode cX18_even 21 = .ok (.invokevirtual 33, 3) := by decide +kernel
theorem dX18_even_24 : decode cX18_even 24 = .ok (.castore, 1) := by decide +kernel
theorem dX18_even_25 : decode cX18_even 25 = .ok (.iinc 2 1, 3) := by decide +kernel
theorem dX18_even_28 : decode cX18_even 28 = .ok (.goto (-19), 3) := by decide +kernel
theorem dX18_even_31 : decode cX18_even 31 = .ok (.aload_n 1, 1) := by decide +kernel
theorem dX18_even_32 : decode cX18_even 32 = .ok (.iconst 0, 1) := by decide +kernel
theorem dX18_even_33 : decode cX18_even 33 = .ok (.aload_n 0, 1) := by decide +kernel
theorem dX18_even_34 : decode cX18_even 34 = .ok (.getfield 13, 3) := by decide +kernel
theorem dX18_even_37 : decode cX18_even 37 = .ok (.invokestatic 51, 3) := by decide +kernel
theorem dX18_even_40 : decode cX18_even 40 = .ok (.areturn, 1) := by decide +kernel
theorem dX18_of_0 : decode cX18_of 0 = .ok (.iload_n 1, 1) := by decide +kernel
theorem dX18_of_1 : decode cX18_of 1 = .ok (.iload_n 2, 1) := by decide +kernel
theorem dX18_of_2 : decode cX18_of 2 = .ok (.if_icmp .ne 5, 3) := by decide +kernel
theorem dX18_of_5 : decode cX18_of 5 = .ok (.aconst_null, 1) := by decide +kernel
theorem dX18_of_6 : decode cX18_of 6 = .ok (.areturn, 1) := by decide +kernel
theorem dX18_of_7 : decode cX18_of 7 = .ok (.iload_n 2, 1) := by decide +kernel
theorem dX18_of_8 : decode cX18_of 8 = .ok (.iload_n 1, 1) := by decide +kernel
theorem dX18_of_9 : decode cX18_of 9 = .ok (.isub, 1) := by decide +kernel
theorem dX18_of_10 : decode cX18_of 10 = .ok (.bipush 8, 2) := by decide +kernel
theorem dX18_of_12 : decode cX18_of 12 = .ok (.if_icmp .gt 16, 3) := by decide +kernel
theorem dX18_of_15 : decode cX18_of 15 = .ok (.new 8, 3) := by decide +kernel
theorem dX18_of_18 : decode cX18_of 18 = .ok (.dup, 1) := by decide +kernel
theorem dX18_of_19 : decode cX18_of 19 = .ok (.aload_n 0, 1) := by decide +kernel
theorem dX18_of_20 : decode cX18_of 20 = .ok (.iload_n 1, 1) := by decide +kernel
theorem dX18_of_21 : decode cX18_of 21 = .ok (.iload_n 2, 1) := by decide +kernel
theorem dX18_of_22 : decode cX18_of 22 = .ok (.iload_n 1, 1) := by decide +kernel
theorem dX18_of_23 : decode cX18_of 23 = .ok (.isub, 1) := by decide +kernel
theorem dX18_of_24 : decode cX18_of 24 = .ok (.invokespecial 37, 3) := by decide +kernel
theorem dX18_of_27 : decode cX18_of 27 = .ok (.areturn, 1) := by decide +kernel
theorem dX18_of_28 : decode cX18_of 28 = .ok (.iload_n 1, 1) := by decide +kernel
theorem dX18_of_29 : decode cX18_of 29 = .ok (.iload_n 2, 1) := by decide +kernel
theorem dX18_of_30 : decode cX18_of 30 = .ok (.iadd, 1) := by decide +kernel
theorem dX18_of_31 : decode cX18_of 31 = .ok (.iconst 2, 1) := by decide +kernel
theorem dX18_of_32 : decode cX18_of 32 = .ok (.idiv, 1) := by decide +kernel
theorem dX18_of_33 : decode cX18_of 33 = .ok (.istore_n 3, 1) := by decide +kernel
theorem dX18_of_34 : decode cX18_of 34 = .ok (.new 8, 3) := by decide +kernel
theorem dX18_of_37 : decode cX18_of 37 = .ok (.dup, 1) := by decide +kernel
theorem dX18_of_38 : decode cX18_of 38 = .ok (.aload_n 0, 1) := by decide +kernel
theorem dX18_of_39 : decode cX18_of 39 = .ok (.iload_n 1, 1) := by decide +kernel
theorem dX18_of_40 : decode cX18_of 40 = .ok (.iload_n 3, 1) := by decide +kernel
theorem dX18_of_41 : decode cX18_of 41 = .ok (.invokestatic 51, 3) := by decide +kernel
theorem dX18_of_44 : decode cX18_of 44 = .ok (.aload_n 0, 1) := by decide +kernel
theorem dX18_of_45 : decode cX18_of 45 = .ok (.iload_n 3, 1) := by decide +kernel
theorem dX18_of_46 : decode cX18_of 46 = .ok (.iload_n 2, 1) := by decide +kernel
theorem dX18_of_47 : decode cX18_of 47 = .ok (.invokestatic 51, 3) := by decide +kernel
theorem dX18_of_50 : decode cX18_of 50 = .ok (.invokespecial 40, 3) := by decide +kernel
theorem dX18_of_53 : decode cX18_of 53 = .ok (.areturn, 1) := by decide +kernel
theorem dJ11_init_0 : decode cJ11_init 0 = .ok (.return_, 1) := by decide +kernel
theorem dL_law_0 : decode cL_law 0 = .ok (.new 8, 3) := by decide +kernel
theorem dL_law_3 : decode cL_law 3 = .ok (.dup, 1) := by decide +kernel
theorem dL_law_4 : decode cL_law 4 = .ok (.invokespecial 62, 3) := by decide +kernel
theorem dL_law_7 : decode cL_law 7 = .ok (.astore_n 1, 1) := by decide +kernel
theorem dL_law_8 : decode cL_law 8 = .ok (.new 63, 3) := by decide +kernel
theorem dL_law_11 : decode cL_law 11 = .ok (.dup, 1) := by decide +kernel
theorem dL_law_12 : decode cL_law 12 = .ok (.invokespecial 65, 3) := by decide +kernel
theorem dL_law_15 : decode cL_law 15 = .ok (.astore_n 2, 1) := by decide +kernel
theorem dL_law_16 : decode cL_law 16 = .ok (.iconst 1, 1) := by decide +kernel
theorem dL_law_17 : decode cL_law 17 = .ok (.newarray .long, 2) := by decide +kernel
theorem dL_law_19 : decode cL_law 19 = .ok (.astore_n 3, 1) := by decide +kernel
theorem dL_law_20 : decode cL_law 20 = .ok (.iconst 0, 1) := by decide +kernel
theorem dL_law_21 : decode cL_law 21 = .ok (.istore 4, 2) := by decide +kernel
theorem dL_law_23 : decode cL_law 23 = .ok (.iload 4, 2) := by decide +kernel
theorem dL_law_25 : decode cL_law 25 = .ok (.aload_n 0, 1) := by decide +kernel
theorem dL_law_26 : decode cL_law 26 = .ok (.arraylength, 1) := by decide +kernel
theorem dL_law_27 : decode cL_law 27 = .ok (.iconst 4, 1) := by decide +kernel
theorem dL_law_28 : decode cL_law 28 = .ok (.isub, 1) := by decide +kernel
theorem dL_law_29 : decode cL_law 29 = .ok (.if_icmp .gt 1274, 3) := by decide +kernel
theorem dL_law_32 : decode cL_law 32 = .ok (.aload_n 0, 1) := by decide +kernel
theorem dL_law_33 : decode cL_law 33 = .ok (.iload 4, 2) := by decide +kernel
theorem dL_law_35 : decode cL_law 35 = .ok (.iaload, 1) := by decide +kernel
theorem dL_law_36 : decode cL_law 36 = .ok (.bipush 31, 2) := by decide +kernel
theorem dL_law_38 : decode cL_law 38 = .ok (.iand, 1) := by decide +kernel
theorem dL_law_39 : decode cL_law 39 = .ok (.tableswitch 1258 0 22 #[105, 174, 242, 310, 366, 422, 447, 515, 583, 667, 692, 717, 773, 829, 897, 953, 1009, 1034, 1090, 1158, 1171, 1196, 1233], 105) := by decide +kernel
theorem dL_law_144 : decode cL_law 144 = .ok (.aload_n 1, 1) := by decide +kernel
theorem dL_law_145 : decode cL_law 145 = .ok (.aload_n 0, 1) := by decide +kernel
theorem dL_law_146 : decode cL_law 146 = .ok (.iload 4, 2) := by decide +kernel
theorem dL_law_148 : decode cL_law 148 = .ok (.iconst 1, 1) := by decide +kernel
theorem dL_law_149 : decode cL_law 149 = .ok (.iadd, 1) := by decide +kernel
theorem dL_law_150 : decode cL_law 150 = .ok (.iaload, 1) := by decide +kernel
theorem dL_law_151 : decode cL_law 151 = .ok (.i2l, 1) := by decide +kernel
theorem dL_law_152 : decode cL_law 152 = .ok (.bipush 32, 2) := by decide +kernel
theorem dL_law_154 : decode cL_law 154 = .ok (.lshl, 1) := by decide +kernel
theorem dL_law_155 : decode cL_law 155 = .ok (.aload_n 0, 1) := by decide +kernel
theorem dL_law_156 : decode cL_law 156 = .ok (.iload 4, 2) := by decide +kernel
theorem dL_law_158 : decode cL_law 158 = .ok (.iconst 2, 1) := by decide +kernel
theorem dL_law_159 : decode cL_law 159 = .ok (.iadd, 1) := by decide +kernel
theorem dL_law_160 : decode cL_law 160 = .ok (.iaload, 1) := by decide +kernel
theorem dL_law_161 : decode cL_law 161 = .ok (.i2l, 1) := by decide +kernel
theorem dL_law_162 : decode cL_law 162 = .ok (.ldc2_w 66, 3) := by decide +kernel
theorem dL_law_165 : decode cL_law 165 = .ok (.land, 1) := by decide +kernel
theorem dL_law_166 : decode cL_law 166 = .ok (.lor, 1) := by decide +kernel
theorem dL_law_167 : decode cL_law 167 = .ok (.aload_n 0, 1) := by decide +kernel
theorem dL_law_168 : decode cL_law 168 = .ok (.iload 4, 2) := by decide +kernel
theorem dL_law_170 : decode cL_law 170 = .ok (.iconst 3, 1) := by decide +kernel
theorem dL_law_171 : decode cL_law 171 = .ok (.iadd, 1) := by decide +kernel
theorem dL_law_172 : decode cL_law 172 = .ok (.iaload, 1) := by decide +kernel
theorem dL_law_173 : decode cL_law 173 = .ok (.invokevirtual 68, 3) := by decide +kernel
theorem dL_law_176 : decode cL_law 176 = .ok (.aload_n 2, 1) := by decide +kernel
theorem dL_law_177 : decode cL_law 177 = .ok (.aload_n 0, 1) := by decide +kernel
theorem dL_law_178 : decode cL_law 178 = .ok (.iload 4, 2) := by decide +kernel
theorem dL_law_180 : decode cL_law 180 = .ok (.iconst 1, 1) := by decide +kernel
theorem dL_law_181 : decode cL_law 181 = .ok (.iadd, 1) := by decide +kernel
theorem dL_law_182 : decode cL_law 182 = .ok (.iaload, 1) := by decide +kernel
theorem dL_law_183 : decode cL_law 183 = .ok (.i2l, 1) := by decide +kernel
theorem dL_law_184 : decode cL_law 184 = .ok (.bipush 32, 2) := by decide +kernel
theorem dL_law_186 : decode cL_law 186 = .ok (.lshl, 1) := by decide +kernel
theorem dL_law_187 : decode cL_law 187 = .ok (.aload_n 0, 1) := by decide +kernel
theorem dL_law_188 : decode cL_law 188 = .ok (.iload 4, 2) := by decide +kernel
theorem dL_law_190 : decode cL_law 190 = .ok (.iconst 2, 1) := by decide +kernel
theorem dL_law_191 : decode cL_law 191 = .ok (.iadd, 1) := by decide +kernel
theorem dL_law_192 : decode cL_law 192 = .ok (.iaload, 1) := by decide +kernel
theorem dL_law_193 : decode cL_law 193 = .ok (.i2l, 1) := by decide +kernel
theorem dL_law_194 : decode cL_law 194 = .ok (.ldc2_w 66, 3) := by decide +kernel
theorem dL_law_197 : decode cL_law 197 = .ok (.land, 1) := by decide +kernel
theorem dL_law_198 : decode cL_law 198 = .ok (.lor, 1) := by decide +kernel
theorem dL_law_199 : decode cL_law 199 = .ok (.aload_n 0, 1) := by decide +kernel
theorem dL_law_200 : decode cL_law 200 = .ok (.iload 4, 2) := by decide +kernel
theorem dL_law_202 : decode cL_law 202 = .ok (.iconst 3, 1) := by decide +kernel
theorem dL_law_203 : decode cL_law 203 = .ok (.iadd, 1) := by decide +kernel
theorem dL_law_204 : decode cL_law 204 = .ok (.iaload, 1) := by decide +kernel
theorem dL_law_205 : decode cL_law 205 = .ok (.invokevirtual 72, 3) := by decide +kernel
theorem dL_law_208 : decode cL_law 208 = .ok (.if_icmp .eq 1089, 3) := by decide +kernel
theorem dL_law_211 : decode cL_law 211 = .ok (.iconst 0, 1) := by decide +kernel
theorem dL_law_212 : decode cL_law 212 = .ok (.ireturn, 1) := by decide +kernel
theorem dL_law_213 : decode cL_law 213 = .ok (.aload_n 1, 1) := by decide +kernel
theorem dL_law_214 : decode cL_law 214 = .ok (.aload_n 0, 1) := by decide +kernel
theorem dL_law_215 : decode cL_law 215 = .ok (.iload 4, 2) := by decide +kernel
theorem dL_law_217 : decode cL_law 217 = .ok (.iconst 1, 1) := by decide +kernel
theorem dL_law_218 : decode cL_law 218 = .ok (.iadd, 1) := by decide +kernel
theorem dL_law_219 : decode cL_law 219 = .ok (.iaload, 1) := by decide +kernel
theorem dL_law_220 : decode cL_law 220 = .ok (.aload_n 0, 1) := by decide +kernel
theorem dL_law_221 : decode cL_law 221 = .ok (.iload 4, 2) := by decide +kernel
theorem dL_law_223 : decode cL_law 223 = .ok (.iconst 2, 1) := by decide +kernel
theorem dL_law_224 : decode cL_law 224 = .ok (.iadd, 1) := by decide +kernel
theorem dL_law_225 : decode cL_law 225 = .ok (.iaload, 1) := by decide +kernel
theorem dL_law_226 : decode cL_law 226 = .ok (.aload_n 3, 1) := by decide +kernel
theorem dL_law_227 : decode cL_law 227 = .ok (.invokestatic 73, 3) := by decide +kernel
theorem dL_law_230 : decode cL_law 230 = .ok (.istore 5, 2) := by decide +kernel
theorem dL_law_232 : decode cL_law 232 = .ok (.aload_n 2, 1) := by decide +kernel
theorem dL_law_233 : decode cL_law 233 = .ok (.aload_n 0, 1) := by decide +kernel
theorem dL_law_234 : decode cL_law 234 = .ok (.iload 4, 2) := by decide +kernel
theorem dL_law_236 : decode cL_law 236 = .ok (.iconst 1, 1) := by decide +kernel
theorem dL_law_237 : decode cL_law 237 = .ok (.iadd, 1) := by decide +kernel
theorem dL_law_238 : decode cL_law 238 = .ok (.iaload, 1) := by decide +kernel
theorem dL_law_239 : decode cL_law 239 = .ok (.aload_n 0, 1) := by decide +kernel
theorem dL_law_240 : decode cL_law 240 = .ok (.iload 4, 2) := by decide +kernel
theorem dL_law_242 : decode cL_law 242 = .ok (.iconst 2, 1) := by decide +kernel
theorem dL_law_243 : decode cL_law 243 = .ok (.iadd, 1) := by decide +kernel
theorem dL_law_244 : decode cL_law 244 = .ok (.iaload, 1) := by decide +kernel
theorem dL_law_245 : decode cL_law 245 = .ok (.invokevirtual 78, 3) := by decide +kernel
theorem dL_law_248 : decode cL_law 248 = .ok (.istore 6, 2) := by decide +kernel
theorem dL_law_250 : decode cL_law 250 = .ok (.aload_n 2, 1) := by decide +kernel
theorem dL_law_251 : decode cL_law 251 = .ok (.invokevirtual 79, 3) := by decide +kernel
theorem dL_law_254 : decode cL_law 254 = .ok (.iload 5, 2) := by decide +kernel
theorem dL_law_256 : decode cL_law 256 = .ok (.if_icmp .eq 5, 3) := by decide +kernel
theorem dL_law_259 : decode cL_law 259 = .ok (.iconst 0, 1) := by decide +kernel
theorem dL_law_260 : decode cL_law 260 = .ok (.ireturn, 1) := by decide +kernel
theorem dL_law_261 : decode cL_law 261 = .ok (.iload 5, 2) := by decide +kernel
theorem dL_law_263 : decode cL_law 263 = .ok (.ifCond .ne 15, 3) := by decide +kernel
theorem dL_law_266 : decode cL_law 266 = .ok (.aload_n 3, 1) := by decide +kernel
theorem dL_law_267 : decode cL_law 267 = .ok (.iconst 0, 1) := by decide +kernel
theorem dL_law_268 : decode cL_law 268 = .ok (.laload, 1) := by decide +kernel
theorem dL_law_269 : decode cL_law 269 = .ok (.iload 6, 2) := by decide +kernel
theorem dL_law_271 : decode cL_law 271 = .ok (.i2l, 1) := by decide +kernel
theorem dL_law_272 : decode cL_law 272 = .ok (.lcmp, 1) := by decide +kernel
theorem dL_law_273 : decode cL_law 273 = .ok (.ifCond .eq 5, 3) := by decide +kernel
theorem dL_law_276 : decode cL_law 276 = .ok (.iconst 0, 1) := by decide +kernel
theorem dL_law_277 : decode cL_law 277 = .ok (.ireturn, 1) := by decide +kernel
theorem dL_law_278 : decode cL_law 278 = .ok (.goto 1019, 3) := by decide +kernel
theorem dL_law_281 : decode cL_law 281 = .ok (.aload_n 1, 1) := by decide +kernel
theorem dL_law_282 : decode cL_law 282 = .ok (.aload_n 0, 1) := by decide +kernel
theorem dL_law_283 : decode cL_law 283 = .ok (.iload 4, 2) := by decide +kernel
theorem dL_law_285 : decode cL_law 285 = .ok (.iconst 1, 1) := by decide +kernel
theorem dL_law_286 : decode cL_law 286 = .ok (.iadd, 1) := by decide +kernel
theorem dL_law_287 : decode cL_law 287 = .ok (.iaload, 1) := by decide +kernel
theorem dL_law_288 : decode cL_law 288 = .ok (.aload_n 0, 1) := by decide +kernel
theorem dL_law_289 : decode cL_law 289 = .ok (.iload 4, 2) := by decide +kernel
theorem dL_law_291 : decode cL_law 291 = .ok (.iconst 2, 1) := by decide +kernel
theorem dL_law_292 : decode cL_law 292 = .ok (.iadd, 1) := by decide +kernel
theorem dL_law_293 : decode cL_law 293 = .ok (.iaload, 1) := by decide +kernel
theorem dL_law_294 : decode cL_law 294 = .ok (.aload_n 3, 1) := by decide +kernel
theorem dL_law_295 : decode cL_law 295 = .ok (.invokestatic 83, 3) := by decide +kernel
theorem dL_law_298 : decode cL_law 298 = .ok (.istore 5, 2) := by decide +kernel
theorem dL_law_300 : decode cL_law 300 = .ok (.aload_n 2, 1) := by decide +kernel
theorem dL_law_301 : decode cL_law 301 = .ok (.aload_n 0, 1) := by decide +kernel
theorem dL_law_302 : decode cL_law 302 = .ok (.iload 4, 2) := by decide +kernel
theorem dL_law_304 : decode cL_law 304 = .ok (.iconst 1, 1) := by decide +kernel
theorem dL_law_305 : decode cL_law 305 = .ok (.iadd, 1) := by decide +kernel
theorem dL_law_306 : decode cL_law 306 = .ok (.iaload, 1) := by decide +kernel
theorem dL_law_307 : decode cL_law 307 = .ok (.aload_n 0, 1) := by decide +kernel
theorem dL_law_308 : decode cL_law 308 = .ok (.iload 4, 2) := by decide +kernel
theorem dL_law_310 : decode cL_law 310 = .ok (.iconst 2, 1) := by decide +kernel
theorem dL_law_311 : decode cL_law 311 = .ok (.iadd, 1) := by decide +kernel
theorem dL_law_312 : decode cL_law 312 = .ok (.iaload, 1) := by decide +kernel
theorem dL_law_313 : decode cL_law 313 = .ok (.invokevirtual 85, 3) := by decide +kernel
theorem dL_law_316 : decode cL_law 316 = .ok (.istore 6, 2) := by decide +kernel
theorem dL_law_318 : decode cL_law 318 = .ok (.aload_n 2, 1) := by decide +kernel
theorem dL_law_319 : decode cL_law 319 = .ok (.invokevirtual 79, 3) := by decide +kernel
theorem dL_law_322 : decode cL_law 322 = .ok (.iload 5, 2) := by decide +kernel
theorem dL_law_324 : decode cL_law 324 = .ok (.if_icmp .eq 5, 3) := by decide +kernel
theorem dL_law_327 : decode cL_law 327 = .ok (.iconst 0, 1) := by decide +kernel
theorem dL_law_328 : decode cL_law 328 = .ok (.ireturn, 1) := by decide +kernel
theorem dL_law_329 : decode cL_law 329 = .ok (.iload 5, 2) := by decide +kernel
theorem dL_law_331 : decode cL_law 331 = .ok (.ifCond .ne 15, 3) := by decide +kernel
theorem dL_law_334 : decode cL_law 334 = .ok (.aload_n 3, 1) := by decide +kernel
theorem dL_law_335 : decode cL_law 335 = .ok (.iconst 0, 1) := by decide +kernel
theorem dL_law_336 : decode cL_law 336 = .ok (.laload, 1) := by decide +kernel
theorem dL_law_337 : decode cL_law 337 = .ok (.iload 6, 2) := by decide +kernel
theorem dL_law_339 : decode cL_law 339 = .ok (.i2l, 1) := by decide +kernel
theorem dL_law_340 : decode cL_law 340 = .ok (.lcmp, 1) := by decide +kernel
theorem dL_law_341 : decode cL_law 341 = .ok (.ifCond .eq 5, 3) := by decide +kernel
theorem dL_law_344 : decode cL_law 344 = .ok (.iconst 0, 1) := by decide +kernel
theorem dL_law_345 : decode cL_law 345 = .ok (.ireturn, 1) := by decide +kernel
theorem dL_law_346 : decode cL_law 346 = .ok (.goto 951, 3) := by decide +kernel
theorem dL_law_349 : decode cL_law 349 = .ok (.aload_n 1, 1) := by decide +kernel
theorem dL_law_350 : decode cL_law 350 = .ok (.aload_n 0, 1) := by decide +kernel
theorem dL_law_351 : decode cL_law 351 = .ok (.iload 4, 2) := by decide +kernel
theorem dL_law_353 : decode cL_law 353 = .ok (.iconst 1, 1) := by decide +kernel
theorem dL_law_354 : decode cL_law 354 = .ok (.iadd, 1) := by decide +kernel
theorem dL_law_355 : decode cL_law 355 = .ok (.iaload, 1) := by decide +kernel
theorem dL_law_356 : decode cL_law 356 = .ok (.aload_n 3, 1) := by decide +kernel
theorem dL_law_357 : decode cL_law 357 = .ok (.invokestatic 86, 3) := by decide +kernel
theorem dL_law_360 : decode cL_law 360 = .ok (.istore 5, 2) := by decide +kernel
theorem dL_law_362 : decode cL_law 362 = .ok (.aload_n 2, 1) := by decide +kernel
theorem dL_law_363 : decode cL_law 363 = .ok (.aload_n 0, 1) := by decide +kernel
theorem dL_law_364 : decode cL_law 364 = .ok (.iload 4, 2) := by decide +kernel
theorem dL_law_366 : decode cL_law 366 = .ok (.iconst 1, 1) := by decide +kernel
theorem dL_law_367 : decode cL_law 367 = .ok (.iadd, 1) := by decide +kernel
theorem dL_law_368 : decode cL_law 368 = .ok (.iaload, 1) := by decide +kernel
theorem dL_law_369 : decode cL_law 369 = .ok (.invokevirtual 89, 3) := by decide +kernel
theorem dL_law_372 : decode cL_law 372 = .ok (.istore 6, 2) := by decide +kernel
theorem dL_law_374 : decode cL_law 374 = .ok (.aload_n 2, 1) := by decide +kernel
theorem dL_law_375 : decode cL_law 375 = .ok (.invokevirtual 79, 3) := by decide +kernel
theorem dL_law_378 : decode cL_law 378 = .ok (.iload 5, 2) := by decide +kernel
theorem dL_law_380 : decode cL_law 380 = .ok (.if_icmp .eq 5, 3) := by decide +kernel
theorem dL_law_383 : decode cL_law 383 = .ok (.iconst 0, 1) := by decide +kernel
theorem dL_law_384 : decode cL_law 384 = .ok (.ireturn, 1) := by decide +kernel
theorem dL_law_385 : decode cL_law 385 = .ok (.iload 5, 2) := by decide +kernel
theorem dL_law_387 : decode cL_law 387 = .ok (.ifCond .ne 15, 3) := by decide +kernel
theorem dL_law_390 : decode cL_law 390 = .ok (.aload_n 3, 1) := by decide +kernel
theorem dL_law_391 : decode cL_law 391 = .ok (.iconst 0, 1) := by decide +kernel
theorem dL_law_392 : decode cL_law 392 = .ok (.laload, 1) := by decide +kernel
theorem dL_law_393 : decode cL_law 393 = .ok (.iload 6, 2) := by decide +kernel
theorem dL_law_395 : decode cL_law 395 = .ok (.i2l, 1) := by decide +kernel
theorem dL_law_396 : decode cL_law 396 = .ok (.lcmp, 1) := by decide +kernel
theorem dL_law_397 : decode cL_law 397 = .ok (.ifCond .eq 5, 3) := by decide +kernel
theorem dL_law_400 : decode cL_law 400 = .ok (.iconst 0, 1) := by decide +kernel
theorem dL_law_401 : decode cL_law 401 = .ok (.ireturn, 1) := by decide +kernel
theorem dL_law_402 : decode cL_law 402 = .ok (.goto 895, 3) := by decide +kernel
theorem dL_law_405 : decode cL_law 405 = .ok (.aload_n 1, 1) := by decide +kernel
theorem dL_law_406 : decode cL_law 406 = .ok (.aload_n 0, 1) := by decide +kernel
theorem dL_law_407 : decode cL_law 407 = .ok (.iload 4, 2) := by decide +kernel
theorem dL_law_409 : decode cL_law 409 = .ok (.iconst 1, 1) := by decide +kernel
theorem dL_law_410 : decode cL_law 410 = .ok (.iadd, 1) := by decide +kernel
theorem dL_law_411 : decode cL_law 411 = .ok (.iaload, 1) := by decide +kernel
theorem dL_law_412 : decode cL_law 412 = .ok (.aload_n 3, 1) := by decide +kernel
theorem dL_law_413 : decode cL_law 413 = .ok (.invokestatic 90, 3) := by decide +kernel
theorem dL_law_416 : decode cL_law 416 = .ok (.istore 5, 2) := by decide +kernel
theorem dL_law_418 : decode cL_law 418 = .ok (.aload_n 2, 1) := by decide +kernel
theorem dL_law_419 : decode cL_law 419 = .ok (.aload_n 0, 1) := by decide +kernel
theorem dL_law_420 : decode cL_law 420 = .ok (.iload 4, 2) := by decide +kernel
theorem dL_law_422 : decode cL_law 422 = .ok (.iconst 1, 1) := by decide +kernel
theorem dL_law_423 : decode cL_law 423 = .ok (.iadd, 1) := by decide +kernel
theorem dL_law_424 : decode cL_law 424 = .ok (.iaload, 1) := by decide +kernel
theorem dL_law_425 : decode cL_law 425 = .ok (.invokevirtual 92, 3) := by decide +kernel
theorem dL_law_428 : decode cL_law 428 = .ok (.istore 6, 2) := by decide +kernel
theorem dL_law_430 : decode cL_law 430 = .ok (.aload_n 2, 1) := by decide +kernel
theorem dL_law_431 : decode cL_law 431 = .ok (.invokevirtual 79, 3) := by decide +kernel
theorem dL_law_434 : decode cL_law 434 = .ok (.iload 5, 2) := by decide +kernel
theorem dL_law_436 : decode cL_law 436 = .ok (.if_icmp .eq 5, 3) := by decide +kernel
theorem dL_law_439 : decode cL_law 439 = .ok (.iconst 0, 1) := by decide +kernel
theorem dL_law_440 : decode cL_law 440 = .ok (.ireturn, 1) := by decide +kernel
theorem dL_law_441 : decode cL_law 441 = .ok (.iload 5, 2) := by decide +kernel
theorem dL_law_443 : decode cL_law 443 = .ok (.ifCond .ne 15, 3) := by decide +kernel
theorem dL_law_446 : decode cL_law 446 = .ok (.aload_n 3, 1) := by decide +kernel
theorem dL_law_447 : decode cL_law 447 = .ok (.iconst 0, 1) := by decide +kernel
theorem dL_law_448 : decode cL_law 448 = .ok (.laload, 1) := by decide +kernel
theorem dL_law_449 : decode cL_law 449 = .ok (.iload 6, 2) := by decide +kernel
theorem dL_law_451 : decode cL_law 451 = .ok (.i2l, 1) := by decide +kernel
theorem dL_law_452 : decode cL_law 452 = .ok (.lcmp, 1) := by decide +kernel
theorem dL_law_453 : decode cL_law 453 = .ok (.ifCond .eq 5, 3) := by decide +kernel
theorem dL_law_456 : decode cL_law 456 = .ok (.iconst 0, 1) := by decide +kernel
theorem dL_law_457 : decode cL_law 457 = .ok (.ireturn, 1) := by decide +kernel
theorem dL_law_458 : decode cL_law 458 = .ok (.goto 839, 3) := by decide +kernel
theorem dL_law_461 : decode cL_law 461 = .ok (.aload_n 1, 1) := by decide +kernel
theorem dL_law_462 : decode cL_law 462 = .ok (.aload_n 0, 1) := by decide +kernel
theorem dL_law_463 : decode cL_law 463 = .ok (.iload 4, 2) := by decide +kernel
theorem dL_law_465 : decode cL_law 465 = .ok (.iconst 1, 1) := by decide +kernel
theorem dL_law_466 : decode cL_law 466 = .ok (.iadd, 1) := by decide +kernel
theorem dL_law_467 : decode cL_law 467 = .ok (.iaload, 1) := by decide +kernel
theorem dL_law_468 : decode cL_law 468 = .ok (.invokevirtual 93, 3) := by decide +kernel
theorem dL_law_471 : decode cL_law 471 = .ok (.aload_n 2, 1) := by decide +kernel
theorem dL_law_472 : decode cL_law 472 = .ok (.aload_n 0, 1) := by decide +kernel
theorem dL_law_473 : decode cL_law 473 = .ok (.iload 4, 2) := by decide +kernel
theorem dL_law_475 : decode cL_law 475 = .ok (.iconst 1, 1) := by decide +kernel
theorem dL_law_476 : decode cL_law 476 = .ok (.iadd, 1) := by decide +kernel
theorem dL_law_477 : decode cL_law 477 = .ok (.iaload, 1) := by decide +kernel
theorem dL_law_478 : decode cL_law 478 = .ok (.invokevirtual 96, 3) := by decide +kernel
theorem dL_law_481 : decode cL_law 481 = .ok (.if_icmp .eq 816, 3) := by decide +kernel
theorem dL_law_484 : decode cL_law 484 = .ok (.iconst 0, 1) := by decide +kernel
theorem dL_law_485 : decode cL_law 485 = .ok (.ireturn, 1) := by decide +kernel
theorem dL_law_486 : decode cL_law 486 = .ok (.aload_n 1, 1) := by decide +kernel
theorem dL_law_487 : decode cL_law 487 = .ok (.aload_n 0, 1) := by decide +kernel
theorem dL_law_488 : decode cL_law 488 = .ok (.iload 4, 2) := by decide +kernel
theorem dL_law_490 : decode cL_law 490 = .ok (.iconst 1, 1) := by decide +kernel
theorem dL_law_491 : decode cL_law 491 = .ok (.iadd, 1) := by decide +kernel
theorem dL_law_492 : decode cL_law 492 = .ok (.iaload, 1) := by decide +kernel
theorem dL_law_493 : decode cL_law 493 = .ok (.aload_n 0, 1) := by decide +kernel
theorem dL_law_494 : decode cL_law 494 = .ok (.iload 4, 2) := by decide +kernel
theorem dL_law_496 : decode cL_law 496 = .ok (.iconst 2, 1) := by decide +kernel
theorem dL_law_497 : decode cL_law 497 = .ok (.iadd, 1) := by decide +kernel
theorem dL_law_498 : decode cL_law 498 = .ok (.iaload, 1) := by decide +kernel
theorem dL_law_499 : decode cL_law 499 = .ok (.aload_n 3, 1) := by decide +kernel
theorem dL_law_500 : decode cL_law 500 = .ok (.invokestatic 97, 3) := by decide +kernel
theorem dL_law_503 : decode cL_law 503 = .ok (.istore 5, 2) := by decide +kernel
theorem dL_law_505 : decode cL_law 505 = .ok (.aload_n 2, 1) := by decide +kernel
theorem dL_law_506 : decode cL_law 506 = .ok (.aload_n 0, 1) := by decide +kernel
theorem dL_law_507 : decode cL_law 507 = .ok (.iload 4, 2) := by decide +kernel
theorem dL_law_509 : decode cL_law 509 = .ok (.iconst 1, 1) := by decide +kernel
theorem dL_law_510 : decode cL_law 510 = .ok (.iadd, 1) := by decide +kernel
theorem dL_law_511 : decode cL_law 511 = .ok (.iaload, 1) := by decide +kernel
theorem dL_law_512 : decode cL_law 512 = .ok (.aload_n 0, 1) := by decide +kernel
theorem dL_law_513 : decode cL_law 513 = .ok (.iload 4, 2) := by decide +kernel
theorem dL_law_515 : decode cL_law 515 = .ok (.iconst 2, 1) := by decide +kernel
theorem dL_law_516 : decode cL_law 516 = .ok (.iadd, 1) := by decide +kernel
theorem dL_law_517 : decode cL_law 517 = .ok (.iaload, 1) := by decide +kernel
theorem dL_law_518 : decode cL_law 518 = .ok (.invokevirtual 99, 3) := by decide +kernel
theorem dL_law_521 : decode cL_law 521 = .ok (.istore 6, 2) := by decide +kernel
theorem dL_law_523 : decode cL_law 523 = .ok (.aload_n 2, 1) := by decide +kernel
theorem dL_law_524 : decode cL_law 524 = .ok (.invokevirtual 79, 3) := by decide +kernel
theorem dL_law_527 : decode cL_law 527 = .ok (.iload 5, 2) := by decide +kernel
theorem dL_law_529 : decode cL_law 529 = .ok (.if_icmp .eq 5, 3) := by decide +kernel
theorem dL_law_532 : decode cL_law 532 = .ok (.iconst 0, 1) := by decide +kernel
theorem dL_law_533 : decode cL_law 533 = .ok (.ireturn, 1) := by decide +kernel
theorem dL_law_534 : decode cL_law 534 = .ok (.iload 5, 2) := by decide +kernel
theorem dL_law_536 : decode cL_law 536 = .ok (.ifCond .ne 15, 3) := by decide +kernel
theorem dL_law_539 : decode cL_law 539 = .ok (.aload_n 3, 1) := by decide +kernel
theorem dL_law_540 : decode cL_law 540 = .ok (.iconst 0, 1) := by decide +kernel
theorem dL_law_541 : decode cL_law 541 = .ok (.laload, 1) := by decide +kernel
theorem dL_law_542 : decode cL_law 542 = .ok (.iload 6, 2) := by decide +kernel
theorem dL_law_544 : decode cL_law 544 = .ok (.i2l, 1) := by decide +kernel
theorem dL_law_545 : decode cL_law 545 = .ok (.lcmp, 1) := by decide +kernel
theorem dL_law_546 : decode cL_law 546 = .ok (.ifCond .eq 5, 3) := by decide +kernel
theorem dL_law_549 : decode cL_law 549 = .ok (.iconst 0, 1) := by decide +kernel
theorem dL_law_550 : decode cL_law 550 = .ok (.ireturn, 1) := by decide +kernel
theorem dL_law_551 : decode cL_law 551 = .ok (.goto 746, 3) := by decide +kernel
theorem dL_law_554 : decode cL_law 554 = .ok (.aload_n 1, 1) := by decide +kernel
theorem dL_law_555 : decode cL_law 555 = .ok (.aload_n 0, 1) := by decide +kernel
theorem dL_law_556 : decode cL_law 556 = .ok (.iload 4, 2) := by decide +kernel
theorem dL_law_558 : decode cL_law 558 = .ok (.iconst 1, 1) := by decide +kernel
theorem dL_law_559 : decode cL_law 559 = .ok (.iadd, 1) := by decide +kernel
theorem dL_law_560 : decode cL_law 560 = .ok (.iaload, 1) := by decide +kernel
theorem dL_law_561 : decode cL_law 561 = .ok (.aload_n 0, 1) := by decide +kernel
theorem dL_law_562 : decode cL_law 562 = .ok (.iload 4, 2) := by decide +kernel
theorem dL_law_564 : decode cL_law 564 = .ok (.iconst 2, 1) := by decide +kernel
theorem dL_law_565 : decode cL_law 565 = .ok (.iadd, 1) := by decide +kernel
theorem dL_law_566 : decode cL_law 566 = .ok (.iaload, 1) := by decide +kernel
theorem dL_law_567 : decode cL_law 567 = .ok (.aload_n 3, 1) := by decide +kernel
theorem dL_law_568 : decode cL_law 568 = .ok (.invokestatic 100, 3) := by decide +kernel
theorem dL_law_571 : decode cL_law 571 = .ok (.istore 5, 2) := by decide +kernel
theorem dL_law_573 : decode cL_law 573 = .ok (.aload_n 2, 1) := by decide +kernel
theorem dL_law_574 : decode cL_law 574 = .ok (.aload_n 0, 1) := by decide +kernel
theorem dL_law_575 : decode cL_law 575 = .ok (.iload 4, 2) := by decide +kernel
theorem dL_law_577 : decode cL_law 577 = .ok (.iconst 1, 1) := by decide +kernel
theorem dL_law_578 : decode cL_law 578 = .ok (.iadd, 1) := by decide +kernel
theorem dL_law_579 : decode cL_law 579 = .ok (.iaload, 1) := by decide +kernel
theorem dL_law_580 : decode cL_law 580 = .ok (.aload_n 0, 1) := by decide +kernel
theorem dL_law_581 : decode cL_law 581 = .ok (.iload 4, 2) := by decide +kernel
theorem dL_law_583 : decode cL_law 583 = .ok (.iconst 2, 1) := by decide +kernel
theorem dL_law_584 : decode cL_law 584 = .ok (.iadd, 1) := by decide +kernel
theorem dL_law_585 : decode cL_law 585 = .ok (.iaload, 1) := by decide +kernel
theorem dL_law_586 : decode cL_law 586 = .ok (.invokevirtual 102, 3) := by decide +kernel
theorem dL_law_589 : decode cL_law 589 = .ok (.istore 6, 2) := by decide +kernel
theorem dL_law_591 : decode cL_law 591 = .ok (.aload_n 2, 1) := by decide +kernel
theorem dL_law_592 : decode cL_law 592 = .ok (.invokevirtual 79, 3) := by decide +kernel
theorem dL_law_595 : decode cL_law 595 = .ok (.iload 5, 2) := by decide +kernel
theorem dL_law_597 : decode cL_law 597 = .ok (.if_icmp .eq 5, 3) := by decide +kernel
theorem dL_law_600 : decode cL_law 600 = .ok (.iconst 0, 1) := by decide +kernel
theorem dL_law_601 : decode cL_law 601 = .ok (.ireturn, 1) := by decide +kernel
theorem dL_law_602 : decode cL_law 602 = .ok (.iload 5, 2) := by decide +kernel
theorem dL_law_604 : decode cL_law 604 = .ok (.ifCond .ne 15, 3) := by decide +kernel
theorem dL_law_607 : decode cL_law 607 = .ok (.aload_n 3, 1) := by decide +kernel
theorem dL_law_608 : decode cL_law 608 = .ok (.iconst 0, 1) := by decide +kernel
theorem dL_law_609 : decode cL_law 609 = .ok (.laload, 1) := by decide +kernel
theorem dL_law_610 : decode cL_law 610 = .ok (.iload 6, 2) := by decide +kernel
theorem dL_law_612 : decode cL_law 612 = .ok (.i2l, 1) := by decide +kernel
theorem dL_law_613 : decode cL_law 613 = .ok (.lcmp, 1) := by decide +kernel
theorem dL_law_614 : decode cL_law 614 = .ok (.ifCond .eq 5, 3) := by decide +kernel
theorem dL_law_617 : decode cL_law 617 = .ok (.iconst 0, 1) := by decide +kernel
theorem dL_law_618 : decode cL_law 618 = .ok (.ireturn, 1) := by decide +kernel
theorem dL_law_619 : decode cL_law 619 = .ok (.goto 678, 3) := by decide +kernel
theorem dL_law_622 : decode cL_law 622 = .ok (.aload_n 1, 1) := by decide +kernel
theorem dL_law_623 : decode cL_law 623 = .ok (.aload_n 0, 1) := by decide +kernel
theorem dL_law_624 : decode cL_law 624 = .ok (.iload 4, 2) := by decide +kernel
theorem dL_law_626 : decode cL_law 626 = .ok (.iconst 1, 1) := by decide +kernel
theorem dL_law_627 : decode cL_law 627 = .ok (.iadd, 1) := by decide +kernel
theorem dL_law_628 : decode cL_law 628 = .ok (.iaload, 1) := by decide +kernel
theorem dL_law_629 : decode cL_law 629 = .ok (.aload_n 0, 1) := by decide +kernel
theorem dL_law_630 : decode cL_law 630 = .ok (.iload 4, 2) := by decide +kernel
theorem dL_law_632 : decode cL_law 632 = .ok (.iconst 2, 1) := by decide +kernel
theorem dL_law_633 : decode cL_law 633 = .ok (.iadd, 1) := by decide +kernel
theorem dL_law_634 : decode cL_law 634 = .ok (.iaload, 1) := by decide +kernel
theorem dL_law_635 : decode cL_law 635 = .ok (.ifCond .eq 7, 3) := by decide +kernel
theorem dL_law_638 : decode cL_law 638 = .ok (.iconst 1, 1) := by decide +kernel
theorem dL_law_639 : decode cL_law 639 = .ok (.goto 4, 3) := by decide +kernel
theorem dL_law_642 : decode cL_law 642 = .ok (.iconst 0, 1) := by decide +kernel
theorem dL_law_643 : decode cL_law 643 = .ok (.aload_n 3, 1) := by decide +kernel
theorem dL_law_644 : decode cL_law 644 = .ok (.invokestatic 103, 3) := by decide +kernel
theorem dL_law_647 : decode cL_law 647 = .ok (.istore 5, 2) := by decide +kernel
theorem dL_law_649 : decode cL_law 649 = .ok (.aload_n 2, 1) := by decide +kernel
theorem dL_law_650 : decode cL_law 650 = .ok (.aload_n 0, 1) := by decide +kernel
theorem dL_law_651 : decode cL_law 651 = .ok (.iload 4, 2) := by decide +kernel
theorem dL_law_653 : decode cL_law 653 = .ok (.iconst 1, 1) := by decide +kernel
theorem dL_law_654 : decode cL_law 654 = .ok (.iadd, 1) := by decide +kernel
theorem dL_law_655 : decode cL_law 655 = .ok (.iaload, 1) := by decide +kernel
theorem dL_law_656 : decode cL_law 656 = .ok (.aload_n 0, 1) := by decide +kernel
theorem dL_law_657 : decode cL_law 657 = .ok (.iload 4, 2) := by decide +kernel
theorem dL_law_659 : decode cL_law 659 = .ok (.iconst 2, 1) := by decide +kernel
theorem dL_law_660 : decode cL_law 660 = .ok (.iadd, 1) := by decide +kernel
theorem dL_law_661 : decode cL_law 661 = .ok (.iaload, 1) := by decide +kernel
theorem dL_law_662 : decode cL_law 662 = .ok (.ifCond .eq 7, 3) := by decide +kernel
theorem dL_law_665 : decode cL_law 665 = .ok (.iconst 1, 1) := by decide +kernel
theorem dL_law_666 : decode cL_law 666 = .ok (.goto 4, 3) := by decide +kernel
theorem dL_law_669 : decode cL_law 669 = .ok (.iconst 0, 1) := by decide +kernel
theorem dL_law_670 : decode cL_law 670 = .ok (.invokevirtual 106, 3) := by decide +kernel
theorem dL_law_673 : decode cL_law 673 = .ok (.istore 6, 2) := by decide +kernel
theorem dL_law_675 : decode cL_law 675 = .ok (.aload_n 2, 1) := by decide +kernel
theorem dL_law_676 : decode cL_law 676 = .ok (.invokevirtual 79, 3) := by decide +kernel
theorem dL_law_679 : decode cL_law 679 = .ok (.iload 5, 2) := by decide +kernel
theorem dL_law_681 : decode cL_law 681 = .ok (.if_icmp .eq 5, 3) := by decide +kernel
theorem dL_law_684 : decode cL_law 684 = .ok (.iconst 0, 1) := by decide +kernel
theorem dL_law_685 : decode cL_law 685 = .ok (.ireturn, 1) := by decide +kernel
theorem dL_law_686 : decode cL_law 686 = .ok (.iload 5, 2) := by decide +kernel
theorem dL_law_688 : decode cL_law 688 = .ok (.ifCond .ne 15, 3) := by decide +kernel
theorem dL_law_691 : decode cL_law 691 = .ok (.aload_n 3, 1) := by decide +kernel
theorem dL_law_692 : decode cL_law 692 = .ok (.iconst 0, 1) := by decide +kernel
theorem dL_law_693 : decode cL_law 693 = .ok (.laload, 1) := by decide +kernel
theorem dL_law_694 : decode cL_law 694 = .ok (.iload 6, 2) := by decide +kernel
theorem dL_law_696 : decode cL_law 696 = .ok (.i2l, 1) := by decide +kernel
theorem dL_law_697 : decode cL_law 697 = .ok (.lcmp, 1) := by decide +kernel
theorem dL_law_698 : decode cL_law 698 = .ok (.ifCond .eq 5, 3) := by decide +kernel
theorem dL_law_701 : decode cL_law 701 = .ok (.iconst 0, 1) := by decide +kernel
theorem dL_law_702 : decode cL_law 702 = .ok (.ireturn, 1) := by decide +kernel
theorem dL_law_703 : decode cL_law 703 = .ok (.goto 594, 3) := by decide +kernel
theorem dL_law_706 : decode cL_law 706 = .ok (.aload_n 1, 1) := by decide +kernel
theorem dL_law_707 : decode cL_law 707 = .ok (.aload_n 0, 1) := by decide +kernel
theorem dL_law_708 : decode cL_law 708 = .ok (.iload 4, 2) := by decide +kernel
theorem dL_law_710 : decode cL_law 710 = .ok (.iconst 1, 1) := by decide +kernel
theorem dL_law_711 : decode cL_law 711 = .ok (.iadd, 1) := by decide +kernel
theorem dL_law_712 : decode cL_law 712 = .ok (.iaload, 1) := by decide +kernel
theorem dL_law_713 : decode cL_law 713 = .ok (.invokevirtual 107, 3) := by decide +kernel
theorem dL_law_716 : decode cL_law 716 = .ok (.aload_n 2, 1) := by decide +kernel
theorem dL_law_717 : decode cL_law 717 = .ok (.aload_n 0, 1) := by decide +kernel
theorem dL_law_718 : decode cL_law 718 = .ok (.iload 4, 2) := by decide +kernel
theorem dL_law_720 : decode cL_law 720 = .ok (.iconst 1, 1) := by decide +kernel
theorem dL_law_721 : decode cL_law 721 = .ok (.iadd, 1) := by decide +kernel
theorem dL_law_722 : decode cL_law 722 = .ok (.iaload, 1) := by decide +kernel
theorem dL_law_723 : decode cL_law 723 = .ok (.invokevirtual 110, 3) := by decide +kernel
theorem dL_law_726 : decode cL_law 726 = .ok (.if_icmp .eq 571, 3) := by decide +kernel
theorem dL_law_729 : decode cL_law 729 = .ok (.iconst 0, 1) := by decide +kernel
theorem dL_law_730 : decode cL_law 730 = .ok (.ireturn, 1) := by decide +kernel
theorem dL_law_731 : decode cL_law 731 = .ok (.aload_n 1, 1) := by decide +kernel
theorem dL_law_732 : decode cL_law 732 = .ok (.aload_n 0, 1) := by decide +kernel
theorem dL_law_733 : decode cL_law 733 = .ok (.iload 4, 2) := by decide +kernel
theorem dL_law_735 : decode cL_law 735 = .ok (.iconst 1, 1) := by decide +kernel
theorem dL_law_736 : decode cL_law 736 = .ok (.iadd, 1) := by decide +kernel
theorem dL_law_737 : decode cL_law 737 = .ok (.iaload, 1) := by decide +kernel
theorem dL_law_738 : decode cL_law 738 = .ok (.invokevirtual 111, 3) := by decide +kernel
theorem dL_law_741 : decode cL_law 741 = .ok (.aload_n 2, 1) := by decide +kernel
theorem dL_law_742 : decode cL_law 742 = .ok (.aload_n 0, 1) := by decide +kernel
theorem dL_law_743 : decode cL_law 743 = .ok (.iload 4, 2) := by decide +kernel
theorem dL_law_745 : decode cL_law 745 = .ok (.iconst 1, 1) := by decide +kernel
theorem dL_law_746 : decode cL_law 746 = .ok (.iadd, 1) := by decide +kernel
theorem dL_law_747 : decode cL_law 747 = .ok (.iaload, 1) := by decide +kernel
theorem dL_law_748 : decode cL_law 748 = .ok (.invokevirtual 115, 3) := by decide +kernel
theorem dL_law_751 : decode cL_law 751 = .ok (.if_icmp .eq 546, 3) := by decide +kernel
theorem dL_law_754 : decode cL_law 754 = .ok (.iconst 0, 1) := by decide +kernel
theorem dL_law_755 : decode cL_law 755 = .ok (.ireturn, 1) := by decide +kernel
theorem dL_law_756 : decode cL_law 756 = .ok (.aload_n 1, 1) := by decide +kernel
theorem dL_law_757 : decode cL_law 757 = .ok (.aload_n 0, 1) := by decide +kernel
theorem dL_law_758 : decode cL_law 758 = .ok (.iload 4, 2) := by decide +kernel
theorem dL_law_760 : decode cL_law 760 = .ok (.iconst 1, 1) := by decide +kernel
theorem dL_law_761 : decode cL_law 761 = .ok (.iadd, 1) := by decide +kernel
theorem dL_law_762 : decode cL_law 762 = .ok (.iaload, 1) := by decide +kernel
theorem dL_law_763 : decode cL_law 763 = .ok (.aload_n 3, 1) := by decide +kernel
theorem dL_law_764 : decode cL_law 764 = .ok (.invokestatic 116, 3) := by decide +kernel
theorem dL_law_767 : decode cL_law 767 = .ok (.istore 5, 2) := by decide +kernel
theorem dL_law_769 : decode cL_law 769 = .ok (.aload_n 2, 1) := by decide +kernel
theorem dL_law_770 : decode cL_law 770 = .ok (.aload_n 0, 1) := by decide +kernel
theorem dL_law_771 : decode cL_law 771 = .ok (.iload 4, 2) := by decide +kernel
theorem dL_law_773 : decode cL_law 773 = .ok (.iconst 1, 1) := by decide +kernel
theorem dL_law_774 : decode cL_law 774 = .ok (.iadd, 1) := by decide +kernel
theorem dL_law_775 : decode cL_law 775 = .ok (.iaload, 1) := by decide +kernel
theorem dL_law_776 : decode cL_law 776 = .ok (.invokevirtual 118, 3) := by decide +kernel
theorem dL_law_779 : decode cL_law 779 = .ok (.istore 6, 2) := by decide +kernel
theorem dL_law_781 : decode cL_law 781 = .ok (.aload_n 2, 1) := by decide +kernel
theorem dL_law_782 : decode cL_law 782 = .ok (.invokevirtual 79, 3) := by decide +kernel
theorem dL_law_785 : decode cL_law 785 = .ok (.iload 5, 2) := by decide +kernel
theorem dL_law_787 : decode cL_law 787 = .ok (.if_icmp .eq 5, 3) := by decide +kernel
theorem dL_law_790 : decode cL_law 790 = .ok (.iconst 0, 1) := by decide +kernel
theorem dL_law_791 : decode cL_law 791 = .ok (.ireturn, 1) := by decide +kernel
theorem dL_law_792 : decode cL_law 792 = .ok (.iload 5, 2) := by decide +kernel
theorem dL_law_794 : decode cL_law 794 = .ok (.ifCond .ne 15, 3) := by decide +kernel
theorem dL_law_797 : decode cL_law 797 = .ok (.aload_n 3, 1) := by decide +kernel
theorem dL_law_798 : decode cL_law 798 = .ok (.iconst 0, 1) := by decide +kernel
theorem dL_law_799 : decode cL_law 799 = .ok (.laload, 1) := by decide +kernel
theorem dL_law_800 : decode cL_law 800 = .ok (.iload 6, 2) := by decide +kernel
theorem dL_law_802 : decode cL_law 802 = .ok (.i2l, 1) := by decide +kernel
theorem dL_law_803 : decode cL_law 803 = .ok (.lcmp, 1) := by decide +kernel
theorem dL_law_804 : decode cL_law 804 = .ok (.ifCond .eq 5, 3) := by decide +kernel
theorem dL_law_807 : decode cL_law 807 = .ok (.iconst 0, 1) := by decide +kernel
theorem dL_law_808 : decode cL_law 808 = .ok (.ireturn, 1) := by decide +kernel
theorem dL_law_809 : decode cL_law 809 = .ok (.goto 488, 3) := by decide +kernel
theorem dL_law_812 : decode cL_law 812 = .ok (.aload_n 1, 1) := by decide +kernel
theorem dL_law_813 : decode cL_law 813 = .ok (.aload_n 0, 1) := by decide +kernel
theorem dL_law_814 : decode cL_law 814 = .ok (.iload 4, 2) := by decide +kernel
theorem dL_law_816 : decode cL_law 816 = .ok (.iconst 1, 1) := by decide +kernel
theorem dL_law_817 : decode cL_law 817 = .ok (.iadd, 1) := by decide +kernel
theorem dL_law_818 : decode cL_law 818 = .ok (.iaload, 1) := by decide +kernel
theorem dL_law_819 : decode cL_law 819 = .ok (.aload_n 3, 1) := by decide +kernel
theorem dL_law_820 : decode cL_law 820 = .ok (.invokestatic 119, 3) := by decide +kernel
theorem dL_law_823 : decode cL_law 823 = .ok (.istore 5, 2) := by decide +kernel
theorem dL_law_825 : decode cL_law 825 = .ok (.aload_n 2, 1) := by decide +kernel
theorem dL_law_826 : decode cL_law 826 = .ok (.aload_n 0, 1) := by decide +kernel
theorem dL_law_827 : decode cL_law 827 = .ok (.iload 4, 2) := by decide +kernel
theorem dL_law_829 : decode cL_law 829 = .ok (.iconst 1, 1) := by decide +kernel
theorem dL_law_830 : decode cL_law 830 = .ok (.iadd, 1) := by decide +kernel
theorem dL_law_831 : decode cL_law 831 = .ok (.iaload, 1) := by decide +kernel
theorem dL_law_832 : decode cL_law 832 = .ok (.invokevirtual 121, 3) := by decide +kernel
theorem dL_law_835 : decode cL_law 835 = .ok (.istore 6, 2) := by decide +kernel
theorem dL_law_837 : decode cL_law 837 = .ok (.aload_n 2, 1) := by decide +kernel
theorem dL_law_838 : decode cL_law 838 = .ok (.invokevirtual 79, 3) := by decide +kernel
theorem dL_law_841 : decode cL_law 841 = .ok (.iload 5, 2) := by decide +kernel
theorem dL_law_843 : decode cL_law 843 = .ok (.if_icmp .eq 5, 3) := by decide +kernel
theorem dL_law_846 : decode cL_law 846 = .ok (.iconst 0, 1) := by decide +kernel
theorem dL_law_847 : decode cL_law 847 = .ok (.ireturn, 1) := by decide +kernel
theorem dL_law_848 : decode cL_law 848 = .ok (.iload 5, 2) := by decide +kernel
theorem dL_law_850 : decode cL_law 850 = .ok (.ifCond .ne 15, 3) := by decide +kernel
theorem dL_law_853 : decode cL_law 853 = .ok (.aload_n 3, 1) := by decide +kernel
theorem dL_law_854 : decode cL_law 854 = .ok (.iconst 0, 1) := by decide +kernel
theorem dL_law_855 : decode cL_law 855 = .ok (.laload, 1) := by decide +kernel
theorem dL_law_856 : decode cL_law 856 = .ok (.iload 6, 2) := by decide +kernel
theorem dL_law_858 : decode cL_law 858 = .ok (.i2l, 1) := by decide +kernel
theorem dL_law_859 : decode cL_law 859 = .ok (.lcmp, 1) := by decide +kernel
theorem dL_law_860 : decode cL_law 860 = .ok (.ifCond .eq 5, 3) := by decide +kernel
theorem dL_law_863 : decode cL_law 863 = .ok (.iconst 0, 1) := by decide +kernel
theorem dL_law_864 : decode cL_law 864 = .ok (.ireturn, 1) := by decide +kernel
theorem dL_law_865 : decode cL_law 865 = .ok (.goto 432, 3) := by decide +kernel
theorem dL_law_868 : decode cL_law 868 = .ok (.aload_n 1, 1) := by decide +kernel
theorem dL_law_869 : decode cL_law 869 = .ok (.aload_n 0, 1) := by decide +kernel
theorem dL_law_870 : decode cL_law 870 = .ok (.iload 4, 2) := by decide +kernel
theorem dL_law_872 : decode cL_law 872 = .ok (.iconst 1, 1) := by decide +kernel
theorem dL_law_873 : decode cL_law 873 = .ok (.iadd, 1) := by decide +kernel
theorem dL_law_874 : decode cL_law 874 = .ok (.iaload, 1) := by decide +kernel
theorem dL_law_875 : decode cL_law 875 = .ok (.aload_n 0, 1) := by decide +kernel
theorem dL_law_876 : decode cL_law 876 = .ok (.iload 4, 2) := by decide +kernel
theorem dL_law_878 : decode cL_law 878 = .ok (.iconst 2, 1) := by decide +kernel
theorem dL_law_879 : decode cL_law 879 = .ok (.iadd, 1) := by decide +kernel
theorem dL_law_880 : decode cL_law 880 = .ok (.iaload, 1) := by decide +kernel
theorem dL_law_881 : decode cL_law 881 = .ok (.aload_n 3, 1) := by decide +kernel
theorem dL_law_882 : decode cL_law 882 = .ok (.invokestatic 122, 3) := by decide +kernel
theorem dL_law_885 : decode cL_law 885 = .ok (.istore 5, 2) := by decide +kernel
theorem dL_law_887 : decode cL_law 887 = .ok (.aload_n 2, 1) := by decide +kernel
theorem dL_law_888 : decode cL_law 888 = .ok (.aload_n 0, 1) := by decide +kernel
theorem dL_law_889 : decode cL_law 889 = .ok (.iload 4, 2) := by decide +kernel
theorem dL_law_891 : decode cL_law 891 = .ok (.iconst 1, 1) := by decide +kernel
theorem dL_law_892 : decode cL_law 892 = .ok (.iadd, 1) := by decide +kernel
theorem dL_law_893 : decode cL_law 893 = .ok (.iaload, 1) := by decide +kernel
theorem dL_law_894 : decode cL_law 894 = .ok (.aload_n 0, 1) := by decide +kernel
theorem dL_law_895 : decode cL_law 895 = .ok (.iload 4, 2) := by decide +kernel
theorem dL_law_897 : decode cL_law 897 = .ok (.iconst 2, 1) := by decide +kernel
theorem dL_law_898 : decode cL_law 898 = .ok (.iadd, 1) := by decide +kernel
theorem dL_law_899 : decode cL_law 899 = .ok (.iaload, 1) := by decide +kernel
theorem dL_law_900 : decode cL_law 900 = .ok (.invokevirtual 124, 3) := by decide +kernel
theorem dL_law_903 : decode cL_law 903 = .ok (.istore 6, 2) := by decide +kernel
theorem dL_law_905 : decode cL_law 905 = .ok (.aload_n 2, 1) := by decide +kernel
theorem dL_law_906 : decode cL_law 906 = .ok (.invokevirtual 79, 3) := by decide +kernel
theorem dL_law_909 : decode cL_law 909 = .ok (.iload 5, 2) := by decide +kernel
theorem dL_law_911 : decode cL_law 911 = .ok (.if_icmp .eq 5, 3) := by decide +kernel
theorem dL_law_914 : decode cL_law 914 = .ok (.iconst 0, 1) := by decide +kernel
theorem dL_law_915 : decode cL_law 915 = .ok (.ireturn, 1) := by decide +kernel
theorem dL_law_916 : decode cL_law 916 = .ok (.iload 5, 2) := by decide +kernel
theorem dL_law_918 : decode cL_law 918 = .ok (.ifCond .ne 15, 3) := by decide +kernel
theorem dL_law_921 : decode cL_law 921 = .ok (.aload_n 3, 1) := by decide +kernel
theorem dL_law_922 : decode cL_law 922 = .ok (.iconst 0, 1) := by decide +kernel
theorem dL_law_923 : decode cL_law 923 = .ok (.laload, 1) := by decide +kernel
theorem dL_law_924 : decode cL_law 924 = .ok (.iload 6, 2) := by decide +kernel
theorem dL_law_926 : decode cL_law 926 = .ok (.i2l, 1) := by decide +kernel
theorem dL_law_927 : decode cL_law 927 = .ok (.lcmp, 1) := by decide +kernel
theorem dL_law_928 : decode cL_law 928 = .ok (.ifCond .eq 5, 3) := by decide +kernel
theorem dL_law_931 : decode cL_law 931 = .ok (.iconst 0, 1) := by decide +kernel
theorem dL_law_932 : decode cL_law 932 = .ok (.ireturn, 1) := by decide +kernel
theorem dL_law_933 : decode cL_law 933 = .ok (.goto 364, 3) := by decide +kernel
theorem dL_law_936 : decode cL_law 936 = .ok (.aload_n 1, 1) := by decide +kernel
theorem dL_law_937 : decode cL_law 937 = .ok (.aload_n 0, 1) := by decide +kernel
theorem dL_law_938 : decode cL_law 938 = .ok (.iload 4, 2) := by decide +kernel
theorem dL_law_940 : decode cL_law 940 = .ok (.iconst 1, 1) := by decide +kernel
theorem dL_law_941 : decode cL_law 941 = .ok (.iadd, 1) := by decide +kernel
theorem dL_law_942 : decode cL_law 942 = .ok (.iaload, 1) := by decide +kernel
theorem dL_law_943 : decode cL_law 943 = .ok (.aload_n 3, 1) := by decide +kernel
theorem dL_law_944 : decode cL_law 944 = .ok (.invokestatic 125, 3) := by decide +kernel
theorem dL_law_947 : decode cL_law 947 = .ok (.istore 5, 2) := by decide +kernel
theorem dL_law_949 : decode cL_law 949 = .ok (.aload_n 2, 1) := by decide +kernel
theorem dL_law_950 : decode cL_law 950 = .ok (.aload_n 0, 1) := by decide +kernel
theorem dL_law_951 : decode cL_law 951 = .ok (.iload 4, 2) := by decide +kernel
theorem dL_law_953 : decode cL_law 953 = .ok (.iconst 1, 1) := by decide +kernel
theorem dL_law_954 : decode cL_law 954 = .ok (.iadd, 1) := by decide +kernel
theorem dL_law_955 : decode cL_law 955 = .ok (.iaload, 1) := by decide +kernel
theorem dL_law_956 : decode cL_law 956 = .ok (.invokevirtual 127, 3) := by decide +kernel
theorem dL_law_959 : decode cL_law 959 = .ok (.istore 6, 2) := by decide +kernel
theorem dL_law_961 : decode cL_law 961 = .ok (.aload_n 2, 1) := by decide +kernel
theorem dL_law_962 : decode cL_law 962 = .ok (.invokevirtual 79, 3) := by decide +kernel
theorem dL_law_965 : decode cL_law 965 = .ok (.iload 5, 2) := by decide +kernel
theorem dL_law_967 : decode cL_law 967 = .ok (.if_icmp .eq 5, 3) := by decide +kernel
theorem dL_law_970 : decode cL_law 970 = .ok (.iconst 0, 1) := by decide +kernel
theorem dL_law_971 : decode cL_law 971 = .ok (.ireturn, 1) := by decide +kernel
theorem dL_law_972 : decode cL_law 972 = .ok (.iload 5, 2) := by decide +kernel
theorem dL_law_974 : decode cL_law 974 = .ok (.ifCond .ne 15, 3) := by decide +kernel
theorem dL_law_977 : decode cL_law 977 = .ok (.aload_n 3, 1) := by decide +kernel
theorem dL_law_978 : decode cL_law 978 = .ok (.iconst 0, 1) := by decide +kernel
theorem dL_law_979 : decode cL_law 979 = .ok (.laload, 1) := by decide +kernel
theorem dL_law_980 : decode cL_law 980 = .ok (.iload 6, 2) := by decide +kernel
theorem dL_law_982 : decode cL_law 982 = .ok (.i2l, 1) := by decide +kernel
theorem dL_law_983 : decode cL_law 983 = .ok (.lcmp, 1) := by decide +kernel
theorem dL_law_984 : decode cL_law 984 = .ok (.ifCond .eq 5, 3) := by decide +kernel
theorem dL_law_987 : decode cL_law 987 = .ok (.iconst 0, 1) := by decide +kernel
theorem dL_law_988 : decode cL_law 988 = .ok (.ireturn, 1) := by decide +kernel
theorem dL_law_989 : decode cL_law 989 = .ok (.goto 308, 3) := by decide +kernel
theorem dL_law_992 : decode cL_law 992 = .ok (.aload_n 1, 1) := by decide +kernel
theorem dL_law_993 : decode cL_law 993 = .ok (.aload_n 0, 1) := by decide +kernel
theorem dL_law_994 : decode cL_law 994 = .ok (.iload 4, 2) := by decide +kernel
theorem dL_law_996 : decode cL_law 996 = .ok (.iconst 1, 1) := by decide +kernel
theorem dL_law_997 : decode cL_law 997 = .ok (.iadd, 1) := by decide +kernel
theorem dL_law_998 : decode cL_law 998 = .ok (.iaload, 1) := by decide +kernel
theorem dL_law_999 : decode cL_law 999 = .ok (.aload_n 3, 1) := by decide +kernel
theorem dL_law_1000 : decode cL_law 1000 = .ok (.invokestatic 128, 3) := by decide +kernel
theorem dL_law_1003 : decode cL_law 1003 = .ok (.istore 5, 2) := by decide +kernel
theorem dL_law_1005 : decode cL_law 1005 = .ok (.aload_n 2, 1) := by decide +kernel
theorem dL_law_1006 : decode cL_law 1006 = .ok (.aload_n 0, 1) := by decide +kernel
theorem dL_law_1007 : decode cL_law 1007 = .ok (.iload 4, 2) := by decide +kernel
theorem dL_law_1009 : decode cL_law 1009 = .ok (.iconst 1, 1) := by decide +kernel
theorem dL_law_1010 : decode cL_law 1010 = .ok (.iadd, 1) := by decide +kernel
theorem dL_law_1011 : decode cL_law 1011 = .ok (.iaload, 1) := by decide +kernel
theorem dL_law_1012 : decode cL_law 1012 = .ok (.invokevirtual 130, 3) := by decide +kernel
theorem dL_law_1015 : decode cL_law 1015 = .ok (.istore 6, 2) := by decide +kernel
theorem dL_law_1017 : decode cL_law 1017 = .ok (.aload_n 2, 1) := by decide +kernel
theorem dL_law_1018 : decode cL_law 1018 = .ok (.invokevirtual 79, 3) := by decide +kernel
theorem dL_law_1021 : decode cL_law 1021 = .ok (.iload 5, 2) := by decide +kernel
theorem dL_law_1023 : decode cL_law 1023 = .ok (.if_icmp .eq 5, 3) := by decide +kernel
theorem dL_law_1026 : decode cL_law 1026 = .ok (.iconst 0, 1) := by decide +kernel
theorem dL_law_1027 : decode cL_law 1027 = .ok (.ireturn, 1) := by decide +kernel
theorem dL_law_1028 : decode cL_law 1028 = .ok (.iload 5, 2) := by decide +kernel
theorem dL_law_1030 : decode cL_law 1030 = .ok (.ifCond .ne 15, 3) := by decide +kernel
theorem dL_law_1033 : decode cL_law 1033 = .ok (.aload_n 3, 1) := by decide +kernel
theorem dL_law_1034 : decode cL_law 1034 = .ok (.iconst 0, 1) := by decide +kernel
theorem dL_law_1035 : decode cL_law 1035 = .ok (.laload, 1) := by decide +kernel
theorem dL_law_1036 : decode cL_law 1036 = .ok (.iload 6, 2) := by decide +kernel
theorem dL_law_1038 : decode cL_law 1038 = .ok (.i2l, 1) := by decide +kernel
theorem dL_law_1039 : decode cL_law 1039 = .ok (.lcmp, 1) := by decide +kernel
theorem dL_law_1040 : decode cL_law 1040 = .ok (.ifCond .eq 5, 3) := by decide +kernel
theorem dL_law_1043 : decode cL_law 1043 = .ok (.iconst 0, 1) := by decide +kernel
theorem dL_law_1044 : decode cL_law 1044 = .ok (.ireturn, 1) := by decide +kernel
theorem dL_law_1045 : decode cL_law 1045 = .ok (.goto 252, 3) := by decide +kernel
theorem dL_law_1048 : decode cL_law 1048 = .ok (.aload_n 1, 1) := by decide +kernel
theorem dL_law_1049 : decode cL_law 1049 = .ok (.aload_n 0, 1) := by decide +kernel
theorem dL_law_1050 : decode cL_law 1050 = .ok (.iload 4, 2) := by decide +kernel
theorem dL_law_1052 : decode cL_law 1052 = .ok (.iconst 1, 1) := by decide +kernel
theorem dL_law_1053 : decode cL_law 1053 = .ok (.iadd, 1) := by decide +kernel
theorem dL_law_1054 : decode cL_law 1054 = .ok (.iaload, 1) := by decide +kernel
theorem dL_law_1055 : decode cL_law 1055 = .ok (.invokevirtual 131, 3) := by decide +kernel
theorem dL_law_1058 : decode cL_law 1058 = .ok (.aload_n 2, 1) := by decide +kernel
theorem dL_law_1059 : decode cL_law 1059 = .ok (.aload_n 0, 1) := by decide +kernel
theorem dL_law_1060 : decode cL_law 1060 = .ok (.iload 4, 2) := by decide +kernel
theorem dL_law_1062 : decode cL_law 1062 = .ok (.iconst 1, 1) := by decide +kernel
theorem dL_law_1063 : decode cL_law 1063 = .ok (.iadd, 1) := by decide +kernel
theorem dL_law_1064 : decode cL_law 1064 = .ok (.iaload, 1) := by decide +kernel
theorem dL_law_1065 : decode cL_law 1065 = .ok (.invokevirtual 134, 3) := by decide +kernel
theorem dL_law_1068 : decode cL_law 1068 = .ok (.if_icmp .eq 229, 3) := by decide +kernel
theorem dL_law_1071 : decode cL_law 1071 = .ok (.iconst 0, 1) := by decide +kernel
theorem dL_law_1072 : decode cL_law 1072 = .ok (.ireturn, 1) := by decide +kernel
theorem dL_law_1073 : decode cL_law 1073 = .ok (.aload_n 1, 1) := by decide +kernel
theorem dL_law_1074 : decode cL_law 1074 = .ok (.aload_n 0, 1) := by decide +kernel
theorem dL_law_1075 : decode cL_law 1075 = .ok (.iload 4, 2) := by decide +kernel
theorem dL_law_1077 : decode cL_law 1077 = .ok (.iconst 1, 1) := by decide +kernel
theorem dL_law_1078 : decode cL_law 1078 = .ok (.iadd, 1) := by decide +kernel
theorem dL_law_1079 : decode cL_law 1079 = .ok (.iaload, 1) := by decide +kernel
theorem dL_law_1080 : decode cL_law 1080 = .ok (.aload_n 3, 1) := by decide +kernel
theorem dL_law_1081 : decode cL_law 1081 = .ok (.invokestatic 135, 3) := by decide +kernel
theorem dL_law_1084 : decode cL_law 1084 = .ok (.istore 5, 2) := by decide +kernel
theorem dL_law_1086 : decode cL_law 1086 = .ok (.aload_n 2, 1) := by decide +kernel
theorem dL_law_1087 : decode cL_law 1087 = .ok (.aload_n 0, 1) := by decide +kernel
theorem dL_law_1088 : decode cL_law 1088 = .ok (.iload 4, 2) := by decide +kernel
theorem dL_law_1090 : decode cL_law 1090 = .ok (.iconst 1, 1) := by decide +kernel
theorem dL_law_1091 : decode cL_law 1091 = .ok (.iadd, 1) := by decide +kernel
theorem dL_law_1092 : decode cL_law 1092 = .ok (.iaload, 1) := by decide +kernel
theorem dL_law_1093 : decode cL_law 1093 = .ok (.invokevirtual 137, 3) := by decide +kernel
theorem dL_law_1096 : decode cL_law 1096 = .ok (.istore 6, 2) := by decide +kernel
theorem dL_law_1098 : decode cL_law 1098 = .ok (.aload_n 2, 1) := by decide +kernel
theorem dL_law_1099 : decode cL_law 1099 = .ok (.invokevirtual 79, 3) := by decide +kernel
theorem dL_law_1102 : decode cL_law 1102 = .ok (.iload 5, 2) := by decide +kernel
theorem dL_law_1104 : decode cL_law 1104 = .ok (.if_icmp .eq 5, 3) := by decide +kernel
theorem dL_law_1107 : decode cL_law 1107 = .ok (.iconst 0, 1) := by decide +kernel
theorem dL_law_1108 : decode cL_law 1108 = .ok (.ireturn, 1) := by decide +kernel
theorem dL_law_1109 : decode cL_law 1109 = .ok (.iload 5, 2) := by decide +kernel
theorem dL_law_1111 : decode cL_law 1111 = .ok (.ifCond .ne 15, 3) := by decide +kernel
theorem dL_law_1114 : decode cL_law 1114 = .ok (.aload_n 3, 1) := by decide +kernel
theorem dL_law_1115 : decode cL_law 1115 = .ok (.iconst 0, 1) := by decide +kernel
theorem dL_law_1116 : decode cL_law 1116 = .ok (.laload, 1) := by decide +kernel
theorem dL_law_1117 : decode cL_law 1117 = .ok (.iload 6, 2) := by decide +kernel
theorem dL_law_1119 : decode cL_law 1119 = .ok (.i2l, 1) := by decide +kernel
theorem dL_law_1120 : decode cL_law 1120 = .ok (.lcmp, 1) := by decide +kernel
theorem dL_law_1121 : decode cL_law 1121 = .ok (.ifCond .eq 5, 3) := by decide +kernel
theorem dL_law_1124 : decode cL_law 1124 = .ok (.iconst 0, 1) := by decide +kernel
theorem dL_law_1125 : decode cL_law 1125 = .ok (.ireturn, 1) := by decide +kernel
theorem dL_law_1126 : decode cL_law 1126 = .ok (.goto 171, 3) := by decide +kernel
theorem dL_law_1129 : decode cL_law 1129 = .ok (.aload_n 1, 1) := by decide +kernel
theorem dL_law_1130 : decode cL_law 1130 = .ok (.aload_n 0, 1) := by decide +kernel
theorem dL_law_1131 : decode cL_law 1131 = .ok (.iload 4, 2) := by decide +kernel
theorem dL_law_1133 : decode cL_law 1133 = .ok (.iconst 1, 1) := by decide +kernel
theorem dL_law_1134 : decode cL_law 1134 = .ok (.iadd, 1) := by decide +kernel
theorem dL_law_1135 : decode cL_law 1135 = .ok (.iaload, 1) := by decide +kernel
theorem dL_law_1136 : decode cL_law 1136 = .ok (.aload_n 0, 1) := by decide +kernel
theorem dL_law_1137 : decode cL_law 1137 = .ok (.iload 4, 2) := by decide +kernel
theorem dL_law_1139 : decode cL_law 1139 = .ok (.iconst 2, 1) := by decide +kernel
theorem dL_law_1140 : decode cL_law 1140 = .ok (.iadd, 1) := by decide +kernel
theorem dL_law_1141 : decode cL_law 1141 = .ok (.iaload, 1) := by decide +kernel
theorem dL_law_1142 : decode cL_law 1142 = .ok (.aload_n 3, 1) := by decide +kernel
theorem dL_law_1143 : decode cL_law 1143 = .ok (.invokestatic 138, 3) := by decide +kernel
theorem dL_law_1146 : decode cL_law 1146 = .ok (.istore 5, 2) := by decide +kernel
theorem dL_law_1148 : decode cL_law 1148 = .ok (.aload_n 2, 1) := by decide +kernel
theorem dL_law_1149 : decode cL_law 1149 = .ok (.aload_n 0, 1) := by decide +kernel
theorem dL_law_1150 : decode cL_law 1150 = .ok (.iload 4, 2) := by decide +kernel
theorem dL_law_1152 : decode cL_law 1152 = .ok (.iconst 1, 1) := by decide +kernel
theorem dL_law_1153 : decode cL_law 1153 = .ok (.iadd, 1) := by decide +kernel
theorem dL_law_1154 : decode cL_law 1154 = .ok (.iaload, 1) := by decide +kernel
theorem dL_law_1155 : decode cL_law 1155 = .ok (.aload_n 0, 1) := by decide +kernel
theorem dL_law_1156 : decode cL_law 1156 = .ok (.iload 4, 2) := by decide +kernel
theorem dL_law_1158 : decode cL_law 1158 = .ok (.iconst 2, 1) := by decide +kernel
theorem dL_law_1159 : decode cL_law 1159 = .ok (.iadd, 1) := by decide +kernel
theorem dL_law_1160 : decode cL_law 1160 = .ok (.iaload, 1) := by decide +kernel
theorem dL_law_1161 : decode cL_law 1161 = .ok (.invokevirtual 140, 3) := by decide +kernel
theorem dL_law_1164 : decode cL_law 1164 = .ok (.istore 6, 2) := by decide +kernel
theorem dL_law_1166 : decode cL_law 1166 = .ok (.aload_n 2, 1) := by decide +kernel
theorem dL_law_1167 : decode cL_law 1167 = .ok (.invokevirtual 79, 3) := by decide +kernel
theorem dL_law_1170 : decode cL_law 1170 = .ok (.iload 5, 2) := by decide +kernel
theorem dL_law_1172 : decode cL_law 1172 = .ok (.if_icmp .eq 5, 3) := by decide +kernel
theorem dL_law_1175 : decode cL_law 1175 = .ok (.iconst 0, 1) := by decide +kernel
theorem dL_law_1176 : decode cL_law 1176 = .ok (.ireturn, 1) := by decide +kernel
theorem dL_law_1177 : decode cL_law 1177 = .ok (.iload 5, 2) := by decide +kernel
theorem dL_law_1179 : decode cL_law 1179 = .ok (.ifCond .ne 15, 3) := by decide +kernel
theorem dL_law_1182 : decode cL_law 1182 = .ok (.aload_n 3, 1) := by decide +kernel
theorem dL_law_1183 : decode cL_law 1183 = .ok (.iconst 0, 1) := by decide +kernel
theorem dL_law_1184 : decode cL_law 1184 = .ok (.laload, 1) := by decide +kernel
theorem dL_law_1185 : decode cL_law 1185 = .ok (.iload 6, 2) := by decide +kernel
theorem dL_law_1187 : decode cL_law 1187 = .ok (.i2l, 1) := by decide +kernel
theorem dL_law_1188 : decode cL_law 1188 = .ok (.lcmp, 1) := by decide +kernel
theorem dL_law_1189 : decode cL_law 1189 = .ok (.ifCond .eq 5, 3) := by decide +kernel
theorem dL_law_1192 : decode cL_law 1192 = .ok (.iconst 0, 1) := by decide +kernel
theorem dL_law_1193 : decode cL_law 1193 = .ok (.ireturn, 1) := by decide +kernel
theorem dL_law_1194 : decode cL_law 1194 = .ok (.goto 103, 3) := by decide +kernel
theorem dL_law_1197 : decode cL_law 1197 = .ok (.aload_n 1, 1) := by decide +kernel
theorem dL_law_1198 : decode cL_law 1198 = .ok (.invokevirtual 141, 3) := by decide +kernel
theorem dL_law_1201 : decode cL_law 1201 = .ok (.aload_n 2, 1) := by decide +kernel
theorem dL_law_1202 : decode cL_law 1202 = .ok (.invokevirtual 144, 3) := by decide +kernel
theorem dL_law_1205 : decode cL_law 1205 = .ok (.if_icmp .eq 92, 3) := by decide +kernel
theorem dL_law_1208 : decode cL_law 1208 = .ok (.iconst 0, 1) := by decide +kernel
theorem dL_law_1209 : decode cL_law 1209 = .ok (.ireturn, 1) := by decide +kernel
theorem dL_law_1210 : decode cL_law 1210 = .ok (.aload_n 1, 1) := by decide +kernel
theorem dL_law_1211 : decode cL_law 1211 = .ok (.aload_n 0, 1) := by decide +kernel
theorem dL_law_1212 : decode cL_law 1212 = .ok (.iload 4, 2) := by decide +kernel
theorem dL_law_1214 : decode cL_law 1214 = .ok (.iconst 1, 1) := by decide +kernel
theorem dL_law_1215 : decode cL_law 1215 = .ok (.iadd, 1) := by decide +kernel
theorem dL_law_1216 : decode cL_law 1216 = .ok (.iaload, 1) := by decide +kernel
theorem dL_law_1217 : decode cL_law 1217 = .ok (.invokevirtual 145, 3) := by decide +kernel
theorem dL_law_1220 : decode cL_law 1220 = .ok (.aload_n 2, 1) := by decide +kernel
theorem dL_law_1221 : decode cL_law 1221 = .ok (.aload_n 0, 1) := by decide +kernel
theorem dL_law_1222 : decode cL_law 1222 = .ok (.iload 4, 2) := by decide +kernel
theorem dL_law_1224 : decode cL_law 1224 = .ok (.iconst 1, 1) := by decide +kernel
theorem dL_law_1225 : decode cL_law 1225 = .ok (.iadd, 1) := by decide +kernel
theorem dL_law_1226 : decode cL_law 1226 = .ok (.iaload, 1) := by decide +kernel
theorem dL_law_1227 : decode cL_law 1227 = .ok (.invokevirtual 148, 3) := by decide +kernel
theorem dL_law_1230 : decode cL_law 1230 = .ok (.if_icmp .eq 67, 3) := by decide +kernel
theorem dL_law_1233 : decode cL_law 1233 = .ok (.iconst 0, 1) := by decide +kernel
theorem dL_law_1234 : decode cL_law 1234 = .ok (.ireturn, 1) := by decide +kernel
theorem dL_law_1235 : decode cL_law 1235 = .ok (.aload_n 1, 1) := by decide +kernel
theorem dL_law_1236 : decode cL_law 1236 = .ok (.aload_n 0, 1) := by decide +kernel
theorem dL_law_1237 : decode cL_law 1237 = .ok (.iload 4, 2) := by decide +kernel
theorem dL_law_1239 : decode cL_law 1239 = .ok (.iconst 1, 1) := by decide +kernel
theorem dL_law_1240 : decode cL_law 1240 = .ok (.iadd, 1) := by decide +kernel
theorem dL_law_1241 : decode cL_law 1241 = .ok (.iaload, 1) := by decide +kernel
theorem dL_law_1242 : decode cL_law 1242 = .ok (.aload_n 0, 1) := by decide +kernel
theorem dL_law_1243 : decode cL_law 1243 = .ok (.iload 4, 2) := by decide +kernel
theorem dL_law_1245 : decode cL_law 1245 = .ok (.iconst 2, 1) := by decide +kernel
theorem dL_law_1246 : decode cL_law 1246 = .ok (.iadd, 1) := by decide +kernel
theorem dL_law_1247 : decode cL_law 1247 = .ok (.iaload, 1) := by decide +kernel
theorem dL_law_1248 : decode cL_law 1248 = .ok (.invokevirtual 149, 3) := by decide +kernel
theorem dL_law_1251 : decode cL_law 1251 = .ok (.aload_n 2, 1) := by decide +kernel
theorem dL_law_1252 : decode cL_law 1252 = .ok (.aload_n 0, 1) := by decide +kernel
theorem dL_law_1253 : decode cL_law 1253 = .ok (.iload 4, 2) := by decide +kernel
theorem dL_law_1255 : decode cL_law 1255 = .ok (.iconst 1, 1) := by decide +kernel
theorem dL_law_1256 : decode cL_law 1256 = .ok (.iadd, 1) := by decide +kernel
theorem dL_law_1257 : decode cL_law 1257 = .ok (.iaload, 1) := by decide +kernel
theorem dL_law_1258 : decode cL_law 1258 = .ok (.aload_n 0, 1) := by decide +kernel
theorem dL_law_1259 : decode cL_law 1259 = .ok (.iload 4, 2) := by decide +kernel
theorem dL_law_1261 : decode cL_law 1261 = .ok (.iconst 2, 1) := by decide +kernel
theorem dL_law_1262 : decode cL_law 1262 = .ok (.iadd, 1) := by decide +kernel
theorem dL_law_1263 : decode cL_law 1263 = .ok (.iaload, 1) := by decide +kernel
theorem dL_law_1264 : decode cL_law 1264 = .ok (.invokevirtual 152, 3) := by decide +kernel
theorem dL_law_1267 : decode cL_law 1267 = .ok (.if_icmp .eq 30, 3) := by decide +kernel
theorem dL_law_1270 : decode cL_law 1270 = .ok (.iconst 0, 1) := by decide +kernel
theorem dL_law_1271 : decode cL_law 1271 = .ok (.ireturn, 1) := by decide +kernel
theorem dL_law_1272 : decode cL_law 1272 = .ok (.aload_n 1, 1) := by decide +kernel
theorem dL_law_1273 : decode cL_law 1273 = .ok (.aload_n 0, 1) := by decide +kernel
theorem dL_law_1274 : decode cL_law 1274 = .ok (.iload 4, 2) := by decide +kernel
theorem dL_law_1276 : decode cL_law 1276 = .ok (.iconst 1, 1) := by decide +kernel
theorem dL_law_1277 : decode cL_law 1277 = .ok (.iadd, 1) := by decide +kernel
theorem dL_law_1278 : decode cL_law 1278 = .ok (.iaload, 1) := by decide +kernel
theorem dL_law_1279 : decode cL_law 1279 = .ok (.invokevirtual 153, 3) := by decide +kernel
theorem dL_law_1282 : decode cL_law 1282 = .ok (.aload_n 2, 1) := by decide +kernel
theorem dL_law_1283 : decode cL_law 1283 = .ok (.aload_n 0, 1) := by decide +kernel
theorem dL_law_1284 : decode cL_law 1284 = .ok (.iload 4, 2) := by decide +kernel
theorem dL_law_1286 : decode cL_law 1286 = .ok (.iconst 1, 1) := by decide +kernel
theorem dL_law_1287 : decode cL_law 1287 = .ok (.iadd, 1) := by decide +kernel
theorem dL_law_1288 : decode cL_law 1288 = .ok (.iaload, 1) := by decide +kernel
theorem dL_law_1289 : decode cL_law 1289 = .ok (.invokevirtual 156, 3) := by decide +kernel
theorem dL_law_1292 : decode cL_law 1292 = .ok (.if_icmp .eq 5, 3) := by decide +kernel
theorem dL_law_1295 : decode cL_law 1295 = .ok (.iconst 0, 1) := by decide +kernel
theorem dL_law_1296 : decode cL_law 1296 = .ok (.ireturn, 1) := by decide +kernel
theorem dL_law_1297 : decode cL_law 1297 = .ok (.iinc 4 4, 3) := by decide +kernel
theorem dL_law_1300 : decode cL_law 1300 = .ok (.goto (-1277), 3) := by decide +kernel
theorem dL_law_1303 : decode cL_law 1303 = .ok (.iconst 1, 1) := by decide +kernel
theorem dL_law_1304 : decode cL_law 1304 = .ok (.ireturn, 1) := by decide +kernel
