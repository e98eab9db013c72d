set_option maxRecDepth 100000
theorem dX4_get_9 : decode cX4_get 9 = .ok (.aload_n 0, 1) := by decide +kernel
theorem dX4_get_10 : decode cX4_get 10 = .ok (.aload_n 1, 1) := by decide +kernel
theorem dX4_get_11 : decode cX4_get 11 = .ok (.invokevirtual 32, 3) := by decide +kernel
theorem dX4_get_14 : decode cX4_get 14 = .ok (.astore_n 2, 1) := by decide +kernel
theorem dX4_get_15 : decode cX4_get 15 = .ok (.aload_n 2, 1) := by decide +kernel
theorem dX4_get_16 : decode cX4_get 16 = .ok (.aload_n 1, 1) := by decide +kernel
theorem dX4_get_17 : decode cX4_get 17 = .ok (.invokevirtual 36, 3) := by decide +kernel
theorem dX4_get_20 : decode cX4_get 20 = .ok (.ifCond .ne 7, 3) := by decide +kernel
theorem dX4_get_23 : decode cX4_get 23 = .ok (.aload_n 2, 1) := by decide +kernel
theorem dX4_get_24 : decode cX4_get 24 = .ok (.goto 4, 3) := by decide +kernel
theorem dX4_get_27 : decode cX4_get 27 = .ok (.aconst_null, 1) := by decide +kernel
theorem dX4_get_28 : decode cX4_get 28 = .ok (.areturn, 1) := by decide +kernel
theorem dX4_put_0 : decode cX4_put 0 = .ok (.new 14, 3) := by decide +kernel
theorem dX4_put_3 : decode cX4_put 3 = .ok (.dup, 1) := by decide +kernel
theorem dX4_put_4 : decode cX4_put 4 = .ok (.aload_n 1, 1) := by decide +kernel
theorem dX4_put_5 : decode cX4_put 5 = .ok (.invokespecial 42, 3) := by decide +kernel
theorem dX4_put_8 : decode cX4_put 8 = .ok (.astore_n 2, 1) := by decide +kernel
theorem dX4_put_9 : decode cX4_put 9 = .ok (.aload_n 0, 1) := by decide +kernel
theorem dX4_put_10 : decode cX4_put 10 = .ok (.getfield 7, 3) := by decide +kernel
theorem dX4_put_13 : decode cX4_put 13 = .ok (.ifnonnull 9, 3) := by decide +kernel
theorem dX4_put_16 : decode cX4_put 16 = .ok (.aload_n 0, 1) := by decide +kernel
theorem dX4_put_17 : decode cX4_put 17 = .ok (.aload_n 2, 1) := by decide +kernel
theorem dX4_put_18 : decode cX4_put 18 = .ok (.putfield 7, 3) := by decide +kernel
theorem dX4_put_21 : decode cX4_put 21 = .ok (.return_, 1) := by decide +kernel
theorem dX4_put_22 : decode cX4_put 22 = .ok (.aload_n 0, 1) := by decide +kernel
theorem dX4_put_23 : decode cX4_put 23 = .ok (.aload_n 1, 1) := by decide +kernel
theorem dX4_put_24 : decode cX4_put 24 = .ok (.invokevirtual 32, 3) := by decide +kernel
theorem dX4_put_27 : decode cX4_put 27 = .ok (.aload_n 1, 1) := by decide +kernel
theorem dX4_put_28 : decode cX4_put 28 = .ok (.invokevirtual 45, 3) := by decide +kernel
theorem dX4_put_31 : decode cX4_put 31 = .ok (.istore_n 3, 1) := by decide +kernel
theorem dX4_put_32 : decode cX4_put 32 = .ok (.aconst_null, 1) := by decide +kernel
theorem dX4_put_33 : decode cX4_put 33 = .ok (.astore 4, 2) := by decide +kernel
theorem dX4_put_35 : decode cX4_put 35 = .ok (.aload_n 0, 1) := by decide +kernel
theorem dX4_put_36 : decode cX4_put 36 = .ok (.getfield 7, 3) := by decide +kernel
theorem dX4_put_39 : decode cX4_put 39 = .ok (.astore 5, 2) := by decide +kernel
theorem dX4_put_41 : decode cX4_put 41 = .ok (.aload 5, 2) := by decide +kernel
theorem dX4_put_43 : decode cX4_put 43 = .ok (.getfield 13, 3) := by decide +kernel
theorem dX4_put_46 : decode cX4_put 46 = .ok (.ifnonnull 35, 3) := by decide +kernel
theorem dX4_put_49 : decode cX4_put 49 = .ok (.aload 5, 2) := by decide +kernel
theorem dX4_put_51 : decode cX4_put 51 = .ok (.getfield 19, 3) := by decide +kernel
theorem dX4_put_54 : decode cX4_put 54 = .ok (.iload_n 3, 1) := by decide +kernel
theorem dX4_put_55 : decode cX4_put 55 = .ok (.if_icmp .ge 26, 3) := by decide +kernel
theorem dX4_put_58 : decode cX4_put 58 = .ok (.aload 5, 2) := by decide +kernel
theorem dX4_put_60 : decode cX4_put 60 = .ok (.astore 4, 2) := by decide +kernel
theorem dX4_put_62 : decode cX4_put 62 = .ok (.aload 5, 2) := by decide +kernel
theorem dX4_put_64 : decode cX4_put 64 = .ok (.aload_n 1, 1) := by decide +kernel
theorem dX4_put_65 : decode cX4_put 65 = .ok (.aload 5, 2) := by decide +kernel
theorem dX4_put_67 : decode cX4_put 67 = .ok (.getfield 19, 3) := by decide +kernel
theorem dX4_put_70 : decode cX4_put 70 = .ok (.invokevirtual 48, 3) := by decide +kernel
theorem dX4_put_73 : decode cX4_put 73 = .ok (.invokevirtual 28, 3) := by decide +kernel
theorem dX4_put_76 : decode cX4_put 76 = .ok (.astore 5, 2) := by decide +kernel
theorem dX4_put_78 : decode cX4_put 78 = .ok (.goto (-37), 3) := by decide +kernel
theorem dX4_put_81 : decode cX4_put 81 = .ok (.aload_n 1, 1) := by decide +kernel
theorem dX4_put_82 : decode cX4_put 82 = .ok (.iload_n 3, 1) := by decide +kernel
theorem dX4_put_83 : decode cX4_put 83 = .ok (.invokevirtual 48, 3) := by decide +kernel
theorem dX4_put_86 : decode cX4_put 86 = .ok (.ifCond .ne 17, 3) := by decide +kernel
theorem dX4_put_89 : decode cX4_put 89 = .ok (.new 14, 3) := by decide +kernel
theorem dX4_put_92 : decode cX4_put 92 = .ok (.dup, 1) := by decide +kernel
theorem dX4_put_93 : decode cX4_put 93 = .ok (.iload_n 3, 1) := by decide +kernel
theorem dX4_put_94 : decode cX4_put 94 = .ok (.aload_n 2, 1) := by decide +kernel
theorem dX4_put_95 : decode cX4_put 95 = .ok (.aload 5, 2) := by decide +kernel
theorem dX4_put_97 : decode cX4_put 97 = .ok (.invokespecial 49, 3) := by decide +kernel
theorem dX4_put_100 : decode cX4_put 100 = .ok (.goto 14, 3) := by decide +kernel
theorem dX4_put_103 : decode cX4_put 103 = .ok (.new 14, 3) := by decide +kernel
theorem dX4_put_106 : decode cX4_put 106 = .ok (.dup, 1) := by decide +kernel
theorem dX4_put_107 : decode cX4_put 107 = .ok (.iload_n 3, 1) := by decide +kernel
theorem dX4_put_108 : decode cX4_put 108 = .ok (.aload 5, 2) := by decide +kernel
theorem dX4_put_110 : decode cX4_put 110 = .ok (.aload_n 2, 1) := by decide +kernel
theorem dX4_put_111 : decode cX4_put 111 = .ok (.invokespecial 49, 3) := by decide +kernel
theorem dX4_put_114 : decode cX4_put 114 = .ok (.astore 6, 2) := by decide +kernel
theorem dX4_put_116 : decode cX4_put 116 = .ok (.aload_n 0, 1) := by decide +kernel
theorem dX4_put_117 : decode cX4_put 117 = .ok (.aload 4, 2) := by decide +kernel
theorem dX4_put_119 : decode cX4_put 119 = .ok (.aload_n 1, 1) := by decide +kernel
theorem dX4_put_120 : decode cX4_put 120 = .ok (.aload 6, 2) := by decide +kernel
theorem dX4_put_122 : decode cX4_put 122 = .ok (.invokevirtual 52, 3) := by decide +kernel
theorem dX4_put_125 : decode cX4_put 125 = .ok (.return_, 1) := by decide +kernel
theorem dX4_join_0 : decode cX4_join 0 = .ok (.aload_n 1, 1) := by decide +kernel
theorem dX4_join_1 : decode cX4_join 1 = .ok (.ifnonnull 11, 3) := by decide +kernel
theorem dX4_join_4 : decode cX4_join 4 = .ok (.aload_n 0, 1) := by decide +kernel
theorem dX4_join_5 : decode cX4_join 5 = .ok (.aload_n 3, 1) := by decide +kernel
theorem dX4_join_6 : decode cX4_join 6 = .ok (.putfield 7, 3) := by decide +kernel
theorem dX4_join_9 : decode cX4_join 9 = .ok (.goto 27, 3) := by decide +kernel
theorem dX4_join_12 : decode cX4_join 12 = .ok (.aload_n 2, 1) := by decide +kernel
theorem dX4_join_13 : decode cX4_join 13 = .ok (.aload_n 1, 1) := by decide +kernel
theorem dX4_join_14 : decode cX4_join 14 = .ok (.getfield 19, 3) := by decide +kernel
theorem dX4_join_17 : decode cX4_join 17 = .ok (.invokevirtual 23, 3) := by decide +kernel
theorem dX4_join_20 : decode cX4_join 20 = .ok (.ifCond .ne 11, 3) := by decide +kernel
theorem dX4_join_23 : decode cX4_join 23 = .ok (.aload_n 1, 1) := by decide +kernel
theorem dX4_join_24 : decode cX4_join 24 = .ok (.aload_n 3, 1) := by decide +kernel
theorem dX4_join_25 : decode cX4_join 25 = .ok (.putfield 56, 3) := by decide +kernel
theorem dX4_join_28 : decode cX4_join 28 = .ok (.goto 8, 3) := by decide +kernel
theorem dX4_join_31 : decode cX4_join 31 = .ok (.aload_n 1, 1) := by decide +kernel
theorem dX4_join_32 : decode cX4_join 32 = .ok (.aload_n 3, 1) := by decide +kernel
theorem dX4_join_33 : decode cX4_join 33 = .ok (.putfield 59, 3) := by decide +kernel
theorem dX4_join_36 : decode cX4_join 36 = .ok (.return_, 1) := by decide +kernel
theorem dX4_take_0 : decode cX4_take 0 = .ok (.aconst_null, 1) := by decide +kernel
theorem dX4_take_1 : decode cX4_take 1 = .ok (.astore_n 2, 1) := by decide +kernel
theorem dX4_take_2 : decode cX4_take 2 = .ok (.aconst_null, 1) := by decide +kernel
theorem dX4_take_3 : decode cX4_take 3 = .ok (.astore_n 3, 1) := by decide +kernel
theorem dX4_take_4 : decode cX4_take 4 = .ok (.aload_n 0, 1) := by decide +kernel
theorem dX4_take_5 : decode cX4_take 5 = .ok (.getfield 7, 3) := by decide +kernel
theorem dX4_take_8 : decode cX4_take 8 = .ok (.astore 4, 2) := by decide +kernel
theorem dX4_take_10 : decode cX4_take 10 = .ok (.aload 4, 2) := by decide +kernel
theorem dX4_take_12 : decode cX4_take 12 = .ok (.getfield 13, 3) := by decide +kernel
theorem dX4_take_15 : decode cX4_take 15 = .ok (.ifnonnull 27, 3) := by decide +kernel
theorem dX4_take_18 : decode cX4_take 18 = .ok (.aload_n 3, 1) := by decide +kernel
theorem dX4_take_19 : decode cX4_take 19 = .ok (.astore_n 2, 1) := by decide +kernel
theorem dX4_take_20 : decode cX4_take 20 = .ok (.aload 4, 2) := by decide +kernel
theorem dX4_take_22 : decode cX4_take 22 = .ok (.astore_n 3, 1) := by decide +kernel
theorem dX4_take_23 : decode cX4_take 23 = .ok (.aload 4, 2) := by decide +kernel
theorem dX4_take_25 : decode cX4_take 25 = .ok (.aload_n 1, 1) := by decide +kernel
theorem dX4_take_26 : decode cX4_take 26 = .ok (.aload 4, 2) := by decide +kernel
theorem dX4_take_28 : decode cX4_take 28 = .ok (.getfield 19, 3) := by decide +kernel
theorem dX4_take_31 : decode cX4_take 31 = .ok (.invokevirtual 48, 3) := by decide +kernel
theorem dX4_take_34 : decode cX4_take 34 = .ok (.invokevirtual 28, 3) := by decide +kernel
theorem dX4_take_37 : decode cX4_take 37 = .ok (.astore 4, 2) := by decide +kernel
theorem dX4_take_39 : decode cX4_take 39 = .ok (.goto (-29), 3) := by decide +kernel
theorem dX4_take_42 : decode cX4_take 42 = .ok (.aload_n 3, 1) := by decide +kernel
theorem dX4_take_43 : decode cX4_take 43 = .ok (.ifnonnull 11, 3) := by decide +kernel
theorem dX4_take_46 : decode cX4_take 46 = .ok (.aload_n 0, 1) := by decide +kernel
theorem dX4_take_47 : decode cX4_take 47 = .ok (.aconst_null, 1) := by decide +kernel
theorem dX4_take_48 : decode cX4_take 48 = .ok (.putfield 7, 3) := by decide +kernel
theorem dX4_take_51 : decode cX4_take 51 = .ok (.goto 23, 3) := by decide +kernel
theorem dX4_take_54 : decode cX4_take 54 = .ok (.aload_n 0, 1) := by decide +kernel
theorem dX4_take_55 : decode cX4_take 55 = .ok (.aload_n 2, 1) := by decide +kernel
theorem dX4_take_56 : decode cX4_take 56 = .ok (.aload_n 1, 1) := by decide +kernel
theorem dX4_take_57 : decode cX4_take 57 = .ok (.aload_n 3, 1) := by decide +kernel
theorem dX4_take_58 : decode cX4_take 58 = .ok (.iconst 1, 1) := by decide +kernel
theorem dX4_take_59 : decode cX4_take 59 = .ok (.aload_n 1, 1) := by decide +kernel
theorem dX4_take_60 : decode cX4_take 60 = .ok (.aload_n 3, 1) := by decide +kernel
theorem dX4_take_61 : decode cX4_take 61 = .ok (.getfield 19, 3) := by decide +kernel
theorem dX4_take_64 : decode cX4_take 64 = .ok (.invokevirtual 48, 3) := by decide +kernel
theorem dX4_take_67 : decode cX4_take 67 = .ok (.isub, 1) := by decide +kernel
theorem dX4_take_68 : decode cX4_take 68 = .ok (.invokevirtual 28, 3) := by decide +kernel
theorem dX4_take_71 : decode cX4_take 71 = .ok (.invokevirtual 52, 3) := by decide +kernel
theorem dX4_take_74 : decode cX4_take 74 = .ok (.return_, 1) := by decide +kernel
theorem dX4_below_0 : decode cX4_below 0 = .ok (.aload_n 0, 1) := by decide +kernel
theorem dX4_below_1 : decode cX4_below 1 = .ok (.aload_n 1, 1) := by decide +kernel
theorem dX4_below_2 : decode cX4_below 2 = .ok (.iload_n 2, 1) := by decide +kernel
theorem dX4_below_3 : decode cX4_below 3 = .ok (.iconst 1, 1) := by decide +kernel
theorem dX4_below_4 : decode cX4_below 4 = .ok (.invokevirtual 73, 3) := by decide +kernel
theorem dX4_below_7 : decode cX4_below 7 = .ok (.areturn, 1) := by decide +kernel
theorem dX4_depth_0 : decode cX4_depth 0 = .ok (.iconst 0, 1) := by decide +kernel
theorem dX4_depth_1 : decode cX4_depth 1 = .ok (.istore_n 2, 1) := by decide +kernel
theorem dX4_depth_2 : decode cX4_depth 2 = .ok (.aload_n 0, 1) := by decide +kernel
theorem dX4_depth_3 : decode cX4_depth 3 = .ok (.getfield 7, 3) := by decide +kernel
theorem dX4_depth_6 : decode cX4_depth 6 = .ok (.astore_n 3, 1) := by decide +kernel
theorem dX4_depth_7 : decode cX4_depth 7 = .ok (.aload_n 3, 1) := by decide +kernel
theorem dX4_depth_8 : decode cX4_depth 8 = .ok (.getfield 13, 3) := by decide +kernel
theorem dX4_depth_11 : decode cX4_depth 11 = .ok (.ifnonnull 22, 3) := by decide +kernel
theorem dX4_depth_14 : decode cX4_depth 14 = .ok (.iinc 2 1, 3) := by decide +kernel
theorem dX4_depth_17 : decode cX4_depth 17 = .ok (.aload_n 3, 1) := by decide +kernel
theorem dX4_depth_18 : decode cX4_depth 18 = .ok (.aload_n 1, 1) := by decide +kernel
theorem dX4_depth_19 : decode cX4_depth 19 = .ok (.aload_n 3, 1) := by decide +kernel
theorem dX4_depth_20 : decode cX4_depth 20 = .ok (.getfield 19, 3) := by decide +kernel
theorem dX4_depth_23 : decode cX4_depth 23 = .ok (.invokevirtual 23, 3) := by decide +kernel
theorem dX4_depth_26 : decode cX4_depth 26 = .ok (.invokevirtual 28, 3) := by decide +kernel
theorem dX4_depth_29 : decode cX4_depth 29 = .ok (.astore_n 3, 1) := by decide +kernel
theorem dX4_depth_30 : decode cX4_depth 30 = .ok (.goto (-23), 3) := by decide +kernel
theorem dX4_depth_33 : decode cX4_depth 33 = .ok (.iload_n 2, 1) := by decide +kernel
theorem dX4_depth_34 : decode cX4_depth 34 = .ok (.ireturn, 1) := by decide +kernel
theorem dX5_init_0 : decode cX5_init 0 = .ok (.aload_n 0, 1) := by decide +kernel
theorem dX5_init_1 : decode cX5_init 1 = .ok (.invokespecial 3, 3) := by decide +kernel
theorem dX5_init_4 : decode cX5_init 4 = .ok (.aload_n 0, 1) := by decide +kernel
theorem dX5_init_5 : decode cX5_init 5 = .ok (.new 9, 3) := by decide +kernel
theorem dX5_init_8 : decode cX5_init 8 = .ok (.dup, 1) := by decide +kernel
theorem dX5_init_9 : decode cX5_init 9 = .ok (.invokespecial 11, 3) := by decide +kernel
theorem dX5_init_12 : decode cX5_init 12 = .ok (.putfield 12, 3) := by decide +kernel
theorem dX5_init_15 : decode cX5_init 15 = .ok (.aload_n 0, 1) := by decide +kernel
theorem dX5_init_16 : decode cX5_init 16 = .ok (.bipush 18, 2) := by decide +kernel
theorem dX5_init_18 : decode cX5_init 18 = .ok (.anewarray 9, 3) := by decide +kernel
theorem dX5_init_21 : decode cX5_init 21 = .ok (.putfield 18, 3) := by decide +kernel
theorem dX5_init_24 : decode cX5_init 24 = .ok (.aload_n 0, 1) := by decide +kernel
theorem dX5_init_25 : decode cX5_init 25 = .ok (.bipush 18, 2) := by decide +kernel
theorem dX5_init_27 : decode cX5_init 27 = .ok (.newarray .int, 2) := by decide +kernel
theorem dX5_init_29 : decode cX5_init 29 = .ok (.putfield 22, 3) := by decide +kernel
theorem dX5_init_32 : decode cX5_init 32 = .ok (.return_, 1) := by decide +kernel
theorem dX5_above_0 : decode cX5_above 0 = .ok (.aload_n 0, 1) := by decide +kernel
theorem dX5_above_1 : decode cX5_above 1 = .ok (.getfield 114, 3) := by decide +kernel
theorem dX5_above_4 : decode cX5_above 4 = .ok (.ifCond .ne 5, 3) := by decide +kernel
theorem dX5_above_7 : decode cX5_above 7 = .ok (.aconst_null, 1) := by decide +kernel
theorem dX5_above_8 : decode cX5_above 8 = .ok (.areturn, 1) := by decide +kernel
theorem dX5_above_9 : decode cX5_above 9 = .ok (.aload_n 1, 1) := by decide +kernel
theorem dX5_above_10 : decode cX5_above 10 = .ok (.ifnonnull 13, 3) := by decide +kernel
theorem dX5_above_13 : decode cX5_above 13 = .ok (.aload_n 0, 1) := by decide +kernel
theorem dX5_above_14 : decode cX5_above 14 = .ok (.getfield 12, 3) := by decide +kernel
theorem dX5_above_17 : decode cX5_above 17 = .ok (.invokevirtual 94, 3) := by decide +kernel
theorem dX5_above_20 : decode cX5_above 20 = .ok (.goto 13, 3) := by decide +kernel
theorem dX5_above_23 : decode cX5_above 23 = .ok (.aload_n 0, 1) := by decide +kernel
theorem dX5_above_24 : decode cX5_above 24 = .ok (.getfield 12, 3) := by decide +kernel
theorem dX5_above_27 : decode cX5_above 27 = .ok (.aload_n 1, 1) := by decide +kernel
theorem dX5_above_28 : decode cX5_above 28 = .ok (.iconst 0, 1) := by decide +kernel
theorem dX5_above_29 : decode cX5_above 29 = .ok (.iload_n 2, 1) := by decide +kernel
theorem dX5_above_30 : decode cX5_above 30 = .ok (.invokestatic 101, 3) := by decide +kernel
theorem dX5_above_33 : decode cX5_above 33 = .ok (.areturn, 1) := by decide +kernel
theorem dX5_above_2_0 : decode cX5_above_2 0 = .ok (.aload_n 0, 1) := by decide +kernel
theorem dX5_above_2_1 : decode cX5_above_2 1 = .ok (.aload_n 1, 1) := by decide +kernel
theorem dX5_above_2_2 : decode cX5_above_2 2 = .ok (.iload_n 2, 1) := by decide +kernel
theorem dX5_above_2_3 : decode cX5_above_2 3 = .ok (.invokevirtual 30, 3) := by decide +kernel
theorem dX5_above_2_6 : decode cX5_above_2 6 = .ok (.istore 4, 2) := by decide +kernel
theorem dX5_above_2_8 : decode cX5_above_2 8 = .ok (.iload_n 2, 1) := by decide +kernel
theorem dX5_above_2_9 : decode cX5_above_2 9 = .ok (.iload 4, 2) := by decide +kernel
theorem dX5_above_2_11 : decode cX5_above_2 11 = .ok (.iadd, 1) := by decide +kernel
theorem dX5_above_2_12 : decode cX5_above_2 12 = .ok (.istore 5, 2) := by decide +kernel
theorem dX5_above_2_14 : decode cX5_above_2 14 = .ok (.iload 4, 2) := by decide +kernel
theorem dX5_above_2_16 : decode cX5_above_2 16 = .ok (.aload_n 0, 1) := by decide +kernel
theorem dX5_above_2_17 : decode cX5_above_2 17 = .ok (.getfield 34, 3) := by decide +kernel
theorem dX5_above_2_20 : decode cX5_above_2 20 = .ok (.if_icmp .ge 37, 3) := by decide +kernel
theorem dX5_above_2_23 : decode cX5_above_2 23 = .ok (.iload 5, 2) := by decide +kernel
theorem dX5_above_2_25 : decode cX5_above_2 25 = .ok (.aload_n 1, 1) := by decide +kernel
theorem dX5_above_2_26 : decode cX5_above_2 26 = .ok (.invokevirtual 37, 3) := by decide +kernel
theorem dX5_above_2_29 : decode cX5_above_2 29 = .ok (.if_icmp .eq 19, 3) := by decide +kernel
theorem dX5_above_2_32 : decode cX5_above_2 32 = .ok (.aload_n 1, 1) := by decide +kernel
theorem dX5_above_2_33 : decode cX5_above_2 33 = .ok (.iload 5, 2) := by decide +kernel
theorem dX5_above_2_35 : decode cX5_above_2 35 = .ok (.invokevirtual 43, 3) := by decide +kernel
theorem dX5_above_2_38 : decode cX5_above_2 38 = .ok (.aload_n 0, 1) := by decide +kernel
theorem dX5_above_2_39 : decode cX5_above_2 39 = .ok (.getfield 91, 3) := by decide +kernel
theorem dX5_above_2_42 : decode cX5_above_2 42 = .ok (.iload 4, 2) := by decide +kernel
theorem dX5_above_2_44 : decode cX5_above_2 44 = .ok (.iaload, 1) := by decide +kernel
theorem dX5_above_2_45 : decode cX5_above_2 45 = .ok (.if_icmp .ge 10, 3) := by decide +kernel
theorem dX5_above_2_48 : decode cX5_above_2 48 = .ok (.aload_n 0, 1) := by decide +kernel
theorem dX5_above_2_49 : decode cX5_above_2 49 = .ok (.invokevirtual 94, 3) := by decide +kernel
theorem dX5_above_2_52 : decode cX5_above_2 52 = .ok (.goto 4, 3) := by decide +kernel
theorem dX5_above_2_55 : decode cX5_above_2 55 = .ok (.aconst_null, 1) := by decide +kernel
theorem dX5_above_2_56 : decode cX5_above_2 56 = .ok (.areturn, 1) := by decide +kernel
theorem dX5_above_2_57 : decode cX5_above_2 57 = .ok (.iload 5, 2) := by decide +kernel
theorem dX5_above_2_59 : decode cX5_above_2 59 = .ok (.aload_n 1, 1) := by decide +kernel
theorem dX5_above_2_60 : decode cX5_above_2 60 = .ok (.invokevirtual 37, 3) := by decide +kernel
theorem dX5_above_2_63 : decode cX5_above_2 63 = .ok (.if_icmp .ne 52, 3) := by decide +kernel
theorem dX5_above_2_66 : decode cX5_above_2 66 = .ok (.aload_n 0, 1) := by decide +kernel
theorem dX5_above_2_67 : decode cX5_above_2 67 = .ok (.getfield 61, 3) := by decide +kernel
theorem dX5_above_2_70 : decode cX5_above_2 70 = .ok (.ifnull 12, 3) := by decide +kernel
theorem dX5_above_2_73 : decode cX5_above_2 73 = .ok (.iload_n 3, 1) := by decide +kernel
theorem dX5_above_2_74 : decode cX5_above_2 74 = .ok (.ifCond .ne 8, 3) := by decide +kernel
theorem dX5_above_2_77 : decode cX5_above_2 77 = .ok (.aload_n 0, 1) := by decide +kernel
theorem dX5_above_2_78 : decode cX5_above_2 78 = .ok (.getfield 61, 3) := by decide +kernel
theorem dX5_above_2_81 : decode cX5_above_2 81 = .ok (.areturn, 1) := by decide +kernel
theorem dX5_above_2_82 : decode cX5_above_2 82 = .ok (.aload_n 0, 1) := by decide +kernel
theorem dX5_above_2_83 : decode cX5_above_2 83 = .ok (.getfield 47, 3) := by decide +kernel
theorem dX5_above_2_86 : decode cX5_above_2 86 = .ok (.getfield 81, 3) := by decide +kernel
theorem dX5_above_2_89 : decode cX5_above_2 89 = .ok (.ifCond .ne 7, 3) := by decide +kernel
theorem dX5_above_2_92 : decode cX5_above_2 92 = .ok (.aconst_null, 1) := by decide +kernel
theorem dX5_above_2_93 : decode cX5_above_2 93 = .ok (.goto 21, 3) := by decide +kernel
theorem dX5_above_2_96 : decode cX5_above_2 96 = .ok (.aload_n 0, 1) := by decide +kernel
theorem dX5_above_2_97 : decode cX5_above_2 97 = .ok (.getfield 47, 3) := by decide +kernel
theorem dX5_above_2_100 : decode cX5_above_2 100 = .ok (.aload_n 0, 1) := by decide +kernel
theorem dX5_above_2_101 : decode cX5_above_2 101 = .ok (.getfield 47, 3) := by decide +kernel
theorem dX5_above_2_104 : decode cX5_above_2 104 = .ok (.iconst 0, 1) := by decide +kernel
theorem dX5_above_2_105 : decode cX5_above_2 105 = .ok (.invokevirtual 98, 3) := by decide +kernel
theorem dX5_above_2_108 : decode cX5_above_2 108 = .ok (.invokevirtual 51, 3) := by decide +kernel
theorem dX5_above_2_111 : decode cX5_above_2 111 = .ok (.invokevirtual 94, 3) := by decide +kernel
theorem dX5_above_2_114 : decode cX5_above_2 114 = .ok (.areturn, 1) := by decide +kernel
theorem dX5_above_2_115 : decode cX5_above_2 115 = .ok (.aload_n 1, 1) := by decide +kernel
theorem dX5_above_2_116 : decode cX5_above_2 116 = .ok (.iload 5, 2) := by decide +kernel
theorem dX5_above_2_118 : decode cX5_above_2 118 = .ok (.invokevirtual 43, 3) := by decide +kernel
theorem dX5_above_2_121 : decode cX5_above_2 121 = .ok (.istore 6, 2) := by decide +kernel
theorem dX5_above_2_123 : decode cX5_above_2 123 = .ok (.aload_n 0, 1) := by decide +kernel
theorem dX5_above_2_124 : decode cX5_above_2 124 = .ok (.getfield 47, 3) := by decide +kernel
theorem dX5_above_2_127 : decode cX5_above_2 127 = .ok (.iload 6, 2) := by decide +kernel
theorem dX5_above_2_129 : decode cX5_above_2 129 = .ok (.invokevirtual 51, 3) := by decide +kernel
theorem dX5_above_2_132 : decode cX5_above_2 132 = .ok (.astore 7, 2) := by decide +kernel
theorem dX5_above_2_134 : decode cX5_above_2 134 = .ok (.aload 7, 2) := by decide +kernel
theorem dX5_above_2_136 : decode cX5_above_2 136 = .ok (.ifnonnull 7, 3) := by decide +kernel
theorem dX5_above_2_139 : decode cX5_above_2 139 = .ok (.aconst_null, 1) := by decide +kernel
theorem dX5_above_2_140 : decode cX5_above_2 140 = .ok (.goto 14, 3) := by decide +kernel
theorem dX5_above_2_143 : decode cX5_above_2 143 = .ok (.aload 7, 2) := by decide +kernel
theorem dX5_above_2_145 : decode cX5_above_2 145 = .ok (.aload_n 1, 1) := by decide +kernel
theorem dX5_above_2_146 : decode cX5_above_2 146 = .ok (.iload 5, 2) := by decide +kernel
theorem dX5_above_2_148 : decode cX5_above_2 148 = .ok (.iconst 1, 1) := by decide +kernel
theorem dX5_above_2_149 : decode cX5_above_2 149 = .ok (.iadd, 1) := by decide +kernel
theorem dX5_above_2_150 : decode cX5_above_2 150 = .ok (.iload_n 3, 1) := by decide +kernel
theorem dX5_above_2_151 : decode cX5_above_2 151 = .ok (.invokestatic 101, 3) := by decide +kernel
theorem dX5_above_2_154 : decode cX5_above_2 154 = .ok (.astore 8, 2) := by decide +kernel
theorem dX5_above_2_156 : decode cX5_above_2 156 = .ok (.iload 6, 2) := by decide +kernel
theorem dX5_above_2_158 : decode cX5_above_2 158 = .ok (.sipush 255, 3) := by decide +kernel
theorem dX5_above_2_161 : decode cX5_above_2 161 = .ok (.if_icmp .ne 7, 3) := by decide +kernel
theorem dX5_above_2_164 : decode cX5_above_2 164 = .ok (.iconst (-1), 1) := by decide +kernel
theorem dX5_above_2_165 : decode cX5_above_2 165 = .ok (.goto 14, 3) := by decide +kernel
theorem dX5_above_2_168 : decode cX5_above_2 168 = .ok (.aload_n 0, 1) := by decide +kernel
theorem dX5_above_2_169 : decode cX5_above_2 169 = .ok (.getfield 47, 3) := by decide +kernel
theorem dX5_above_2_172 : decode cX5_above_2 172 = .ok (.iload 6, 2) := by decide +kernel
theorem dX5_above_2_174 : decode cX5_above_2 174 = .ok (.iconst 1, 1) := by decide +kernel
theorem dX5_above_2_175 : decode cX5_above_2 175 = .ok (.iadd, 1) := by decide +kernel
theorem dX5_above_2_176 : decode cX5_above_2 176 = .ok (.invokevirtual 98, 3) := by decide +kernel
theorem dX5_above_2_179 : decode cX5_above_2 179 = .ok (.istore 9, 2) := by decide +kernel
theorem dX5_above_2_181 : decode cX5_above_2 181 = .ok (.aload 8, 2) := by decide +kernel
theorem dX5_above_2_183 : decode cX5_above_2 183 = .ok (.ifnull 8, 3) := by decide +kernel
theorem dX5_above_2_186 : decode cX5_above_2 186 = .ok (.aload 8, 2) := by decide +kernel
theorem dX5_above_2_188 : decode cX5_above_2 188 = .ok (.goto 25, 3) := by decide +kernel
theorem dX5_above_2_191 : decode cX5_above_2 191 = .ok (.iload 9, 2) := by decide +kernel
theorem dX5_above_2_193 : decode cX5_above_2 193 = .ok (.iconst (-1), 1) := by decide +kernel
theorem dX5_above_2_194 : decode cX5_above_2 194 = .ok (.if_icmp .ne 7, 3) := by decide +kernel
theorem dX5_above_2_197 : decode cX5_above_2 197 = .ok (.aconst_null, 1) := by decide +kernel
theorem dX5_above_2_198 : decode cX5_above_2 198 = .ok (.goto 15, 3) := by decide +kernel
theorem dX5_above_2_201 : decode cX5_above_2 201 = .ok (.aload_n 0, 1) := by decide +kernel
theorem dX5_above_2_202 : decode cX5_above_2 202 = .ok (.getfield 47, 3) := by decide +kernel
theorem dX5_above_2_205 : decode cX5_above_2 205 = .ok (.iload 9, 2) := by decide +kernel
theorem dX5_above_2_207 : decode cX5_above_2 207 = .ok (.invokevirtual 51, 3) := by decide +kernel
theorem dX5_above_2_210 : decode cX5_above_2 210 = .ok (.invokevirtual 94, 3) := by decide +kernel
theorem dX5_above_2_213 : decode cX5_above_2 213 = .ok (.areturn, 1) := by decide +kernel
theorem dX5_get_0 : decode cX5_get 0 = .ok (.aload_n 0, 1) := by decide +kernel
theorem dX5_get_1 : decode cX5_get 1 = .ok (.aload_n 1, 1) := by decide +kernel
theorem dX5_get_2 : decode cX5_get 2 = .ok (.invokevirtual 57, 3) := by decide +kernel
theorem dX5_get_5 : decode cX5_get 5 = .ok (.astore_n 2, 1) := by decide +kernel
theorem dX5_get_6 : decode cX5_get 6 = .ok (.aload_n 2, 1) := by decide +kernel
theorem dX5_get_7 : decode cX5_get 7 = .ok (.ifnonnull 7, 3) := by decide +kernel
theorem dX5_get_10 : decode cX5_get 10 = .ok (.aconst_null, 1) := by decide +kernel
theorem dX5_get_11 : decode cX5_get 11 = .ok (.goto 7, 3) := by decide +kernel
theorem dX5_get_14 : decode cX5_get 14 = .ok (.aload_n 2, 1) := by decide +kernel
theorem dX5_get_15 : decode cX5_get 15 = .ok (.getfield 61, 3) := by decide +kernel
theorem dX5_get_18 : decode cX5_get 18 = .ok (.areturn, 1) := by decide +kernel
theorem dX5_descend_0 : decode cX5_descend 0 = .ok (.aload_n 0, 1) := by decide +kernel
theorem dX5_descend_1 : decode cX5_descend 1 = .ok (.getfield 12, 3) := by decide +kernel
theorem dX5_descend_4 : decode cX5_descend 4 = .ok (.astore_n 2, 1) := by decide +kernel
theorem dX5_descend_5 : decode cX5_descend 5 = .ok (.iconst 0, 1) := by decide +kernel
theorem dX5_descend_6 : decode cX5_descend 6 = .ok (.istore_n 3, 1) := by decide +kernel
theorem dX5_descend_7 : decode cX5_descend 7 = .ok (.aload_n 0, 1) := by decide +kernel
theorem dX5_descend_8 : decode cX5_descend 8 = .ok (.iconst 0, 1) := by decide +kernel
theorem dX5_descend_9 : decode cX5_descend 9 = .ok (.putfield 26, 3) := by decide +kernel
theorem dX5_descend_12 : decode cX5_descend 12 = .ok (.aload_n 2, 1) := by decide +kernel
theorem dX5_descend_13 : decode cX5_descend 13 = .ok (.ifnull 90, 3) := by decide +kernel
theorem dX5_descend_16 : decode cX5_descend 16 = .ok (.aload_n 0, 1) := by decide +kernel
theorem dX5_descend_17 : decode cX5_descend 17 = .ok (.getfield 18, 3) := by decide +kernel
theorem dX5_descend_20 : decode cX5_descend 20 = .ok (.aload_n 0, 1) := by decide +kernel
theorem dX5_descend_21 : decode cX5_descend 21 = .ok (.getfield 26, 3) := by decide +kernel
theorem dX5_descend_24 : decode cX5_descend 24 = .ok (.aload_n 2, 1) := by decide +kernel
theorem dX5_descend_25 : decode cX5_descend 25 = .ok (.aastore, 1) := by decide +kernel
theorem dX5_descend_26 : decode cX5_descend 26 = .ok (.aload_n 2, 1) := by decide +kernel
theorem dX5_descend_27 : decode cX5_descend 27 = .ok (.aload_n 1, 1) := by decide +kernel
theorem dX5_descend_28 : decode cX5_descend 28 = .ok (.iload_n 3, 1) := by decide +kernel
theorem dX5_descend_29 : decode cX5_descend 29 = .ok (.invokevirtual 30, 3) := by decide +kernel
theorem dX5_descend_32 : decode cX5_descend 32 = .ok (.istore 4, 2) := by decide +kernel
theorem dX5_descend_34 : decode cX5_descend 34 = .ok (.iload_n 3, 1) := by decide +kernel
theorem dX5_descend_35 : decode cX5_descend 35 = .ok (.iload 4, 2) := by decide +kernel
theorem dX5_descend_37 : decode cX5_descend 37 = .ok (.iadd, 1) := by decide +kernel
theorem dX5_descend_38 : decode cX5_descend 38 = .ok (.istore_n 3, 1) := by decide +kernel
theorem dX5_descend_39 : decode cX5_descend 39 = .ok (.iload 4, 2) := by decide +kernel
theorem dX5_descend_41 : decode cX5_descend 41 = .ok (.aload_n 2, 1) := by decide +kernel
theorem dX5_descend_42 : decode cX5_descend 42 = .ok (.getfield 34, 3) := by decide +kernel
theorem dX5_descend_45 : decode cX5_descend 45 = .ok (.if_icmp .ge 5, 3) := by decide +kernel
theorem dX5_descend_48 : decode cX5_descend 48 = .ok (.aconst_null, 1) := by decide +kernel
theorem dX5_descend_49 : decode cX5_descend 49 = .ok (.areturn, 1) := by decide +kernel
theorem dX5_descend_50 : decode cX5_descend 50 = .ok (.iload_n 3, 1) := by decide +kernel
theorem dX5_descend_51 : decode cX5_descend 51 = .ok (.aload_n 1, 1) := by decide +kernel
theorem dX5_descend_52 : decode cX5_descend 52 = .ok (.invokevirtual 37, 3) := by decide +kernel
theorem dX5_descend_55 : decode cX5_descend 55 = .ok (.if_icmp .ne 5, 3) := by decide +kernel
theorem dX5_descend_58 : decode cX5_descend 58 = .ok (.aload_n 2, 1) := by decide +kernel
theorem dX5_descend_59 : decode cX5_descend 59 = .ok (.areturn, 1) := by decide +kernel
theorem dX5_descend_60 : decode cX5_descend 60 = .ok (.aload_n 0, 1) := by decide +kernel
theorem dX5_descend_61 : decode cX5_descend 61 = .ok (.getfield 22, 3) := by decide +kernel
theorem dX5_descend_64 : decode cX5_descend 64 = .ok (.aload_n 0, 1) := by decide +kernel
theorem dX5_descend_65 : decode cX5_descend 65 = .ok (.getfield 26, 3) := by decide +kernel
theorem dX5_descend_68 : decode cX5_descend 68 = .ok (.aload_n 1, 1) := by decide +kernel
theorem dX5_descend_69 : decode cX5_descend 69 = .ok (.iload_n 3, 1) := by decide +kernel
theorem dX5_descend_70 : decode cX5_descend 70 = .ok (.invokevirtual 43, 3) := by decide +kernel
theorem dX5_descend_73 : decode cX5_descend 73 = .ok (.iastore, 1) := by decide +kernel
theorem dX5_descend_74 : decode cX5_descend 74 = .ok (.aload_n 0, 1) := by decide +kernel
theorem dX5_descend_75 : decode cX5_descend 75 = .ok (.dup, 1) := by decide +kernel
theorem dX5_descend_76 : decode cX5_descend 76 = .ok (.getfield 26, 3) := by decide +kernel
theorem dX5_descend_79 : decode cX5_descend 79 = .ok (.iconst 1, 1) := by decide +kernel
theorem dX5_descend_80 : decode cX5_descend 80 = .ok (.iadd, 1) := by decide +kernel
theorem dX5_descend_81 : decode cX5_descend 81 = .ok (.putfield 26, 3) := by decide +kernel
theorem dX5_descend_84 : decode cX5_descend 84 = .ok (.aload_n 2, 1) := by decide +kernel
theorem dX5_descend_85 : decode cX5_descend 85 = .ok (.getfield 47, 3) := by decide +kernel
theorem dX5_descend_88 : decode cX5_descend 88 = .ok (.aload_n 1, 1) := by decide +kernel
theorem dX5_descend_89 : decode cX5_descend 89 = .ok (.iload_n 3, 1) := by decide +kernel
theorem dX5_descend_90 : decode cX5_descend 90 = .ok (.invokevirtual 43, 3) := by decide +kernel
theorem dX5_descend_93 : decode cX5_descend 93 = .ok (.invokevirtual 51, 3) := by decide +kernel
theorem dX5_descend_96 : decode cX5_descend 96 = .ok (.astore_n 2, 1) := by decide +kernel
theorem dX5_descend_97 : decode cX5_descend 97 = .ok (.iinc 3 1, 3) := by decide +kernel
theorem dX5_descend_100 : decode cX5_descend 100 = .ok (.goto (-88), 3) := by decide +kernel
theorem dX5_descend_103 : decode cX5_descend 103 = .ok (.aconst_null, 1) := by decide +kernel
theorem dX5_descend_104 : decode cX5_descend 104 = .ok (.areturn, 1) := by decide +kernel
theorem dX5_put_0 : decode cX5_put 0 = .ok (.aload_n 0, 1) := by decide +kernel
theorem dX5_put_1 : decode cX5_put 1 = .ok (.getfield 12, 3) := by decide +kernel
theorem dX5_put_4 : decode cX5_put 4 = .ok (.astore_n 2, 1) := by decide +kernel
theorem dX5_put_5 : decode cX5_put 5 = .ok (.iconst 0, 1) := by decide +kernel
theorem dX5_put_6 : decode cX5_put 6 = .ok (.istore_n 3, 1) := by decide +kernel
theorem dX5_put_7 : decode cX5_put 7 = .ok (.iconst 0, 1) := by decide +kernel
theorem dX5_put_8 : decode cX5_put 8 = .ok (.istore 4, 2) := by decide +kernel
theorem dX5_put_10 : decode cX5_put 10 = .ok (.iload 4, 2) := by decide +kernel
theorem dX5_put_12 : decode cX5_put 12 = .ok (.ifCond .ne 127, 3) := by decide +kernel
theorem dX5_put_15 : decode cX5_put 15 = .ok (.aload_n 2, 1) := by decide +kernel
theorem dX5_put_16 : decode cX5_put 16 = .ok (.aload_n 1, 1) := by decide +kernel
theorem dX5_put_17 : decode cX5_put 17 = .ok (.iload_n 3, 1) := by decide +kernel
theorem dX5_put_18 : decode cX5_put 18 = .ok (.invokevirtual 30, 3) := by decide +kernel
theorem dX5_put_21 : decode cX5_put 21 = .ok (.istore 5, 2) := by decide +kernel
theorem dX5_put_23 : decode cX5_put 23 = .ok (.iload 5, 2) := by decide +kernel
theorem dX5_put_25 : decode cX5_put 25 = .ok (.aload_n 2, 1) := by decide +kernel
theorem dX5_put_26 : decode cX5_put 26 = .ok (.getfield 34, 3) := by decide +kernel
theorem dX5_put_29 : decode cX5_put 29 = .ok (.if_icmp .ge 9, 3) := by decide +kernel
theorem dX5_put_32 : decode cX5_put 32 = .ok (.aload_n 2, 1) := by decide +kernel
theorem dX5_put_33 : decode cX5_put 33 = .ok (.iload 5, 2) := by decide +kernel
theorem dX5_put_35 : decode cX5_put 35 = .ok (.invokevirtual 65, 3) := by decide +kernel
theorem dX5_put_38 : decode cX5_put 38 = .ok (.iload_n 3, 1) := by decide +kernel
theorem dX5_put_39 : decode cX5_put 39 = .ok (.iload 5, 2) := by decide +kernel
theorem dX5_put_41 : decode cX5_put 41 = .ok (.iadd, 1) := by decide +kernel
theorem dX5_put_42 : decode cX5_put 42 = .ok (.istore_n 3, 1) := by decide +kernel
theorem dX5_put_43 : decode cX5_put 43 = .ok (.iload_n 3, 1) := by decide +kernel
theorem dX5_put_44 : decode cX5_put 44 = .ok (.aload_n 1, 1) := by decide +kernel
theorem dX5_put_45 : decode cX5_put 45 = .ok (.invokevirtual 69, 3) := by decide +kernel
theorem dX5_put_48 : decode cX5_put 48 = .ok (.if_icmp .ge 18, 3) := by decide +kernel
theorem dX5_put_51 : decode cX5_put 51 = .ok (.aload_n 2, 1) := by decide +kernel
theorem dX5_put_52 : decode cX5_put 52 = .ok (.getfield 47, 3) := by decide +kernel
theorem dX5_put_55 : decode cX5_put 55 = .ok (.aload_n 1, 1) := by decide +kernel
theorem dX5_put_56 : decode cX5_put 56 = .ok (.iload_n 3, 1) := by decide +kernel
theorem dX5_put_57 : decode cX5_put 57 = .ok (.invokevirtual 72, 3) := by decide +kernel
theorem dX5_put_60 : decode cX5_put 60 = .ok (.invokevirtual 51, 3) := by decide +kernel
theorem dX5_put_63 : decode cX5_put 63 = .ok (.goto 4, 3) := by decide +kernel
theorem dX5_put_66 : decode cX5_put 66 = .ok (.aconst_null, 1) := by decide +kernel
theorem dX5_put_67 : decode cX5_put 67 = .ok (.astore 6, 2) := by decide +kernel
theorem dX5_put_69 : decode cX5_put 69 = .ok (.aload 6, 2) := by decide +kernel
theorem dX5_put_71 : decode cX5_put 71 = .ok (.ifnonnull 7, 3) := by decide +kernel
theorem dX5_put_74 : decode cX5_put 74 = .ok (.iconst 1, 1) := by decide +kernel
theorem dX5_put_75 : decode cX5_put 75 = .ok (.goto 4, 3) := by decide +kernel
theorem dX5_put_78 : decode cX5_put 78 = .ok (.iconst 0, 1) := by decide +kernel
theorem dX5_put_79 : decode cX5_put 79 = .ok (.istore 4, 2) := by decide +kernel
theorem dX5_put_81 : decode cX5_put 81 = .ok (.iload_n 3, 1) := by decide +kernel
theorem dX5_put_82 : decode cX5_put 82 = .ok (.aload_n 1, 1) := by decide +kernel
theorem dX5_put_83 : decode cX5_put 83 = .ok (.invokevirtual 69, 3) := by decide +kernel
theorem dX5_put_86 : decode cX5_put 86 = .ok (.if_icmp .ne 11, 3) := by decide +kernel
theorem dX5_put_89 : decode cX5_put 89 = .ok (.aload_n 2, 1) := by decide +kernel
theorem dX5_put_90 : decode cX5_put 90 = .ok (.aload_n 1, 1) := by decide +kernel
theorem dX5_put_91 : decode cX5_put 91 = .ok (.putfield 61, 3) := by decide +kernel
theorem dX5_put_94 : decode cX5_put 94 = .ok (.goto 31, 3) := by decide +kernel
theorem dX5_put_97 : decode cX5_put 97 = .ok (.aload 6, 2) := by decide +kernel
theorem dX5_put_99 : decode cX5_put 99 = .ok (.ifnonnull 26, 3) := by decide +kernel
theorem dX5_put_102 : decode cX5_put 102 = .ok (.aload_n 2, 1) := by decide +kernel
theorem dX5_put_103 : decode cX5_put 103 = .ok (.aload_n 2, 1) := by decide +kernel
theorem dX5_put_104 : decode cX5_put 104 = .ok (.getfield 47, 3) := by decide +kernel
theorem dX5_put_107 : decode cX5_put 107 = .ok (.aload_n 1, 1) := by decide +kernel
theorem dX5_put_108 : decode cX5_put 108 = .ok (.iload_n 3, 1) := by decide +kernel
theorem dX5_put_109 : decode cX5_put 109 = .ok (.invokevirtual 72, 3) := by decide +kernel
theorem dX5_put_112 : decode cX5_put 112 = .ok (.aload_n 1, 1) := by decide +kernel
theorem dX5_put_113 : decode cX5_put 113 = .ok (.iload_n 3, 1) := by decide +kernel
theorem dX5_put_114 : decode cX5_put 114 = .ok (.iconst 1, 1) := by decide +kernel
theorem dX5_put_115 : decode cX5_put 115 = .ok (.iadd, 1) := by decide +kernel
theorem dX5_put_116 : decode cX5_put 116 = .ok (.invokestatic 73, 3) := by decide +kernel
theorem dX5_put_119 : decode cX5_put 119 = .ok (.invokevirtual 77, 3) := by decide +kernel
theorem dX5_put_122 : decode cX5_put 122 = .ok (.putfield 47, 3) := by decide +kernel
theorem dX5_put_125 : decode cX5_put 125 = .ok (.iload 4, 2) := by decide +kernel
theorem dX5_put_127 : decode cX5_put 127 = .ok (.ifCond .ne 6, 3) := by decide +kernel
theorem dX5_put_130 : decode cX5_put 130 = .ok (.aload 6, 2) := by decide +kernel
theorem dX5_put_132 : decode cX5_put 132 = .ok (.astore_n 2, 1) := by decide +kernel
theorem dX5_put_133 : decode cX5_put 133 = .ok (.iinc 3 1, 3) := by decide +kernel
theorem dX5_put_136 : decode cX5_put 136 = .ok (.goto (-126), 3) := by decide +kernel
theorem dX5_put_139 : decode cX5_put 139 = .ok (.return_, 1) := by decide +kernel
theorem dX5_take_0 : decode cX5_take 0 = .ok (.aload_n 0, 1) := by decide +kernel
theorem dX5_take_1 : decode cX5_take 1 = .ok (.aload_n 1, 1) := by decide +kernel
theorem dX5_take_2 : decode cX5_take 2 = .ok (.invokevirtual 57, 3) := by decide +kernel
theorem dX5_take_5 : decode cX5_take 5 = .ok (.astore_n 2, 1) := by decide +kernel
theorem dX5_take_6 : decode cX5_take 6 = .ok (.aload_n 2, 1) := by decide +kernel
theorem dX5_take_7 : decode cX5_take 7 = .ok (.aconst_null, 1) := by decide +kernel
theorem dX5_take_8 : decode cX5_take 8 = .ok (.putfield 61, 3) := by decide +kernel
theorem dX5_take_11 : decode cX5_take 11 = .ok (.aload_n 2, 1) := by decide +kernel
theorem dX5_take_12 : decode cX5_take 12 = .ok (.getfield 47, 3) := by decide +kernel
theorem dX5_take_15 : decode cX5_take 15 = .ok (.getfield 81, 3) := by decide +kernel
theorem dX5_take_18 : decode cX5_take 18 = .ok (.ifCond .ne 44, 3) := by decide +kernel
theorem dX5_take_21 : decode cX5_take 21 = .ok (.aload_n 0, 1) := by decide +kernel
theorem dX5_take_22 : decode cX5_take 22 = .ok (.getfield 26, 3) := by decide +kernel
theorem dX5_take_25 : decode cX5_take 25 = .ok (.ifCond .le 37, 3) := by decide +kernel
theorem dX5_take_28 : decode cX5_take 28 = .ok (.aload_n 0, 1) := by decide +kernel
theorem dX5_take_29 : decode cX5_take 29 = .ok (.getfield 18, 3) := by decide +kernel
theorem dX5_take_32 : decode cX5_take 32 = .ok (.aload_n 0, 1) := by decide +kernel
theorem dX5_take_33 : decode cX5_take 33 = .ok (.getfield 26, 3) := by decide +kernel
theorem dX5_take_36 : decode cX5_take 36 = .ok (.iconst 1, 1) := by decide +kernel
theorem dX5_take_37 : decode cX5_take 37 = .ok (.isub, 1) := by decide +kernel
theorem dX5_take_38 : decode cX5_take 38 = .ok (.aaload, 1) := by decide +kernel
theorem dX5_take_39 : decode cX5_take 39 = .ok (.astore_n 2, 1) := by decide +kernel
theorem dX5_take_40 : decode cX5_take 40 = .ok (.aload_n 2, 1) := by decide +kernel
theorem dX5_take_41 : decode cX5_take 41 = .ok (.aload_n 2, 1) := by decide +kernel
theorem dX5_take_42 : decode cX5_take 42 = .ok (.getfield 47, 3) := by decide +kernel
theorem dX5_take_45 : decode cX5_take 45 = .ok (.aload_n 0, 1) := by decide +kernel
theorem dX5_take_46 : decode cX5_take 46 = .ok (.getfield 22, 3) := by decide +kernel
theorem dX5_take_49 : decode cX5_take 49 = .ok (.aload_n 0, 1) := by decide +kernel
theorem dX5_take_50 : decode cX5_take 50 = .ok (.getfield 26, 3) := by decide +kernel
theorem dX5_take_53 : decode cX5_take 53 = .ok (.iconst 1, 1) := by decide +kernel
theorem dX5_take_54 : decode cX5_take 54 = .ok (.isub, 1) := by decide +kernel
theorem dX5_take_55 : decode cX5_take 55 = .ok (.iaload, 1) := by decide +kernel
theorem dX5_take_56 : decode cX5_take 56 = .ok (.invokevirtual 84, 3) := by decide +kernel
theorem dX5_take_59 : decode cX5_take 59 = .ok (.putfield 47, 3) := by decide +kernel
theorem dX5_take_62 : decode cX5_take 62 = .ok (.aload_n 2, 1) := by decide +kernel
theorem dX5_take_63 : decode cX5_take 63 = .ok (.aload_n 0, 1) := by decide +kernel
theorem dX5_take_64 : decode cX5_take 64 = .ok (.getfield 12, 3) := by decide +kernel
theorem dX5_take_67 : decode cX5_take 67 = .ok (.if_acmp .eq 25, 3) := by decide +kernel
theorem dX5_take_70 : decode cX5_take 70 = .ok (.aload_n 2, 1) := by decide +kernel
theorem dX5_take_71 : decode cX5_take 71 = .ok (.getfield 61, 3) := by decide +kernel
theorem dX5_take_74 : decode cX5_take 74 = .ok (.ifnonnull 18, 3) := by decide +kernel
theorem dX5_take_77 : decode cX5_take 77 = .ok (.aload_n 2, 1) := by decide +kernel
theorem dX5_take_78 : decode cX5_take 78 = .ok (.getfield 47, 3) := by decide +kernel
theorem dX5_take_81 : decode cX5_take 81 = .ok (.getfield 81, 3) := by decide +kernel
theorem dX5_take_84 : decode cX5_take 84 = .ok (.iconst 1, 1) := by decide +kernel
theorem dX5_take_85 : decode cX5_take 85 = .ok (.if_icmp .ne 7, 3) := by decide +kernel
theorem dX5_take_88 : decode cX5_take 88 = .ok (.aload_n 2, 1) := by decide +kernel
theorem dX5_take_89 : decode cX5_take 89 = .ok (.invokevirtual 88, 3) := by decide +kernel
theorem dX5_take_92 : decode cX5_take 92 = .ok (.return_, 1) := by decide +kernel
theorem dX5_below_0 : decode cX5_below 0 = .ok (.aload_n 0, 1) := by decide +kernel
theorem dX5_below_1 : decode cX5_below 1 = .ok (.getfield 114, 3) := by decide +kernel
theorem dX5_below_4 : decode cX5_below 4 = .ok (.ifCond .ne 5, 3) := by decide +kernel
theorem dX5_below_7 : decode cX5_below 7 = .ok (.aconst_null, 1) := by decide +kernel
theorem dX5_below_8 : decode cX5_below 8 = .ok (.areturn, 1) := by decide +kernel
theorem dX5_below_9 : decode cX5_below 9 = .ok (.aload_n 1, 1) := by decide +kernel
theorem dX5_below_10 : decode cX5_below 10 = .ok (.ifnonnull 13, 3) := by decide +kernel
theorem dX5_below_13 : decode cX5_below 13 = .ok (.aload_n 0, 1) := by decide +kernel
theorem dX5_below_14 : decode cX5_below 14 = .ok (.getfield 12, 3) := by decide +kernel
theorem dX5_below_17 : decode cX5_below 17 = .ok (.invokevirtual 105, 3) := by decide +kernel
theorem dX5_below_20 : decode cX5_below 20 = .ok (.goto 13, 3) := by decide +kernel
theorem dX5_below_23 : decode cX5_below 23 = .ok (.aload_n 0, 1) := by decide +kernel
theorem dX5_below_24 : decode cX5_below 24 = .ok (.getfield 12, 3) := by decide +kernel
theorem dX5_below_27 : decode cX5_below 27 = .ok (.aload_n 1, 1) := by decide +kernel
theorem dX5_below_28 : decode cX5_below 28 = .ok (.iconst 0, 1) := by decide +kernel
theorem dX5_below_29 : decode cX5_below 29 = .ok (.iload_n 2, 1) := by decide +kernel
theorem dX5_below_30 : decode cX5_below 30 = .ok (.invokestatic 108, 3) := by decide +kernel
theorem dX5_below_33 : decode cX5_below 33 = .ok (.areturn, 1) := by decide +kernel
theorem dX5_below_2_0 : decode cX5_below_2 0 = .ok (.aload_n 0, 1) := by decide +kernel
theorem dX5_below_2_1 : decode cX5_below_2 1 = .ok (.aload_n 1, 1) := by decide +kernel
theorem dX5_below_2_2 : decode cX5_below_2 2 = .ok (.iload_n 2, 1) := by decide +kernel
theorem dX5_below_2_3 : decode cX5_below_2 3 = .ok (.invokevirtual 30, 3) := by decide +kernel
theorem dX5_below_2_6 : decode cX5_below_2 6 = .ok (.istore 4, 2) := by decide +kernel
theorem dX5_below_2_8 : decode cX5_below_2 8 = .ok (.iload_n 2, 1) := by decide +kernel
theorem dX5_below_2_9 : decode cX5_below_2 9 = .ok (.iload 4, 2) := by decide +kernel
theorem dX5_below_2_11 : decode cX5_below_2 11 = .ok (.iadd, 1) := by decide +kernel
theorem dX5_below_2_12 : decode cX5_below_2 12 = .ok (.istore 5, 2) := by decide +kernel
theorem dX5_below_2_14 : decode cX5_below_2 14 = .ok (.iload 4, 2) := by decide +kernel
theorem dX5_below_2_16 : decode cX5_below_2 16 = .ok (.aload_n 0, 1) := by decide +kernel
theorem dX5_below_2_17 : decode cX5_below_2 17 = .ok (.getfield 34, 3) := by decide +kernel
theorem dX5_below_2_20 : decode cX5_below_2 20 = .ok (.if_icmp .ge 37, 3) := by decide +kernel
theorem dX5_below_2_23 : decode cX5_below_2 23 = .ok (.iload 5, 2) := by decide +kernel
theorem dX5_below_2_25 : decode cX5_below_2 25 = .ok (.aload_n 1, 1) := by decide +kernel
theorem dX5_below_2_26 : decode cX5_below_2 26 = .ok (.invokevirtual 37, 3) := by decide +kernel
theorem dX5_below_2_29 : decode cX5_below_2 29 = .ok (.if_icmp .eq 19, 3) := by decide +kernel
theorem dX5_below_2_32 : decode cX5_below_2 32 = .ok (.aload_n 1, 1) := by decide +kernel
theorem dX5_below_2_33 : decode cX5_below_2 33 = .ok (.iload 5, 2) := by decide +kernel
theorem dX5_below_2_35 : decode cX5_below_2 35 = .ok (.invokevirtual 43, 3) := by decide +kernel
theorem dX5_below_2_38 : decode cX5_below_2 38 = .ok (.aload_n 0, 1) := by decide +kernel
theorem dX5_below_2_39 : decode cX5_below_2 39 = .ok (.getfield 91, 3) := by decide +kernel
theorem dX5_below_2_42 : decode cX5_below_2 42 = .ok (.iload 4, 2) := by decide +kernel
theorem dX5_below_2_44 : decode cX5_below_2 44 = .ok (.iaload, 1) := by decide +kernel
theorem dX5_below_2_45 : decode cX5_below_2 45 = .ok (.if_icmp .ge 7, 3) := by decide +kernel
theorem dX5_below_2_48 : decode cX5_below_2 48 = .ok (.aconst_null, 1) := by decide +kernel
theorem dX5_below_2_49 : decode cX5_below_2 49 = .ok (.goto 7, 3) := by decide +kernel
theorem dX5_below_2_52 : decode cX5_below_2 52 = .ok (.aload_n 0, 1) := by decide +kernel
theorem dX5_below_2_53 : decode cX5_below_2 53 = .ok (.invokevirtual 105, 3) := by decide +kernel
theorem dX5_below_2_56 : decode cX5_below_2 56 = .ok (.areturn, 1) := by decide +kernel
theorem dX5_below_2_57 : decode cX5_below_2 57 = .ok (.iload 5, 2) := by decide +kernel
theorem dX5_below_2_59 : decode cX5_below_2 59 = .ok (.aload_n 1, 1) := by decide +kernel
theorem dX5_below_2_60 : decode cX5_below_2 60 = .ok (.invokevirtual 37, 3) := by decide +kernel
theorem dX5_below_2_63 : decode cX5_below_2 63 = .ok (.if_icmp .ne 16, 3) := by decide +kernel
theorem dX5_below_2_66 : decode cX5_below_2 66 = .ok (.iload_n 3, 1) := by decide +kernel
theorem dX5_below_2_67 : decode cX5_below_2 67 = .ok (.ifCond .eq 7, 3) := by decide +kernel
theorem dX5_below_2_70 : decode cX5_below_2 70 = .ok (.aconst_null, 1) := by decide +kernel
theorem dX5_below_2_71 : decode cX5_below_2 71 = .ok (.goto 7, 3) := by decide +kernel
theorem dX5_below_2_74 : decode cX5_below_2 74 = .ok (.aload_n 0, 1) := by decide +kernel
theorem dX5_below_2_75 : decode cX5_below_2 75 = .ok (.getfield 61, 3) := by decide +kernel
theorem dX5_below_2_78 : decode cX5_below_2 78 = .ok (.areturn, 1) := by decide +kernel
theorem dX5_below_2_79 : decode cX5_below_2 79 = .ok (.aload_n 1, 1) := by decide +kernel
theorem dX5_below_2_80 : decode cX5_below_2 80 = .ok (.iload 5, 2) := by decide +kernel
theorem dX5_below_2_82 : decode cX5_below_2 82 = .ok (.invokevirtual 43, 3) := by decide +kernel
theorem dX5_below_2_85 : decode cX5_below_2 85 = .ok (.istore 6, 2) := by decide +kernel
theorem dX5_below_2_87 : decode cX5_below_2 87 = .ok (.aload_n 0, 1) := by decide +kernel
theorem dX5_below_2_88 : decode cX5_below_2 88 = .ok (.getfield 47, 3) := by decide +kernel
theorem dX5_below_2_91 : decode cX5_below_2 91 = .ok (.iload 6, 2) := by decide +kernel
theorem dX5_below_2_93 : decode cX5_below_2 93 = .ok (.invokevirtual 51, 3) := by decide +kernel
theorem dX5_below_2_96 : decode cX5_below_2 96 = .ok (.astore 7, 2) := by decide +kernel
theorem dX5_below_2_98 : decode cX5_below_2 98 = .ok (.aload 7, 2) := by decide +kernel
theorem dX5_below_2_100 : decode cX5_below_2 100 = .ok (.ifnonnull 7, 3) := by decide +kernel
theorem dX5_below_2_103 : decode cX5_below_2 103 = .ok (.aconst_null, 1) := by decide +kernel
theorem dX5_below_2_104 : decode cX5_below_2 104 = .ok (.goto 14, 3) := by decide +kernel
theorem dX5_below_2_107 : decode cX5_below_2 107 = .ok (.aload 7, 2) := by decide +kernel
theorem dX5_below_2_109 : decode cX5_below_2 109 = .ok (.aload_n 1, 1) := by decide +kernel
theorem dX5_below_2_110 : decode cX5_below_2 110 = .ok (.iload 5, 2) := by decide +kernel
theorem dX5_below_2_112 : decode cX5_below_2 112 = .ok (.iconst 1, 1) := by decide +kernel
theorem dX5_below_2_113 : decode cX5_below_2 113 = .ok (.iadd, 1) := by decide +kernel
theorem dX5_below_2_114 : decode cX5_below_2 114 = .ok (.iload_n 3, 1) := by decide +kernel
theorem dX5_below_2_115 : decode cX5_below_2 115 = .ok (.invokestatic 108, 3) := by decide +kernel
theorem dX5_below_2_118 : decode cX5_below_2 118 = .ok (.astore 8, 2) := by decide +kernel
theorem dX5_below_2_120 : decode cX5_below_2 120 = .ok (.iload 6, 2) := by decide +kernel
theorem dX5_below_2_122 : decode cX5_below_2 122 = .ok (.ifCond .ne 7, 3) := by decide +kernel
theorem dX5_below_2_125 : decode cX5_below_2 125 = .ok (.iconst (-1), 1) := by decide +kernel
theorem dX5_below_2_126 : decode cX5_below_2 126 = .ok (.goto 14, 3) := by decide +kernel
theorem dX5_below_2_129 : decode cX5_below_2 129 = .ok (.aload_n 0, 1) := by decide +kernel
theorem dX5_below_2_130 : decode cX5_below_2 130 = .ok (.getfield 47, 3) := by decide +kernel
theorem dX5_below_2_133 : decode cX5_below_2 133 = .ok (.iload 6, 2) := by decide +kernel
theorem dX5_below_2_135 : decode cX5_below_2 135 = .ok (.iconst 1, 1) := by decide +kernel
theorem dX5_below_2_136 : decode cX5_below_2 136 = .ok (.isub, 1) := by decide +kernel
theorem dX5_below_2_137 : decode cX5_below_2 137 = .ok (.invokevirtual 111, 3) := by decide +kernel
theorem dX5_below_2_140 : decode cX5_below_2 140 = .ok (.istore 9, 2) := by decide +kernel
theorem dX5_below_2_142 : decode cX5_below_2 142 = .ok (.aload 8, 2) := by decide +kernel
theorem dX5_below_2_144 : decode cX5_below_2 144 = .ok (.ifnull 8, 3) := by decide +kernel
theorem dX5_below_2_147 : decode cX5_below_2 147 = .ok (.aload 8, 2) := by decide +kernel
theorem dX5_below_2_149 : decode cX5_below_2 149 = .ok (.goto 28, 3) := by decide +kernel
theorem dX5_below_2_152 : decode cX5_below_2 152 = .ok (.iload 9, 2) := by decide +kernel
theorem dX5_below_2_154 : decode cX5_below_2 154 = .ok (.iconst (-1), 1) := by decide +kernel
theorem dX5_below_2_155 : decode cX5_below_2 155 = .ok (.if_icmp .ne 10, 3) := by decide +kernel
theorem dX5_below_2_158 : decode cX5_below_2 158 = .ok (.aload_n 0, 1) := by decide +kernel
theorem dX5_below_2_159 : decode cX5_below_2 159 = .ok (.getfield 61, 3) := by decide +kernel
theorem dX5_below_2_162 : decode cX5_below_2 162 = .ok (.goto 15, 3) := by decide +kernel
theorem dX5_below_2_165 : decode cX5_below_2 165 = .ok (.aload_n 0, 1) := by decide +kernel
theorem dX5_below_2_166 : decode cX5_below_2 166 = .ok (.getfield 47, 3) := by decide +kernel
theorem dX5_below_2_169 : decode cX5_below_2 169 = .ok (.iload 9, 2) := by decide +kernel
theorem dX5_below_2_171 : decode cX5_below_2 171 = .ok (.invokevirtual 51, 3) := by decide +kernel
theorem dX5_below_2_174 : decode cX5_below_2 174 = .ok (.invokevirtual 105, 3) := by decide +kernel
theorem dX5_below_2_177 : decode cX5_below_2 177 = .ok (.areturn, 1) := by decide +kernel
theorem dX5_inner_0 : decode cX5_inner 0 = .ok (.iconst 5, 1) := by decide +kernel
theorem dX5_inner_1 : decode cX5_inner 1 = .ok (.newarray .int, 2) := by decide +kernel
theorem dX5_inner_3 : decode cX5_inner 3 = .ok (.astore_n 2, 1) := by decide +kernel
theorem dX5_inner_4 : decode cX5_inner 4 = .ok (.aload_n 0, 1) := by decide +kernel
theorem dX5_inner_5 : decode cX5_inner 5 = .ok (.getfield 12, 3) := by decide +kernel
theorem dX5_inner_8 : decode cX5_inner 8 = .ok (.aload_n 2, 1) := by decide +kernel
theorem dX5_inner_9 : decode cX5_inner 9 = .ok (.invokestatic 125, 3) := by decide +kernel
theorem dX5_inner_12 : decode cX5_inner 12 = .ok (.aload_n 2, 1) := by decide +kernel
theorem dX5_inner_13 : decode cX5_inner 13 = .ok (.iload_n 1, 1) := by decide +kernel
theorem dX5_inner_14 : decode cX5_inner 14 = .ok (.iaload, 1) := by decide +kernel
theorem dX5_inner_15 : decode cX5_inner 15 = .ok (.ireturn, 1) := by decide +kernel
theorem dX5_tell_0 : decode cX5_tell 0 = .ok (.aload_n 0, 1) := by decide +kernel
theorem dX5_tell_1 : decode cX5_tell 1 = .ok (.invokevirtual 117, 3) := by decide +kernel
theorem dX5_tell_4 : decode cX5_tell 4 = .ok (.ifCond .eq 64, 3) := by decide +kernel
theorem dX5_tell_7 : decode cX5_tell 7 = .ok (.aload_n 1, 1) := by decide +kernel
theorem dX5_tell_8 : decode cX5_tell 8 = .ok (.iconst 0, 1) := by decide +kernel
theorem dX5_tell_9 : decode cX5_tell 9 = .ok (.dup2, 1) := by decide +kernel
theorem dX5_tell_10 : decode cX5_tell 10 = .ok (.iaload, 1) := by decide +kernel
theorem dX5_tell_11 : decode cX5_tell 11 = .ok (.iconst 1, 1) := by decide +kernel
theorem dX5_tell_12 : decode cX5_tell 12 = .ok (.iadd, 1) := by decide +kernel
theorem dX5_tell_13 : decode cX5_tell 13 = .ok (.iastore, 1) := by decide +kernel
theorem dX5_tell_14 : decode cX5_tell 14 = .ok (.aload_n 1, 1) := by decide +kernel
theorem dX5_tell_15 : decode cX5_tell 15 = .ok (.aload_n 0, 1) := by decide +kernel
theorem dX5_tell_16 : decode cX5_tell 16 = .ok (.getfield 47, 3) := by decide +kernel
theorem dX5_tell_19 : decode cX5_tell 19 = .ok (.getfield 81, 3) := by decide +kernel
theorem dX5_tell_22 : decode cX5_tell 22 = .ok (.iconst 4, 1) := by decide +kernel
theorem dX5_tell_23 : decode cX5_tell 23 = .ok (.if_icmp .gt 7, 3) := by decide +kernel
theorem dX5_tell_26 : decode cX5_tell 26 = .ok (.iconst 1, 1) := by decide +kernel
theorem dX5_tell_27 : decode cX5_tell 27 = .ok (.goto 36, 3) := by decide +kernel
theorem dX5_tell_30 : decode cX5_tell 30 = .ok (.aload_n 0, 1) := by decide +kernel
theorem dX5_tell_31 : decode cX5_tell 31 = .ok (.getfield 47, 3) := by decide +kernel
theorem dX5_tell_34 : decode cX5_tell 34 = .ok (.getfield 81, 3) := by decide +kernel
theorem dX5_tell_37 : decode cX5_tell 37 = .ok (.bipush 16, 2) := by decide +kernel
theorem dX5_tell_39 : decode cX5_tell 39 = .ok (.if_icmp .gt 7, 3) := by decide +kernel
theorem dX5_tell_42 : decode cX5_tell 42 = .ok (.iconst 2, 1) := by decide +kernel
theorem dX5_tell_43 : decode cX5_tell 43 = .ok (.goto 20, 3) := by decide +kernel
theorem dX5_tell_46 : decode cX5_tell 46 = .ok (.aload_n 0, 1) := by decide +kernel
theorem dX5_tell_47 : decode cX5_tell 47 = .ok (.getfield 47, 3) := by decide +kernel
theorem dX5_tell_50 : decode cX5_tell 50 = .ok (.getfield 81, 3) := by decide +kernel
theorem dX5_tell_53 : decode cX5_tell 53 = .ok (.bipush 48, 2) := by decide +kernel
theorem dX5_tell_55 : decode cX5_tell 55 = .ok (.if_icmp .gt 7, 3) := by decide +kernel
theorem dX5_tell_58 : decode cX5_tell 58 = .ok (.iconst 3, 1) := by decide +kernel
theorem dX5_tell_59 : decode cX5_tell 59 = .ok (.goto 4, 3) := by decide +kernel
theorem dX5_tell_62 : decode cX5_tell 62 = .ok (.iconst 4, 1) := by decide +kernel
theorem dX5_tell_63 : decode cX5_tell 63 = .ok (.dup2, 1) := by decide +kernel
theorem dX5_tell_64 : decode cX5_tell 64 = .ok (.iaload, 1) := by decide +kernel
theorem dX5_tell_65 : decode cX5_tell 65 = .ok (.iconst 1, 1) := by decide +kernel
theorem dX5_tell_66 : decode cX5_tell 66 = .ok (.iadd, 1) := by decide +kernel
theorem dX5_tell_67 : decode cX5_tell 67 = .ok (.iastore, 1) := by decide +kernel
theorem dX5_tell_68 : decode cX5_tell 68 = .ok (.aload_n 0, 1) := by decide +kernel
theorem dX5_tell_69 : decode cX5_tell 69 = .ok (.getfield 47, 3) := by decide +kernel
theorem dX5_tell_72 : decode cX5_tell 72 = .ok (.iconst 0, 1) := by decide +kernel
theorem dX5_tell_73 : decode cX5_tell 73 = .ok (.invokevirtual 98, 3) := by decide +kernel
theorem dX5_tell_76 : decode cX5_tell 76 = .ok (.istore_n 2, 1) := by decide +kernel
theorem dX5_tell_77 : decode cX5_tell 77 = .ok (.iload_n 2, 1) := by decide +kernel
theorem dX5_tell_78 : decode cX5_tell 78 = .ok (.iconst (-1), 1) := by decide +kernel
theorem dX5_tell_79 : decode cX5_tell 79 = .ok (.if_icmp .eq 40, 3) := by decide +kernel
theorem dX5_tell_82 : decode cX5_tell 82 = .ok (.aload_n 0, 1) := by decide +kernel
theorem dX5_tell_83 : decode cX5_tell 83 = .ok (.getfield 47, 3) := by decide +kernel
theorem dX5_tell_86 : decode cX5_tell 86 = .ok (.iload_n 2, 1) := by decide +kernel
theorem dX5_tell_87 : decode cX5_tell 87 = .ok (.invokevirtual 51, 3) := by decide +kernel
theorem dX5_tell_90 : decode cX5_tell 90 = .ok (.aload_n 1, 1) := by decide +kernel
theorem dX5_tell_91 : decode cX5_tell 91 = .ok (.invokestatic 125, 3) := by decide +kernel
theorem dX5_tell_94 : decode cX5_tell 94 = .ok (.iload_n 2, 1) := by decide +kernel
theorem dX5_tell_95 : decode cX5_tell 95 = .ok (.sipush 255, 3) := by decide +kernel
theorem dX5_tell_98 : decode cX5_tell 98 = .ok (.if_icmp .ne 7, 3) := by decide +kernel
theorem dX5_tell_101 : decode cX5_tell 101 = .ok (.iconst (-1), 1) := by decide +kernel
theorem dX5_tell_102 : decode cX5_tell 102 = .ok (.goto 13, 3) := by decide +kernel
theorem dX5_tell_105 : decode cX5_tell 105 = .ok (.aload_n 0, 1) := by decide +kernel
theorem dX5_tell_106 : decode cX5_tell 106 = .ok (.getfield 47, 3) := by decide +kernel
theorem dX5_tell_109 : decode cX5_tell 109 = .ok (.iload_n 2, 1) := by decide +kernel
theorem dX5_tell_110 : decode cX5_tell 110 = .ok (.iconst 1, 1) := by decide +kernel
theorem dX5_tell_111 : decode cX5_tell 111 = .ok (.iadd, 1) := by decide +kernel
theorem dX5_tell_112 : decode cX5_tell 112 = .ok (.invokevirtual 98, 3) := by decide +kernel
theorem dX5_tell_115 : decode cX5_tell 115 = .ok (.istore_n 2, 1) := by decide +kernel
theorem dX5_tell_116 : decode cX5_tell 116 = .ok (.goto (-39), 3) := by decide +kernel
theorem dX5_tell_119 : decode cX5_tell 119 = .ok (.return_, 1) := by decide +kernel
theorem dX6_init_0 : decode cX6_init 0 = .ok (.aload_n 0, 1) := by decide +kernel
theorem dX6_init_1 : decode cX6_init 1 = .ok (.invokespecial 1, 3) := by decide +kernel
theorem dX6_init_4 : decode cX6_init 4 = .ok (.aload_n 0, 1) := by decide +kernel
theorem dX6_init_5 : decode cX6_init 5 = .ok (.bipush 16, 2) := by decide +kernel
theorem dX6_init_7 : decode cX6_init 7 = .ok (.newarray .int, 2) := by decide +kernel
theorem dX6_init_9 : decode cX6_init 9 = .ok (.putfield 9, 3) := by decide +kernel
theorem dX6_init_12 : decode cX6_init 12 = .ok (.aload_n 0, 1) := by decide +kernel
theorem dX6_init_13 : decode cX6_init 13 = .ok (.new 13, 3) := by decide +kernel
theorem dX6_init_16 : decode cX6_init 16 = .ok (.dup, 1) := by decide +kernel
theorem dX6_init_17 : decode cX6_init 17 = .ok (.iconst 4, 1) := by decide +kernel
theorem dX6_init_18 : decode cX6_init 18 = .ok (.invokespecial 15, 3) := by decide +kernel
theorem dX6_init_21 : decode cX6_init 21 = .ok (.putfield 18, 3) := by decide +kernel
theorem dX6_init_24 : decode cX6_init 24 = .ok (.return_, 1) := by decide +kernel
theorem dX6_first_0 : decode cX6_first 0 = .ok (.aload_n 0, 1) := by decide +kernel
theorem dX6_first_1 : decode cX6_first 1 = .ok (.astore_n 1, 1) := by decide +kernel
theorem dX6_first_2 : decode cX6_first 2 = .ok (.aload_n 1, 1) := by decide +kernel
theorem dX6_first_3 : decode cX6_first 3 = .ok (.getfield 37, 3) := by decide +kernel
theorem dX6_first_6 : decode cX6_first 6 = .ok (.ifnonnull 22, 3) := by decide +kernel
theorem dX6_first_9 : decode cX6_first 9 = .ok (.aload_n 1, 1) := by decide +kernel
theorem dX6_first_10 : decode cX6_first 10 = .ok (.getfield 18, 3) := by decide +kernel
theorem dX6_first_13 : decode cX6_first 13 = .ok (.aload_n 1, 1) := by decide +kernel
theorem dX6_first_14 : decode cX6_first 14 = .ok (.getfield 18, 3) := by decide +kernel
theorem dX6_first_17 : decode cX6_first 17 = .ok (.iconst 0, 1) := by decide +kernel
theorem dX6_first_18 : decode cX6_first 18 = .ok (.invokevirtual 49, 3) := by decide +kernel
theorem dX6_first_21 : decode cX6_first 21 = .ok (.invokevirtual 54, 3) := by decide +kernel
theorem dX6_first_24 : decode cX6_first 24 = .ok (.astore_n 1, 1) := by decide +kernel
theorem dX6_first_25 : decode cX6_first 25 = .ok (.goto (-23), 3) := by decide +kernel
theorem dX6_first_28 : decode cX6_first 28 = .ok (.aload_n 1, 1) := by decide +kernel
theorem dX6_first_29 : decode cX6_first 29 = .ok (.getfield 37, 3) := by decide +kernel
theorem dX6_first_32 : decode cX6_first 32 = .ok (.areturn, 1) := by decide +kernel
theorem dX6_common_0 : decode cX6_common 0 = .ok (.iconst 0, 1) := by decide +kernel
theorem dX6_common_1 : decode cX6_common 1 = .ok (.istore_n 3, 1) := by decide +kernel
theorem dX6_common_2 : decode cX6_common 2 = .ok (.iload_n 3, 1) := by decide +kernel
theorem dX6_common_3 : decode cX6_common 3 = .ok (.aload_n 0, 1) := by decide +kernel
theorem dX6_common_4 : decode cX6_common 4 = .ok (.getfield 29, 3) := by decide +kernel
theorem dX6_common_7 : decode cX6_common 7 = .ok (.if_icmp .ge 35, 3) := by decide +kernel
theorem dX6_common_10 : decode cX6_common 10 = .ok (.iload_n 2, 1) := by decide +kernel
theorem dX6_common_11 : decode cX6_common 11 = .ok (.iload_n 3, 1) := by decide +kernel
theorem dX6_common_12 : decode cX6_common 12 = .ok (.iadd, 1) := by decide +kernel
theorem dX6_common_13 : decode cX6_common 13 = .ok (.aload_n 1, 1) := by decide +kernel
theorem dX6_common_14 : decode cX6_common 14 = .ok (.invokevirtual 41, 3) := by decide +kernel
theorem dX6_common_17 : decode cX6_common 17 = .ok (.if_icmp .ge 25, 3) := by decide +kernel
theorem dX6_common_20 : decode cX6_common 20 = .ok (.aload_n 0, 1) := by decide +kernel
theorem dX6_common_21 : decode cX6_common 21 = .ok (.getfield 9, 3) := by decide +kernel
theorem dX6_common_24 : decode cX6_common 24 = .ok (.iload_n 3, 1) := by decide +kernel
theorem dX6_common_25 : decode cX6_common 25 = .ok (.iaload, 1) := by decide +kernel
theorem dX6_common_26 : decode cX6_common 26 = .ok (.aload_n 1, 1) := by decide +kernel
theorem dX6_common_27 : decode cX6_common 27 = .ok (.iload_n 2, 1) := by decide +kernel
theorem dX6_common_28 : decode cX6_common 28 = .ok (.iload_n 3, 1) := by decide +kernel
theorem dX6_common_29 : decode cX6_common 29 = .ok (.iadd, 1) := by decide +kernel
theorem dX6_common_30 : decode cX6_common 30 = .ok (.invokevirtual 44, 3) := by decide +kernel
theorem dX6_common_33 : decode cX6_common 33 = .ok (.if_icmp .ne 9, 3) := by decide +kernel
theorem dX6_common_36 : decode cX6_common 36 = .ok (.iinc 3 1, 3) := by decide +kernel
theorem dX6_common_39 : decode cX6_common 39 = .ok (.goto (-37), 3) := by decide +kernel
theorem dX6_common_42 : decode cX6_common 42 = .ok (.iload_n 3, 1) := by decide +kernel
theorem dX6_common_43 : decode cX6_common 43 = .ok (.ireturn, 1) := by decide +kernel
theorem dX6_split_0 : decode cX6_split 0 = .ok (.new 7, 3) := by decide +kernel
theorem dX6_split_3 : decode cX6_split 3 = .ok (.dup, 1) := by decide +kernel
theorem dX6_split_4 : decode cX6_split 4 = .ok (.invokespecial 22, 3) := by decide +kernel
theorem dX6_split_7 : decode cX6_split 7 = .ok (.astore_n 2, 1) := by decide +kernel
theorem dX6_split_8 : decode cX6_split 8 = .ok (.iload_n 1, 1) := by decide +kernel
theorem dX6_split_9 : decode cX6_split 9 = .ok (.iconst 1, 1) := by decide +kernel
theorem dX6_split_10 : decode cX6_split 10 = .ok (.iadd, 1) := by decide +kernel
theorem dX6_split_11 : decode cX6_split 11 = .ok (.istore_n 3, 1) := by decide +kernel
theorem dX6_split_12 : decode cX6_split 12 = .ok (.iload_n 3, 1) := by decide +kernel
theorem dX6_split_13 : decode cX6_split 13 = .ok (.aload_n 0, 1) := by decide +kernel
theorem dX6_split_14 : decode cX6_split 14 = .ok (.getfield 29, 3) := by decide +kernel
theorem dX6_split_17 : decode cX6_split 17 = .ok (.if_icmp .ge 31, 3) := by decide +kernel
theorem dX6_split_20 : decode cX6_split 20 = .ok (.aload_n 2, 1) := by decide +kernel
theorem dX6_split_21 : decode cX6_split 21 = .ok (.getfield 9, 3) := by decide +kernel
theorem dX6_split_24 : decode cX6_split 24 = .ok (.aload_n 2, 1) := by decide +kernel
theorem dX6_split_25 : decode cX6_split 25 = .ok (.dup, 1) := by decide +kernel
theorem dX6_split_26 : decode cX6_split 26 = .ok (.getfield 29, 3) := by decide +kernel
theorem dX6_split_29 : decode cX6_split 29 = .ok (.dup_x1, 1) := by decide +kernel
theorem dX6_split_30 : decode cX6_split 30 = .ok (.iconst 1, 1) := by decide +kernel
theorem dX6_split_31 : decode cX6_split 31 = .ok (.iadd, 1) := by decide +kernel
theorem dX6_split_32 : decode cX6_split 32 = .ok (.putfield 29, 3) := by decide +kernel
theorem dX6_split_35 : decode cX6_split 35 = .ok (.aload_n 0, 1) := by decide +kernel
theorem dX6_split_36 : decode cX6_split 36 = .ok (.getfield 9, 3) := by decide +kernel
theorem dX6_split_39 : decode cX6_split 39 = .ok (.iload_n 3, 1) := by decide +kernel
theorem dX6_split_40 : decode cX6_split 40 = .ok (.iaload, 1) := by decide +kernel
theorem dX6_split_41 : decode cX6_split 41 = .ok (.iastore, 1) := by decide +kernel
theorem dX6_split_42 : decode cX6_split 42 = .ok (.iinc 3 1, 3) := by decide +kernel
theorem dX6_split_45 : decode cX6_split 45 = .ok (.goto (-33), 3) := by decide +kernel
theorem dX6_split_48 : decode cX6_split 48 = .ok (.aload_n 2, 1) := by decide +kernel
theorem dX6_split_49 : decode cX6_split 49 = .ok (.aload_n 0, 1) := by decide +kernel
theorem dX6_split_50 : decode cX6_split 50 = .ok (.getfield 37, 3) := by decide +kernel
theorem dX6_split_53 : decode cX6_split 53 = .ok (.putfield 37, 3) := by decide +kernel
theorem dX6_split_56 : decode cX6_split 56 = .ok (.aload_n 2, 1) := by decide +kernel
theorem dX6_split_57 : decode cX6_split 57 = .ok (.aload_n 0, 1) := by decide +kernel
theorem dX6_split_58 : decode cX6_split 58 = .ok (.getfield 18, 3) := by decide +kernel
theorem dX6_split_61 : decode cX6_split 61 = .ok (.putfield 18, 3) := by decide +kernel
theorem dX6_split_64 : decode cX6_split 64 = .ok (.aload_n 0, 1) := by decide +kernel
theorem dX6_split_65 : decode cX6_split 65 = .ok (.aconst_null, 1) := by decide +kernel
theorem dX6_split_66 : decode cX6_split 66 = .ok (.putfield 37, 3) := by decide +kernel
theorem dX6_split_69 : decode cX6_split 69 = .ok (.aload_n 0, 1) := by decide +kernel
theorem dX6_split_70 : decode cX6_split 70 = .ok (.new 13, 3) := by decide +kernel
theorem dX6_split_73 : decode cX6_split 73 = .ok (.dup, 1) := by decide +kernel
theorem dX6_split_74 : decode cX6_split 74 = .ok (.iconst 4, 1) := by decide +kernel
theorem dX6_split_75 : decode cX6_split 75 = .ok (.invokespecial 15, 3) := by decide +kernel
theorem dX6_split_78 : decode cX6_split 78 = .ok (.aload_n 0, 1) := by decide +kernel
theorem dX6_split_79 : decode cX6_split 79 = .ok (.getfield 9, 3) := by decide +kernel
theorem dX6_split_82 : decode cX6_split 82 = .ok (.iload_n 1, 1) := by decide +kernel
theorem dX6_split_83 : decode cX6_split 83 = .ok (.iaload, 1) := by decide +kernel
theorem dX6_split_84 : decode cX6_split 84 = .ok (.aload_n 2, 1) := by decide +kernel
theorem dX6_split_85 : decode cX6_split 85 = .ok (.invokevirtual 45, 3) := by decide +kernel
theorem dX6_split_88 : decode cX6_split 88 = .ok (.putfield 18, 3) := by decide +kernel
theorem dX6_split_91 : decode cX6_split 91 = .ok (.aload_n 0, 1) := by decide +kernel
theorem dX6_split_92 : decode cX6_split 92 = .ok (.iload_n 1, 1) := by decide +kernel
theorem dX6_split_93 : decode cX6_split 93 = .ok (.putfield 29, 3) := by decide +kernel
theorem dX6_split_96 : decode cX6_split 96 = .ok (.return_, 1) := by decide +kernel
theorem dX6_leaf_0 : decode cX6_leaf 0 = .ok (.new 7, 3) := by decide +kernel
theorem dX6_leaf_3 : decode cX6_leaf 3 = .ok (.dup, 1) := by decide +kernel
theorem dX6_leaf_4 : decode cX6_leaf 4 = .ok (.invokespecial 22, 3) := by decide +kernel
theorem dX6_leaf_7 : decode cX6_leaf 7 = .ok (.astore_n 2, 1) := by decide +kernel
theorem dX6_leaf_8 : decode cX6_leaf 8 = .ok (.iload_n 1, 1) := by decide +kernel
theorem dX6_leaf_9 : decode cX6_leaf 9 = .ok (.istore_n 3, 1) := by decide +kernel
theorem dX6_leaf_10 : decode cX6_leaf 10 = .ok (.iload_n 3, 1) := by decide +kernel
theorem dX6_leaf_11 : decode cX6_leaf 11 = .ok (.aload_n 0, 1) := by decide +kernel
theorem dX6_leaf_12 : decode cX6_leaf 12 = .ok (.invokevirtual 23, 3) := by decide +kernel
theorem dX6_leaf_15 : decode cX6_leaf 15 = .ok (.if_icmp .ge 30, 3) := by decide +kernel
theorem dX6_leaf_18 : decode cX6_leaf 18 = .ok (.aload_n 2, 1) := by decide +kernel
theorem dX6_leaf_19 : decode cX6_leaf 19 = .ok (.getfield 9, 3) := by decide +kernel
theorem dX6_leaf_22 : decode cX6_leaf 22 = .ok (.aload_n 2, 1) := by decide +kernel
theorem dX6_leaf_23 : decode cX6_leaf 23 = .ok (.dup, 1) := by decide +kernel
theorem dX6_leaf_24 : decode cX6_leaf 24 = .ok (.getfield 29, 3) := by decide +kernel
theorem dX6_leaf_27 : decode cX6_leaf 27 = .ok (.dup_x1, 1) := by decide +kernel
theorem dX6_leaf_28 : decode cX6_leaf 28 = .ok (.iconst 1, 1) := by decide +kernel
theorem dX6_leaf_29 : decode cX6_leaf 29 = .ok (.iadd, 1) := by decide +kernel
theorem dX6_leaf_30 : decode cX6_leaf 30 = .ok (.putfield 29, 3) := by decide +kernel
theorem dX6_leaf_33 : decode cX6_leaf 33 = .ok (.aload_n 0, 1) := by decide +kernel
theorem dX6_leaf_34 : decode cX6_leaf 34 = .ok (.iload_n 3, 1) := by decide +kernel
theorem dX6_leaf_35 : decode cX6_leaf 35 = .ok (.invokevirtual 33, 3) := by decide +kernel
theorem dX6_leaf_38 : decode cX6_leaf 38 = .ok (.iastore, 1) := by decide +kernel
theorem dX6_leaf_39 : decode cX6_leaf 39 = .ok (.iinc 3 1, 3) := by decide +kernel
theorem dX6_leaf_42 : decode cX6_leaf 42 = .ok (.goto (-32), 3) := by decide +kernel
theorem dX6_leaf_45 : decode cX6_leaf 45 = .ok (.aload_n 2, 1) := by decide +kernel
theorem dX6_leaf_46 : decode cX6_leaf 46 = .ok (.aload_n 0, 1) := by decide +kernel
theorem dX6_leaf_47 : decode cX6_leaf 47 = .ok (.putfield 37, 3) := by decide +kernel
theorem dX6_leaf_50 : decode cX6_leaf 50 = .ok (.aload_n 2, 1) := by decide +kernel
theorem dX6_leaf_51 : decode cX6_leaf 51 = .ok (.areturn, 1) := by decide +kernel
theorem dX6_merge_0 : decode cX6_merge 0 = .ok (.aload_n 0, 1) := by decide +kernel
theorem dX6_merge_1 : decode cX6_merge 1 = .ok (.getfield 18, 3) := by decide +kernel
theorem dX6_merge_4 : decode cX6_merge 4 = .ok (.iconst 0, 1) := by decide +kernel
theorem dX6_merge_5 : decode cX6_merge 5 = .ok (.invokevirtual 49, 3) := by decide +kernel
theorem dX6_merge_8 : decode cX6_merge 8 = .ok (.istore_n 1, 1) := by decide +kernel
theorem dX6_merge_9 : decode cX6_merge 9 = .ok (.aload_n 0, 1) := by decide +kernel
theorem dX6_merge_10 : decode cX6_merge 10 = .ok (.getfield 18, 3) := by decide +kernel
theorem dX6_merge_13 : decode cX6_merge 13 = .ok (.iload_n 1, 1) := by decide +kernel
theorem dX6_merge_14 : decode cX6_merge 14 = .ok (.invokevirtual 54, 3) := by decide +kernel
theorem dX6_merge_17 : decode cX6_merge 17 = .ok (.astore_n 2, 1) := by decide +kernel
theorem dX6_merge_18 : decode cX6_merge 18 = .ok (.aload_n 0, 1) := by decide +kernel
theorem dX6_merge_19 : decode cX6_merge 19 = .ok (.getfield 9, 3) := by decide +kernel
theorem dX6_merge_22 : decode cX6_merge 22 = .ok (.aload_n 0, 1) := by decide +kernel
theorem dX6_merge_23 : decode cX6_merge 23 = .ok (.dup, 1) := by decide +kernel
theorem dX6_merge_24 : decode cX6_merge 24 = .ok (.getfield 29, 3) := by decide +kernel
theorem dX6_merge_27 : decode cX6_merge 27 = .ok (.dup_x1, 1) := by decide +kernel
theorem dX6_merge_28 : decode cX6_merge 28 = .ok (.iconst 1, 1) := by decide +kernel
theorem dX6_merge_29 : decode cX6_merge 29 = .ok (.iadd, 1) := by decide +kernel
theorem dX6_merge_30 : decode cX6_merge 30 = .ok (.putfield 29, 3) := by decide +kernel
theorem dX6_merge_33 : decode cX6_merge 33 = .ok (.iload_n 1, 1) := by decide +kernel
theorem dX6_merge_34 : decode cX6_merge 34 = .ok (.iastore, 1) := by decide +kernel
theorem dX6_merge_35 : decode cX6_merge 35 = .ok (.iconst 0, 1) := by decide +kernel
theorem dX6_merge_36 : decode cX6_merge 36 = .ok (.istore_n 3, 1) := by decide +kernel
theorem dX6_merge_37 : decode cX6_merge 37 = .ok (.iload_n 3, 1) := by decide +kernel
theorem dX6_merge_38 : decode cX6_merge 38 = .ok (.aload_n 2, 1) := by decide +kernel
theorem dX6_merge_39 : decode cX6_merge 39 = .ok (.getfield 29, 3) := by decide +kernel
theorem dX6_merge_42 : decode cX6_merge 42 = .ok (.if_icmp .ge 31, 3) := by decide +kernel
theorem dX6_merge_45 : decode cX6_merge 45 = .ok (.aload_n 0, 1) := by decide +kernel
theorem dX6_merge_46 : decode cX6_merge 46 = .ok (.getfield 9, 3) := by decide +kernel
theorem dX6_merge_49 : decode cX6_merge 49 = .ok (.aload_n 0, 1) := by decide +kernel
theorem dX6_merge_50 : decode cX6_merge 50 = .ok (.dup, 1) := by decide +kernel
theorem dX6_merge_51 : decode cX6_merge 51 = .ok (.getfield 29, 3) := by decide +kernel
theorem dX6_merge_54 : decode cX6_merge 54 = .ok (.dup_x1, 1) := by decide +kernel
theorem dX6_merge_55 : decode cX6_merge 55 = .ok (.iconst 1, 1) := by decide +kernel
theorem dX6_merge_56 : decode cX6_merge 56 = .ok (.iadd, 1) := by decide +kernel
theorem dX6_merge_57 : decode cX6_merge 57 = .ok (.putfield 29, 3) := by decide +kernel
theorem dX6_merge_60 : decode cX6_merge 60 = .ok (.aload_n 2, 1) := by decide +kernel
theorem dX6_merge_61 : decode cX6_merge 61 = .ok (.getfield 9, 3) := by decide +kernel
theorem dX6_merge_64 : decode cX6_merge 64 = .ok (.iload_n 3, 1) := by decide +kernel
theorem dX6_merge_65 : decode cX6_merge 65 = .ok (.iaload, 1) := by decide +kernel
theorem dX6_merge_66 : decode cX6_merge 66 = .ok (.iastore, 1) := by decide +kernel
theorem dX6_merge_67 : decode cX6_merge 67 = .ok (.iinc 3 1, 3) := by decide +kernel
theorem dX6_merge_70 : decode cX6_merge 70 = .ok (.goto (-33), 3) := by decide +kernel
theorem dX6_merge_73 : decode cX6_merge 73 = .ok (.aload_n 0, 1) := by decide +kernel
theorem dX6_merge_74 : decode cX6_merge 74 = .ok (.aload_n 2, 1) := by decide +kernel
theorem dX6_merge_75 : decode cX6_merge 75 = .ok (.getfield 37, 3) := by decide +kernel
theorem dX6_merge_78 : decode cX6_merge 78 = .ok (.putfield 37, 3) := by decide +kernel
theorem dX6_merge_81 : decode cX6_merge 81 = .ok (.aload_n 0, 1) := by decide +kernel
theorem dX6_merge_82 : decode cX6_merge 82 = .ok (.aload_n 2, 1) := by decide +kernel
theorem dX6_merge_83 : decode cX6_merge 83 = .ok (.getfield 18, 3) := by decide +kernel
theorem dX6_merge_86 : decode cX6_merge 86 = .ok (.putfield 18, 3) := by decide +kernel
theorem dX6_merge_89 : decode cX6_merge 89 = .ok (.return_, 1) := by decide +kernel
theorem dX6_last_0 : decode cX6_last 0 = .ok (.aload_n 0, 1) := by decide +kernel
theorem dX6_last_1 : decode cX6_last 1 = .ok (.astore_n 1, 1) := by decide +kernel
theorem dX6_last_2 : decode cX6_last 2 = .ok (.aload_n 1, 1) := by decide +kernel
theorem dX6_last_3 : decode cX6_last 3 = .ok (.getfield 18, 3) := by decide +kernel
theorem dX6_last_6 : decode cX6_last 6 = .ok (.getfield 58, 3) := by decide +kernel
theorem dX6_last_9 : decode cX6_last 9 = .ok (.ifCond .le 24, 3) := by decide +kernel
theorem dX6_last_12 : decode cX6_last 12 = .ok (.aload_n 1, 1) := by decide +kernel
theorem dX6_last_13 : decode cX6_last 13 = .ok (.getfield 18, 3) := by decide +kernel
theorem dX6_last_16 : decode cX6_last 16 = .ok (.aload_n 1, 1) := by decide +kernel
theorem dX6_last_17 : decode cX6_last 17 = .ok (.getfield 18, 3) := by decide +kernel
theorem dX6_last_20 : decode cX6_last 20 = .ok (.sipush 255, 3) := by decide +kernel
theorem dX6_last_23 : decode cX6_last 23 = .ok (.invokevirtual 61, 3) := by decide +kernel
theorem dX6_last_26 : decode cX6_last 26 = .ok (.invokevirtual 54, 3) := by decide +kernel
theorem dX6_last_29 : decode cX6_last 29 = .ok (.astore_n 1, 1) := by decide +kernel
theorem dX6_last_30 : decode cX6_last 30 = .ok (.goto (-28), 3) := by decide +kernel
theorem dX6_last_33 : decode cX6_last 33 = .ok (.aload_n 1, 1) := by decide +kernel
theorem dX6_last_34 : decode cX6_last 34 = .ok (.getfield 37, 3) := by decide +kernel
theorem dX6_last_37 : decode cX6_last 37 = .ok (.areturn, 1) := by decide +kernel
theorem dX6_isInner_0 : decode cX6_isInner 0 = .ok (.aload_n 0, 1) := by decide +kernel
theorem dX6_isInner_1 : decode cX6_isInner 1 = .ok (.getfield 18, 3) := by decide +kernel
theorem dX6_isInner_4 : decode cX6_isInner 4 = .ok (.getfield 58, 3) := by decide +kernel
theorem dX6_isInner_7 : decode cX6_isInner 7 = .ok (.iconst 1, 1) := by decide +kernel
theorem dX6_isInner_8 : decode cX6_isInner 8 = .ok (.if_icmp .gt 20, 3) := by decide +kernel
theorem dX6_isInner_11 : decode cX6_isInner 11 = .ok (.aload_n 0, 1) := by decide +kernel
theorem dX6_isInner_12 : decode cX6_isInner 12 = .ok (.getfield 37, 3) := by decide +kernel
theorem dX6_isInner_15 : decode cX6_isInner 15 = .ok (.ifnull 17, 3) := by decide +kernel
theorem dX6_isInner_18 : decode cX6_isInner 18 = .ok (.aload_n 0, 1) := by decide +kernel
theorem dX6_isInner_19 : decode cX6_isInner 19 = .ok (.getfield 18, 3) := by decide +kernel
theorem dX6_isInner_22 : decode cX6_isInner 22 = .ok (.getfield 58, 3) := by decide +kernel
theorem dX6_isInner_25 : decode cX6_isInner 25 = .ok (.ifCond .le 7, 3) := by decide +kernel
theorem dX6_isInner_28 : decode cX6_isInner 28 = .ok (.iconst 1, 1) := by decide +kernel
theorem dX6_isInner_29 : decode cX6_isInner 29 = .ok (.goto 4, 3) := by decide +kernel
theorem dX6_isInner_32 : decode cX6_isInner 32 = .ok (.iconst 0, 1) := by decide +kernel
theorem dX6_isInner_33 : decode cX6_isInner 33 = .ok (.ireturn, 1) := by decide +kernel
theorem dX7_init_0 : decode cX7_init 0 = .ok (.aload_n 0, 1) := by decide +kernel
theorem dX7_init_1 : decode cX7_init 1 = .ok (.invokespecial 1, 3) := by decide +kernel
theorem dX7_init_4 : decode cX7_init 4 = .ok (.return_, 1) := by decide +kernel
theorem dX8_init_0 : decode cX8_init 0 = .ok (.aload_n 0, 1) := by decide +kernel
theorem dX8_init_1 : decode cX8_init 1 = .ok (.invokespecial 3, 3) := by decide +kernel
theorem dX8_init_4 : decode cX8_init 4 = .ok (.aload_n 0, 1) := by decide +kernel
theorem dX8_init_5 : decode cX8_init 5 = .ok (.iload_n 1, 1) := by decide +kernel
theorem dX8_init_6 : decode cX8_init 6 = .ok (.newarray .int, 2) := by decide +kernel
theorem dX8_init_8 : decode cX8_init 8 = .ok (.putfield 9, 3) := by decide +kernel
theorem dX8_init_11 : decode cX8_init 11 = .ok (.aload_n 0, 1) := by decide +kernel
theorem dX8_init_12 : decode cX8_init 12 = .ok (.iload_n 1, 1) := by decide +kernel
theorem dX8_init_13 : decode cX8_init 13 = .ok (.anewarray 15, 3) := by decide +kernel
theorem dX8_init_16 : decode cX8_init 16 = .ok (.putfield 17, 3) := by decide +kernel
theorem dX8_init_19 : decode cX8_init 19 = .ok (.return_, 1) := by decide +kernel
theorem dX8_from_0 : decode cX8_from 0 = .ok (.iconst 0, 1) := by decide +kernel
theorem dX8_from_1 : decode cX8_from 1 = .ok (.istore_n 2, 1) := by decide +kernel
theorem dX8_from_2 : decode cX8_from 2 = .ok (.iload_n 2, 1) := by decide +kernel
theorem dX8_from_3 : decode cX8_from 3 = .ok (.aload_n 0, 1) := by decide +kernel
theorem dX8_from_4 : decode cX8_from 4 = .ok (.getfield 21, 3) := by decide +kernel
theorem dX8_from_7 : decode cX8_from 7 = .ok (.if_icmp .ge 26, 3) := by decide +kernel
theorem dX8_from_10 : decode cX8_from 10 = .ok (.aload_n 0, 1) := by decide +kernel
theorem dX8_from_11 : decode cX8_from 11 = .ok (.getfield 9, 3) := by decide +kernel
theorem dX8_from_14 : decode cX8_from 14 = .ok (.iload_n 2, 1) := by decide +kernel
theorem dX8_from_15 : decode cX8_from 15 = .ok (.iaload, 1) := by decide +kernel
theorem dX8_from_16 : decode cX8_from 16 = .ok (.iload_n 1, 1) := by decide +kernel
theorem dX8_from_17 : decode cX8_from 17 = .ok (.if_icmp .lt 10, 3) := by decide +kernel
theorem dX8_from_20 : decode cX8_from 20 = .ok (.aload_n 0, 1) := by decide +kernel
theorem dX8_from_21 : decode cX8_from 21 = .ok (.getfield 9, 3) := by decide +kernel
theorem dX8_from_24 : decode cX8_from 24 = .ok (.iload_n 2, 1) := by decide +kernel
theorem dX8_from_25 : decode cX8_from 25 = .ok (.iaload, 1) := by decide +kernel
theorem dX8_from_26 : decode cX8_from 26 = .ok (.ireturn, 1) := by decide +kernel
theorem dX8_from_27 : decode cX8_from 27 = .ok (.iinc 2 1, 3) := by decide +kernel
theorem dX8_from_30 : decode cX8_from 30 = .ok (.goto (-28), 3) := by decide +kernel
theorem dX8_from_33 : decode cX8_from 33 = .ok (.iconst (-1), 1) := by decide +kernel
theorem dX8_from_34 : decode cX8_from 34 = .ok (.ireturn, 1) := by decide +kernel
theorem dX8_get_0 : decode cX8_get 0 = .ok (.iconst 0, 1) := by decide +kernel
theorem dX8_get_1 : decode cX8_get 1 = .ok (.istore_n 2, 1) := by decide +kernel
theorem dX8_get_2 : decode cX8_get 2 = .ok (.iload_n 2, 1) := by decide +kernel
theorem dX8_get_3 : decode cX8_get 3 = .ok (.aload_n 0, 1) := by decide +kernel
theorem dX8_get_4 : decode cX8_get 4 = .ok (.getfield 21, 3) := by decide +kernel
theorem dX8_get_7 : decode cX8_get 7 = .ok (.if_icmp .ge 26, 3) := by decide +kernel
theorem dX8_get_10 : decode cX8_get 10 = .ok (.aload_n 0, 1) := by decide +kernel
theorem dX8_get_11 : decode cX8_get 11 = .ok (.getfield 9, 3) := by decide +kernel
theorem dX8_get_14 : decode cX8_get 14 = .ok (.iload_n 2, 1) := by decide +kernel
theorem dX8_get_15 : decode cX8_get 15 = .ok (.iaload, 1) := by decide +kernel
theorem dX8_get_16 : decode cX8_get 16 = .ok (.iload_n 1, 1) := by decide +kernel
theorem dX8_get_17 : decode cX8_get 17 = .ok (.if_icmp .ne 10, 3) := by decide +kernel
theorem dX8_get_20 : decode cX8_get 20 = .ok (.aload_n 0, 1) := by decide +kernel
theorem dX8_get_21 : decode cX8_get 21 = .ok (.getfield 17, 3) := by decide +kernel
theorem dX8_get_24 : decode cX8_get 24 = .ok (.iload_n 2, 1) := by decide +kernel
theorem dX8_get_25 : decode cX8_get 25 = .ok (.aaload, 1) := by decide +kernel
theorem dX8_get_26 : decode cX8_get 26 = .ok (.areturn, 1) := by decide +kernel
theorem dX8_get_27 : decode cX8_get 27 = .ok (.iinc 2 1, 3) := by decide +kernel
theorem dX8_get_30 : decode cX8_get 30 = .ok (.goto (-28), 3) := by decide +kernel
theorem dX8_get_33 : decode cX8_get 33 = .ok (.aconst_null, 1) := by decide +kernel
theorem dX8_get_34 : decode cX8_get 34 = .ok (.areturn, 1) := by decide +kernel
theorem dX8_put_0 : decode cX8_put 0 = .ok (.aload_n 0, 1) := by decide +kernel
theorem dX8_put_1 : decode cX8_put 1 = .ok (.getfield 21, 3) := by decide +kernel
theorem dX8_put_4 : decode cX8_put 4 = .ok (.aload_n 0, 1) := by decide +kernel
theorem dX8_put_5 : decode cX8_put 5 = .ok (.getfield 9, 3) := by decide +kernel
theorem dX8_put_8 : decode cX8_put 8 = .ok (.arraylength, 1) := by decide +kernel
theorem dX8_put_9 : decode cX8_put 9 = .ok (.if_icmp .ne 43, 3) := by decide +kernel
theorem dX8_put_12 : decode cX8_put 12 = .ok (.aload_n 0, 1) := by decide +kernel
theorem dX8_put_13 : decode cX8_put 13 = .ok (.getfield 21, 3) := by decide +kernel
theorem dX8_put_16 : decode cX8_put 16 = .ok (.iconst 4, 1) := by decide +kernel
theorem dX8_put_17 : decode cX8_put 17 = .ok (.if_icmp .ne 15, 3) := by decide +kernel
theorem dX8_put_20 : decode cX8_put 20 = .ok (.new 10, 3) := by decide +kernel
theorem dX8_put_23 : decode cX8_put 23 = .ok (.dup, 1) := by decide +kernel
theorem dX8_put_24 : decode cX8_put 24 = .ok (.bipush 16, 2) := by decide +kernel
theorem dX8_put_26 : decode cX8_put 26 = .ok (.invokespecial 29, 3) := by decide +kernel
theorem dX8_put_29 : decode cX8_put 29 = .ok (.goto 10, 3) := by decide +kernel
theorem dX8_put_32 : decode cX8_put 32 = .ok (.new 32, 3) := by decide +kernel
theorem dX8_put_35 : decode cX8_put 35 = .ok (.dup, 1) := by decide +kernel
theorem dX8_put_36 : decode cX8_put 36 = .ok (.invokespecial 34, 3) := by decide +kernel
theorem dX8_put_39 : decode cX8_put 39 = .ok (.astore_n 3, 1) := by decide +kernel
theorem dX8_put_40 : decode cX8_put 40 = .ok (.aload_n 0, 1) := by decide +kernel
theorem dX8_put_41 : decode cX8_put 41 = .ok (.aload_n 3, 1) := by decide +kernel
theorem dX8_put_42 : decode cX8_put 42 = .ok (.invokevirtual 35, 3) := by decide +kernel
theorem dX8_put_45 : decode cX8_put 45 = .ok (.aload_n 3, 1) := by decide +kernel
theorem dX8_put_46 : decode cX8_put 46 = .ok (.iload_n 1, 1) := by decide +kernel
theorem dX8_put_47 : decode cX8_put 47 = .ok (.aload_n 2, 1) := by decide +kernel
theorem dX8_put_48 : decode cX8_put 48 = .ok (.invokevirtual 25, 3) := by decide +kernel
theorem dX8_put_51 : decode cX8_put 51 = .ok (.areturn, 1) := by decide +kernel
theorem dX8_put_52 : decode cX8_put 52 = .ok (.aload_n 0, 1) := by decide +kernel
theorem dX8_put_53 : decode cX8_put 53 = .ok (.getfield 21, 3) := by decide +kernel
theorem dX8_put_56 : decode cX8_put 56 = .ok (.istore_n 3, 1) := by decide +kernel
theorem dX8_put_57 : decode cX8_put 57 = .ok (.iload_n 3, 1) := by decide +kernel
theorem dX8_put_58 : decode cX8_put 58 = .ok (.ifCond .le 49, 3) := by decide +kernel
theorem dX8_put_61 : decode cX8_put 61 = .ok (.aload_n 0, 1) := by decide +kernel
theorem dX8_put_62 : decode cX8_put 62 = .ok (.getfield 9, 3) := by decide +kernel
theorem dX8_put_65 : decode cX8_put 65 = .ok (.iload_n 3, 1) := by decide +kernel
theorem dX8_put_66 : decode cX8_put 66 = .ok (.iconst 1, 1) := by decide +kernel
theorem dX8_put_67 : decode cX8_put 67 = .ok (.isub, 1) := by decide +kernel
theorem dX8_put_68 : decode cX8_put 68 = .ok (.iaload, 1) := by decide +kernel
theorem dX8_put_69 : decode cX8_put 69 = .ok (.iload_n 1, 1) := by decide +kernel
theorem dX8_put_70 : decode cX8_put 70 = .ok (.if_icmp .le 37, 3) := by decide +kernel
theorem dX8_put_73 : decode cX8_put 73 = .ok (.aload_n 0, 1) := by decide +kernel
theorem dX8_put_74 : decode cX8_put 74 = .ok (.getfield 9, 3) := by decide +kernel
theorem dX8_put_77 : decode cX8_put 77 = .ok (.iload_n 3, 1) := by decide +kernel
theorem dX8_put_78 : decode cX8_put 78 = .ok (.aload_n 0, 1) := by decide +kernel
theorem dX8_put_79 : decode cX8_put 79 = .ok (.getfield 9, 3) := by decide +kernel
theorem dX8_put_82 : decode cX8_put 82 = .ok (.iload_n 3, 1) := by decide +kernel
theorem dX8_put_83 : decode cX8_put 83 = .ok (.iconst 1, 1) := by decide +kernel
theorem dX8_put_84 : decode cX8_put 84 = .ok (.isub, 1) := by decide +kernel
theorem dX8_put_85 : decode cX8_put 85 = .ok (.iaload, 1) := by decide +kernel
theorem dX8_put_86 : decode cX8_put 86 = .ok (.iastore, 1) := by decide +kernel
theorem dX8_put_87 : decode cX8_put 87 = .ok (.aload_n 0, 1) := by decide +kernel
theorem dX8_put_88 : decode cX8_put 88 = .ok (.getfield 17, 3) := by decide +kernel
theorem dX8_put_91 : decode cX8_put 91 = .ok (.iload_n 3, 1) := by decide +kernel
theorem dX8_put_92 : decode cX8_put 92 = .ok (.aload_n 0, 1) := by decide +kernel
theorem dX8_put_93 : decode cX8_put 93 = .ok (.getfield 17, 3) := by decide +kernel
theorem dX8_put_96 : decode cX8_put 96 = .ok (.iload_n 3, 1) := by decide +kernel
theorem dX8_put_97 : decode cX8_put 97 = .ok (.iconst 1, 1) := by decide +kernel
theorem dX8_put_98 : decode cX8_put 98 = .ok (.isub, 1) := by decide +kernel
theorem dX8_put_99 : decode cX8_put 99 = .ok (.aaload, 1) := by decide +kernel
theorem dX8_put_100 : decode cX8_put 100 = .ok (.aastore, 1) := by decide +kernel
theorem dX8_put_101 : decode cX8_put 101 = .ok (.iinc 3 (-1), 3) := by decide +kernel
theorem dX8_put_104 : decode cX8_put 104 = .ok (.goto (-47), 3) := by decide +kernel
theorem dX8_put_107 : decode cX8_put 107 = .ok (.aload_n 0, 1) := by decide +kernel
theorem dX8_put_108 : decode cX8_put 108 = .ok (.getfield 9, 3) := by decide +kernel
theorem dX8_put_111 : decode cX8_put 111 = .ok (.iload_n 3, 1) := by decide +kernel
theorem dX8_put_112 : decode cX8_put 112 = .ok (.iload_n 1, 1) := by decide +kernel
theorem dX8_put_113 : decode cX8_put 113 = .ok (.iastore, 1) := by decide +kernel
theorem dX8_put_114 : decode cX8_put 114 = .ok (.aload_n 0, 1) := by decide +kernel
theorem dX8_put_115 : decode cX8_put 115 = .ok (.getfield 17, 3) := by decide +kernel
theorem dX8_put_118 : decode cX8_put 118 = .ok (.iload_n 3, 1) := by decide +kernel
theorem dX8_put_119 : decode cX8_put 119 = .ok (.aload_n 2, 1) := by decide +kernel
theorem dX8_put_120 : decode cX8_put 120 = .ok (.aastore, 1) := by decide +kernel
theorem dX8_put_121 : decode cX8_put 121 = .ok (.aload_n 0, 1) := by decide +kernel
theorem dX8_put_122 : decode cX8_put 122 = .ok (.dup, 1) := by decide +kernel
theorem dX8_put_123 : decode cX8_put 123 = .ok (.getfield 21, 3) := by decide +kernel
theorem dX8_put_126 : decode cX8_put 126 = .ok (.iconst 1, 1) := by decide +kernel
theorem dX8_put_127 : decode cX8_put 127 = .ok (.iadd, 1) := by decide +kernel
theorem dX8_put_128 : decode cX8_put 128 = .ok (.putfield 21, 3) := by decide +kernel
theorem dX8_put_131 : decode cX8_put 131 = .ok (.aload_n 0, 1) := by decide +kernel
theorem dX8_put_132 : decode cX8_put 132 = .ok (.areturn, 1) := by decide +kernel
theorem dX8_all_0 : decode cX8_all 0 = .ok (.iconst 0, 1) := by decide +kernel
theorem dX8_all_1 : decode cX8_all 1 = .ok (.istore_n 2, 1) := by decide +kernel
theorem dX8_all_2 : decode cX8_all 2 = .ok (.iload_n 2, 1) := by decide +kernel
theorem dX8_all_3 : decode cX8_all 3 = .ok (.aload_n 0, 1) := by decide +kernel
theorem dX8_all_4 : decode cX8_all 4 = .ok (.getfield 21, 3) := by decide +kernel
theorem dX8_all_7 : decode cX8_all 7 = .ok (.if_icmp .ge 26, 3) := by decide +kernel
theorem dX8_all_10 : decode cX8_all 10 = .ok (.aload_n 1, 1) := by decide +kernel
theorem dX8_all_11 : decode cX8_all 11 = .ok (.aload_n 0, 1) := by decide +kernel
theorem dX8_all_12 : decode cX8_all 12 = .ok (.getfield 9, 3) := by decide +kernel
theorem dX8_all_15 : decode cX8_all 15 = .ok (.iload_n 2, 1) := by decide +kernel
theorem dX8_all_16 : decode cX8_all 16 = .ok (.iaload, 1) := by decide +kernel
theorem dX8_all_17 : decode cX8_all 17 = .ok (.aload_n 0, 1) := by decide +kernel
theorem dX8_all_18 : decode cX8_all 18 = .ok (.getfield 17, 3) := by decide +kernel
theorem dX8_all_21 : decode cX8_all 21 = .ok (.iload_n 2, 1) := by decide +kernel
theorem dX8_all_22 : decode cX8_all 22 = .ok (.aaload, 1) := by decide +kernel
theorem dX8_all_23 : decode cX8_all 23 = .ok (.invokevirtual 25, 3) := by decide +kernel
theorem dX8_all_26 : decode cX8_all 26 = .ok (.pop, 1) := by decide +kernel
theorem dX8_all_27 : decode cX8_all 27 = .ok (.iinc 2 1, 3) := by decide +kernel
theorem dX8_all_30 : decode cX8_all 30 = .ok (.goto (-28), 3) := by decide +kernel
theorem dX8_all_33 : decode cX8_all 33 = .ok (.return_, 1) := by decide +kernel
theorem dX8_take_0 : decode cX8_take 0 = .ok (.iconst 0, 1) := by decide +kernel
theorem dX8_take_1 : decode cX8_take 1 = .ok (.istore_n 2, 1) := by decide +kernel
theorem dX8_take_2 : decode cX8_take 2 = .ok (.iconst 0, 1) := by decide +kernel
theorem dX8_take_3 : decode cX8_take 3 = .ok (.istore_n 3, 1) := by decide +kernel
theorem dX8_take_4 : decode cX8_take 4 = .ok (.iload_n 3, 1) := by decide +kernel
theorem dX8_take_5 : decode cX8_take 5 = .ok (.aload_n 0, 1) := by decide +kernel
theorem dX8_take_6 : decode cX8_take 6 = .ok (.getfield 21, 3) := by decide +kernel
theorem dX8_take_9 : decode cX8_take 9 = .ok (.if_icmp .ge 51, 3) := by decide +kernel
theorem dX8_take_12 : decode cX8_take 12 = .ok (.aload_n 0, 1) := by decide +kernel
theorem dX8_take_13 : decode cX8_take 13 = .ok (.getfield 9, 3) := by decide +kernel
theorem dX8_take_16 : decode cX8_take 16 = .ok (.iload_n 2, 1) := by decide +kernel
theorem dX8_take_17 : decode cX8_take 17 = .ok (.aload_n 0, 1) := by decide +kernel
theorem dX8_take_18 : decode cX8_take 18 = .ok (.getfield 9, 3) := by decide +kernel
theorem dX8_take_21 : decode cX8_take 21 = .ok (.iload_n 3, 1) := by decide +kernel
theorem dX8_take_22 : decode cX8_take 22 = .ok (.iaload, 1) := by decide +kernel
theorem dX8_take_23 : decode cX8_take 23 = .ok (.iastore, 1) := by decide +kernel
theorem dX8_take_24 : decode cX8_take 24 = .ok (.aload_n 0, 1) := by decide +kernel
theorem dX8_take_25 : decode cX8_take 25 = .ok (.getfield 17, 3) := by decide +kernel
theorem dX8_take_28 : decode cX8_take 28 = .ok (.iload_n 2, 1) := by decide +kernel
theorem dX8_take_29 : decode cX8_take 29 = .ok (.aload_n 0, 1) := by decide +kernel
theorem dX8_take_30 : decode cX8_take 30 = .ok (.getfield 17, 3) := by decide +kernel
theorem dX8_take_33 : decode cX8_take 33 = .ok (.iload_n 3, 1) := by decide +kernel
theorem dX8_take_34 : decode cX8_take 34 = .ok (.aaload, 1) := by decide +kernel
theorem dX8_take_35 : decode cX8_take 35 = .ok (.aastore, 1) := by decide +kernel
theorem dX8_take_36 : decode cX8_take 36 = .ok (.iload_n 2, 1) := by decide +kernel
theorem dX8_take_37 : decode cX8_take 37 = .ok (.aload_n 0, 1) := by decide +kernel
theorem dX8_take_38 : decode cX8_take 38 = .ok (.getfield 9, 3) := by decide +kernel
theorem dX8_take_41 : decode cX8_take 41 = .ok (.iload_n 3, 1) := by decide +kernel
theorem dX8_take_42 : decode cX8_take 42 = .ok (.iaload, 1) := by decide +kernel
theorem dX8_take_43 : decode cX8_take 43 = .ok (.iload_n 1, 1) := by decide +kernel
theorem dX8_take_44 : decode cX8_take 44 = .ok (.if_icmp .ne 7, 3) := by decide +kernel
theorem dX8_take_47 : decode cX8_take 47 = .ok (.iconst 0, 1) := by decide +kernel
theorem dX8_take_48 : decode cX8_take 48 = .ok (.goto 4, 3) := by decide +kernel
theorem dX8_take_51 : decode cX8_take 51 = .ok (.iconst 1, 1) := by decide +kernel
theorem dX8_take_52 : decode cX8_take 52 = .ok (.iadd, 1) := by decide +kernel
theorem dX8_take_53 : decode cX8_take 53 = .ok (.istore_n 2, 1) := by decide +kernel
theorem dX8_take_54 : decode cX8_take 54 = .ok (.iinc 3 1, 3) := by decide +kernel
theorem dX8_take_57 : decode cX8_take 57 = .ok (.goto (-53), 3) := by decide +kernel
theorem dX8_take_60 : decode cX8_take 60 = .ok (.aload_n 0, 1) := by decide +kernel
theorem dX8_take_61 : decode cX8_take 61 = .ok (.iload_n 2, 1) := by decide +kernel
theorem dX8_take_62 : decode cX8_take 62 = .ok (.putfield 21, 3) := by decide +kernel
theorem dX8_take_65 : decode cX8_take 65 = .ok (.aload_n 0, 1) := by decide +kernel
theorem dX8_take_66 : decode cX8_take 66 = .ok (.getfield 21, 3) := by decide +kernel
theorem dX8_take_69 : decode cX8_take 69 = .ok (.iconst 4, 1) := by decide +kernel
theorem dX8_take_70 : decode cX8_take 70 = .ok (.if_icmp .gt 12, 3) := by decide +kernel
theorem dX8_take_73 : decode cX8_take 73 = .ok (.aload_n 0, 1) := by decide +kernel
theorem dX8_take_74 : decode cX8_take 74 = .ok (.getfield 9, 3) := by decide +kernel
theorem dX8_take_77 : decode cX8_take 77 = .ok (.arraylength, 1) := by decide +kernel
theorem dX8_take_78 : decode cX8_take 78 = .ok (.iconst 4, 1) := by decide +kernel
theorem dX8_take_79 : decode cX8_take 79 = .ok (.if_icmp .ne 5, 3) := by decide +kernel
theorem dX8_take_82 : decode cX8_take 82 = .ok (.aload_n 0, 1) := by decide +kernel
theorem dX8_take_83 : decode cX8_take 83 = .ok (.areturn, 1) := by decide +kernel
theorem dX8_take_84 : decode cX8_take 84 = .ok (.new 10, 3) := by decide +kernel
theorem dX8_take_87 : decode cX8_take 87 = .ok (.dup, 1) := by decide +kernel
theorem dX8_take_88 : decode cX8_take 88 = .ok (.iconst 4, 1) := by decide +kernel
theorem dX8_take_89 : decode cX8_take 89 = .ok (.invokespecial 29, 3) := by decide +kernel
theorem dX8_take_92 : decode cX8_take 92 = .ok (.astore_n 3, 1) := by decide +kernel
theorem dX8_take_93 : decode cX8_take 93 = .ok (.aload_n 0, 1) := by decide +kernel
theorem dX8_take_94 : decode cX8_take 94 = .ok (.aload_n 3, 1) := by decide +kernel
theorem dX8_take_95 : decode cX8_take 95 = .ok (.invokevirtual 35, 3) := by decide +kernel
theorem dX8_take_98 : decode cX8_take 98 = .ok (.aload_n 3, 1) := by decide +kernel
theorem dX8_take_99 : decode cX8_take 99 = .ok (.areturn, 1) := by decide +kernel
theorem dX8_upTo_0 : decode cX8_upTo 0 = .ok (.aload_n 0, 1) := by decide +kernel
theorem dX8_upTo_1 : decode cX8_upTo 1 = .ok (.getfield 21, 3) := by decide +kernel
theorem dX8_upTo_4 : decode cX8_upTo 4 = .ok (.iconst 1, 1) := by decide +kernel
theorem dX8_upTo_5 : decode cX8_upTo 5 = .ok (.isub, 1) := by decide +kernel
theorem dX8_upTo_6 : decode cX8_upTo 6 = .ok (.istore_n 2, 1) := by decide +kernel
theorem dX8_upTo_7 : decode cX8_upTo 7 = .ok (.iload_n 2, 1) := by decide +kernel
theorem dX8_upTo_8 : decode cX8_upTo 8 = .ok (.ifCond .lt 26, 3) := by decide +kernel
theorem dX8_upTo_11 : decode cX8_upTo 11 = .ok (.aload_n 0, 1) := by decide +kernel
theorem dX8_upTo_12 : decode cX8_upTo 12 = .ok (.getfield 9, 3) := by decide +kernel
theorem dX8_upTo_15 : decode cX8_upTo 15 = .ok (.iload_n 2, 1) := by decide +kernel
theorem dX8_upTo_16 : decode cX8_upTo 16 = .ok (.iaload, 1) := by decide +kernel
theorem dX8_upTo_17 : decode cX8_upTo 17 = .ok (.iload_n 1, 1) := by decide +kernel
theorem dX8_upTo_18 : decode cX8_upTo 18 = .ok (.if_icmp .gt 10, 3) := by decide +kernel
theorem dX8_upTo_21 : decode cX8_upTo 21 = .ok (.aload_n 0, 1) := by decide +kernel
theorem dX8_upTo_22 : decode cX8_upTo 22 = .ok (.getfield 9, 3) := by decide +kernel
theorem dX8_upTo_25 : decode cX8_upTo 25 = .ok (.iload_n 2, 1) := by decide +kernel
theorem dX8_upTo_26 : decode cX8_upTo 26 = .ok (.iaload, 1) := by decide +kernel
theorem dX8_upTo_27 : decode cX8_upTo 27 = .ok (.ireturn, 1) := by decide +kernel
theorem dX8_upTo_28 : decode cX8_upTo 28 = .ok (.iinc 2 (-1), 3) := by decide +kernel
theorem dX8_upTo_31 : decode cX8_upTo 31 = .ok (.goto (-24), 3) := by decide +kernel
theorem dX8_upTo_34 : decode cX8_upTo 34 = .ok (.iconst (-1), 1) := by decide +kernel
theorem dX8_upTo_35 : decode cX8_upTo 35 = .ok (.ireturn, 1) := by decide +kernel
theorem dX9_init_0 : decode cX9_init 0 = .ok (.aload_n 0, 1) := by decide +kernel
theorem dX9_init_1 : decode cX9_init 1 = .ok (.invokespecial 3, 3) := by decide +kernel
theorem dX9_init_4 : decode cX9_init 4 = .ok (.aload_n 0, 1) := by decide +kernel
theorem dX9_init_5 : decode cX9_init 5 = .ok (.sipush 513, 3) := by decide +kernel
theorem dX9_init_8 : decode cX9_init 8 = .ok (.newarray .boolean, 2) := by decide +kernel
theorem dX9_init_10 : decode cX9_init 10 = .ok (.putfield 11, 3) := by decide +kernel
theorem dX9_init_13 : decode cX9_init 13 = .ok (.aload_n 0, 1) := by decide +kernel
theorem dX9_init_14 : decode cX9_init 14 = .ok (.sipush 513, 3) := by decide +kernel
theorem dX9_init_17 : decode cX9_init 17 = .ok (.newarray .int, 2) := by decide +kernel
theorem dX9_init_19 : decode cX9_init 19 = .ok (.putfield 15, 3) := by decide +kernel
theorem dX9_init_22 : decode cX9_init 22 = .ok (.aload_n 0, 1) := by decide +kernel
theorem dX9_init_23 : decode cX9_init 23 = .ok (.sipush 513, 3) := by decide +kernel
theorem dX9_init_26 : decode cX9_init 26 = .ok (.newarray .char, 2) := by decide +kernel
theorem dX9_init_28 : decode cX9_init 28 = .ok (.putfield 19, 3) := by decide +kernel
theorem dX9_init_31 : decode cX9_init 31 = .ok (.aload_n 0, 1) := by decide +kernel
theorem dX9_init_32 : decode cX9_init 32 = .ok (.sipush 513, 3) := by decide +kernel
theorem dX9_init_35 : decode cX9_init 35 = .ok (.newarray .int, 2) := by decide +kernel
theorem dX9_init_37 : decode cX9_init 37 = .ok (.putfield 23, 3) := by decide +kernel
theorem dX9_init_40 : decode cX9_init 40 = .ok (.aload_n 0, 1) := by decide +kernel
theorem dX9_init_41 : decode cX9_init 41 = .ok (.sipush 513, 3) := by decide +kernel
theorem dX9_init_44 : decode cX9_init 44 = .ok (.newarray .int, 2) := by decide +kernel
theorem dX9_init_46 : decode cX9_init 46 = .ok (.putfield 26, 3) := by decide +kernel
theorem dX9_init_49 : decode cX9_init 49 = .ok (.aload_n 0, 1) := by decide +kernel
theorem dX9_init_50 : decode cX9_init 50 = .ok (.sipush 513, 3) := by decide +kernel
theorem dX9_init_53 : decode cX9_init 53 = .ok (.newarray .int, 2) := by decide +kernel
theorem dX9_init_55 : decode cX9_init 55 = .ok (.putfield 29, 3) := by decide +kernel
theorem dX9_init_58 : decode cX9_init 58 = .ok (.return_, 1) := by decide +kernel
theorem dX9_begin_0 : decode cX9_begin 0 = .ok (.aload_n 0, 1) := by decide +kernel
theorem dX9_begin_1 : decode cX9_begin 1 = .ok (.iconst 0, 1) := by decide +kernel
theorem dX9_begin_2 : decode cX9_begin 2 = .ok (.putfield 32, 3) := by decide +kernel
theorem dX9_begin_5 : decode cX9_begin 5 = .ok (.aload_n 0, 1) := by decide +kernel
theorem dX9_begin_6 : decode cX9_begin 6 = .ok (.iconst 0, 1) := by decide +kernel
theorem dX9_begin_7 : decode cX9_begin 7 = .ok (.putfield 36, 3) := by decide +kernel
theorem dX9_begin_10 : decode cX9_begin 10 = .ok (.aload_n 0, 1) := by decide +kernel
theorem dX9_begin_11 : decode cX9_begin 11 = .ok (.iconst 0, 1) := by decide +kernel
theorem dX9_begin_12 : decode cX9_begin 12 = .ok (.putfield 39, 3) := by decide +kernel
theorem dX9_begin_15 : decode cX9_begin 15 = .ok (.aload_n 0, 1) := by decide +kernel
theorem dX9_begin_16 : decode cX9_begin 16 = .ok (.iconst (-1), 1) := by decide +kernel
theorem dX9_begin_17 : decode cX9_begin 17 = .ok (.putfield 42, 3) := by decide +kernel
theorem dX9_begin_20 : decode cX9_begin 20 = .ok (.return_, 1) := by decide +kernel
theorem dX9_count_0 : decode cX9_count 0 = .ok (.iconst 0, 1) := by decide +kernel
theorem dX9_count_1 : decode cX9_count 1 = .ok (.istore_n 2, 1) := by decide +kernel
theorem dX9_count_2 : decode cX9_count 2 = .ok (.iconst 0, 1) := by decide +kernel
theorem dX9_count_3 : decode cX9_count 3 = .ok (.istore_n 3, 1) := by decide +kernel
theorem dX9_count_4 : decode cX9_count 4 = .ok (.iload_n 3, 1) := by decide +kernel
theorem dX9_count_5 : decode cX9_count 5 = .ok (.aload_n 0, 1) := by decide +kernel
theorem dX9_count_6 : decode cX9_count 6 = .ok (.getfield 39, 3) := by decide +kernel
theorem dX9_count_9 : decode cX9_count 9 = .ok (.if_icmp .ge 74, 3) := by decide +kernel
theorem dX9_count_12 : decode cX9_count 12 = .ok (.iload_n 1, 1) := by decide +kernel
theorem dX9_count_13 : decode cX9_count 13 = .ok (.ifCond .eq 22, 3) := by decide +kernel
theorem dX9_count_16 : decode cX9_count 16 = .ok (.iload_n 1, 1) := by decide +kernel
theorem dX9_count_17 : decode cX9_count 17 = .ok (.iconst 2, 1) := by decide +kernel
theorem dX9_count_18 : decode cX9_count 18 = .ok (.if_icmp .ne 20, 3) := by decide +kernel
theorem dX9_count_21 : decode cX9_count 21 = .ok (.aload_n 0, 1) := by decide +kernel
theorem dX9_count_22 : decode cX9_count 22 = .ok (.getfield 11, 3) := by decide +kernel
theorem dX9_count_25 : decode cX9_count 25 = .ok (.aload_n 0, 1) := by decide +kernel
theorem dX9_count_26 : decode cX9_count 26 = .ok (.getfield 29, 3) := by decide +kernel
theorem dX9_count_29 : decode cX9_count 29 = .ok (.iload_n 3, 1) := by decide +kernel
theorem dX9_count_30 : decode cX9_count 30 = .ok (.iaload, 1) := by decide +kernel
theorem dX9_count_31 : decode cX9_count 31 = .ok (.baload, 1) := by decide +kernel
theorem dX9_count_32 : decode cX9_count 32 = .ok (.ifCond .eq 6, 3) := by decide +kernel
theorem dX9_count_35 : decode cX9_count 35 = .ok (.iinc 2 1, 3) := by decide +kernel
theorem dX9_count_38 : decode cX9_count 38 = .ok (.aload_n 0, 1) := by decide +kernel
theorem dX9_count_39 : decode cX9_count 39 = .ok (.getfield 15, 3) := by decide +kernel
theorem dX9_count_42 : decode cX9_count 42 = .ok (.aload_n 0, 1) := by decide +kernel
theorem dX9_count_43 : decode cX9_count 43 = .ok (.getfield 29, 3) := by decide +kernel
theorem dX9_count_46 : decode cX9_count 46 = .ok (.iload_n 3, 1) := by decide +kernel
theorem dX9_count_47 : decode cX9_count 47 = .ok (.iaload, 1) := by decide +kernel
theorem dX9_count_48 : decode cX9_count 48 = .ok (.iaload, 1) := by decide +kernel
theorem dX9_count_49 : decode cX9_count 49 = .ok (.istore 4, 2) := by decide +kernel
theorem dX9_count_51 : decode cX9_count 51 = .ok (.iload 4, 2) := by decide +kernel
theorem dX9_count_53 : decode cX9_count 53 = .ok (.iconst (-1), 1) := by decide +kernel
theorem dX9_count_54 : decode cX9_count 54 = .ok (.if_icmp .eq 23, 3) := by decide +kernel
theorem dX9_count_57 : decode cX9_count 57 = .ok (.iload_n 1, 1) := by decide +kernel
theorem dX9_count_58 : decode cX9_count 58 = .ok (.iconst 1, 1) := by decide +kernel
theorem dX9_count_59 : decode cX9_count 59 = .ok (.if_icmp .ne 18, 3) := by decide +kernel
theorem dX9_count_62 : decode cX9_count 62 = .ok (.iinc 2 1, 3) := by decide +kernel
theorem dX9_count_65 : decode cX9_count 65 = .ok (.aload_n 0, 1) := by decide +kernel
theorem dX9_count_66 : decode cX9_count 66 = .ok (.getfield 26, 3) := by decide +kernel
theorem dX9_count_69 : decode cX9_count 69 = .ok (.iload 4, 2) := by decide +kernel
theorem dX9_count_71 : decode cX9_count 71 = .ok (.iaload, 1) := by decide +kernel
theorem dX9_count_72 : decode cX9_count 72 = .ok (.istore 4, 2) := by decide +kernel
theorem dX9_count_74 : decode cX9_count 74 = .ok (.goto (-23), 3) := by decide +kernel
theorem dX9_count_77 : decode cX9_count 77 = .ok (.iinc 3 1, 3) := by decide +kernel
theorem dX9_count_80 : decode cX9_count 80 = .ok (.goto (-76), 3) := by decide +kernel
theorem dX9_count_83 : decode cX9_count 83 = .ok (.iload_n 2, 1) := by decide +kernel
theorem dX9_count_84 : decode cX9_count 84 = .ok (.ireturn, 1) := by decide +kernel
theorem dX9_goes_0 : decode cX9_goes 0 = .ok (.aload_n 0, 1) := by decide +kernel
theorem dX9_goes_1 : decode cX9_goes 1 = .ok (.getfield 42, 3) := by decide +kernel
theorem dX9_goes_4 : decode cX9_goes 4 = .ok (.istore_n 2, 1) := by decide +kernel
theorem dX9_goes_5 : decode cX9_goes 5 = .ok (.iconst 0, 1) := by decide +kernel
theorem dX9_goes_6 : decode cX9_goes 6 = .ok (.istore_n 3, 1) := by decide +kernel
theorem dX9_goes_7 : decode cX9_goes 7 = .ok (.iload_n 3, 1) := by decide +kernel
theorem dX9_goes_8 : decode cX9_goes 8 = .ok (.aload_n 1, 1) := by decide +kernel
theorem dX9_goes_9 : decode cX9_goes 9 = .ok (.getfield 49, 3) := by decide +kernel
theorem dX9_goes_12 : decode cX9_goes 12 = .ok (.if_icmp .ge 38, 3) := by decide +kernel
theorem dX9_goes_15 : decode cX9_goes 15 = .ok (.aload_n 0, 1) := by decide +kernel
theorem dX9_goes_16 : decode cX9_goes 16 = .ok (.iload_n 2, 1) := by decide +kernel
theorem dX9_goes_17 : decode cX9_goes 17 = .ok (.aload_n 1, 1) := by decide +kernel
theorem dX9_goes_18 : decode cX9_goes 18 = .ok (.getfield 54, 3) := by decide +kernel
theorem dX9_goes_21 : decode cX9_goes 21 = .ok (.iload_n 3, 1) := by decide +kernel
theorem dX9_goes_22 : decode cX9_goes 22 = .ok (.caload, 1) := by decide +kernel
theorem dX9_goes_23 : decode cX9_goes 23 = .ok (.invokevirtual 57, 3) := by decide +kernel
theorem dX9_goes_26 : decode cX9_goes 26 = .ok (.istore 4, 2) := by decide +kernel
theorem dX9_goes_28 : decode cX9_goes 28 = .ok (.iload 4, 2) := by decide +kernel
theorem dX9_goes_30 : decode cX9_goes 30 = .ok (.iconst (-1), 1) := by decide +kernel
theorem dX9_goes_31 : decode cX9_goes 31 = .ok (.if_icmp .ne 5, 3) := by decide +kernel
theorem dX9_goes_34 : decode cX9_goes 34 = .ok (.iload_n 3, 1) := by decide +kernel
theorem dX9_goes_35 : decode cX9_goes 35 = .ok (.ireturn, 1) := by decide +kernel
theorem dX9_goes_36 : decode cX9_goes 36 = .ok (.aload_n 0, 1) := by decide +kernel
theorem dX9_goes_37 : decode cX9_goes 37 = .ok (.getfield 23, 3) := by decide +kernel
theorem dX9_goes_40 : decode cX9_goes 40 = .ok (.iload 4, 2) := by decide +kernel
theorem dX9_goes_42 : decode cX9_goes 42 = .ok (.iaload, 1) := by decide +kernel
theorem dX9_goes_43 : decode cX9_goes 43 = .ok (.istore_n 2, 1) := by decide +kernel
theorem dX9_goes_44 : decode cX9_goes 44 = .ok (.iinc 3 1, 3) := by decide +kernel
theorem dX9_goes_47 : decode cX9_goes 47 = .ok (.goto (-40), 3) := by decide +kernel
theorem dX9_goes_50 : decode cX9_goes 50 = .ok (.aload_n 0, 1) := by decide +kernel
theorem dX9_goes_51 : decode cX9_goes 51 = .ok (.getfield 11, 3) := by decide +kernel
theorem dX9_goes_54 : decode cX9_goes 54 = .ok (.iload_n 2, 1) := by decide +kernel
theorem dX9_goes_55 : decode cX9_goes 55 = .ok (.baload, 1) := by decide +kernel
theorem dX9_goes_56 : decode cX9_goes 56 = .ok (.ifCond .eq 12, 3) := by decide +kernel
theorem dX9_goes_59 : decode cX9_goes 59 = .ok (.iconst (-1), 1) := by decide +kernel
theorem dX9_goes_60 : decode cX9_goes 60 = .ok (.aload_n 1, 1) := by decide +kernel
theorem dX9_goes_61 : decode cX9_goes 61 = .ok (.getfield 49, 3) := by decide +kernel
theorem dX9_goes_64 : decode cX9_goes 64 = .ok (.isub, 1) := by decide +kernel
theorem dX9_goes_65 : decode cX9_goes 65 = .ok (.goto 7, 3) := by decide +kernel
theorem dX9_goes_68 : decode cX9_goes 68 = .ok (.aload_n 1, 1) := by decide +kernel
theorem dX9_goes_69 : decode cX9_goes 69 = .ok (.getfield 49, 3) := by decide +kernel
theorem dX9_goes_72 : decode cX9_goes 72 = .ok (.ireturn, 1) := by decide +kernel
theorem dX9_step_0 : decode cX9_step 0 = .ok (.aload_n 0, 1) := by decide +kernel
theorem dX9_step_1 : decode cX9_step 1 = .ok (.getfield 15, 3) := by decide +kernel
theorem dX9_step_4 : decode cX9_step 4 = .ok (.iload_n 1, 1) := by decide +kernel
theorem dX9_step_5 : decode cX9_step 5 = .ok (.iaload, 1) := by decide +kernel
theorem dX9_step_6 : decode cX9_step 6 = .ok (.istore_n 3, 1) := by decide +kernel
theorem dX9_step_7 : decode cX9_step 7 = .ok (.iload_n 3, 1) := by decide +kernel
theorem dX9_step_8 : decode cX9_step 8 = .ok (.iconst (-1), 1) := by decide +kernel
theorem dX9_step_9 : decode cX9_step 9 = .ok (.if_icmp .eq 25, 3) := by decide +kernel
theorem dX9_step_12 : decode cX9_step 12 = .ok (.aload_n 0, 1) := by decide +kernel
theorem dX9_step_13 : decode cX9_step 13 = .ok (.getfield 19, 3) := by decide +kernel
theorem dX9_step_16 : decode cX9_step 16 = .ok (.iload_n 3, 1) := by decide +kernel
theorem dX9_step_17 : decode cX9_step 17 = .ok (.caload, 1) := by decide +kernel
theorem dX9_step_18 : decode cX9_step 18 = .ok (.iload_n 2, 1) := by decide +kernel
theorem dX9_step_19 : decode cX9_step 19 = .ok (.if_icmp .ne 5, 3) := by decide +kernel
theorem dX9_step_22 : decode cX9_step 22 = .ok (.iload_n 3, 1) := by decide +kernel
theorem dX9_step_23 : decode cX9_step 23 = .ok (.ireturn, 1) := by decide +kernel
theorem dX9_step_24 : decode cX9_step 24 = .ok (.aload_n 0, 1) := by decide +kernel
theorem dX9_step_25 : decode cX9_step 25 = .ok (.getfield 26, 3) := by decide +kernel
theorem dX9_step_28 : decode cX9_step 28 = .ok (.iload_n 3, 1) := by decide +kernel
theorem dX9_step_29 : decode cX9_step 29 = .ok (.iaload, 1) := by decide +kernel
theorem dX9_step_30 : decode cX9_step 30 = .ok (.istore_n 3, 1) := by decide +kernel
theorem dX9_step_31 : decode cX9_step 31 = .ok (.goto (-24), 3) := by decide +kernel
theorem dX9_step_34 : decode cX9_step 34 = .ok (.iconst (-1), 1) := by decide +kernel
theorem dX9_step_35 : decode cX9_step 35 = .ok (.ireturn, 1) := by decide +kernel
theorem dX9_add_0 : decode cX9_add 0 = .ok (.aload_n 0, 1) := by decide +kernel
theorem dX9_add_1 : decode cX9_add 1 = .ok (.getfield 42, 3) := by decide +kernel
theorem dX9_add_4 : decode cX9_add 4 = .ok (.iconst (-1), 1) := by decide +kernel
theorem dX9_add_5 : decode cX9_add 5 = .ok (.if_icmp .ne 11, 3) := by decide +kernel
theorem dX9_add_8 : decode cX9_add 8 = .ok (.aload_n 0, 1) := by decide +kernel
theorem dX9_add_9 : decode cX9_add 9 = .ok (.aload_n 0, 1) := by decide +kernel
theorem dX9_add_10 : decode cX9_add 10 = .ok (.invokevirtual 45, 3) := by decide +kernel
theorem dX9_add_13 : decode cX9_add 13 = .ok (.putfield 42, 3) := by decide +kernel
theorem dX9_add_16 : decode cX9_add 16 = .ok (.aload_n 0, 1) := by decide +kernel
theorem dX9_add_17 : decode cX9_add 17 = .ok (.getfield 42, 3) := by decide +kernel
theorem dX9_add_20 : decode cX9_add 20 = .ok (.istore_n 2, 1) := by decide +kernel
theorem dX9_add_21 : decode cX9_add 21 = .ok (.iconst 0, 1) := by decide +kernel
theorem dX9_add_22 : decode cX9_add 22 = .ok (.istore_n 3, 1) := by decide +kernel
theorem dX9_add_23 : decode cX9_add 23 = .ok (.iload_n 3, 1) := by decide +kernel
theorem dX9_add_24 : decode cX9_add 24 = .ok (.aload_n 1, 1) := by decide +kernel
theorem dX9_add_25 : decode cX9_add 25 = .ok (.getfield 49, 3) := by decide +kernel
theorem dX9_add_28 : decode cX9_add 28 = .ok (.if_icmp .ge 97, 3) := by decide +kernel
theorem dX9_add_31 : decode cX9_add 31 = .ok (.aload_n 0, 1) := by decide +kernel
theorem dX9_add_32 : decode cX9_add 32 = .ok (.iload_n 2, 1) := by decide +kernel
theorem dX9_add_33 : decode cX9_add 33 = .ok (.aload_n 1, 1) := by decide +kernel
theorem dX9_add_34 : decode cX9_add 34 = .ok (.getfield 54, 3) := by decide +kernel
theorem dX9_add_37 : decode cX9_add 37 = .ok (.iload_n 3, 1) := by decide +kernel
theorem dX9_add_38 : decode cX9_add 38 = .ok (.caload, 1) := by decide +kernel
theorem dX9_add_39 : decode cX9_add 39 = .ok (.invokevirtual 57, 3) := by decide +kernel
theorem dX9_add_42 : decode cX9_add 42 = .ok (.istore 4, 2) := by decide +kernel
theorem dX9_add_44 : decode cX9_add 44 = .ok (.iload 4, 2) := by decide +kernel
theorem dX9_add_46 : decode cX9_add 46 = .ok (.iconst (-1), 1) := by decide +kernel
theorem dX9_add_47 : decode cX9_add 47 = .ok (.if_icmp .ne 64, 3) := by decide +kernel
theorem dX9_add_50 : decode cX9_add 50 = .ok (.aload_n 0, 1) := by decide +kernel
theorem dX9_add_51 : decode cX9_add 51 = .ok (.getfield 36, 3) := by decide +kernel
theorem dX9_add_54 : decode cX9_add 54 = .ok (.istore 4, 2) := by decide +kernel
theorem dX9_add_56 : decode cX9_add 56 = .ok (.aload_n 0, 1) := by decide +kernel
theorem dX9_add_57 : decode cX9_add 57 = .ok (.dup, 1) := by decide +kernel
theorem dX9_add_58 : decode cX9_add 58 = .ok (.getfield 36, 3) := by decide +kernel
theorem dX9_add_61 : decode cX9_add 61 = .ok (.iconst 1, 1) := by decide +kernel
theorem dX9_add_62 : decode cX9_add 62 = .ok (.iadd, 1) := by decide +kernel
theorem dX9_add_63 : decode cX9_add 63 = .ok (.putfield 36, 3) := by decide +kernel
theorem dX9_add_66 : decode cX9_add 66 = .ok (.aload_n 0, 1) := by decide +kernel
theorem dX9_add_67 : decode cX9_add 67 = .ok (.getfield 19, 3) := by decide +kernel
theorem dX9_add_70 : decode cX9_add 70 = .ok (.iload 4, 2) := by decide +kernel
theorem dX9_add_72 : decode cX9_add 72 = .ok (.aload_n 1, 1) := by decide +kernel
theorem dX9_add_73 : decode cX9_add 73 = .ok (.getfield 54, 3) := by decide +kernel
theorem dX9_add_76 : decode cX9_add 76 = .ok (.iload_n 3, 1) := by decide +kernel
theorem dX9_add_77 : decode cX9_add 77 = .ok (.caload, 1) := by decide +kernel
theorem dX9_add_78 : decode cX9_add 78 = .ok (.castore, 1) := by decide +kernel
theorem dX9_add_79 : decode cX9_add 79 = .ok (.aload_n 0, 1) := by decide +kernel
theorem dX9_add_80 : decode cX9_add 80 = .ok (.getfield 23, 3) := by decide +kernel
theorem dX9_add_83 : decode cX9_add 83 = .ok (.iload 4, 2) := by decide +kernel
theorem dX9_add_85 : decode cX9_add 85 = .ok (.aload_n 0, 1) := by decide +kernel
theorem dX9_add_86 : decode cX9_add 86 = .ok (.invokevirtual 45, 3) := by decide +kernel
theorem dX9_add_89 : decode cX9_add 89 = .ok (.iastore, 1) := by decide +kernel
theorem dX9_add_90 : decode cX9_add 90 = .ok (.aload_n 0, 1) := by decide +kernel
theorem dX9_add_91 : decode cX9_add 91 = .ok (.getfield 26, 3) := by decide +kernel
theorem dX9_add_94 : decode cX9_add 94 = .ok (.iload 4, 2) := by decide +kernel
theorem dX9_add_96 : decode cX9_add 96 = .ok (.aload_n 0, 1) := by decide +kernel
theorem dX9_add_97 : decode cX9_add 97 = .ok (.getfield 15, 3) := by decide +kernel
theorem dX9_add_100 : decode cX9_add 100 = .ok (.iload_n 2, 1) := by decide +kernel
theorem dX9_add_101 : decode cX9_add 101 = .ok (.iaload, 1) := by decide +kernel
theorem dX9_add_102 : decode cX9_add 102 = .ok (.iastore, 1) := by decide +kernel
theorem dX9_add_103 : decode cX9_add 103 = .ok (.aload_n 0, 1) := by decide +kernel
theorem dX9_add_104 : decode cX9_add 104 = .ok (.getfield 15, 3) := by decide +kernel
theorem dX9_add_107 : decode cX9_add 107 = .ok (.iload_n 2, 1) := by decide +kernel
theorem dX9_add_108 : decode cX9_add 108 = .ok (.iload 4, 2) := by decide +kernel
theorem dX9_add_110 : decode cX9_add 110 = .ok (.iastore, 1) := by decide +kernel
theorem dX9_add_111 : decode cX9_add 111 = .ok (.aload_n 0, 1) := by decide +kernel
theorem dX9_add_112 : decode cX9_add 112 = .ok (.getfield 23, 3) := by decide +kernel
theorem dX9_add_115 : decode cX9_add 115 = .ok (.iload 4, 2) := by decide +kernel
theorem dX9_add_117 : decode cX9_add 117 = .ok (.iaload, 1) := by decide +kernel
theorem dX9_add_118 : decode cX9_add 118 = .ok (.istore_n 2, 1) := by decide +kernel
theorem dX9_add_119 : decode cX9_add 119 = .ok (.iinc 3 1, 3) := by decide +kernel
theorem dX9_add_122 : decode cX9_add 122 = .ok (.goto (-99), 3) := by decide +kernel
theorem dX9_add_125 : decode cX9_add 125 = .ok (.aload_n 0, 1) := by decide +kernel
theorem dX9_add_126 : decode cX9_add 126 = .ok (.getfield 11, 3) := by decide +kernel
theorem dX9_add_129 : decode cX9_add 129 = .ok (.iload_n 2, 1) := by decide +kernel
theorem dX9_add_130 : decode cX9_add 130 = .ok (.iconst 1, 1) := by decide +kernel
theorem dX9_add_131 : decode cX9_add 131 = .ok (.bastore, 1) := by decide +kernel
theorem dX9_add_132 : decode cX9_add 132 = .ok (.return_, 1) := by decide +kernel
theorem dX9_state_0 : decode cX9_state 0 = .ok (.aload_n 0, 1) := by decide +kernel
theorem dX9_state_1 : decode cX9_state 1 = .ok (.getfield 11, 3) := by decide +kernel
theorem dX9_state_4 : decode cX9_state 4 = .ok (.aload_n 0, 1) := by decide +kernel
theorem dX9_state_5 : decode cX9_state 5 = .ok (.getfield 32, 3) := by decide +kernel
theorem dX9_state_8 : decode cX9_state 8 = .ok (.iconst 0, 1) := by decide +kernel
theorem dX9_state_9 : decode cX9_state 9 = .ok (.bastore, 1) := by decide +kernel
theorem dX9_state_10 : decode cX9_state 10 = .ok (.aload_n 0, 1) := by decide +kernel
theorem dX9_state_11 : decode cX9_state 11 = .ok (.getfield 15, 3) := by decide +kernel
theorem dX9_state_14 : decode cX9_state 14 = .ok (.aload_n 0, 1) := by decide +kernel
theorem dX9_state_15 : decode cX9_state 15 = .ok (.getfield 32, 3) := by decide +kernel
theorem dX9_state_18 : decode cX9_state 18 = .ok (.iconst (-1), 1) := by decide +kernel
theorem dX9_state_19 : decode cX9_state 19 = .ok (.iastore, 1) := by decide +kernel
theorem dX9_state_20 : decode cX9_state 20 = .ok (.aload_n 0, 1) := by decide +kernel
theorem dX9_state_21 : decode cX9_state 21 = .ok (.dup, 1) := by decide +kernel
theorem dX9_state_22 : decode cX9_state 22 = .ok (.getfield 32, 3) := by decide +kernel
theorem dX9_state_25 : decode cX9_state 25 = .ok (.iconst 1, 1) := by decide +kernel
theorem dX9_state_26 : decode cX9_state 26 = .ok (.iadd, 1) := by decide +kernel
theorem dX9_state_27 : decode cX9_state 27 = .ok (.putfield 32, 3) := by decide +kernel
theorem dX9_state_30 : decode cX9_state 30 = .ok (.aload_n 0, 1) := by decide +kernel
theorem dX9_state_31 : decode cX9_state 31 = .ok (.getfield 32, 3) := by decide +kernel
theorem dX9_state_34 : decode cX9_state 34 = .ok (.iconst 1, 1) := by decide +kernel
theorem dX9_state_35 : decode cX9_state 35 = .ok (.isub, 1) := by decide +kernel
theorem dX9_state_36 : decode cX9_state 36 = .ok (.ireturn, 1) := by decide +kernel
theorem dX9_end_0 : decode cX9_end 0 = .ok (.aload_n 0, 1) := by decide +kernel
theorem dX9_end_1 : decode cX9_end 1 = .ok (.getfield 42, 3) := by decide +kernel
theorem dX9_end_4 : decode cX9_end 4 = .ok (.iconst (-1), 1) := by decide +kernel
theorem dX9_end_5 : decode cX9_end 5 = .ok (.if_icmp .eq 15, 3) := by decide +kernel
theorem dX9_end_8 : decode cX9_end 8 = .ok (.aload_n 0, 1) := by decide +kernel
theorem dX9_end_9 : decode cX9_end 9 = .ok (.aload_n 0, 1) := by decide +kernel
theorem dX9_end_10 : decode cX9_end 10 = .ok (.aload_n 0, 1) := by decide +kernel
theorem dX9_end_11 : decode cX9_end 11 = .ok (.getfield 42, 3) := by decide +kernel
theorem dX9_end_14 : decode cX9_end 14 = .ok (.invokestatic 61, 3) := by decide +kernel
theorem dX9_end_17 : decode cX9_end 17 = .ok (.putfield 42, 3) := by decide +kernel
theorem dX9_end_20 : decode cX9_end 20 = .ok (.return_, 1) := by decide +kernel
theorem dX9_least_0 : decode cX9_least 0 = .ok (.aload_n 0, 1) := by decide +kernel
theorem dX9_least_1 : decode cX9_least 1 = .ok (.getfield 15, 3) := by decide +kernel
theorem dX9_least_4 : decode cX9_least 4 = .ok (.iload_n 1, 1) := by decide +kernel
theorem dX9_least_5 : decode cX9_least 5 = .ok (.iaload, 1) := by decide +kernel
theorem dX9_least_6 : decode cX9_least 6 = .ok (.istore_n 2, 1) := by decide +kernel
theorem dX9_least_7 : decode cX9_least 7 = .ok (.iload_n 2, 1) := by decide +kernel
theorem dX9_least_8 : decode cX9_least 8 = .ok (.iconst (-1), 1) := by decide +kernel
theorem dX9_least_9 : decode cX9_least 9 = .ok (.if_icmp .eq 29, 3) := by decide +kernel
theorem dX9_least_12 : decode cX9_least 12 = .ok (.aload_n 0, 1) := by decide +kernel
theorem dX9_least_13 : decode cX9_least 13 = .ok (.getfield 23, 3) := by decide +kernel
theorem dX9_least_16 : decode cX9_least 16 = .ok (.iload_n 2, 1) := by decide +kernel
theorem dX9_least_17 : decode cX9_least 17 = .ok (.aload_n 0, 1) := by decide +kernel
theorem dX9_least_18 : decode cX9_least 18 = .ok (.aload_n 0, 1) := by decide +kernel
theorem dX9_least_19 : decode cX9_least 19 = .ok (.getfield 23, 3) := by decide +kernel
theorem dX9_least_22 : decode cX9_least 22 = .ok (.iload_n 2, 1) := by decide +kernel
theorem dX9_least_23 : decode cX9_least 23 = .ok (.iaload, 1) := by decide +kernel
theorem dX9_least_24 : decode cX9_least 24 = .ok (.invokestatic 61, 3) := by decide +kernel
theorem dX9_least_27 : decode cX9_least 27 = .ok (.iastore, 1) := by decide +kernel
theorem dX9_least_28 : decode cX9_least 28 = .ok (.aload_n 0, 1) := by decide +kernel
theorem dX9_least_29 : decode cX9_least 29 = .ok (.getfield 26, 3) := by decide +kernel
theorem dX9_least_32 : decode cX9_least 32 = .ok (.iload_n 2, 1) := by decide +kernel
theorem dX9_least_33 : decode cX9_least 33 = .ok (.iaload, 1) := by decide +kernel
theorem dX9_least_34 : decode cX9_least 34 = .ok (.istore_n 2, 1) := by decide +kernel
theorem dX9_least_35 : decode cX9_least 35 = .ok (.goto (-28), 3) := by decide +kernel
theorem dX9_least_38 : decode cX9_least 38 = .ok (.iconst 0, 1) := by decide +kernel
theorem dX9_least_39 : decode cX9_least 39 = .ok (.istore_n 2, 1) := by decide +kernel
theorem dX9_least_40 : decode cX9_least 40 = .ok (.iload_n 2, 1) := by decide +kernel
theorem dX9_least_41 : decode cX9_least 41 = .ok (.aload_n 0, 1) := by decide +kernel
theorem dX9_least_42 : decode cX9_least 42 = .ok (.getfield 39, 3) := by decide +kernel
theorem dX9_least_45 : decode cX9_least 45 = .ok (.if_icmp .ge 30, 3) := by decide +kernel
theorem dX9_least_48 : decode cX9_least 48 = .ok (.aload_n 0, 1) := by decide +kernel
theorem dX9_least_49 : decode cX9_least 49 = .ok (.aload_n 0, 1) := by decide +kernel
theorem dX9_least_50 : decode cX9_least 50 = .ok (.getfield 29, 3) := by decide +kernel
theorem dX9_least_53 : decode cX9_least 53 = .ok (.iload_n 2, 1) := by decide +kernel
theorem dX9_least_54 : decode cX9_least 54 = .ok (.iaload, 1) := by decide +kernel
theorem dX9_least_55 : decode cX9_least 55 = .ok (.iload_n 1, 1) := by decide +kernel
theorem dX9_least_56 : decode cX9_least 56 = .ok (.invokevirtual 65, 3) := by decide +kernel
theorem dX9_least_59 : decode cX9_least 59 = .ok (.ifCond .eq 10, 3) := by decide +kernel
theorem dX9_least_62 : decode cX9_least 62 = .ok (.aload_n 0, 1) := by decide +kernel
theorem dX9_least_63 : decode cX9_least 63 = .ok (.getfield 29, 3) := by decide +kernel
theorem dX9_least_66 : decode cX9_least 66 = .ok (.iload_n 2, 1) := by decide +kernel
theorem dX9_least_67 : decode cX9_least 67 = .ok (.iaload, 1) := by decide +kernel
theorem dX9_least_68 : decode cX9_least 68 = .ok (.ireturn, 1) := by decide +kernel
theorem dX9_least_69 : decode cX9_least 69 = .ok (.iinc 2 1, 3) := by decide +kernel
theorem dX9_least_72 : decode cX9_least 72 = .ok (.goto (-32), 3) := by decide +kernel
theorem dX9_least_75 : decode cX9_least 75 = .ok (.aload_n 0, 1) := by decide +kernel
theorem dX9_least_76 : decode cX9_least 76 = .ok (.getfield 29, 3) := by decide +kernel
theorem dX9_least_79 : decode cX9_least 79 = .ok (.aload_n 0, 1) := by decide +kernel
theorem dX9_least_80 : decode cX9_least 80 = .ok (.getfield 39, 3) := by decide +kernel
theorem dX9_least_83 : decode cX9_least 83 = .ok (.iload_n 1, 1) := by decide +kernel
theorem dX9_least_84 : decode cX9_least 84 = .ok (.iastore, 1) := by decide +kernel
theorem dX9_least_85 : decode cX9_least 85 = .ok (.aload_n 0, 1) := by decide +kernel
theorem dX9_least_86 : decode cX9_least 86 = .ok (.dup, 1) := by decide +kernel
theorem dX9_least_87 : decode cX9_least 87 = .ok (.getfield 39, 3) := by decide +kernel
theorem dX9_least_90 : decode cX9_least 90 = .ok (.iconst 1, 1) := by decide +kernel
theorem dX9_least_91 : decode cX9_least 91 = .ok (.iadd, 1) := by decide +kernel
theorem dX9_least_92 : decode cX9_least 92 = .ok (.putfield 39, 3) := by decide +kernel
theorem dX9_least_95 : decode cX9_least 95 = .ok (.iload_n 1, 1) := by decide +kernel
theorem dX9_least_96 : decode cX9_least 96 = .ok (.ireturn, 1) := by decide +kernel
theorem dX9_isLike_0 : decode cX9_isLike 0 = .ok (.aload_n 0, 1) := by decide +kernel
theorem dX9_isLike_1 : decode cX9_isLike 1 = .ok (.getfield 15, 3) := by decide +kernel
theorem dX9_isLike_4 : decode cX9_isLike 4 = .ok (.iload_n 1, 1) := by decide +kernel
theorem dX9_isLike_5 : decode cX9_isLike 5 = .ok (.iaload, 1) := by decide +kernel
theorem dX9_isLike_6 : decode cX9_isLike 6 = .ok (.istore_n 3, 1) := by decide +kernel
theorem dX9_isLike_7 : decode cX9_isLike 7 = .ok (.aload_n 0, 1) := by decide +kernel
theorem dX9_isLike_8 : decode cX9_isLike 8 = .ok (.getfield 15, 3) := by decide +kernel
theorem dX9_isLike_11 : decode cX9_isLike 11 = .ok (.iload_n 2, 1) := by decide +kernel
theorem dX9_isLike_12 : decode cX9_isLike 12 = .ok (.iaload, 1) := by decide +kernel
theorem dX9_isLike_13 : decode cX9_isLike 13 = .ok (.istore 4, 2) := by decide +kernel
theorem dX9_isLike_15 : decode cX9_isLike 15 = .ok (.aload_n 0, 1) := by decide +kernel
theorem dX9_isLike_16 : decode cX9_isLike 16 = .ok (.getfield 11, 3) := by decide +kernel
theorem dX9_isLike_19 : decode cX9_isLike 19 = .ok (.iload_n 1, 1) := by decide +kernel
theorem dX9_isLike_20 : decode cX9_isLike 20 = .ok (.baload, 1) := by decide +kernel
theorem dX9_isLike_21 : decode cX9_isLike 21 = .ok (.aload_n 0, 1) := by decide +kernel
theorem dX9_isLike_22 : decode cX9_isLike 22 = .ok (.getfield 11, 3) := by decide +kernel
theorem dX9_isLike_25 : decode cX9_isLike 25 = .ok (.iload_n 2, 1) := by decide +kernel
theorem dX9_isLike_26 : decode cX9_isLike 26 = .ok (.baload, 1) := by decide +kernel
theorem dX9_isLike_27 : decode cX9_isLike 27 = .ok (.if_icmp .ne 7, 3) := by decide +kernel
theorem dX9_isLike_30 : decode cX9_isLike 30 = .ok (.iconst 1, 1) := by decide +kernel
theorem dX9_isLike_31 : decode cX9_isLike 31 = .ok (.goto 4, 3) := by decide +kernel
theorem dX9_isLike_34 : decode cX9_isLike 34 = .ok (.iconst 0, 1) := by decide +kernel
theorem dX9_isLike_35 : decode cX9_isLike 35 = .ok (.istore 5, 2) := by decide +kernel
theorem dX9_isLike_37 : decode cX9_isLike 37 = .ok (.iload 5, 2) := by decide +kernel
theorem dX9_isLike_39 : decode cX9_isLike 39 = .ok (.ifCond .eq 72, 3) := by decide +kernel
theorem dX9_isLike_42 : decode cX9_isLike 42 = .ok (.iload_n 3, 1) := by decide +kernel
theorem dX9_isLike_43 : decode cX9_isLike 43 = .ok (.iconst (-1), 1) := by decide +kernel
theorem dX9_isLike_44 : decode cX9_isLike 44 = .ok (.if_icmp .eq 67, 3) := by decide +kernel
theorem dX9_isLike_47 : decode cX9_isLike 47 = .ok (.iload 4, 2) := by decide +kernel
theorem dX9_isLike_49 : decode cX9_isLike 49 = .ok (.iconst (-1), 1) := by decide +kernel
