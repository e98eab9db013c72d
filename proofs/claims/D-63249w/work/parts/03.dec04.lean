set_option maxRecDepth 100000
theorem dX13_inner_73 : decode cX13_inner 73 = .ok (.if_icmp .gt 7, 3) := by decide +kernel
theorem dX13_inner_76 : decode cX13_inner 76 = .ok (.iconst 1, 1) := by decide +kernel
theorem dX13_inner_77 : decode cX13_inner 77 = .ok (.goto 72, 3) := by decide +kernel
theorem dX13_inner_80 : decode cX13_inner 80 = .ok (.iconst 0, 1) := by decide +kernel
theorem dX13_inner_81 : decode cX13_inner 81 = .ok (.goto 68, 3) := by decide +kernel
theorem dX13_inner_84 : decode cX13_inner 84 = .ok (.iload_n 1, 1) := by decide +kernel
theorem dX13_inner_85 : decode cX13_inner 85 = .ok (.iconst 2, 1) := by decide +kernel
theorem dX13_inner_86 : decode cX13_inner 86 = .ok (.if_icmp .ne 24, 3) := by decide +kernel
theorem dX13_inner_89 : decode cX13_inner 89 = .ok (.iload 5, 2) := by decide +kernel
theorem dX13_inner_91 : decode cX13_inner 91 = .ok (.iconst 4, 1) := by decide +kernel
theorem dX13_inner_92 : decode cX13_inner 92 = .ok (.if_icmp .le 14, 3) := by decide +kernel
theorem dX13_inner_95 : decode cX13_inner 95 = .ok (.iload 5, 2) := by decide +kernel
theorem dX13_inner_97 : decode cX13_inner 97 = .ok (.bipush 16, 2) := by decide +kernel
theorem dX13_inner_99 : decode cX13_inner 99 = .ok (.if_icmp .gt 7, 3) := by decide +kernel
theorem dX13_inner_102 : decode cX13_inner 102 = .ok (.iconst 1, 1) := by decide +kernel
theorem dX13_inner_103 : decode cX13_inner 103 = .ok (.goto 46, 3) := by decide +kernel
theorem dX13_inner_106 : decode cX13_inner 106 = .ok (.iconst 0, 1) := by decide +kernel
theorem dX13_inner_107 : decode cX13_inner 107 = .ok (.goto 42, 3) := by decide +kernel
theorem dX13_inner_110 : decode cX13_inner 110 = .ok (.iload_n 1, 1) := by decide +kernel
theorem dX13_inner_111 : decode cX13_inner 111 = .ok (.iconst 3, 1) := by decide +kernel
theorem dX13_inner_112 : decode cX13_inner 112 = .ok (.if_icmp .ne 25, 3) := by decide +kernel
theorem dX13_inner_115 : decode cX13_inner 115 = .ok (.iload 5, 2) := by decide +kernel
theorem dX13_inner_117 : decode cX13_inner 117 = .ok (.bipush 16, 2) := by decide +kernel
theorem dX13_inner_119 : decode cX13_inner 119 = .ok (.if_icmp .le 14, 3) := by decide +kernel
theorem dX13_inner_122 : decode cX13_inner 122 = .ok (.iload 5, 2) := by decide +kernel
theorem dX13_inner_124 : decode cX13_inner 124 = .ok (.bipush 48, 2) := by decide +kernel
theorem dX13_inner_126 : decode cX13_inner 126 = .ok (.if_icmp .gt 7, 3) := by decide +kernel
theorem dX13_inner_129 : decode cX13_inner 129 = .ok (.iconst 1, 1) := by decide +kernel
theorem dX13_inner_130 : decode cX13_inner 130 = .ok (.goto 19, 3) := by decide +kernel
theorem dX13_inner_133 : decode cX13_inner 133 = .ok (.iconst 0, 1) := by decide +kernel
theorem dX13_inner_134 : decode cX13_inner 134 = .ok (.goto 15, 3) := by decide +kernel
theorem dX13_inner_137 : decode cX13_inner 137 = .ok (.iload 5, 2) := by decide +kernel
theorem dX13_inner_139 : decode cX13_inner 139 = .ok (.bipush 48, 2) := by decide +kernel
theorem dX13_inner_141 : decode cX13_inner 141 = .ok (.if_icmp .le 7, 3) := by decide +kernel
theorem dX13_inner_144 : decode cX13_inner 144 = .ok (.iconst 1, 1) := by decide +kernel
theorem dX13_inner_145 : decode cX13_inner 145 = .ok (.goto 4, 3) := by decide +kernel
theorem dX13_inner_148 : decode cX13_inner 148 = .ok (.iconst 0, 1) := by decide +kernel
theorem dX13_inner_149 : decode cX13_inner 149 = .ok (.istore 6, 2) := by decide +kernel
theorem dX13_inner_151 : decode cX13_inner 151 = .ok (.iload_n 2, 1) := by decide +kernel
theorem dX13_inner_152 : decode cX13_inner 152 = .ok (.iload 6, 2) := by decide +kernel
theorem dX13_inner_154 : decode cX13_inner 154 = .ok (.ifCond .eq 7, 3) := by decide +kernel
theorem dX13_inner_157 : decode cX13_inner 157 = .ok (.iconst 1, 1) := by decide +kernel
theorem dX13_inner_158 : decode cX13_inner 158 = .ok (.goto 4, 3) := by decide +kernel
theorem dX13_inner_161 : decode cX13_inner 161 = .ok (.iconst 0, 1) := by decide +kernel
theorem dX13_inner_162 : decode cX13_inner 162 = .ok (.iadd, 1) := by decide +kernel
theorem dX13_inner_163 : decode cX13_inner 163 = .ok (.istore_n 2, 1) := by decide +kernel
theorem dX13_inner_164 : decode cX13_inner 164 = .ok (.iinc 4 1, 3) := by decide +kernel
theorem dX13_inner_167 : decode cX13_inner 167 = .ok (.goto (-146), 3) := by decide +kernel
theorem dX13_inner_170 : decode cX13_inner 170 = .ok (.iinc 3 1, 3) := by decide +kernel
theorem dX13_inner_173 : decode cX13_inner 173 = .ok (.goto (-168), 3) := by decide +kernel
theorem dX13_inner_176 : decode cX13_inner 176 = .ok (.iload_n 2, 1) := by decide +kernel
theorem dX13_inner_177 : decode cX13_inner 177 = .ok (.ireturn, 1) := by decide +kernel
theorem dX13_fan_0 : decode cX13_fan 0 = .ok (.iconst 0, 1) := by decide +kernel
theorem dX13_fan_1 : decode cX13_fan 1 = .ok (.istore_n 3, 1) := by decide +kernel
theorem dX13_fan_2 : decode cX13_fan 2 = .ok (.iconst 0, 1) := by decide +kernel
theorem dX13_fan_3 : decode cX13_fan 3 = .ok (.istore 4, 2) := by decide +kernel
theorem dX13_fan_5 : decode cX13_fan 5 = .ok (.bipush 64, 2) := by decide +kernel
theorem dX13_fan_7 : decode cX13_fan 7 = .ok (.istore 5, 2) := by decide +kernel
theorem dX13_fan_9 : decode cX13_fan 9 = .ok (.iload 5, 2) := by decide +kernel
theorem dX13_fan_11 : decode cX13_fan 11 = .ok (.bipush 64, 2) := by decide +kernel
theorem dX13_fan_13 : decode cX13_fan 13 = .ok (.aload_n 0, 1) := by decide +kernel
theorem dX13_fan_14 : decode cX13_fan 14 = .ok (.getfield 13, 3) := by decide +kernel
theorem dX13_fan_17 : decode cX13_fan 17 = .ok (.iconst 1, 1) := by decide +kernel
theorem dX13_fan_18 : decode cX13_fan 18 = .ok (.iaload, 1) := by decide +kernel
theorem dX13_fan_19 : decode cX13_fan 19 = .ok (.iadd, 1) := by decide +kernel
theorem dX13_fan_20 : decode cX13_fan 20 = .ok (.if_icmp .ge 158, 3) := by decide +kernel
theorem dX13_fan_23 : decode cX13_fan 23 = .ok (.aload_n 0, 1) := by decide +kernel
theorem dX13_fan_24 : decode cX13_fan 24 = .ok (.iload_n 1, 1) := by decide +kernel
theorem dX13_fan_25 : decode cX13_fan 25 = .ok (.iload 5, 2) := by decide +kernel
theorem dX13_fan_27 : decode cX13_fan 27 = .ok (.iload_n 2, 1) := by decide +kernel
theorem dX13_fan_28 : decode cX13_fan 28 = .ok (.invokevirtual 177, 3) := by decide +kernel
theorem dX13_fan_31 : decode cX13_fan 31 = .ok (.ifCond .ne 6, 3) := by decide +kernel
theorem dX13_fan_34 : decode cX13_fan 34 = .ok (.goto 138, 3) := by decide +kernel
theorem dX13_fan_37 : decode cX13_fan 37 = .ok (.iload 5, 2) := by decide +kernel
theorem dX13_fan_39 : decode cX13_fan 39 = .ok (.iload_n 1, 1) := by decide +kernel
theorem dX13_fan_40 : decode cX13_fan 40 = .ok (.if_icmp .ge 5, 3) := by decide +kernel
theorem dX13_fan_43 : decode cX13_fan 43 = .ok (.iconst 0, 1) := by decide +kernel
theorem dX13_fan_44 : decode cX13_fan 44 = .ok (.ireturn, 1) := by decide +kernel
theorem dX13_fan_45 : decode cX13_fan 45 = .ok (.iload_n 3, 1) := by decide +kernel
theorem dX13_fan_46 : decode cX13_fan 46 = .ok (.ifCond .ne 16, 3) := by decide +kernel
theorem dX13_fan_49 : decode cX13_fan 49 = .ok (.iconst 2, 1) := by decide +kernel
theorem dX13_fan_50 : decode cX13_fan 50 = .ok (.aload_n 0, 1) := by decide +kernel
theorem dX13_fan_51 : decode cX13_fan 51 = .ok (.getfield 22, 3) := by decide +kernel
theorem dX13_fan_54 : decode cX13_fan 54 = .ok (.iload 5, 2) := by decide +kernel
theorem dX13_fan_56 : decode cX13_fan 56 = .ok (.iaload, 1) := by decide +kernel
theorem dX13_fan_57 : decode cX13_fan 57 = .ok (.imul, 1) := by decide +kernel
theorem dX13_fan_58 : decode cX13_fan 58 = .ok (.iload_n 2, 1) := by decide +kernel
theorem dX13_fan_59 : decode cX13_fan 59 = .ok (.if_icmp .ne 7, 3) := by decide +kernel
theorem dX13_fan_62 : decode cX13_fan 62 = .ok (.iconst 1, 1) := by decide +kernel
theorem dX13_fan_63 : decode cX13_fan 63 = .ok (.goto 4, 3) := by decide +kernel
theorem dX13_fan_66 : decode cX13_fan 66 = .ok (.iconst 0, 1) := by decide +kernel
theorem dX13_fan_67 : decode cX13_fan 67 = .ok (.istore_n 3, 1) := by decide +kernel
theorem dX13_fan_68 : decode cX13_fan 68 = .ok (.iconst 2, 1) := by decide +kernel
theorem dX13_fan_69 : decode cX13_fan 69 = .ok (.aload_n 0, 1) := by decide +kernel
theorem dX13_fan_70 : decode cX13_fan 70 = .ok (.getfield 22, 3) := by decide +kernel
theorem dX13_fan_73 : decode cX13_fan 73 = .ok (.iload 5, 2) := by decide +kernel
theorem dX13_fan_75 : decode cX13_fan 75 = .ok (.iaload, 1) := by decide +kernel
theorem dX13_fan_76 : decode cX13_fan 76 = .ok (.imul, 1) := by decide +kernel
theorem dX13_fan_77 : decode cX13_fan 77 = .ok (.iload_n 2, 1) := by decide +kernel
theorem dX13_fan_78 : decode cX13_fan 78 = .ok (.if_icmp .ne 6, 3) := by decide +kernel
theorem dX13_fan_81 : decode cX13_fan 81 = .ok (.goto 91, 3) := by decide +kernel
theorem dX13_fan_84 : decode cX13_fan 84 = .ok (.iconst 1, 1) := by decide +kernel
theorem dX13_fan_85 : decode cX13_fan 85 = .ok (.istore 6, 2) := by decide +kernel
theorem dX13_fan_87 : decode cX13_fan 87 = .ok (.bipush 64, 2) := by decide +kernel
theorem dX13_fan_89 : decode cX13_fan 89 = .ok (.istore 7, 2) := by decide +kernel
theorem dX13_fan_91 : decode cX13_fan 91 = .ok (.iload 7, 2) := by decide +kernel
theorem dX13_fan_93 : decode cX13_fan 93 = .ok (.iload 5, 2) := by decide +kernel
theorem dX13_fan_95 : decode cX13_fan 95 = .ok (.if_icmp .ge 62, 3) := by decide +kernel
theorem dX13_fan_98 : decode cX13_fan 98 = .ok (.iload 6, 2) := by decide +kernel
theorem dX13_fan_100 : decode cX13_fan 100 = .ok (.ifCond .eq 48, 3) := by decide +kernel
theorem dX13_fan_103 : decode cX13_fan 103 = .ok (.aload_n 0, 1) := by decide +kernel
theorem dX13_fan_104 : decode cX13_fan 104 = .ok (.iload_n 1, 1) := by decide +kernel
theorem dX13_fan_105 : decode cX13_fan 105 = .ok (.iload 7, 2) := by decide +kernel
theorem dX13_fan_107 : decode cX13_fan 107 = .ok (.iload_n 2, 1) := by decide +kernel
theorem dX13_fan_108 : decode cX13_fan 108 = .ok (.invokevirtual 177, 3) := by decide +kernel
theorem dX13_fan_111 : decode cX13_fan 111 = .ok (.ifCond .eq 33, 3) := by decide +kernel
theorem dX13_fan_114 : decode cX13_fan 114 = .ok (.iconst 2, 1) := by decide +kernel
theorem dX13_fan_115 : decode cX13_fan 115 = .ok (.aload_n 0, 1) := by decide +kernel
theorem dX13_fan_116 : decode cX13_fan 116 = .ok (.getfield 22, 3) := by decide +kernel
theorem dX13_fan_119 : decode cX13_fan 119 = .ok (.iload 7, 2) := by decide +kernel
theorem dX13_fan_121 : decode cX13_fan 121 = .ok (.iaload, 1) := by decide +kernel
theorem dX13_fan_122 : decode cX13_fan 122 = .ok (.imul, 1) := by decide +kernel
theorem dX13_fan_123 : decode cX13_fan 123 = .ok (.iload_n 2, 1) := by decide +kernel
theorem dX13_fan_124 : decode cX13_fan 124 = .ok (.if_icmp .le 20, 3) := by decide +kernel
theorem dX13_fan_127 : decode cX13_fan 127 = .ok (.aload_n 0, 1) := by decide +kernel
theorem dX13_fan_128 : decode cX13_fan 128 = .ok (.iload 7, 2) := by decide +kernel
theorem dX13_fan_130 : decode cX13_fan 130 = .ok (.iload_n 2, 1) := by decide +kernel
theorem dX13_fan_131 : decode cX13_fan 131 = .ok (.invokevirtual 174, 3) := by decide +kernel
theorem dX13_fan_134 : decode cX13_fan 134 = .ok (.aload_n 0, 1) := by decide +kernel
theorem dX13_fan_135 : decode cX13_fan 135 = .ok (.iload 5, 2) := by decide +kernel
theorem dX13_fan_137 : decode cX13_fan 137 = .ok (.iload_n 2, 1) := by decide +kernel
theorem dX13_fan_138 : decode cX13_fan 138 = .ok (.invokevirtual 174, 3) := by decide +kernel
theorem dX13_fan_141 : decode cX13_fan 141 = .ok (.if_icmp .eq 7, 3) := by decide +kernel
theorem dX13_fan_144 : decode cX13_fan 144 = .ok (.iconst 1, 1) := by decide +kernel
theorem dX13_fan_145 : decode cX13_fan 145 = .ok (.goto 4, 3) := by decide +kernel
theorem dX13_fan_148 : decode cX13_fan 148 = .ok (.iconst 0, 1) := by decide +kernel
theorem dX13_fan_149 : decode cX13_fan 149 = .ok (.istore 6, 2) := by decide +kernel
theorem dX13_fan_151 : decode cX13_fan 151 = .ok (.iinc 7 1, 3) := by decide +kernel
theorem dX13_fan_154 : decode cX13_fan 154 = .ok (.goto (-63), 3) := by decide +kernel
theorem dX13_fan_157 : decode cX13_fan 157 = .ok (.iload 4, 2) := by decide +kernel
theorem dX13_fan_159 : decode cX13_fan 159 = .ok (.iload 6, 2) := by decide +kernel
theorem dX13_fan_161 : decode cX13_fan 161 = .ok (.ifCond .eq 7, 3) := by decide +kernel
theorem dX13_fan_164 : decode cX13_fan 164 = .ok (.iconst 1, 1) := by decide +kernel
theorem dX13_fan_165 : decode cX13_fan 165 = .ok (.goto 4, 3) := by decide +kernel
theorem dX13_fan_168 : decode cX13_fan 168 = .ok (.iconst 0, 1) := by decide +kernel
theorem dX13_fan_169 : decode cX13_fan 169 = .ok (.iadd, 1) := by decide +kernel
theorem dX13_fan_170 : decode cX13_fan 170 = .ok (.istore 4, 2) := by decide +kernel
theorem dX13_fan_172 : decode cX13_fan 172 = .ok (.iinc 5 1, 3) := by decide +kernel
theorem dX13_fan_175 : decode cX13_fan 175 = .ok (.goto (-166), 3) := by decide +kernel
theorem dX13_fan_178 : decode cX13_fan 178 = .ok (.iload 4, 2) := by decide +kernel
theorem dX13_fan_180 : decode cX13_fan 180 = .ok (.iconst 1, 1) := by decide +kernel
theorem dX13_fan_181 : decode cX13_fan 181 = .ok (.if_icmp .gt 7, 3) := by decide +kernel
theorem dX13_fan_184 : decode cX13_fan 184 = .ok (.iload_n 3, 1) := by decide +kernel
theorem dX13_fan_185 : decode cX13_fan 185 = .ok (.ifCond .eq 8, 3) := by decide +kernel
theorem dX13_fan_188 : decode cX13_fan 188 = .ok (.iload 4, 2) := by decide +kernel
theorem dX13_fan_190 : decode cX13_fan 190 = .ok (.goto 4, 3) := by decide +kernel
theorem dX13_fan_193 : decode cX13_fan 193 = .ok (.iconst 0, 1) := by decide +kernel
theorem dX13_fan_194 : decode cX13_fan 194 = .ok (.ireturn, 1) := by decide +kernel
theorem dX13_sameBytes_0 : decode cX13_sameBytes 0 = .ok (.iconst 2, 1) := by decide +kernel
theorem dX13_sameBytes_1 : decode cX13_sameBytes 1 = .ok (.aload_n 0, 1) := by decide +kernel
theorem dX13_sameBytes_2 : decode cX13_sameBytes 2 = .ok (.getfield 22, 3) := by decide +kernel
theorem dX13_sameBytes_5 : decode cX13_sameBytes 5 = .ok (.iload_n 2, 1) := by decide +kernel
theorem dX13_sameBytes_6 : decode cX13_sameBytes 6 = .ok (.iaload, 1) := by decide +kernel
theorem dX13_sameBytes_7 : decode cX13_sameBytes 7 = .ok (.imul, 1) := by decide +kernel
theorem dX13_sameBytes_8 : decode cX13_sameBytes 8 = .ok (.iload_n 3, 1) := by decide +kernel
theorem dX13_sameBytes_9 : decode cX13_sameBytes 9 = .ok (.if_icmp .ge 5, 3) := by decide +kernel
theorem dX13_sameBytes_12 : decode cX13_sameBytes 12 = .ok (.iconst 0, 1) := by decide +kernel
theorem dX13_sameBytes_13 : decode cX13_sameBytes 13 = .ok (.ireturn, 1) := by decide +kernel
theorem dX13_sameBytes_14 : decode cX13_sameBytes 14 = .ok (.iconst 0, 1) := by decide +kernel
theorem dX13_sameBytes_15 : decode cX13_sameBytes 15 = .ok (.istore 4, 2) := by decide +kernel
theorem dX13_sameBytes_17 : decode cX13_sameBytes 17 = .ok (.iload 4, 2) := by decide +kernel
theorem dX13_sameBytes_19 : decode cX13_sameBytes 19 = .ok (.iload_n 3, 1) := by decide +kernel
theorem dX13_sameBytes_20 : decode cX13_sameBytes 20 = .ok (.if_icmp .ge 28, 3) := by decide +kernel
theorem dX13_sameBytes_23 : decode cX13_sameBytes 23 = .ok (.aload_n 0, 1) := by decide +kernel
theorem dX13_sameBytes_24 : decode cX13_sameBytes 24 = .ok (.iload_n 1, 1) := by decide +kernel
theorem dX13_sameBytes_25 : decode cX13_sameBytes 25 = .ok (.iload 4, 2) := by decide +kernel
theorem dX13_sameBytes_27 : decode cX13_sameBytes 27 = .ok (.invokevirtual 174, 3) := by decide +kernel
theorem dX13_sameBytes_30 : decode cX13_sameBytes 30 = .ok (.aload_n 0, 1) := by decide +kernel
theorem dX13_sameBytes_31 : decode cX13_sameBytes 31 = .ok (.iload_n 2, 1) := by decide +kernel
theorem dX13_sameBytes_32 : decode cX13_sameBytes 32 = .ok (.iload 4, 2) := by decide +kernel
theorem dX13_sameBytes_34 : decode cX13_sameBytes 34 = .ok (.invokevirtual 174, 3) := by decide +kernel
theorem dX13_sameBytes_37 : decode cX13_sameBytes 37 = .ok (.if_icmp .eq 5, 3) := by decide +kernel
theorem dX13_sameBytes_40 : decode cX13_sameBytes 40 = .ok (.iconst 0, 1) := by decide +kernel
theorem dX13_sameBytes_41 : decode cX13_sameBytes 41 = .ok (.ireturn, 1) := by decide +kernel
theorem dX13_sameBytes_42 : decode cX13_sameBytes 42 = .ok (.iinc 4 1, 3) := by decide +kernel
theorem dX13_sameBytes_45 : decode cX13_sameBytes 45 = .ok (.goto (-28), 3) := by decide +kernel
theorem dX13_sameBytes_48 : decode cX13_sameBytes 48 = .ok (.iconst 1, 1) := by decide +kernel
theorem dX13_sameBytes_49 : decode cX13_sameBytes 49 = .ok (.ireturn, 1) := by decide +kernel
theorem dX13_octet_0 : decode cX13_octet 0 = .ok (.iload_n 2, 1) := by decide +kernel
theorem dX13_octet_1 : decode cX13_octet 1 = .ok (.iconst 2, 1) := by decide +kernel
theorem dX13_octet_2 : decode cX13_octet 2 = .ok (.irem, 1) := by decide +kernel
theorem dX13_octet_3 : decode cX13_octet 3 = .ok (.ifCond .ne 22, 3) := by decide +kernel
theorem dX13_octet_6 : decode cX13_octet 6 = .ok (.aload_n 0, 1) := by decide +kernel
theorem dX13_octet_7 : decode cX13_octet 7 = .ok (.getfield 19, 3) := by decide +kernel
theorem dX13_octet_10 : decode cX13_octet 10 = .ok (.bipush 8, 2) := by decide +kernel
theorem dX13_octet_12 : decode cX13_octet 12 = .ok (.iload_n 1, 1) := by decide +kernel
theorem dX13_octet_13 : decode cX13_octet 13 = .ok (.imul, 1) := by decide +kernel
theorem dX13_octet_14 : decode cX13_octet 14 = .ok (.iload_n 2, 1) := by decide +kernel
theorem dX13_octet_15 : decode cX13_octet 15 = .ok (.iconst 2, 1) := by decide +kernel
theorem dX13_octet_16 : decode cX13_octet 16 = .ok (.idiv, 1) := by decide +kernel
theorem dX13_octet_17 : decode cX13_octet 17 = .ok (.iadd, 1) := by decide +kernel
theorem dX13_octet_18 : decode cX13_octet 18 = .ok (.iaload, 1) := by decide +kernel
theorem dX13_octet_19 : decode cX13_octet 19 = .ok (.bipush 8, 2) := by decide +kernel
theorem dX13_octet_21 : decode cX13_octet 21 = .ok (.ishr, 1) := by decide +kernel
theorem dX13_octet_22 : decode cX13_octet 22 = .ok (.goto 20, 3) := by decide +kernel
theorem dX13_octet_25 : decode cX13_octet 25 = .ok (.aload_n 0, 1) := by decide +kernel
theorem dX13_octet_26 : decode cX13_octet 26 = .ok (.getfield 19, 3) := by decide +kernel
theorem dX13_octet_29 : decode cX13_octet 29 = .ok (.bipush 8, 2) := by decide +kernel
theorem dX13_octet_31 : decode cX13_octet 31 = .ok (.iload_n 1, 1) := by decide +kernel
theorem dX13_octet_32 : decode cX13_octet 32 = .ok (.imul, 1) := by decide +kernel
theorem dX13_octet_33 : decode cX13_octet 33 = .ok (.iload_n 2, 1) := by decide +kernel
theorem dX13_octet_34 : decode cX13_octet 34 = .ok (.iconst 2, 1) := by decide +kernel
theorem dX13_octet_35 : decode cX13_octet 35 = .ok (.idiv, 1) := by decide +kernel
theorem dX13_octet_36 : decode cX13_octet 36 = .ok (.iadd, 1) := by decide +kernel
theorem dX13_octet_37 : decode cX13_octet 37 = .ok (.iaload, 1) := by decide +kernel
theorem dX13_octet_38 : decode cX13_octet 38 = .ok (.sipush 255, 3) := by decide +kernel
theorem dX13_octet_41 : decode cX13_octet 41 = .ok (.iand, 1) := by decide +kernel
theorem dX13_octet_42 : decode cX13_octet 42 = .ok (.ireturn, 1) := by decide +kernel
theorem dX13_depth_0 : decode cX13_depth 0 = .ok (.iconst 0, 1) := by decide +kernel
theorem dX13_depth_1 : decode cX13_depth 1 = .ok (.istore_n 2, 1) := by decide +kernel
theorem dX13_depth_2 : decode cX13_depth 2 = .ok (.iload_n 2, 1) := by decide +kernel
theorem dX13_depth_3 : decode cX13_depth 3 = .ok (.sipush 140, 3) := by decide +kernel
theorem dX13_depth_6 : decode cX13_depth 6 = .ok (.if_icmp .ge 16, 3) := by decide +kernel
theorem dX13_depth_9 : decode cX13_depth 9 = .ok (.aload_n 0, 1) := by decide +kernel
theorem dX13_depth_10 : decode cX13_depth 10 = .ok (.getfield 66, 3) := by decide +kernel
theorem dX13_depth_13 : decode cX13_depth 13 = .ok (.iload_n 2, 1) := by decide +kernel
theorem dX13_depth_14 : decode cX13_depth 14 = .ok (.iconst 0, 1) := by decide +kernel
theorem dX13_depth_15 : decode cX13_depth 15 = .ok (.bastore, 1) := by decide +kernel
theorem dX13_depth_16 : decode cX13_depth 16 = .ok (.iinc 2 1, 3) := by decide +kernel
theorem dX13_depth_19 : decode cX13_depth 19 = .ok (.goto (-17), 3) := by decide +kernel
theorem dX13_depth_22 : decode cX13_depth 22 = .ok (.iconst 0, 1) := by decide +kernel
theorem dX13_depth_23 : decode cX13_depth 23 = .ok (.istore_n 2, 1) := by decide +kernel
theorem dX13_depth_24 : decode cX13_depth 24 = .ok (.iload_n 2, 1) := by decide +kernel
theorem dX13_depth_25 : decode cX13_depth 25 = .ok (.aload_n 0, 1) := by decide +kernel
theorem dX13_depth_26 : decode cX13_depth 26 = .ok (.getfield 13, 3) := by decide +kernel
theorem dX13_depth_29 : decode cX13_depth 29 = .ok (.iconst 0, 1) := by decide +kernel
theorem dX13_depth_30 : decode cX13_depth 30 = .ok (.iaload, 1) := by decide +kernel
theorem dX13_depth_31 : decode cX13_depth 31 = .ok (.if_icmp .ge 47, 3) := by decide +kernel
theorem dX13_depth_34 : decode cX13_depth 34 = .ok (.iload_n 2, 1) := by decide +kernel
theorem dX13_depth_35 : decode cX13_depth 35 = .ok (.iload_n 1, 1) := by decide +kernel
theorem dX13_depth_36 : decode cX13_depth 36 = .ok (.if_icmp .ne 6, 3) := by decide +kernel
theorem dX13_depth_39 : decode cX13_depth 39 = .ok (.goto 33, 3) := by decide +kernel
theorem dX13_depth_42 : decode cX13_depth 42 = .ok (.iconst 0, 1) := by decide +kernel
theorem dX13_depth_43 : decode cX13_depth 43 = .ok (.istore_n 3, 1) := by decide +kernel
theorem dX13_depth_44 : decode cX13_depth 44 = .ok (.aload_n 0, 1) := by decide +kernel
theorem dX13_depth_45 : decode cX13_depth 45 = .ok (.iload_n 1, 1) := by decide +kernel
theorem dX13_depth_46 : decode cX13_depth 46 = .ok (.iload_n 3, 1) := by decide +kernel
theorem dX13_depth_47 : decode cX13_depth 47 = .ok (.invokevirtual 184, 3) := by decide +kernel
theorem dX13_depth_50 : decode cX13_depth 50 = .ok (.aload_n 0, 1) := by decide +kernel
theorem dX13_depth_51 : decode cX13_depth 51 = .ok (.iload_n 2, 1) := by decide +kernel
theorem dX13_depth_52 : decode cX13_depth 52 = .ok (.iload_n 3, 1) := by decide +kernel
theorem dX13_depth_53 : decode cX13_depth 53 = .ok (.invokevirtual 184, 3) := by decide +kernel
theorem dX13_depth_56 : decode cX13_depth 56 = .ok (.if_icmp .ne 9, 3) := by decide +kernel
theorem dX13_depth_59 : decode cX13_depth 59 = .ok (.iinc 3 1, 3) := by decide +kernel
theorem dX13_depth_62 : decode cX13_depth 62 = .ok (.goto (-18), 3) := by decide +kernel
theorem dX13_depth_65 : decode cX13_depth 65 = .ok (.aload_n 0, 1) := by decide +kernel
theorem dX13_depth_66 : decode cX13_depth 66 = .ok (.getfield 66, 3) := by decide +kernel
theorem dX13_depth_69 : decode cX13_depth 69 = .ok (.iload_n 3, 1) := by decide +kernel
theorem dX13_depth_70 : decode cX13_depth 70 = .ok (.iconst 1, 1) := by decide +kernel
theorem dX13_depth_71 : decode cX13_depth 71 = .ok (.bastore, 1) := by decide +kernel
theorem dX13_depth_72 : decode cX13_depth 72 = .ok (.iinc 2 1, 3) := by decide +kernel
theorem dX13_depth_75 : decode cX13_depth 75 = .ok (.goto (-51), 3) := by decide +kernel
theorem dX13_depth_78 : decode cX13_depth 78 = .ok (.iconst 0, 1) := by decide +kernel
theorem dX13_depth_79 : decode cX13_depth 79 = .ok (.istore_n 2, 1) := by decide +kernel
theorem dX13_depth_80 : decode cX13_depth 80 = .ok (.iconst 0, 1) := by decide +kernel
theorem dX13_depth_81 : decode cX13_depth 81 = .ok (.istore_n 3, 1) := by decide +kernel
theorem dX13_depth_82 : decode cX13_depth 82 = .ok (.iload_n 3, 1) := by decide +kernel
theorem dX13_depth_83 : decode cX13_depth 83 = .ok (.sipush 140, 3) := by decide +kernel
theorem dX13_depth_86 : decode cX13_depth 86 = .ok (.if_icmp .ge 26, 3) := by decide +kernel
theorem dX13_depth_89 : decode cX13_depth 89 = .ok (.iload_n 2, 1) := by decide +kernel
theorem dX13_depth_90 : decode cX13_depth 90 = .ok (.aload_n 0, 1) := by decide +kernel
theorem dX13_depth_91 : decode cX13_depth 91 = .ok (.getfield 66, 3) := by decide +kernel
theorem dX13_depth_94 : decode cX13_depth 94 = .ok (.iload_n 3, 1) := by decide +kernel
theorem dX13_depth_95 : decode cX13_depth 95 = .ok (.baload, 1) := by decide +kernel
theorem dX13_depth_96 : decode cX13_depth 96 = .ok (.ifCond .eq 7, 3) := by decide +kernel
theorem dX13_depth_99 : decode cX13_depth 99 = .ok (.iconst 1, 1) := by decide +kernel
theorem dX13_depth_100 : decode cX13_depth 100 = .ok (.goto 4, 3) := by decide +kernel
theorem dX13_depth_103 : decode cX13_depth 103 = .ok (.iconst 0, 1) := by decide +kernel
theorem dX13_depth_104 : decode cX13_depth 104 = .ok (.iadd, 1) := by decide +kernel
theorem dX13_depth_105 : decode cX13_depth 105 = .ok (.istore_n 2, 1) := by decide +kernel
theorem dX13_depth_106 : decode cX13_depth 106 = .ok (.iinc 3 1, 3) := by decide +kernel
theorem dX13_depth_109 : decode cX13_depth 109 = .ok (.goto (-27), 3) := by decide +kernel
theorem dX13_depth_112 : decode cX13_depth 112 = .ok (.iload_n 2, 1) := by decide +kernel
theorem dX13_depth_113 : decode cX13_depth 113 = .ok (.ireturn, 1) := by decide +kernel
theorem dX13_bit_0 : decode cX13_bit 0 = .ok (.iload_n 2, 1) := by decide +kernel
theorem dX13_bit_1 : decode cX13_bit 1 = .ok (.bipush 17, 2) := by decide +kernel
theorem dX13_bit_3 : decode cX13_bit 3 = .ok (.idiv, 1) := by decide +kernel
theorem dX13_bit_4 : decode cX13_bit 4 = .ok (.istore_n 3, 1) := by decide +kernel
theorem dX13_bit_5 : decode cX13_bit 5 = .ok (.iload_n 3, 1) := by decide +kernel
theorem dX13_bit_6 : decode cX13_bit 6 = .ok (.aload_n 0, 1) := by decide +kernel
theorem dX13_bit_7 : decode cX13_bit 7 = .ok (.getfield 22, 3) := by decide +kernel
theorem dX13_bit_10 : decode cX13_bit 10 = .ok (.iload_n 1, 1) := by decide +kernel
theorem dX13_bit_11 : decode cX13_bit 11 = .ok (.iaload, 1) := by decide +kernel
theorem dX13_bit_12 : decode cX13_bit 12 = .ok (.if_icmp .lt 7, 3) := by decide +kernel
theorem dX13_bit_15 : decode cX13_bit 15 = .ok (.iconst 0, 1) := by decide +kernel
theorem dX13_bit_16 : decode cX13_bit 16 = .ok (.goto 35, 3) := by decide +kernel
theorem dX13_bit_19 : decode cX13_bit 19 = .ok (.iload_n 2, 1) := by decide +kernel
theorem dX13_bit_20 : decode cX13_bit 20 = .ok (.bipush 17, 2) := by decide +kernel
theorem dX13_bit_22 : decode cX13_bit 22 = .ok (.irem, 1) := by decide +kernel
theorem dX13_bit_23 : decode cX13_bit 23 = .ok (.ifCond .ne 7, 3) := by decide +kernel
theorem dX13_bit_26 : decode cX13_bit 26 = .ok (.iconst 1, 1) := by decide +kernel
theorem dX13_bit_27 : decode cX13_bit 27 = .ok (.goto 24, 3) := by decide +kernel
theorem dX13_bit_30 : decode cX13_bit 30 = .ok (.aload_n 0, 1) := by decide +kernel
theorem dX13_bit_31 : decode cX13_bit 31 = .ok (.getfield 19, 3) := by decide +kernel
theorem dX13_bit_34 : decode cX13_bit 34 = .ok (.bipush 8, 2) := by decide +kernel
theorem dX13_bit_36 : decode cX13_bit 36 = .ok (.iload_n 1, 1) := by decide +kernel
theorem dX13_bit_37 : decode cX13_bit 37 = .ok (.imul, 1) := by decide +kernel
theorem dX13_bit_38 : decode cX13_bit 38 = .ok (.iload_n 3, 1) := by decide +kernel
theorem dX13_bit_39 : decode cX13_bit 39 = .ok (.iadd, 1) := by decide +kernel
theorem dX13_bit_40 : decode cX13_bit 40 = .ok (.iaload, 1) := by decide +kernel
theorem dX13_bit_41 : decode cX13_bit 41 = .ok (.bipush 16, 2) := by decide +kernel
theorem dX13_bit_43 : decode cX13_bit 43 = .ok (.iload_n 2, 1) := by decide +kernel
theorem dX13_bit_44 : decode cX13_bit 44 = .ok (.bipush 17, 2) := by decide +kernel
theorem dX13_bit_46 : decode cX13_bit 46 = .ok (.irem, 1) := by decide +kernel
theorem dX13_bit_47 : decode cX13_bit 47 = .ok (.isub, 1) := by decide +kernel
theorem dX13_bit_48 : decode cX13_bit 48 = .ok (.ishr, 1) := by decide +kernel
theorem dX13_bit_49 : decode cX13_bit 49 = .ok (.iconst 1, 1) := by decide +kernel
theorem dX13_bit_50 : decode cX13_bit 50 = .ok (.iand, 1) := by decide +kernel
theorem dX13_bit_51 : decode cX13_bit 51 = .ok (.ireturn, 1) := by decide +kernel
theorem dX13_freeze_0 : decode cX13_freeze 0 = .ok (.aload_n 0, 1) := by decide +kernel
theorem dX13_freeze_1 : decode cX13_freeze 1 = .ok (.iload_n 1, 1) := by decide +kernel
theorem dX13_freeze_2 : decode cX13_freeze 2 = .ok (.invokevirtual 122, 3) := by decide +kernel
theorem dX13_freeze_5 : decode cX13_freeze 5 = .ok (.ifCond .ne 9, 3) := by decide +kernel
theorem dX13_freeze_8 : decode cX13_freeze 8 = .ok (.aload_n 0, 1) := by decide +kernel
theorem dX13_freeze_9 : decode cX13_freeze 9 = .ok (.iconst 1, 1) := by decide +kernel
theorem dX13_freeze_10 : decode cX13_freeze 10 = .ok (.invokevirtual 126, 3) := by decide +kernel
theorem dX13_freeze_13 : decode cX13_freeze 13 = .ok (.ireturn, 1) := by decide +kernel
theorem dX13_freeze_14 : decode cX13_freeze 14 = .ok (.aload_n 0, 1) := by decide +kernel
theorem dX13_freeze_15 : decode cX13_freeze 15 = .ok (.iconst 0, 1) := by decide +kernel
theorem dX13_freeze_16 : decode cX13_freeze 16 = .ok (.putfield 99, 3) := by decide +kernel
theorem dX13_freeze_19 : decode cX13_freeze 19 = .ok (.aload_n 0, 1) := by decide +kernel
theorem dX13_freeze_20 : decode cX13_freeze 20 = .ok (.iconst 0, 1) := by decide +kernel
theorem dX13_freeze_21 : decode cX13_freeze 21 = .ok (.putfield 193, 3) := by decide +kernel
theorem dX13_freeze_24 : decode cX13_freeze 24 = .ok (.aload_n 0, 1) := by decide +kernel
theorem dX13_freeze_25 : decode cX13_freeze 25 = .ok (.iconst 0, 1) := by decide +kernel
theorem dX13_freeze_26 : decode cX13_freeze 26 = .ok (.putfield 196, 3) := by decide +kernel
theorem dX13_freeze_29 : decode cX13_freeze 29 = .ok (.aload_n 0, 1) := by decide +kernel
theorem dX13_freeze_30 : decode cX13_freeze 30 = .ok (.iconst 0, 1) := by decide +kernel
theorem dX13_freeze_31 : decode cX13_freeze 31 = .ok (.putfield 199, 3) := by decide +kernel
theorem dX13_freeze_34 : decode cX13_freeze 34 = .ok (.aload_n 0, 1) := by decide +kernel
theorem dX13_freeze_35 : decode cX13_freeze 35 = .ok (.iconst (-1), 1) := by decide +kernel
theorem dX13_freeze_36 : decode cX13_freeze 36 = .ok (.putfield 202, 3) := by decide +kernel
theorem dX13_freeze_39 : decode cX13_freeze 39 = .ok (.aload_n 0, 1) := by decide +kernel
theorem dX13_freeze_40 : decode cX13_freeze 40 = .ok (.iload_n 1, 1) := by decide +kernel
theorem dX13_freeze_41 : decode cX13_freeze 41 = .ok (.invokevirtual 114, 3) := by decide +kernel
theorem dX13_freeze_44 : decode cX13_freeze 44 = .ok (.istore_n 2, 1) := by decide +kernel
theorem dX13_freeze_45 : decode cX13_freeze 45 = .ok (.iconst 0, 1) := by decide +kernel
theorem dX13_freeze_46 : decode cX13_freeze 46 = .ok (.istore_n 3, 1) := by decide +kernel
theorem dX13_freeze_47 : decode cX13_freeze 47 = .ok (.iload_n 3, 1) := by decide +kernel
theorem dX13_freeze_48 : decode cX13_freeze 48 = .ok (.aload_n 0, 1) := by decide +kernel
theorem dX13_freeze_49 : decode cX13_freeze 49 = .ok (.getfield 13, 3) := by decide +kernel
theorem dX13_freeze_52 : decode cX13_freeze 52 = .ok (.iload_n 2, 1) := by decide +kernel
theorem dX13_freeze_53 : decode cX13_freeze 53 = .ok (.iaload, 1) := by decide +kernel
theorem dX13_freeze_54 : decode cX13_freeze 54 = .ok (.if_icmp .ge 29, 3) := by decide +kernel
theorem dX13_freeze_57 : decode cX13_freeze 57 = .ok (.aload_n 0, 1) := by decide +kernel
theorem dX13_freeze_58 : decode cX13_freeze 58 = .ok (.iload_n 1, 1) := by decide +kernel
theorem dX13_freeze_59 : decode cX13_freeze 59 = .ok (.iload_n 3, 1) := by decide +kernel
theorem dX13_freeze_60 : decode cX13_freeze 60 = .ok (.invokevirtual 143, 3) := by decide +kernel
theorem dX13_freeze_63 : decode cX13_freeze 63 = .ok (.ifCond .eq 14, 3) := by decide +kernel
theorem dX13_freeze_66 : decode cX13_freeze 66 = .ok (.aload_n 0, 1) := by decide +kernel
theorem dX13_freeze_67 : decode cX13_freeze 67 = .ok (.iload_n 1, 1) := by decide +kernel
theorem dX13_freeze_68 : decode cX13_freeze 68 = .ok (.bipush 64, 2) := by decide +kernel
theorem dX13_freeze_70 : decode cX13_freeze 70 = .ok (.iload_n 2, 1) := by decide +kernel
theorem dX13_freeze_71 : decode cX13_freeze 71 = .ok (.imul, 1) := by decide +kernel
theorem dX13_freeze_72 : decode cX13_freeze 72 = .ok (.iload_n 3, 1) := by decide +kernel
theorem dX13_freeze_73 : decode cX13_freeze 73 = .ok (.iadd, 1) := by decide +kernel
theorem dX13_freeze_74 : decode cX13_freeze 74 = .ok (.invokevirtual 205, 3) := by decide +kernel
theorem dX13_freeze_77 : decode cX13_freeze 77 = .ok (.iinc 3 1, 3) := by decide +kernel
theorem dX13_freeze_80 : decode cX13_freeze 80 = .ok (.goto (-33), 3) := by decide +kernel
theorem dX13_freeze_83 : decode cX13_freeze 83 = .ok (.bipush 8, 2) := by decide +kernel
theorem dX13_freeze_85 : decode cX13_freeze 85 = .ok (.istore_n 3, 1) := by decide +kernel
theorem dX13_freeze_86 : decode cX13_freeze 86 = .ok (.iload_n 3, 1) := by decide +kernel
theorem dX13_freeze_87 : decode cX13_freeze 87 = .ok (.ifCond .lt 45, 3) := by decide +kernel
theorem dX13_freeze_90 : decode cX13_freeze 90 = .ok (.iconst 0, 1) := by decide +kernel
theorem dX13_freeze_91 : decode cX13_freeze 91 = .ok (.istore 4, 2) := by decide +kernel
theorem dX13_freeze_93 : decode cX13_freeze 93 = .ok (.iload 4, 2) := by decide +kernel
theorem dX13_freeze_95 : decode cX13_freeze 95 = .ok (.aload_n 0, 1) := by decide +kernel
theorem dX13_freeze_96 : decode cX13_freeze 96 = .ok (.getfield 193, 3) := by decide +kernel
theorem dX13_freeze_99 : decode cX13_freeze 99 = .ok (.if_icmp .ge 27, 3) := by decide +kernel
theorem dX13_freeze_102 : decode cX13_freeze 102 = .ok (.aload_n 0, 1) := by decide +kernel
theorem dX13_freeze_103 : decode cX13_freeze 103 = .ok (.getfield 72, 3) := by decide +kernel
theorem dX13_freeze_106 : decode cX13_freeze 106 = .ok (.iload 4, 2) := by decide +kernel
theorem dX13_freeze_108 : decode cX13_freeze 108 = .ok (.iaload, 1) := by decide +kernel
theorem dX13_freeze_109 : decode cX13_freeze 109 = .ok (.iload_n 3, 1) := by decide +kernel
theorem dX13_freeze_110 : decode cX13_freeze 110 = .ok (.if_icmp .ne 10, 3) := by decide +kernel
theorem dX13_freeze_113 : decode cX13_freeze 113 = .ok (.aload_n 0, 1) := by decide +kernel
theorem dX13_freeze_114 : decode cX13_freeze 114 = .ok (.iload_n 1, 1) := by decide +kernel
theorem dX13_freeze_115 : decode cX13_freeze 115 = .ok (.iload 4, 2) := by decide +kernel
theorem dX13_freeze_117 : decode cX13_freeze 117 = .ok (.invokevirtual 208, 3) := by decide +kernel
theorem dX13_freeze_120 : decode cX13_freeze 120 = .ok (.iinc 4 1, 3) := by decide +kernel
theorem dX13_freeze_123 : decode cX13_freeze 123 = .ok (.goto (-30), 3) := by decide +kernel
theorem dX13_freeze_126 : decode cX13_freeze 126 = .ok (.iinc 3 (-1), 3) := by decide +kernel
theorem dX13_freeze_129 : decode cX13_freeze 129 = .ok (.goto (-43), 3) := by decide +kernel
theorem dX13_freeze_132 : decode cX13_freeze 132 = .ok (.aload_n 0, 1) := by decide +kernel
theorem dX13_freeze_133 : decode cX13_freeze 133 = .ok (.getfield 196, 3) := by decide +kernel
theorem dX13_freeze_136 : decode cX13_freeze 136 = .ok (.ireturn, 1) := by decide +kernel
theorem dX13_prefixesOf_0 : decode cX13_prefixesOf 0 = .ok (.iconst 0, 1) := by decide +kernel
theorem dX13_prefixesOf_1 : decode cX13_prefixesOf 1 = .ok (.istore_n 3, 1) := by decide +kernel
theorem dX13_prefixesOf_2 : decode cX13_prefixesOf 2 = .ok (.iload_n 3, 1) := by decide +kernel
theorem dX13_prefixesOf_3 : decode cX13_prefixesOf 3 = .ok (.aload_n 0, 1) := by decide +kernel
theorem dX13_prefixesOf_4 : decode cX13_prefixesOf 4 = .ok (.getfield 22, 3) := by decide +kernel
theorem dX13_prefixesOf_7 : decode cX13_prefixesOf 7 = .ok (.iload_n 2, 1) := by decide +kernel
theorem dX13_prefixesOf_8 : decode cX13_prefixesOf 8 = .ok (.iaload, 1) := by decide +kernel
theorem dX13_prefixesOf_9 : decode cX13_prefixesOf 9 = .ok (.if_icmp .gt 107, 3) := by decide +kernel
theorem dX13_prefixesOf_12 : decode cX13_prefixesOf 12 = .ok (.iconst 1, 1) := by decide +kernel
theorem dX13_prefixesOf_13 : decode cX13_prefixesOf 13 = .ok (.istore 4, 2) := by decide +kernel
theorem dX13_prefixesOf_15 : decode cX13_prefixesOf 15 = .ok (.iconst 0, 1) := by decide +kernel
theorem dX13_prefixesOf_16 : decode cX13_prefixesOf 16 = .ok (.istore 5, 2) := by decide +kernel
theorem dX13_prefixesOf_18 : decode cX13_prefixesOf 18 = .ok (.iload 5, 2) := by decide +kernel
theorem dX13_prefixesOf_20 : decode cX13_prefixesOf 20 = .ok (.aload_n 0, 1) := by decide +kernel
theorem dX13_prefixesOf_21 : decode cX13_prefixesOf 21 = .ok (.getfield 193, 3) := by decide +kernel
theorem dX13_prefixesOf_24 : decode cX13_prefixesOf 24 = .ok (.if_icmp .ge 48, 3) := by decide +kernel
theorem dX13_prefixesOf_27 : decode cX13_prefixesOf 27 = .ok (.iload 4, 2) := by decide +kernel
theorem dX13_prefixesOf_29 : decode cX13_prefixesOf 29 = .ok (.ifCond .eq 43, 3) := by decide +kernel
theorem dX13_prefixesOf_32 : decode cX13_prefixesOf 32 = .ok (.aload_n 0, 1) := by decide +kernel
theorem dX13_prefixesOf_33 : decode cX13_prefixesOf 33 = .ok (.getfield 72, 3) := by decide +kernel
theorem dX13_prefixesOf_36 : decode cX13_prefixesOf 36 = .ok (.iload 5, 2) := by decide +kernel
theorem dX13_prefixesOf_38 : decode cX13_prefixesOf 38 = .ok (.iaload, 1) := by decide +kernel
theorem dX13_prefixesOf_39 : decode cX13_prefixesOf 39 = .ok (.iload_n 3, 1) := by decide +kernel
theorem dX13_prefixesOf_40 : decode cX13_prefixesOf 40 = .ok (.if_icmp .ne 19, 3) := by decide +kernel
theorem dX13_prefixesOf_43 : decode cX13_prefixesOf 43 = .ok (.aload_n 0, 1) := by decide +kernel
theorem dX13_prefixesOf_44 : decode cX13_prefixesOf 44 = .ok (.aload_n 0, 1) := by decide +kernel
theorem dX13_prefixesOf_45 : decode cX13_prefixesOf 45 = .ok (.getfield 69, 3) := by decide +kernel
theorem dX13_prefixesOf_48 : decode cX13_prefixesOf 48 = .ok (.iload 5, 2) := by decide +kernel
theorem dX13_prefixesOf_50 : decode cX13_prefixesOf 50 = .ok (.iaload, 1) := by decide +kernel
theorem dX13_prefixesOf_51 : decode cX13_prefixesOf 51 = .ok (.iload_n 2, 1) := by decide +kernel
theorem dX13_prefixesOf_52 : decode cX13_prefixesOf 52 = .ok (.iload_n 3, 1) := by decide +kernel
theorem dX13_prefixesOf_53 : decode cX13_prefixesOf 53 = .ok (.invokevirtual 211, 3) := by decide +kernel
theorem dX13_prefixesOf_56 : decode cX13_prefixesOf 56 = .ok (.ifCond .ne 7, 3) := by decide +kernel
theorem dX13_prefixesOf_59 : decode cX13_prefixesOf 59 = .ok (.iconst 1, 1) := by decide +kernel
theorem dX13_prefixesOf_60 : decode cX13_prefixesOf 60 = .ok (.goto 4, 3) := by decide +kernel
theorem dX13_prefixesOf_63 : decode cX13_prefixesOf 63 = .ok (.iconst 0, 1) := by decide +kernel
theorem dX13_prefixesOf_64 : decode cX13_prefixesOf 64 = .ok (.istore 4, 2) := by decide +kernel
theorem dX13_prefixesOf_66 : decode cX13_prefixesOf 66 = .ok (.iinc 5 1, 3) := by decide +kernel
theorem dX13_prefixesOf_69 : decode cX13_prefixesOf 69 = .ok (.goto (-51), 3) := by decide +kernel
theorem dX13_prefixesOf_72 : decode cX13_prefixesOf 72 = .ok (.iload 4, 2) := by decide +kernel
theorem dX13_prefixesOf_74 : decode cX13_prefixesOf 74 = .ok (.ifCond .ne 6, 3) := by decide +kernel
theorem dX13_prefixesOf_77 : decode cX13_prefixesOf 77 = .ok (.goto 33, 3) := by decide +kernel
theorem dX13_prefixesOf_80 : decode cX13_prefixesOf 80 = .ok (.aload_n 0, 1) := by decide +kernel
theorem dX13_prefixesOf_81 : decode cX13_prefixesOf 81 = .ok (.getfield 69, 3) := by decide +kernel
theorem dX13_prefixesOf_84 : decode cX13_prefixesOf 84 = .ok (.aload_n 0, 1) := by decide +kernel
theorem dX13_prefixesOf_85 : decode cX13_prefixesOf 85 = .ok (.getfield 193, 3) := by decide +kernel
theorem dX13_prefixesOf_88 : decode cX13_prefixesOf 88 = .ok (.iload_n 2, 1) := by decide +kernel
theorem dX13_prefixesOf_89 : decode cX13_prefixesOf 89 = .ok (.iastore, 1) := by decide +kernel
theorem dX13_prefixesOf_90 : decode cX13_prefixesOf 90 = .ok (.aload_n 0, 1) := by decide +kernel
theorem dX13_prefixesOf_91 : decode cX13_prefixesOf 91 = .ok (.getfield 72, 3) := by decide +kernel
theorem dX13_prefixesOf_94 : decode cX13_prefixesOf 94 = .ok (.aload_n 0, 1) := by decide +kernel
theorem dX13_prefixesOf_95 : decode cX13_prefixesOf 95 = .ok (.getfield 193, 3) := by decide +kernel
theorem dX13_prefixesOf_98 : decode cX13_prefixesOf 98 = .ok (.iload_n 3, 1) := by decide +kernel
theorem dX13_prefixesOf_99 : decode cX13_prefixesOf 99 = .ok (.iastore, 1) := by decide +kernel
theorem dX13_prefixesOf_100 : decode cX13_prefixesOf 100 = .ok (.aload_n 0, 1) := by decide +kernel
theorem dX13_prefixesOf_101 : decode cX13_prefixesOf 101 = .ok (.dup, 1) := by decide +kernel
theorem dX13_prefixesOf_102 : decode cX13_prefixesOf 102 = .ok (.getfield 193, 3) := by decide +kernel
theorem dX13_prefixesOf_105 : decode cX13_prefixesOf 105 = .ok (.iconst 1, 1) := by decide +kernel
theorem dX13_prefixesOf_106 : decode cX13_prefixesOf 106 = .ok (.iadd, 1) := by decide +kernel
theorem dX13_prefixesOf_107 : decode cX13_prefixesOf 107 = .ok (.putfield 193, 3) := by decide +kernel
theorem dX13_prefixesOf_110 : decode cX13_prefixesOf 110 = .ok (.iinc 3 1, 3) := by decide +kernel
theorem dX13_prefixesOf_113 : decode cX13_prefixesOf 113 = .ok (.goto (-111), 3) := by decide +kernel
theorem dX13_prefixesOf_116 : decode cX13_prefixesOf 116 = .ok (.return_, 1) := by decide +kernel
theorem dX13_samePrefix_0 : decode cX13_samePrefix 0 = .ok (.aload_n 0, 1) := by decide +kernel
theorem dX13_samePrefix_1 : decode cX13_samePrefix 1 = .ok (.getfield 19, 3) := by decide +kernel
theorem dX13_samePrefix_4 : decode cX13_samePrefix 4 = .ok (.bipush 8, 2) := by decide +kernel
theorem dX13_samePrefix_6 : decode cX13_samePrefix 6 = .ok (.iload_n 1, 1) := by decide +kernel
theorem dX13_samePrefix_7 : decode cX13_samePrefix 7 = .ok (.imul, 1) := by decide +kernel
theorem dX13_samePrefix_8 : decode cX13_samePrefix 8 = .ok (.iload_n 3, 1) := by decide +kernel
theorem dX13_samePrefix_9 : decode cX13_samePrefix 9 = .ok (.aload_n 0, 1) := by decide +kernel
theorem dX13_samePrefix_10 : decode cX13_samePrefix 10 = .ok (.getfield 19, 3) := by decide +kernel
theorem dX13_samePrefix_13 : decode cX13_samePrefix 13 = .ok (.bipush 8, 2) := by decide +kernel
theorem dX13_samePrefix_15 : decode cX13_samePrefix 15 = .ok (.iload_n 2, 1) := by decide +kernel
theorem dX13_samePrefix_16 : decode cX13_samePrefix 16 = .ok (.imul, 1) := by decide +kernel
theorem dX13_samePrefix_17 : decode cX13_samePrefix 17 = .ok (.iload_n 3, 1) := by decide +kernel
theorem dX13_samePrefix_18 : decode cX13_samePrefix 18 = .ok (.invokestatic 106, 3) := by decide +kernel
theorem dX13_samePrefix_21 : decode cX13_samePrefix 21 = .ok (.ifCond .ne 7, 3) := by decide +kernel
theorem dX13_samePrefix_24 : decode cX13_samePrefix 24 = .ok (.iconst 1, 1) := by decide +kernel
theorem dX13_samePrefix_25 : decode cX13_samePrefix 25 = .ok (.goto 4, 3) := by decide +kernel
theorem dX13_samePrefix_28 : decode cX13_samePrefix 28 = .ok (.iconst 0, 1) := by decide +kernel
theorem dX13_samePrefix_29 : decode cX13_samePrefix 29 = .ok (.ireturn, 1) := by decide +kernel
theorem dX13_state_0 : decode cX13_state 0 = .ok (.aload_n 0, 1) := by decide +kernel
theorem dX13_state_1 : decode cX13_state 1 = .ok (.iload_n 1, 1) := by decide +kernel
theorem dX13_state_2 : decode cX13_state 2 = .ok (.iload_n 2, 1) := by decide +kernel
theorem dX13_state_3 : decode cX13_state 3 = .ok (.invokevirtual 214, 3) := by decide +kernel
theorem dX13_state_6 : decode cX13_state 6 = .ok (.istore_n 3, 1) := by decide +kernel
theorem dX13_state_7 : decode cX13_state 7 = .ok (.iconst 0, 1) := by decide +kernel
theorem dX13_state_8 : decode cX13_state 8 = .ok (.istore 4, 2) := by decide +kernel
theorem dX13_state_10 : decode cX13_state 10 = .ok (.iconst 0, 1) := by decide +kernel
theorem dX13_state_11 : decode cX13_state 11 = .ok (.istore 5, 2) := by decide +kernel
theorem dX13_state_13 : decode cX13_state 13 = .ok (.iload 5, 2) := by decide +kernel
theorem dX13_state_15 : decode cX13_state 15 = .ok (.aload_n 0, 1) := by decide +kernel
theorem dX13_state_16 : decode cX13_state 16 = .ok (.getfield 193, 3) := by decide +kernel
theorem dX13_state_19 : decode cX13_state 19 = .ok (.if_icmp .ge 29, 3) := by decide +kernel
theorem dX13_state_22 : decode cX13_state 22 = .ok (.iload 4, 2) := by decide +kernel
theorem dX13_state_24 : decode cX13_state 24 = .ok (.aload_n 0, 1) := by decide +kernel
theorem dX13_state_25 : decode cX13_state 25 = .ok (.iload 5, 2) := by decide +kernel
theorem dX13_state_27 : decode cX13_state 27 = .ok (.iload_n 2, 1) := by decide +kernel
theorem dX13_state_28 : decode cX13_state 28 = .ok (.invokevirtual 217, 3) := by decide +kernel
theorem dX13_state_31 : decode cX13_state 31 = .ok (.ifCond .eq 7, 3) := by decide +kernel
theorem dX13_state_34 : decode cX13_state 34 = .ok (.iconst 1, 1) := by decide +kernel
theorem dX13_state_35 : decode cX13_state 35 = .ok (.goto 4, 3) := by decide +kernel
theorem dX13_state_38 : decode cX13_state 38 = .ok (.iconst 0, 1) := by decide +kernel
theorem dX13_state_39 : decode cX13_state 39 = .ok (.iadd, 1) := by decide +kernel
theorem dX13_state_40 : decode cX13_state 40 = .ok (.istore 4, 2) := by decide +kernel
theorem dX13_state_42 : decode cX13_state 42 = .ok (.iinc 5 1, 3) := by decide +kernel
theorem dX13_state_45 : decode cX13_state 45 = .ok (.goto (-32), 3) := by decide +kernel
theorem dX13_state_48 : decode cX13_state 48 = .ok (.iconst (-1), 1) := by decide +kernel
theorem dX13_state_49 : decode cX13_state 49 = .ok (.istore 5, 2) := by decide +kernel
theorem dX13_state_51 : decode cX13_state 51 = .ok (.iconst 0, 1) := by decide +kernel
theorem dX13_state_52 : decode cX13_state 52 = .ok (.istore 6, 2) := by decide +kernel
theorem dX13_state_54 : decode cX13_state 54 = .ok (.iload 6, 2) := by decide +kernel
theorem dX13_state_56 : decode cX13_state 56 = .ok (.aload_n 0, 1) := by decide +kernel
theorem dX13_state_57 : decode cX13_state 57 = .ok (.getfield 196, 3) := by decide +kernel
theorem dX13_state_60 : decode cX13_state 60 = .ok (.if_icmp .ge 55, 3) := by decide +kernel
theorem dX13_state_63 : decode cX13_state 63 = .ok (.iload 5, 2) := by decide +kernel
theorem dX13_state_65 : decode cX13_state 65 = .ok (.iconst (-1), 1) := by decide +kernel
theorem dX13_state_66 : decode cX13_state 66 = .ok (.if_icmp .ne 49, 3) := by decide +kernel
theorem dX13_state_69 : decode cX13_state 69 = .ok (.aload_n 0, 1) := by decide +kernel
theorem dX13_state_70 : decode cX13_state 70 = .ok (.getfield 78, 3) := by decide +kernel
theorem dX13_state_73 : decode cX13_state 73 = .ok (.iload 6, 2) := by decide +kernel
theorem dX13_state_75 : decode cX13_state 75 = .ok (.baload, 1) := by decide +kernel
theorem dX13_state_76 : decode cX13_state 76 = .ok (.iload_n 3, 1) := by decide +kernel
theorem dX13_state_77 : decode cX13_state 77 = .ok (.if_icmp .ne 29, 3) := by decide +kernel
theorem dX13_state_80 : decode cX13_state 80 = .ok (.aload_n 0, 1) := by decide +kernel
theorem dX13_state_81 : decode cX13_state 81 = .ok (.iload 6, 2) := by decide +kernel
theorem dX13_state_83 : decode cX13_state 83 = .ok (.invokevirtual 220, 3) := by decide +kernel
theorem dX13_state_86 : decode cX13_state 86 = .ok (.iload 4, 2) := by decide +kernel
theorem dX13_state_88 : decode cX13_state 88 = .ok (.if_icmp .ne 18, 3) := by decide +kernel
theorem dX13_state_91 : decode cX13_state 91 = .ok (.aload_n 0, 1) := by decide +kernel
theorem dX13_state_92 : decode cX13_state 92 = .ok (.iload 6, 2) := by decide +kernel
theorem dX13_state_94 : decode cX13_state 94 = .ok (.iload_n 2, 1) := by decide +kernel
theorem dX13_state_95 : decode cX13_state 95 = .ok (.invokevirtual 223, 3) := by decide +kernel
theorem dX13_state_98 : decode cX13_state 98 = .ok (.ifCond .eq 8, 3) := by decide +kernel
theorem dX13_state_101 : decode cX13_state 101 = .ok (.iload 6, 2) := by decide +kernel
theorem dX13_state_103 : decode cX13_state 103 = .ok (.goto 4, 3) := by decide +kernel
theorem dX13_state_106 : decode cX13_state 106 = .ok (.iconst (-1), 1) := by decide +kernel
theorem dX13_state_107 : decode cX13_state 107 = .ok (.istore 5, 2) := by decide +kernel
theorem dX13_state_109 : decode cX13_state 109 = .ok (.iinc 6 1, 3) := by decide +kernel
theorem dX13_state_112 : decode cX13_state 112 = .ok (.goto (-58), 3) := by decide +kernel
theorem dX13_state_115 : decode cX13_state 115 = .ok (.iload 5, 2) := by decide +kernel
theorem dX13_state_117 : decode cX13_state 117 = .ok (.iconst (-1), 1) := by decide +kernel
theorem dX13_state_118 : decode cX13_state 118 = .ok (.if_icmp .ne 126, 3) := by decide +kernel
theorem dX13_state_121 : decode cX13_state 121 = .ok (.aload_n 0, 1) := by decide +kernel
theorem dX13_state_122 : decode cX13_state 122 = .ok (.getfield 196, 3) := by decide +kernel
theorem dX13_state_125 : decode cX13_state 125 = .ok (.istore 5, 2) := by decide +kernel
theorem dX13_state_127 : decode cX13_state 127 = .ok (.aload_n 0, 1) := by decide +kernel
theorem dX13_state_128 : decode cX13_state 128 = .ok (.dup, 1) := by decide +kernel
theorem dX13_state_129 : decode cX13_state 129 = .ok (.getfield 196, 3) := by decide +kernel
theorem dX13_state_132 : decode cX13_state 132 = .ok (.iconst 1, 1) := by decide +kernel
theorem dX13_state_133 : decode cX13_state 133 = .ok (.iadd, 1) := by decide +kernel
theorem dX13_state_134 : decode cX13_state 134 = .ok (.putfield 196, 3) := by decide +kernel
theorem dX13_state_137 : decode cX13_state 137 = .ok (.aload_n 0, 1) := by decide +kernel
theorem dX13_state_138 : decode cX13_state 138 = .ok (.getfield 78, 3) := by decide +kernel
theorem dX13_state_141 : decode cX13_state 141 = .ok (.iload 5, 2) := by decide +kernel
theorem dX13_state_143 : decode cX13_state 143 = .ok (.iload_n 3, 1) := by decide +kernel
theorem dX13_state_144 : decode cX13_state 144 = .ok (.bastore, 1) := by decide +kernel
theorem dX13_state_145 : decode cX13_state 145 = .ok (.iconst 0, 1) := by decide +kernel
theorem dX13_state_146 : decode cX13_state 146 = .ok (.istore 6, 2) := by decide +kernel
theorem dX13_state_148 : decode cX13_state 148 = .ok (.iload 6, 2) := by decide +kernel
theorem dX13_state_150 : decode cX13_state 150 = .ok (.aload_n 0, 1) := by decide +kernel
theorem dX13_state_151 : decode cX13_state 151 = .ok (.getfield 193, 3) := by decide +kernel
theorem dX13_state_154 : decode cX13_state 154 = .ok (.if_icmp .ge 90, 3) := by decide +kernel
theorem dX13_state_157 : decode cX13_state 157 = .ok (.aload_n 0, 1) := by decide +kernel
theorem dX13_state_158 : decode cX13_state 158 = .ok (.iload 6, 2) := by decide +kernel
theorem dX13_state_160 : decode cX13_state 160 = .ok (.iload_n 2, 1) := by decide +kernel
theorem dX13_state_161 : decode cX13_state 161 = .ok (.invokevirtual 217, 3) := by decide +kernel
theorem dX13_state_164 : decode cX13_state 164 = .ok (.ifCond .ne 6, 3) := by decide +kernel
theorem dX13_state_167 : decode cX13_state 167 = .ok (.goto 71, 3) := by decide +kernel
theorem dX13_state_170 : decode cX13_state 170 = .ok (.aload_n 0, 1) := by decide +kernel
theorem dX13_state_171 : decode cX13_state 171 = .ok (.getfield 81, 3) := by decide +kernel
theorem dX13_state_174 : decode cX13_state 174 = .ok (.aload_n 0, 1) := by decide +kernel
theorem dX13_state_175 : decode cX13_state 175 = .ok (.getfield 199, 3) := by decide +kernel
theorem dX13_state_178 : decode cX13_state 178 = .ok (.iload 5, 2) := by decide +kernel
theorem dX13_state_180 : decode cX13_state 180 = .ok (.iastore, 1) := by decide +kernel
theorem dX13_state_181 : decode cX13_state 181 = .ok (.aload_n 0, 1) := by decide +kernel
theorem dX13_state_182 : decode cX13_state 182 = .ok (.getfield 84, 3) := by decide +kernel
theorem dX13_state_185 : decode cX13_state 185 = .ok (.aload_n 0, 1) := by decide +kernel
theorem dX13_state_186 : decode cX13_state 186 = .ok (.getfield 199, 3) := by decide +kernel
theorem dX13_state_189 : decode cX13_state 189 = .ok (.aload_n 0, 1) := by decide +kernel
theorem dX13_state_190 : decode cX13_state 190 = .ok (.getfield 19, 3) := by decide +kernel
theorem dX13_state_193 : decode cX13_state 193 = .ok (.bipush 8, 2) := by decide +kernel
theorem dX13_state_195 : decode cX13_state 195 = .ok (.aload_n 0, 1) := by decide +kernel
theorem dX13_state_196 : decode cX13_state 196 = .ok (.getfield 69, 3) := by decide +kernel
theorem dX13_state_199 : decode cX13_state 199 = .ok (.iload 6, 2) := by decide +kernel
theorem dX13_state_201 : decode cX13_state 201 = .ok (.iaload, 1) := by decide +kernel
theorem dX13_state_202 : decode cX13_state 202 = .ok (.imul, 1) := by decide +kernel
theorem dX13_state_203 : decode cX13_state 203 = .ok (.aload_n 0, 1) := by decide +kernel
theorem dX13_state_204 : decode cX13_state 204 = .ok (.getfield 72, 3) := by decide +kernel
theorem dX13_state_207 : decode cX13_state 207 = .ok (.iload_n 2, 1) := by decide +kernel
theorem dX13_state_208 : decode cX13_state 208 = .ok (.iaload, 1) := by decide +kernel
theorem dX13_state_209 : decode cX13_state 209 = .ok (.iadd, 1) := by decide +kernel
theorem dX13_state_210 : decode cX13_state 210 = .ok (.iaload, 1) := by decide +kernel
theorem dX13_state_211 : decode cX13_state 211 = .ok (.iastore, 1) := by decide +kernel
theorem dX13_state_212 : decode cX13_state 212 = .ok (.aload_n 0, 1) := by decide +kernel
theorem dX13_state_213 : decode cX13_state 213 = .ok (.getfield 87, 3) := by decide +kernel
theorem dX13_state_216 : decode cX13_state 216 = .ok (.aload_n 0, 1) := by decide +kernel
theorem dX13_state_217 : decode cX13_state 217 = .ok (.getfield 199, 3) := by decide +kernel
theorem dX13_state_220 : decode cX13_state 220 = .ok (.aload_n 0, 1) := by decide +kernel
theorem dX13_state_221 : decode cX13_state 221 = .ok (.getfield 75, 3) := by decide +kernel
theorem dX13_state_224 : decode cX13_state 224 = .ok (.iload 6, 2) := by decide +kernel
theorem dX13_state_226 : decode cX13_state 226 = .ok (.iaload, 1) := by decide +kernel
theorem dX13_state_227 : decode cX13_state 227 = .ok (.iastore, 1) := by decide +kernel
theorem dX13_state_228 : decode cX13_state 228 = .ok (.aload_n 0, 1) := by decide +kernel
theorem dX13_state_229 : decode cX13_state 229 = .ok (.dup, 1) := by decide +kernel
theorem dX13_state_230 : decode cX13_state 230 = .ok (.getfield 199, 3) := by decide +kernel
theorem dX13_state_233 : decode cX13_state 233 = .ok (.iconst 1, 1) := by decide +kernel
theorem dX13_state_234 : decode cX13_state 234 = .ok (.iadd, 1) := by decide +kernel
theorem dX13_state_235 : decode cX13_state 235 = .ok (.putfield 199, 3) := by decide +kernel
theorem dX13_state_238 : decode cX13_state 238 = .ok (.iinc 6 1, 3) := by decide +kernel
theorem dX13_state_241 : decode cX13_state 241 = .ok (.goto (-93), 3) := by decide +kernel
theorem dX13_state_244 : decode cX13_state 244 = .ok (.aload_n 0, 1) := by decide +kernel
theorem dX13_state_245 : decode cX13_state 245 = .ok (.getfield 75, 3) := by decide +kernel
theorem dX13_state_248 : decode cX13_state 248 = .ok (.iload_n 2, 1) := by decide +kernel
theorem dX13_state_249 : decode cX13_state 249 = .ok (.iload 5, 2) := by decide +kernel
theorem dX13_state_251 : decode cX13_state 251 = .ok (.iastore, 1) := by decide +kernel
theorem dX13_state_252 : decode cX13_state 252 = .ok (.aload_n 0, 1) := by decide +kernel
theorem dX13_state_253 : decode cX13_state 253 = .ok (.getfield 72, 3) := by decide +kernel
theorem dX13_state_256 : decode cX13_state 256 = .ok (.iload_n 2, 1) := by decide +kernel
theorem dX13_state_257 : decode cX13_state 257 = .ok (.iaload, 1) := by decide +kernel
theorem dX13_state_258 : decode cX13_state 258 = .ok (.ifCond .ne 9, 3) := by decide +kernel
theorem dX13_state_261 : decode cX13_state 261 = .ok (.aload_n 0, 1) := by decide +kernel
theorem dX13_state_262 : decode cX13_state 262 = .ok (.iload 5, 2) := by decide +kernel
theorem dX13_state_264 : decode cX13_state 264 = .ok (.putfield 202, 3) := by decide +kernel
theorem dX13_state_267 : decode cX13_state 267 = .ok (.return_, 1) := by decide +kernel
theorem dX13_endsAt_0 : decode cX13_endsAt 0 = .ok (.aload_n 0, 1) := by decide +kernel
theorem dX13_endsAt_1 : decode cX13_endsAt 1 = .ok (.iload_n 1, 1) := by decide +kernel
theorem dX13_endsAt_2 : decode cX13_endsAt 2 = .ok (.invokevirtual 114, 3) := by decide +kernel
theorem dX13_endsAt_5 : decode cX13_endsAt 5 = .ok (.istore_n 3, 1) := by decide +kernel
theorem dX13_endsAt_6 : decode cX13_endsAt 6 = .ok (.iconst 0, 1) := by decide +kernel
theorem dX13_endsAt_7 : decode cX13_endsAt 7 = .ok (.istore 4, 2) := by decide +kernel
theorem dX13_endsAt_9 : decode cX13_endsAt 9 = .ok (.iload 4, 2) := by decide +kernel
theorem dX13_endsAt_11 : decode cX13_endsAt 11 = .ok (.aload_n 0, 1) := by decide +kernel
theorem dX13_endsAt_12 : decode cX13_endsAt 12 = .ok (.getfield 13, 3) := by decide +kernel
theorem dX13_endsAt_15 : decode cX13_endsAt 15 = .ok (.iload_n 3, 1) := by decide +kernel
theorem dX13_endsAt_16 : decode cX13_endsAt 16 = .ok (.iaload, 1) := by decide +kernel
theorem dX13_endsAt_17 : decode cX13_endsAt 17 = .ok (.if_icmp .ge 54, 3) := by decide +kernel
theorem dX13_endsAt_20 : decode cX13_endsAt 20 = .ok (.aload_n 0, 1) := by decide +kernel
theorem dX13_endsAt_21 : decode cX13_endsAt 21 = .ok (.iload_n 1, 1) := by decide +kernel
theorem dX13_endsAt_22 : decode cX13_endsAt 22 = .ok (.iload 4, 2) := by decide +kernel
theorem dX13_endsAt_24 : decode cX13_endsAt 24 = .ok (.invokevirtual 143, 3) := by decide +kernel
theorem dX13_endsAt_27 : decode cX13_endsAt 27 = .ok (.ifCond .eq 38, 3) := by decide +kernel
theorem dX13_endsAt_30 : decode cX13_endsAt 30 = .ok (.aload_n 0, 1) := by decide +kernel
theorem dX13_endsAt_31 : decode cX13_endsAt 31 = .ok (.bipush 64, 2) := by decide +kernel
theorem dX13_endsAt_33 : decode cX13_endsAt 33 = .ok (.iload_n 3, 1) := by decide +kernel
theorem dX13_endsAt_34 : decode cX13_endsAt 34 = .ok (.imul, 1) := by decide +kernel
theorem dX13_endsAt_35 : decode cX13_endsAt 35 = .ok (.iload 4, 2) := by decide +kernel
theorem dX13_endsAt_37 : decode cX13_endsAt 37 = .ok (.iadd, 1) := by decide +kernel
theorem dX13_endsAt_38 : decode cX13_endsAt 38 = .ok (.aload_n 0, 1) := by decide +kernel
theorem dX13_endsAt_39 : decode cX13_endsAt 39 = .ok (.getfield 19, 3) := by decide +kernel
theorem dX13_endsAt_42 : decode cX13_endsAt 42 = .ok (.bipush 8, 2) := by decide +kernel
theorem dX13_endsAt_44 : decode cX13_endsAt 44 = .ok (.aload_n 0, 1) := by decide +kernel
theorem dX13_endsAt_45 : decode cX13_endsAt 45 = .ok (.getfield 69, 3) := by decide +kernel
theorem dX13_endsAt_48 : decode cX13_endsAt 48 = .ok (.iload_n 2, 1) := by decide +kernel
theorem dX13_endsAt_49 : decode cX13_endsAt 49 = .ok (.iaload, 1) := by decide +kernel
theorem dX13_endsAt_50 : decode cX13_endsAt 50 = .ok (.imul, 1) := by decide +kernel
theorem dX13_endsAt_51 : decode cX13_endsAt 51 = .ok (.aload_n 0, 1) := by decide +kernel
theorem dX13_endsAt_52 : decode cX13_endsAt 52 = .ok (.getfield 72, 3) := by decide +kernel
theorem dX13_endsAt_55 : decode cX13_endsAt 55 = .ok (.iload_n 2, 1) := by decide +kernel
theorem dX13_endsAt_56 : decode cX13_endsAt 56 = .ok (.iaload, 1) := by decide +kernel
theorem dX13_endsAt_57 : decode cX13_endsAt 57 = .ok (.invokevirtual 129, 3) := by decide +kernel
theorem dX13_endsAt_60 : decode cX13_endsAt 60 = .ok (.ifCond .ne 5, 3) := by decide +kernel
theorem dX13_endsAt_63 : decode cX13_endsAt 63 = .ok (.iconst 1, 1) := by decide +kernel
theorem dX13_endsAt_64 : decode cX13_endsAt 64 = .ok (.ireturn, 1) := by decide +kernel
theorem dX13_endsAt_65 : decode cX13_endsAt 65 = .ok (.iinc 4 1, 3) := by decide +kernel
theorem dX13_endsAt_68 : decode cX13_endsAt 68 = .ok (.goto (-59), 3) := by decide +kernel
theorem dX13_endsAt_71 : decode cX13_endsAt 71 = .ok (.iconst 0, 1) := by decide +kernel
theorem dX13_endsAt_72 : decode cX13_endsAt 72 = .ok (.ireturn, 1) := by decide +kernel
theorem dX13_follows_0 : decode cX13_follows 0 = .ok (.aload_n 0, 1) := by decide +kernel
theorem dX13_follows_1 : decode cX13_follows 1 = .ok (.getfield 72, 3) := by decide +kernel
theorem dX13_follows_4 : decode cX13_follows 4 = .ok (.iload_n 1, 1) := by decide +kernel
theorem dX13_follows_5 : decode cX13_follows 5 = .ok (.iaload, 1) := by decide +kernel
theorem dX13_follows_6 : decode cX13_follows 6 = .ok (.aload_n 0, 1) := by decide +kernel
theorem dX13_follows_7 : decode cX13_follows 7 = .ok (.getfield 72, 3) := by decide +kernel
theorem dX13_follows_10 : decode cX13_follows 10 = .ok (.iload_n 2, 1) := by decide +kernel
theorem dX13_follows_11 : decode cX13_follows 11 = .ok (.iaload, 1) := by decide +kernel
theorem dX13_follows_12 : decode cX13_follows 12 = .ok (.iconst 1, 1) := by decide +kernel
theorem dX13_follows_13 : decode cX13_follows 13 = .ok (.iadd, 1) := by decide +kernel
theorem dX13_follows_14 : decode cX13_follows 14 = .ok (.if_icmp .ne 32, 3) := by decide +kernel
theorem dX13_follows_17 : decode cX13_follows 17 = .ok (.aload_n 0, 1) := by decide +kernel
theorem dX13_follows_18 : decode cX13_follows 18 = .ok (.aload_n 0, 1) := by decide +kernel
theorem dX13_follows_19 : decode cX13_follows 19 = .ok (.getfield 69, 3) := by decide +kernel
theorem dX13_follows_22 : decode cX13_follows 22 = .ok (.iload_n 1, 1) := by decide +kernel
theorem dX13_follows_23 : decode cX13_follows 23 = .ok (.iaload, 1) := by decide +kernel
theorem dX13_follows_24 : decode cX13_follows 24 = .ok (.aload_n 0, 1) := by decide +kernel
theorem dX13_follows_25 : decode cX13_follows 25 = .ok (.getfield 69, 3) := by decide +kernel
theorem dX13_follows_28 : decode cX13_follows 28 = .ok (.iload_n 2, 1) := by decide +kernel
theorem dX13_follows_29 : decode cX13_follows 29 = .ok (.iaload, 1) := by decide +kernel
theorem dX13_follows_30 : decode cX13_follows 30 = .ok (.aload_n 0, 1) := by decide +kernel
theorem dX13_follows_31 : decode cX13_follows 31 = .ok (.getfield 72, 3) := by decide +kernel
theorem dX13_follows_34 : decode cX13_follows 34 = .ok (.iload_n 2, 1) := by decide +kernel
theorem dX13_follows_35 : decode cX13_follows 35 = .ok (.iaload, 1) := by decide +kernel
theorem dX13_follows_36 : decode cX13_follows 36 = .ok (.invokevirtual 211, 3) := by decide +kernel
theorem dX13_follows_39 : decode cX13_follows 39 = .ok (.ifCond .eq 7, 3) := by decide +kernel
theorem dX13_follows_42 : decode cX13_follows 42 = .ok (.iconst 1, 1) := by decide +kernel
theorem dX13_follows_43 : decode cX13_follows 43 = .ok (.goto 4, 3) := by decide +kernel
theorem dX13_follows_46 : decode cX13_follows 46 = .ok (.iconst 0, 1) := by decide +kernel
theorem dX13_follows_47 : decode cX13_follows 47 = .ok (.ireturn, 1) := by decide +kernel
theorem dX13_stepsOf_0 : decode cX13_stepsOf 0 = .ok (.iconst 0, 1) := by decide +kernel
theorem dX13_stepsOf_1 : decode cX13_stepsOf 1 = .ok (.istore_n 2, 1) := by decide +kernel
theorem dX13_stepsOf_2 : decode cX13_stepsOf 2 = .ok (.iconst 0, 1) := by decide +kernel
theorem dX13_stepsOf_3 : decode cX13_stepsOf 3 = .ok (.istore_n 3, 1) := by decide +kernel
theorem dX13_stepsOf_4 : decode cX13_stepsOf 4 = .ok (.iload_n 3, 1) := by decide +kernel
theorem dX13_stepsOf_5 : decode cX13_stepsOf 5 = .ok (.aload_n 0, 1) := by decide +kernel
theorem dX13_stepsOf_6 : decode cX13_stepsOf 6 = .ok (.getfield 199, 3) := by decide +kernel
theorem dX13_stepsOf_9 : decode cX13_stepsOf 9 = .ok (.if_icmp .ge 27, 3) := by decide +kernel
theorem dX13_stepsOf_12 : decode cX13_stepsOf 12 = .ok (.iload_n 2, 1) := by decide +kernel
theorem dX13_stepsOf_13 : decode cX13_stepsOf 13 = .ok (.aload_n 0, 1) := by decide +kernel
theorem dX13_stepsOf_14 : decode cX13_stepsOf 14 = .ok (.getfield 81, 3) := by decide +kernel
theorem dX13_stepsOf_17 : decode cX13_stepsOf 17 = .ok (.iload_n 3, 1) := by decide +kernel
theorem dX13_stepsOf_18 : decode cX13_stepsOf 18 = .ok (.iaload, 1) := by decide +kernel
theorem dX13_stepsOf_19 : decode cX13_stepsOf 19 = .ok (.iload_n 1, 1) := by decide +kernel
theorem dX13_stepsOf_20 : decode cX13_stepsOf 20 = .ok (.if_icmp .ne 7, 3) := by decide +kernel
theorem dX13_stepsOf_23 : decode cX13_stepsOf 23 = .ok (.iconst 1, 1) := by decide +kernel
theorem dX13_stepsOf_24 : decode cX13_stepsOf 24 = .ok (.goto 4, 3) := by decide +kernel
theorem dX13_stepsOf_27 : decode cX13_stepsOf 27 = .ok (.iconst 0, 1) := by decide +kernel
theorem dX13_stepsOf_28 : decode cX13_stepsOf 28 = .ok (.iadd, 1) := by decide +kernel
theorem dX13_stepsOf_29 : decode cX13_stepsOf 29 = .ok (.istore_n 2, 1) := by decide +kernel
theorem dX13_stepsOf_30 : decode cX13_stepsOf 30 = .ok (.iinc 3 1, 3) := by decide +kernel
theorem dX13_stepsOf_33 : decode cX13_stepsOf 33 = .ok (.goto (-29), 3) := by decide +kernel
theorem dX13_stepsOf_36 : decode cX13_stepsOf 36 = .ok (.iload_n 2, 1) := by decide +kernel
theorem dX13_stepsOf_37 : decode cX13_stepsOf 37 = .ok (.ireturn, 1) := by decide +kernel
theorem dX13_alike_0 : decode cX13_alike 0 = .ok (.iconst 0, 1) := by decide +kernel
theorem dX13_alike_1 : decode cX13_alike 1 = .ok (.istore_n 3, 1) := by decide +kernel
theorem dX13_alike_2 : decode cX13_alike 2 = .ok (.iload_n 3, 1) := by decide +kernel
theorem dX13_alike_3 : decode cX13_alike 3 = .ok (.aload_n 0, 1) := by decide +kernel
theorem dX13_alike_4 : decode cX13_alike 4 = .ok (.getfield 193, 3) := by decide +kernel
theorem dX13_alike_7 : decode cX13_alike 7 = .ok (.if_icmp .ge 55, 3) := by decide +kernel
theorem dX13_alike_10 : decode cX13_alike 10 = .ok (.aload_n 0, 1) := by decide +kernel
theorem dX13_alike_11 : decode cX13_alike 11 = .ok (.iload_n 3, 1) := by decide +kernel
theorem dX13_alike_12 : decode cX13_alike 12 = .ok (.iload_n 2, 1) := by decide +kernel
theorem dX13_alike_13 : decode cX13_alike 13 = .ok (.invokevirtual 217, 3) := by decide +kernel
theorem dX13_alike_16 : decode cX13_alike 16 = .ok (.ifCond .eq 40, 3) := by decide +kernel
theorem dX13_alike_19 : decode cX13_alike 19 = .ok (.aload_n 0, 1) := by decide +kernel
theorem dX13_alike_20 : decode cX13_alike 20 = .ok (.iload_n 1, 1) := by decide +kernel
theorem dX13_alike_21 : decode cX13_alike 21 = .ok (.aload_n 0, 1) := by decide +kernel
theorem dX13_alike_22 : decode cX13_alike 22 = .ok (.getfield 19, 3) := by decide +kernel
theorem dX13_alike_25 : decode cX13_alike 25 = .ok (.bipush 8, 2) := by decide +kernel
theorem dX13_alike_27 : decode cX13_alike 27 = .ok (.aload_n 0, 1) := by decide +kernel
theorem dX13_alike_28 : decode cX13_alike 28 = .ok (.getfield 69, 3) := by decide +kernel
theorem dX13_alike_31 : decode cX13_alike 31 = .ok (.iload_n 3, 1) := by decide +kernel
theorem dX13_alike_32 : decode cX13_alike 32 = .ok (.iaload, 1) := by decide +kernel
theorem dX13_alike_33 : decode cX13_alike 33 = .ok (.imul, 1) := by decide +kernel
theorem dX13_alike_34 : decode cX13_alike 34 = .ok (.aload_n 0, 1) := by decide +kernel
theorem dX13_alike_35 : decode cX13_alike 35 = .ok (.getfield 72, 3) := by decide +kernel
theorem dX13_alike_38 : decode cX13_alike 38 = .ok (.iload_n 2, 1) := by decide +kernel
theorem dX13_alike_39 : decode cX13_alike 39 = .ok (.iaload, 1) := by decide +kernel
theorem dX13_alike_40 : decode cX13_alike 40 = .ok (.iadd, 1) := by decide +kernel
theorem dX13_alike_41 : decode cX13_alike 41 = .ok (.iaload, 1) := by decide +kernel
theorem dX13_alike_42 : decode cX13_alike 42 = .ok (.invokevirtual 226, 3) := by decide +kernel
theorem dX13_alike_45 : decode cX13_alike 45 = .ok (.aload_n 0, 1) := by decide +kernel
theorem dX13_alike_46 : decode cX13_alike 46 = .ok (.getfield 75, 3) := by decide +kernel
theorem dX13_alike_49 : decode cX13_alike 49 = .ok (.iload_n 3, 1) := by decide +kernel
theorem dX13_alike_50 : decode cX13_alike 50 = .ok (.iaload, 1) := by decide +kernel
theorem dX13_alike_51 : decode cX13_alike 51 = .ok (.if_icmp .eq 5, 3) := by decide +kernel
theorem dX13_alike_54 : decode cX13_alike 54 = .ok (.iconst 0, 1) := by decide +kernel
theorem dX13_alike_55 : decode cX13_alike 55 = .ok (.ireturn, 1) := by decide +kernel
theorem dX13_alike_56 : decode cX13_alike 56 = .ok (.iinc 3 1, 3) := by decide +kernel
theorem dX13_alike_59 : decode cX13_alike 59 = .ok (.goto (-57), 3) := by decide +kernel
theorem dX13_alike_62 : decode cX13_alike 62 = .ok (.iconst 1, 1) := by decide +kernel
theorem dX13_alike_63 : decode cX13_alike 63 = .ok (.ireturn, 1) := by decide +kernel
theorem dX13_go_0 : decode cX13_go 0 = .ok (.iconst 0, 1) := by decide +kernel
theorem dX13_go_1 : decode cX13_go 1 = .ok (.istore_n 3, 1) := by decide +kernel
theorem dX13_go_2 : decode cX13_go 2 = .ok (.iload_n 3, 1) := by decide +kernel
theorem dX13_go_3 : decode cX13_go 3 = .ok (.aload_n 0, 1) := by decide +kernel
theorem dX13_go_4 : decode cX13_go 4 = .ok (.getfield 199, 3) := by decide +kernel
theorem dX13_go_7 : decode cX13_go 7 = .ok (.if_icmp .ge 36, 3) := by decide +kernel
theorem dX13_go_10 : decode cX13_go 10 = .ok (.aload_n 0, 1) := by decide +kernel
theorem dX13_go_11 : decode cX13_go 11 = .ok (.getfield 81, 3) := by decide +kernel
theorem dX13_go_14 : decode cX13_go 14 = .ok (.iload_n 3, 1) := by decide +kernel
theorem dX13_go_15 : decode cX13_go 15 = .ok (.iaload, 1) := by decide +kernel
theorem dX13_go_16 : decode cX13_go 16 = .ok (.iload_n 1, 1) := by decide +kernel
theorem dX13_go_17 : decode cX13_go 17 = .ok (.if_icmp .ne 20, 3) := by decide +kernel
theorem dX13_go_20 : decode cX13_go 20 = .ok (.aload_n 0, 1) := by decide +kernel
theorem dX13_go_21 : decode cX13_go 21 = .ok (.getfield 84, 3) := by decide +kernel
theorem dX13_go_24 : decode cX13_go 24 = .ok (.iload_n 3, 1) := by decide +kernel
theorem dX13_go_25 : decode cX13_go 25 = .ok (.iaload, 1) := by decide +kernel
theorem dX13_go_26 : decode cX13_go 26 = .ok (.iload_n 2, 1) := by decide +kernel
theorem dX13_go_27 : decode cX13_go 27 = .ok (.if_icmp .ne 10, 3) := by decide +kernel
theorem dX13_go_30 : decode cX13_go 30 = .ok (.aload_n 0, 1) := by decide +kernel
theorem dX13_go_31 : decode cX13_go 31 = .ok (.getfield 87, 3) := by decide +kernel
theorem dX13_go_34 : decode cX13_go 34 = .ok (.iload_n 3, 1) := by decide +kernel
theorem dX13_go_35 : decode cX13_go 35 = .ok (.iaload, 1) := by decide +kernel
theorem dX13_go_36 : decode cX13_go 36 = .ok (.ireturn, 1) := by decide +kernel
theorem dX13_go_37 : decode cX13_go 37 = .ok (.iinc 3 1, 3) := by decide +kernel
theorem dX13_go_40 : decode cX13_go 40 = .ok (.goto (-38), 3) := by decide +kernel
theorem dX13_go_43 : decode cX13_go 43 = .ok (.iconst (-1), 1) := by decide +kernel
theorem dX13_go_44 : decode cX13_go 44 = .ok (.ireturn, 1) := by decide +kernel
theorem dX13_automaton_0 : decode cX13_automaton 0 = .ok (.aload_n 0, 1) := by decide +kernel
theorem dX13_automaton_1 : decode cX13_automaton 1 = .ok (.iconst 0, 1) := by decide +kernel
theorem dX13_automaton_2 : decode cX13_automaton 2 = .ok (.putfield 99, 3) := by decide +kernel
theorem dX13_automaton_5 : decode cX13_automaton 5 = .ok (.iload_n 1, 1) := by decide +kernel
theorem dX13_automaton_6 : decode cX13_automaton 6 = .ok (.ifCond .ne 8, 3) := by decide +kernel
theorem dX13_automaton_9 : decode cX13_automaton 9 = .ok (.aload_n 0, 1) := by decide +kernel
theorem dX13_automaton_10 : decode cX13_automaton 10 = .ok (.getfield 196, 3) := by decide +kernel
theorem dX13_automaton_13 : decode cX13_automaton 13 = .ok (.ireturn, 1) := by decide +kernel
theorem dX13_automaton_14 : decode cX13_automaton 14 = .ok (.iload_n 1, 1) := by decide +kernel
theorem dX13_automaton_15 : decode cX13_automaton 15 = .ok (.iconst 1, 1) := by decide +kernel
theorem dX13_automaton_16 : decode cX13_automaton 16 = .ok (.if_icmp .ne 8, 3) := by decide +kernel
theorem dX13_automaton_19 : decode cX13_automaton 19 = .ok (.aload_n 0, 1) := by decide +kernel
theorem dX13_automaton_20 : decode cX13_automaton 20 = .ok (.getfield 199, 3) := by decide +kernel
theorem dX13_automaton_23 : decode cX13_automaton 23 = .ok (.ireturn, 1) := by decide +kernel
theorem dX13_automaton_24 : decode cX13_automaton 24 = .ok (.iload_n 1, 1) := by decide +kernel
theorem dX13_automaton_25 : decode cX13_automaton 25 = .ok (.iconst 2, 1) := by decide +kernel
theorem dX13_automaton_26 : decode cX13_automaton 26 = .ok (.if_icmp .ne 40, 3) := by decide +kernel
theorem dX13_automaton_29 : decode cX13_automaton 29 = .ok (.iconst 0, 1) := by decide +kernel
theorem dX13_automaton_30 : decode cX13_automaton 30 = .ok (.istore_n 2, 1) := by decide +kernel
theorem dX13_automaton_31 : decode cX13_automaton 31 = .ok (.iconst 0, 1) := by decide +kernel
theorem dX13_automaton_32 : decode cX13_automaton 32 = .ok (.istore_n 3, 1) := by decide +kernel
theorem dX13_automaton_33 : decode cX13_automaton 33 = .ok (.iload_n 3, 1) := by decide +kernel
theorem dX13_automaton_34 : decode cX13_automaton 34 = .ok (.aload_n 0, 1) := by decide +kernel
theorem dX13_automaton_35 : decode cX13_automaton 35 = .ok (.getfield 196, 3) := by decide +kernel
theorem dX13_automaton_38 : decode cX13_automaton 38 = .ok (.if_icmp .ge 26, 3) := by decide +kernel
theorem dX13_automaton_41 : decode cX13_automaton 41 = .ok (.iload_n 2, 1) := by decide +kernel
theorem dX13_automaton_42 : decode cX13_automaton 42 = .ok (.aload_n 0, 1) := by decide +kernel
theorem dX13_automaton_43 : decode cX13_automaton 43 = .ok (.getfield 78, 3) := by decide +kernel
theorem dX13_automaton_46 : decode cX13_automaton 46 = .ok (.iload_n 3, 1) := by decide +kernel
theorem dX13_automaton_47 : decode cX13_automaton 47 = .ok (.baload, 1) := by decide +kernel
theorem dX13_automaton_48 : decode cX13_automaton 48 = .ok (.ifCond .eq 7, 3) := by decide +kernel
theorem dX13_automaton_51 : decode cX13_automaton 51 = .ok (.iconst 1, 1) := by decide +kernel
theorem dX13_automaton_52 : decode cX13_automaton 52 = .ok (.goto 4, 3) := by decide +kernel
theorem dX13_automaton_55 : decode cX13_automaton 55 = .ok (.iconst 0, 1) := by decide +kernel
theorem dX13_automaton_56 : decode cX13_automaton 56 = .ok (.iadd, 1) := by decide +kernel
theorem dX13_automaton_57 : decode cX13_automaton 57 = .ok (.istore_n 2, 1) := by decide +kernel
theorem dX13_automaton_58 : decode cX13_automaton 58 = .ok (.iinc 3 1, 3) := by decide +kernel
theorem dX13_automaton_61 : decode cX13_automaton 61 = .ok (.goto (-28), 3) := by decide +kernel
theorem dX13_automaton_64 : decode cX13_automaton 64 = .ok (.iload_n 2, 1) := by decide +kernel
theorem dX13_automaton_65 : decode cX13_automaton 65 = .ok (.ireturn, 1) := by decide +kernel
theorem dX13_automaton_66 : decode cX13_automaton 66 = .ok (.iload_n 1, 1) := by decide +kernel
theorem dX13_automaton_67 : decode cX13_automaton 67 = .ok (.iconst 3, 1) := by decide +kernel
theorem dX13_automaton_68 : decode cX13_automaton 68 = .ok (.if_icmp .eq 10, 3) := by decide +kernel
theorem dX13_automaton_71 : decode cX13_automaton 71 = .ok (.iload_n 1, 1) := by decide +kernel
theorem dX13_automaton_72 : decode cX13_automaton 72 = .ok (.iconst 4, 1) := by decide +kernel
theorem dX13_automaton_73 : decode cX13_automaton 73 = .ok (.if_icmp .eq 5, 3) := by decide +kernel
theorem dX13_automaton_76 : decode cX13_automaton 76 = .ok (.iconst (-1), 1) := by decide +kernel
theorem dX13_automaton_77 : decode cX13_automaton 77 = .ok (.ireturn, 1) := by decide +kernel
theorem dX13_automaton_78 : decode cX13_automaton 78 = .ok (.aload_n 0, 1) := by decide +kernel
theorem dX13_automaton_79 : decode cX13_automaton 79 = .ok (.getfield 102, 3) := by decide +kernel
theorem dX13_automaton_82 : decode cX13_automaton 82 = .ok (.istore_n 2, 1) := by decide +kernel
theorem dX13_automaton_83 : decode cX13_automaton 83 = .ok (.aload_n 0, 1) := by decide +kernel
theorem dX13_automaton_84 : decode cX13_automaton 84 = .ok (.iconst 0, 1) := by decide +kernel
theorem dX13_automaton_85 : decode cX13_automaton 85 = .ok (.putfield 102, 3) := by decide +kernel
theorem dX13_automaton_88 : decode cX13_automaton 88 = .ok (.aload_n 0, 1) := by decide +kernel
theorem dX13_automaton_89 : decode cX13_automaton 89 = .ok (.getfield 196, 3) := by decide +kernel
theorem dX13_automaton_92 : decode cX13_automaton 92 = .ok (.ifCond .ne 7, 3) := by decide +kernel
theorem dX13_automaton_95 : decode cX13_automaton 95 = .ok (.iconst (-1), 1) := by decide +kernel
theorem dX13_automaton_96 : decode cX13_automaton 96 = .ok (.goto 7, 3) := by decide +kernel
theorem dX13_automaton_99 : decode cX13_automaton 99 = .ok (.aload_n 0, 1) := by decide +kernel
theorem dX13_automaton_100 : decode cX13_automaton 100 = .ok (.getfield 202, 3) := by decide +kernel
theorem dX13_automaton_103 : decode cX13_automaton 103 = .ok (.istore_n 3, 1) := by decide +kernel
theorem dX13_automaton_104 : decode cX13_automaton 104 = .ok (.iconst 0, 1) := by decide +kernel
theorem dX13_automaton_105 : decode cX13_automaton 105 = .ok (.istore 4, 2) := by decide +kernel
theorem dX13_automaton_107 : decode cX13_automaton 107 = .ok (.iload_n 3, 1) := by decide +kernel
theorem dX13_automaton_108 : decode cX13_automaton 108 = .ok (.iconst (-1), 1) := by decide +kernel
theorem dX13_automaton_109 : decode cX13_automaton 109 = .ok (.if_icmp .eq 44, 3) := by decide +kernel
theorem dX13_automaton_112 : decode cX13_automaton 112 = .ok (.iload 4, 2) := by decide +kernel
theorem dX13_automaton_114 : decode cX13_automaton 114 = .ok (.iload_n 2, 1) := by decide +kernel
theorem dX13_automaton_115 : decode cX13_automaton 115 = .ok (.if_icmp .ge 38, 3) := by decide +kernel
theorem dX13_automaton_118 : decode cX13_automaton 118 = .ok (.aload_n 0, 1) := by decide +kernel
theorem dX13_automaton_119 : decode cX13_automaton 119 = .ok (.iload_n 3, 1) := by decide +kernel
theorem dX13_automaton_120 : decode cX13_automaton 120 = .ok (.aload_n 0, 1) := by decide +kernel
theorem dX13_automaton_121 : decode cX13_automaton 121 = .ok (.getfield 7, 3) := by decide +kernel
theorem dX13_automaton_124 : decode cX13_automaton 124 = .ok (.iload 4, 2) := by decide +kernel
theorem dX13_automaton_126 : decode cX13_automaton 126 = .ok (.iaload, 1) := by decide +kernel
theorem dX13_automaton_127 : decode cX13_automaton 127 = .ok (.invokevirtual 226, 3) := by decide +kernel
theorem dX13_automaton_130 : decode cX13_automaton 130 = .ok (.iconst (-1), 1) := by decide +kernel
theorem dX13_automaton_131 : decode cX13_automaton 131 = .ok (.if_icmp .eq 22, 3) := by decide +kernel
theorem dX13_automaton_134 : decode cX13_automaton 134 = .ok (.aload_n 0, 1) := by decide +kernel
theorem dX13_automaton_135 : decode cX13_automaton 135 = .ok (.iload_n 3, 1) := by decide +kernel
theorem dX13_automaton_136 : decode cX13_automaton 136 = .ok (.aload_n 0, 1) := by decide +kernel
theorem dX13_automaton_137 : decode cX13_automaton 137 = .ok (.getfield 7, 3) := by decide +kernel
theorem dX13_automaton_140 : decode cX13_automaton 140 = .ok (.iload 4, 2) := by decide +kernel
theorem dX13_automaton_142 : decode cX13_automaton 142 = .ok (.iaload, 1) := by decide +kernel
theorem dX13_automaton_143 : decode cX13_automaton 143 = .ok (.invokevirtual 226, 3) := by decide +kernel
theorem dX13_automaton_146 : decode cX13_automaton 146 = .ok (.istore_n 3, 1) := by decide +kernel
theorem dX13_automaton_147 : decode cX13_automaton 147 = .ok (.iinc 4 1, 3) := by decide +kernel
theorem dX13_automaton_150 : decode cX13_automaton 150 = .ok (.goto (-43), 3) := by decide +kernel
theorem dX13_automaton_153 : decode cX13_automaton 153 = .ok (.iload_n 1, 1) := by decide +kernel
theorem dX13_automaton_154 : decode cX13_automaton 154 = .ok (.iconst 3, 1) := by decide +kernel
theorem dX13_automaton_155 : decode cX13_automaton 155 = .ok (.if_icmp .ne 17, 3) := by decide +kernel
theorem dX13_automaton_158 : decode cX13_automaton 158 = .ok (.aload_n 0, 1) := by decide +kernel
theorem dX13_automaton_159 : decode cX13_automaton 159 = .ok (.getfield 196, 3) := by decide +kernel
theorem dX13_automaton_162 : decode cX13_automaton 162 = .ok (.ifCond .ne 7, 3) := by decide +kernel
theorem dX13_automaton_165 : decode cX13_automaton 165 = .ok (.iconst (-1), 1) := by decide +kernel
theorem dX13_automaton_166 : decode cX13_automaton 166 = .ok (.goto 5, 3) := by decide +kernel
theorem dX13_automaton_169 : decode cX13_automaton 169 = .ok (.iload 4, 2) := by decide +kernel
theorem dX13_automaton_171 : decode cX13_automaton 171 = .ok (.ireturn, 1) := by decide +kernel
theorem dX13_automaton_172 : decode cX13_automaton 172 = .ok (.iload_n 3, 1) := by decide +kernel
theorem dX13_automaton_173 : decode cX13_automaton 173 = .ok (.iconst (-1), 1) := by decide +kernel
theorem dX13_automaton_174 : decode cX13_automaton 174 = .ok (.if_icmp .eq 22, 3) := by decide +kernel
theorem dX13_automaton_177 : decode cX13_automaton 177 = .ok (.iload 4, 2) := by decide +kernel
theorem dX13_automaton_179 : decode cX13_automaton 179 = .ok (.iload_n 2, 1) := by decide +kernel
theorem dX13_automaton_180 : decode cX13_automaton 180 = .ok (.if_icmp .ne 16, 3) := by decide +kernel
theorem dX13_automaton_183 : decode cX13_automaton 183 = .ok (.aload_n 0, 1) := by decide +kernel
theorem dX13_automaton_184 : decode cX13_automaton 184 = .ok (.getfield 78, 3) := by decide +kernel
theorem dX13_automaton_187 : decode cX13_automaton 187 = .ok (.iload_n 3, 1) := by decide +kernel
theorem dX13_automaton_188 : decode cX13_automaton 188 = .ok (.baload, 1) := by decide +kernel
theorem dX13_automaton_189 : decode cX13_automaton 189 = .ok (.ifCond .eq 7, 3) := by decide +kernel
theorem dX13_automaton_192 : decode cX13_automaton 192 = .ok (.iconst 1, 1) := by decide +kernel
theorem dX13_automaton_193 : decode cX13_automaton 193 = .ok (.goto 4, 3) := by decide +kernel
theorem dX13_automaton_196 : decode cX13_automaton 196 = .ok (.iconst 0, 1) := by decide +kernel
theorem dX13_automaton_197 : decode cX13_automaton 197 = .ok (.ireturn, 1) := by decide +kernel
theorem dX13_insert_0 : decode cX13_insert 0 = .ok (.iload_n 1, 1) := by decide +kernel
theorem dX13_insert_1 : decode cX13_insert 1 = .ok (.ifCond .lt 11, 3) := by decide +kernel
theorem dX13_insert_4 : decode cX13_insert 4 = .ok (.iload_n 1, 1) := by decide +kernel
theorem dX13_insert_5 : decode cX13_insert 5 = .ok (.aload_n 0, 1) := by decide +kernel
theorem dX13_insert_6 : decode cX13_insert 6 = .ok (.getfield 232, 3) := by decide +kernel
theorem dX13_insert_9 : decode cX13_insert 9 = .ok (.if_icmp .le 9, 3) := by decide +kernel
theorem dX13_insert_12 : decode cX13_insert 12 = .ok (.aload_n 0, 1) := by decide +kernel
theorem dX13_insert_13 : decode cX13_insert 13 = .ok (.iconst 1, 1) := by decide +kernel
theorem dX13_insert_14 : decode cX13_insert 14 = .ok (.invokevirtual 126, 3) := by decide +kernel
theorem dX13_insert_17 : decode cX13_insert 17 = .ok (.ireturn, 1) := by decide +kernel
theorem dX13_insert_18 : decode cX13_insert 18 = .ok (.aload_n 0, 1) := by decide +kernel
theorem dX13_insert_19 : decode cX13_insert 19 = .ok (.getfield 102, 3) := by decide +kernel
theorem dX13_insert_22 : decode cX13_insert 22 = .ok (.istore_n 2, 1) := by decide +kernel
theorem dX13_insert_23 : decode cX13_insert 23 = .ok (.aload_n 0, 1) := by decide +kernel
theorem dX13_insert_24 : decode cX13_insert 24 = .ok (.iconst 0, 1) := by decide +kernel
theorem dX13_insert_25 : decode cX13_insert 25 = .ok (.putfield 102, 3) := by decide +kernel
theorem dX13_insert_28 : decode cX13_insert 28 = .ok (.aload_n 0, 1) := by decide +kernel
theorem dX13_insert_29 : decode cX13_insert 29 = .ok (.getfield 232, 3) := by decide +kernel
theorem dX13_insert_32 : decode cX13_insert 32 = .ok (.iload_n 2, 1) := by decide +kernel
theorem dX13_insert_33 : decode cX13_insert 33 = .ok (.iadd, 1) := by decide +kernel
theorem dX13_insert_34 : decode cX13_insert 34 = .ok (.bipush 120, 2) := by decide +kernel
theorem dX13_insert_36 : decode cX13_insert 36 = .ok (.if_icmp .le 9, 3) := by decide +kernel
theorem dX13_insert_39 : decode cX13_insert 39 = .ok (.aload_n 0, 1) := by decide +kernel
theorem dX13_insert_40 : decode cX13_insert 40 = .ok (.iconst 2, 1) := by decide +kernel
theorem dX13_insert_41 : decode cX13_insert 41 = .ok (.invokevirtual 126, 3) := by decide +kernel
theorem dX13_insert_44 : decode cX13_insert 44 = .ok (.ireturn, 1) := by decide +kernel
theorem dX13_insert_45 : decode cX13_insert 45 = .ok (.aload_n 0, 1) := by decide +kernel
theorem dX13_insert_46 : decode cX13_insert 46 = .ok (.iconst 0, 1) := by decide +kernel
theorem dX13_insert_47 : decode cX13_insert 47 = .ok (.putfield 99, 3) := by decide +kernel
theorem dX13_insert_50 : decode cX13_insert 50 = .ok (.aload_n 0, 1) := by decide +kernel
theorem dX13_insert_51 : decode cX13_insert 51 = .ok (.invokevirtual 237, 3) := by decide +kernel
theorem dX13_insert_54 : decode cX13_insert 54 = .ok (.aload_n 0, 1) := by decide +kernel
theorem dX13_insert_55 : decode cX13_insert 55 = .ok (.getfield 232, 3) := by decide +kernel
theorem dX13_insert_58 : decode cX13_insert 58 = .ok (.iconst 1, 1) := by decide +kernel
theorem dX13_insert_59 : decode cX13_insert 59 = .ok (.isub, 1) := by decide +kernel
theorem dX13_insert_60 : decode cX13_insert 60 = .ok (.istore_n 3, 1) := by decide +kernel
theorem dX13_insert_61 : decode cX13_insert 61 = .ok (.iload_n 3, 1) := by decide +kernel
theorem dX13_insert_62 : decode cX13_insert 62 = .ok (.iload_n 1, 1) := by decide +kernel
theorem dX13_insert_63 : decode cX13_insert 63 = .ok (.if_icmp .lt 23, 3) := by decide +kernel
theorem dX13_insert_66 : decode cX13_insert 66 = .ok (.aload_n 0, 1) := by decide +kernel
theorem dX13_insert_67 : decode cX13_insert 67 = .ok (.getfield 90, 3) := by decide +kernel
theorem dX13_insert_70 : decode cX13_insert 70 = .ok (.iload_n 3, 1) := by decide +kernel
theorem dX13_insert_71 : decode cX13_insert 71 = .ok (.iload_n 2, 1) := by decide +kernel
theorem dX13_insert_72 : decode cX13_insert 72 = .ok (.iadd, 1) := by decide +kernel
theorem dX13_insert_73 : decode cX13_insert 73 = .ok (.aload_n 0, 1) := by decide +kernel
theorem dX13_insert_74 : decode cX13_insert 74 = .ok (.getfield 90, 3) := by decide +kernel
theorem dX13_insert_77 : decode cX13_insert 77 = .ok (.iload_n 3, 1) := by decide +kernel
theorem dX13_insert_78 : decode cX13_insert 78 = .ok (.iaload, 1) := by decide +kernel
theorem dX13_insert_79 : decode cX13_insert 79 = .ok (.iastore, 1) := by decide +kernel
theorem dX13_insert_80 : decode cX13_insert 80 = .ok (.iinc 3 (-1), 3) := by decide +kernel
theorem dX13_insert_83 : decode cX13_insert 83 = .ok (.goto (-22), 3) := by decide +kernel
theorem dX13_insert_86 : decode cX13_insert 86 = .ok (.iconst 0, 1) := by decide +kernel
theorem dX13_insert_87 : decode cX13_insert 87 = .ok (.istore_n 3, 1) := by decide +kernel
theorem dX13_insert_88 : decode cX13_insert 88 = .ok (.iload_n 3, 1) := by decide +kernel
theorem dX13_insert_89 : decode cX13_insert 89 = .ok (.iload_n 2, 1) := by decide +kernel
theorem dX13_insert_90 : decode cX13_insert 90 = .ok (.if_icmp .ge 23, 3) := by decide +kernel
theorem dX13_insert_93 : decode cX13_insert 93 = .ok (.aload_n 0, 1) := by decide +kernel
theorem dX13_insert_94 : decode cX13_insert 94 = .ok (.getfield 90, 3) := by decide +kernel
theorem dX13_insert_97 : decode cX13_insert 97 = .ok (.iload_n 1, 1) := by decide +kernel
theorem dX13_insert_98 : decode cX13_insert 98 = .ok (.iload_n 3, 1) := by decide +kernel
theorem dX13_insert_99 : decode cX13_insert 99 = .ok (.iadd, 1) := by decide +kernel
theorem dX13_insert_100 : decode cX13_insert 100 = .ok (.aload_n 0, 1) := by decide +kernel
theorem dX13_insert_101 : decode cX13_insert 101 = .ok (.getfield 7, 3) := by decide +kernel
theorem dX13_insert_104 : decode cX13_insert 104 = .ok (.iload_n 3, 1) := by decide +kernel
theorem dX13_insert_105 : decode cX13_insert 105 = .ok (.iaload, 1) := by decide +kernel
theorem dX13_insert_106 : decode cX13_insert 106 = .ok (.iastore, 1) := by decide +kernel
theorem dX13_insert_107 : decode cX13_insert 107 = .ok (.iinc 3 1, 3) := by decide +kernel
theorem dX13_insert_110 : decode cX13_insert 110 = .ok (.goto (-22), 3) := by decide +kernel
theorem dX13_insert_113 : decode cX13_insert 113 = .ok (.aload_n 0, 1) := by decide +kernel
theorem dX13_insert_114 : decode cX13_insert 114 = .ok (.dup, 1) := by decide +kernel
theorem dX13_insert_115 : decode cX13_insert 115 = .ok (.getfield 232, 3) := by decide +kernel
theorem dX13_insert_118 : decode cX13_insert 118 = .ok (.iload_n 2, 1) := by decide +kernel
theorem dX13_insert_119 : decode cX13_insert 119 = .ok (.iadd, 1) := by decide +kernel
theorem dX13_insert_120 : decode cX13_insert 120 = .ok (.putfield 232, 3) := by decide +kernel
theorem dX13_insert_123 : decode cX13_insert 123 = .ok (.aload_n 0, 1) := by decide +kernel
theorem dX13_insert_124 : decode cX13_insert 124 = .ok (.getfield 232, 3) := by decide +kernel
theorem dX13_insert_127 : decode cX13_insert 127 = .ok (.ireturn, 1) := by decide +kernel
theorem dX13_keep_0 : decode cX13_keep 0 = .ok (.aload_n 0, 1) := by decide +kernel
theorem dX13_keep_1 : decode cX13_keep 1 = .ok (.getfield 229, 3) := by decide +kernel
theorem dX13_keep_4 : decode cX13_keep 4 = .ok (.bipush 21, 2) := by decide +kernel
theorem dX13_keep_6 : decode cX13_keep 6 = .ok (.irem, 1) := by decide +kernel
theorem dX13_keep_7 : decode cX13_keep 7 = .ok (.istore_n 1, 1) := by decide +kernel
theorem dX13_keep_8 : decode cX13_keep 8 = .ok (.iconst 0, 1) := by decide +kernel
theorem dX13_keep_9 : decode cX13_keep 9 = .ok (.istore_n 2, 1) := by decide +kernel
theorem dX13_keep_10 : decode cX13_keep 10 = .ok (.iload_n 2, 1) := by decide +kernel
theorem dX13_keep_11 : decode cX13_keep 11 = .ok (.aload_n 0, 1) := by decide +kernel
theorem dX13_keep_12 : decode cX13_keep 12 = .ok (.getfield 232, 3) := by decide +kernel
theorem dX13_keep_15 : decode cX13_keep 15 = .ok (.if_icmp .ge 26, 3) := by decide +kernel
theorem dX13_keep_18 : decode cX13_keep 18 = .ok (.aload_n 0, 1) := by decide +kernel
theorem dX13_keep_19 : decode cX13_keep 19 = .ok (.getfield 93, 3) := by decide +kernel
theorem dX13_keep_22 : decode cX13_keep 22 = .ok (.bipush 120, 2) := by decide +kernel
theorem dX13_keep_24 : decode cX13_keep 24 = .ok (.iload_n 1, 1) := by decide +kernel
theorem dX13_keep_25 : decode cX13_keep 25 = .ok (.imul, 1) := by decide +kernel
theorem dX13_keep_26 : decode cX13_keep 26 = .ok (.iload_n 2, 1) := by decide +kernel
theorem dX13_keep_27 : decode cX13_keep 27 = .ok (.iadd, 1) := by decide +kernel
theorem dX13_keep_28 : decode cX13_keep 28 = .ok (.aload_n 0, 1) := by decide +kernel
theorem dX13_keep_29 : decode cX13_keep 29 = .ok (.getfield 90, 3) := by decide +kernel
theorem dX13_keep_32 : decode cX13_keep 32 = .ok (.iload_n 2, 1) := by decide +kernel
theorem dX13_keep_33 : decode cX13_keep 33 = .ok (.iaload, 1) := by decide +kernel
theorem dX13_keep_34 : decode cX13_keep 34 = .ok (.iastore, 1) := by decide +kernel
theorem dX13_keep_35 : decode cX13_keep 35 = .ok (.iinc 2 1, 3) := by decide +kernel
theorem dX13_keep_38 : decode cX13_keep 38 = .ok (.goto (-28), 3) := by decide +kernel
theorem dX13_keep_41 : decode cX13_keep 41 = .ok (.aload_n 0, 1) := by decide +kernel
theorem dX13_keep_42 : decode cX13_keep 42 = .ok (.getfield 96, 3) := by decide +kernel
theorem dX13_keep_45 : decode cX13_keep 45 = .ok (.iload_n 1, 1) := by decide +kernel
theorem dX13_keep_46 : decode cX13_keep 46 = .ok (.aload_n 0, 1) := by decide +kernel
theorem dX13_keep_47 : decode cX13_keep 47 = .ok (.getfield 232, 3) := by decide +kernel
theorem dX13_keep_50 : decode cX13_keep 50 = .ok (.iastore, 1) := by decide +kernel
theorem dX13_keep_51 : decode cX13_keep 51 = .ok (.aload_n 0, 1) := by decide +kernel
theorem dX13_keep_52 : decode cX13_keep 52 = .ok (.dup, 1) := by decide +kernel
theorem dX13_keep_53 : decode cX13_keep 53 = .ok (.getfield 229, 3) := by decide +kernel
theorem dX13_keep_56 : decode cX13_keep 56 = .ok (.iconst 1, 1) := by decide +kernel
theorem dX13_keep_57 : decode cX13_keep 57 = .ok (.iadd, 1) := by decide +kernel
theorem dX13_keep_58 : decode cX13_keep 58 = .ok (.putfield 229, 3) := by decide +kernel
theorem dX13_keep_61 : decode cX13_keep 61 = .ok (.aload_n 0, 1) := by decide +kernel
theorem dX13_keep_62 : decode cX13_keep 62 = .ok (.aload_n 0, 1) := by decide +kernel
theorem dX13_keep_63 : decode cX13_keep 63 = .ok (.getfield 234, 3) := by decide +kernel
theorem dX13_keep_66 : decode cX13_keep 66 = .ok (.bipush 20, 2) := by decide +kernel
theorem dX13_keep_68 : decode cX13_keep 68 = .ok (.if_icmp .ge 12, 3) := by decide +kernel
theorem dX13_keep_71 : decode cX13_keep 71 = .ok (.aload_n 0, 1) := by decide +kernel
theorem dX13_keep_72 : decode cX13_keep 72 = .ok (.getfield 234, 3) := by decide +kernel
theorem dX13_keep_75 : decode cX13_keep 75 = .ok (.iconst 1, 1) := by decide +kernel
theorem dX13_keep_76 : decode cX13_keep 76 = .ok (.iadd, 1) := by decide +kernel
theorem dX13_keep_77 : decode cX13_keep 77 = .ok (.goto 5, 3) := by decide +kernel
theorem dX13_keep_80 : decode cX13_keep 80 = .ok (.bipush 20, 2) := by decide +kernel
theorem dX13_keep_82 : decode cX13_keep 82 = .ok (.putfield 234, 3) := by decide +kernel
theorem dX13_keep_85 : decode cX13_keep 85 = .ok (.return_, 1) := by decide +kernel
theorem dX13_delete_0 : decode cX13_delete 0 = .ok (.iload_n 1, 1) := by decide +kernel
theorem dX13_delete_1 : decode cX13_delete 1 = .ok (.ifCond .lt 16, 3) := by decide +kernel
theorem dX13_delete_4 : decode cX13_delete 4 = .ok (.iload_n 2, 1) := by decide +kernel
theorem dX13_delete_5 : decode cX13_delete 5 = .ok (.iload_n 1, 1) := by decide +kernel
theorem dX13_delete_6 : decode cX13_delete 6 = .ok (.if_icmp .lt 11, 3) := by decide +kernel
theorem dX13_delete_9 : decode cX13_delete 9 = .ok (.iload_n 2, 1) := by decide +kernel
theorem dX13_delete_10 : decode cX13_delete 10 = .ok (.aload_n 0, 1) := by decide +kernel
theorem dX13_delete_11 : decode cX13_delete 11 = .ok (.getfield 232, 3) := by decide +kernel
theorem dX13_delete_14 : decode cX13_delete 14 = .ok (.if_icmp .le 9, 3) := by decide +kernel
theorem dX13_delete_17 : decode cX13_delete 17 = .ok (.aload_n 0, 1) := by decide +kernel
theorem dX13_delete_18 : decode cX13_delete 18 = .ok (.iconst 1, 1) := by decide +kernel
theorem dX13_delete_19 : decode cX13_delete 19 = .ok (.invokevirtual 126, 3) := by decide +kernel
theorem dX13_delete_22 : decode cX13_delete 22 = .ok (.ireturn, 1) := by decide +kernel
theorem dX13_delete_23 : decode cX13_delete 23 = .ok (.aload_n 0, 1) := by decide +kernel
theorem dX13_delete_24 : decode cX13_delete 24 = .ok (.iconst 0, 1) := by decide +kernel
theorem dX13_delete_25 : decode cX13_delete 25 = .ok (.putfield 99, 3) := by decide +kernel
theorem dX13_delete_28 : decode cX13_delete 28 = .ok (.aload_n 0, 1) := by decide +kernel
theorem dX13_delete_29 : decode cX13_delete 29 = .ok (.invokevirtual 237, 3) := by decide +kernel
theorem dX13_delete_32 : decode cX13_delete 32 = .ok (.iload_n 2, 1) := by decide +kernel
theorem dX13_delete_33 : decode cX13_delete 33 = .ok (.istore_n 3, 1) := by decide +kernel
theorem dX13_delete_34 : decode cX13_delete 34 = .ok (.iload_n 3, 1) := by decide +kernel
theorem dX13_delete_35 : decode cX13_delete 35 = .ok (.aload_n 0, 1) := by decide +kernel
theorem dX13_delete_36 : decode cX13_delete 36 = .ok (.getfield 232, 3) := by decide +kernel
theorem dX13_delete_39 : decode cX13_delete 39 = .ok (.if_icmp .ge 25, 3) := by decide +kernel
theorem dX13_delete_42 : decode cX13_delete 42 = .ok (.aload_n 0, 1) := by decide +kernel
theorem dX13_delete_43 : decode cX13_delete 43 = .ok (.getfield 90, 3) := by decide +kernel
theorem dX13_delete_46 : decode cX13_delete 46 = .ok (.iload_n 3, 1) := by decide +kernel
theorem dX13_delete_47 : decode cX13_delete 47 = .ok (.iload_n 2, 1) := by decide +kernel
theorem dX13_delete_48 : decode cX13_delete 48 = .ok (.isub, 1) := by decide +kernel
theorem dX13_delete_49 : decode cX13_delete 49 = .ok (.iload_n 1, 1) := by decide +kernel
theorem dX13_delete_50 : decode cX13_delete 50 = .ok (.iadd, 1) := by decide +kernel
theorem dX13_delete_51 : decode cX13_delete 51 = .ok (.aload_n 0, 1) := by decide +kernel
theorem dX13_delete_52 : decode cX13_delete 52 = .ok (.getfield 90, 3) := by decide +kernel
theorem dX13_delete_55 : decode cX13_delete 55 = .ok (.iload_n 3, 1) := by decide +kernel
theorem dX13_delete_56 : decode cX13_delete 56 = .ok (.iaload, 1) := by decide +kernel
theorem dX13_delete_57 : decode cX13_delete 57 = .ok (.iastore, 1) := by decide +kernel
theorem dX13_delete_58 : decode cX13_delete 58 = .ok (.iinc 3 1, 3) := by decide +kernel
theorem dX13_delete_61 : decode cX13_delete 61 = .ok (.goto (-27), 3) := by decide +kernel
theorem dX13_delete_64 : decode cX13_delete 64 = .ok (.aload_n 0, 1) := by decide +kernel
theorem dX13_delete_65 : decode cX13_delete 65 = .ok (.dup, 1) := by decide +kernel
theorem dX13_delete_66 : decode cX13_delete 66 = .ok (.getfield 232, 3) := by decide +kernel
theorem dX13_delete_69 : decode cX13_delete 69 = .ok (.iload_n 2, 1) := by decide +kernel
theorem dX13_delete_70 : decode cX13_delete 70 = .ok (.iload_n 1, 1) := by decide +kernel
theorem dX13_delete_71 : decode cX13_delete 71 = .ok (.isub, 1) := by decide +kernel
theorem dX13_delete_72 : decode cX13_delete 72 = .ok (.isub, 1) := by decide +kernel
theorem dX13_delete_73 : decode cX13_delete 73 = .ok (.putfield 232, 3) := by decide +kernel
theorem dX13_delete_76 : decode cX13_delete 76 = .ok (.aload_n 0, 1) := by decide +kernel
theorem dX13_delete_77 : decode cX13_delete 77 = .ok (.getfield 232, 3) := by decide +kernel
theorem dX13_delete_80 : decode cX13_delete 80 = .ok (.ireturn, 1) := by decide +kernel
theorem dX13_undo_0 : decode cX13_undo 0 = .ok (.aload_n 0, 1) := by decide +kernel
theorem dX13_undo_1 : decode cX13_undo 1 = .ok (.iconst 0, 1) := by decide +kernel
theorem dX13_undo_2 : decode cX13_undo 2 = .ok (.putfield 99, 3) := by decide +kernel
theorem dX13_undo_5 : decode cX13_undo 5 = .ok (.aload_n 0, 1) := by decide +kernel
theorem dX13_undo_6 : decode cX13_undo 6 = .ok (.getfield 234, 3) := by decide +kernel
theorem dX13_undo_9 : decode cX13_undo 9 = .ok (.ifCond .ne 5, 3) := by decide +kernel
theorem dX13_undo_12 : decode cX13_undo 12 = .ok (.iconst (-1), 1) := by decide +kernel
theorem dX13_undo_13 : decode cX13_undo 13 = .ok (.ireturn, 1) := by decide +kernel
theorem dX13_undo_14 : decode cX13_undo 14 = .ok (.aload_n 0, 1) := by decide +kernel
theorem dX13_undo_15 : decode cX13_undo 15 = .ok (.dup, 1) := by decide +kernel
theorem dX13_undo_16 : decode cX13_undo 16 = .ok (.getfield 234, 3) := by decide +kernel
theorem dX13_undo_19 : decode cX13_undo 19 = .ok (.iconst 1, 1) := by decide +kernel
theorem dX13_undo_20 : decode cX13_undo 20 = .ok (.isub, 1) := by decide +kernel
theorem dX13_undo_21 : decode cX13_undo 21 = .ok (.putfield 234, 3) := by decide +kernel
theorem dX13_undo_24 : decode cX13_undo 24 = .ok (.aload_n 0, 1) := by decide +kernel
theorem dX13_undo_25 : decode cX13_undo 25 = .ok (.dup, 1) := by decide +kernel
theorem dX13_undo_26 : decode cX13_undo 26 = .ok (.getfield 229, 3) := by decide +kernel
theorem dX13_undo_29 : decode cX13_undo 29 = .ok (.iconst 1, 1) := by decide +kernel
theorem dX13_undo_30 : decode cX13_undo 30 = .ok (.isub, 1) := by decide +kernel
theorem dX13_undo_31 : decode cX13_undo 31 = .ok (.putfield 229, 3) := by decide +kernel
theorem dX13_undo_34 : decode cX13_undo 34 = .ok (.aload_n 0, 1) := by decide +kernel
theorem dX13_undo_35 : decode cX13_undo 35 = .ok (.getfield 229, 3) := by decide +kernel
theorem dX13_undo_38 : decode cX13_undo 38 = .ok (.bipush 21, 2) := by decide +kernel
theorem dX13_undo_40 : decode cX13_undo 40 = .ok (.irem, 1) := by decide +kernel
theorem dX13_undo_41 : decode cX13_undo 41 = .ok (.istore_n 1, 1) := by decide +kernel
theorem dX13_undo_42 : decode cX13_undo 42 = .ok (.aload_n 0, 1) := by decide +kernel
theorem dX13_undo_43 : decode cX13_undo 43 = .ok (.aload_n 0, 1) := by decide +kernel
theorem dX13_undo_44 : decode cX13_undo 44 = .ok (.getfield 96, 3) := by decide +kernel
theorem dX13_undo_47 : decode cX13_undo 47 = .ok (.iload_n 1, 1) := by decide +kernel
theorem dX13_undo_48 : decode cX13_undo 48 = .ok (.iaload, 1) := by decide +kernel
theorem dX13_undo_49 : decode cX13_undo 49 = .ok (.putfield 232, 3) := by decide +kernel
theorem dX13_undo_52 : decode cX13_undo 52 = .ok (.iconst 0, 1) := by decide +kernel
theorem dX13_undo_53 : decode cX13_undo 53 = .ok (.istore_n 2, 1) := by decide +kernel
theorem dX13_undo_54 : decode cX13_undo 54 = .ok (.iload_n 2, 1) := by decide +kernel
theorem dX13_undo_55 : decode cX13_undo 55 = .ok (.aload_n 0, 1) := by decide +kernel
theorem dX13_undo_56 : decode cX13_undo 56 = .ok (.getfield 232, 3) := by decide +kernel
theorem dX13_undo_59 : decode cX13_undo 59 = .ok (.if_icmp .ge 26, 3) := by decide +kernel
theorem dX13_undo_62 : decode cX13_undo 62 = .ok (.aload_n 0, 1) := by decide +kernel
theorem dX13_undo_63 : decode cX13_undo 63 = .ok (.getfield 90, 3) := by decide +kernel
theorem dX13_undo_66 : decode cX13_undo 66 = .ok (.iload_n 2, 1) := by decide +kernel
theorem dX13_undo_67 : decode cX13_undo 67 = .ok (.aload_n 0, 1) := by decide +kernel
theorem dX13_undo_68 : decode cX13_undo 68 = .ok (.getfield 93, 3) := by decide +kernel
theorem dX13_undo_71 : decode cX13_undo 71 = .ok (.bipush 120, 2) := by decide +kernel
theorem dX13_undo_73 : decode cX13_undo 73 = .ok (.iload_n 1, 1) := by decide +kernel
theorem dX13_undo_74 : decode cX13_undo 74 = .ok (.imul, 1) := by decide +kernel
theorem dX13_undo_75 : decode cX13_undo 75 = .ok (.iload_n 2, 1) := by decide +kernel
theorem dX13_undo_76 : decode cX13_undo 76 = .ok (.iadd, 1) := by decide +kernel
theorem dX13_undo_77 : decode cX13_undo 77 = .ok (.iaload, 1) := by decide +kernel
theorem dX13_undo_78 : decode cX13_undo 78 = .ok (.iastore, 1) := by decide +kernel
theorem dX13_undo_79 : decode cX13_undo 79 = .ok (.iinc 2 1, 3) := by decide +kernel
theorem dX13_undo_82 : decode cX13_undo 82 = .ok (.goto (-28), 3) := by decide +kernel
theorem dX13_undo_85 : decode cX13_undo 85 = .ok (.aload_n 0, 1) := by decide +kernel
theorem dX13_undo_86 : decode cX13_undo 86 = .ok (.getfield 232, 3) := by decide +kernel
theorem dX13_undo_89 : decode cX13_undo 89 = .ok (.ireturn, 1) := by decide +kernel
theorem dX13_letter_0 : decode cX13_letter 0 = .ok (.aload_n 0, 1) := by decide +kernel
theorem dX13_letter_1 : decode cX13_letter 1 = .ok (.iconst 0, 1) := by decide +kernel
theorem dX13_letter_2 : decode cX13_letter 2 = .ok (.putfield 99, 3) := by decide +kernel
theorem dX13_letter_5 : decode cX13_letter 5 = .ok (.iload_n 1, 1) := by decide +kernel
theorem dX13_letter_6 : decode cX13_letter 6 = .ok (.iconst (-1), 1) := by decide +kernel
theorem dX13_letter_7 : decode cX13_letter 7 = .ok (.if_icmp .ne 8, 3) := by decide +kernel
theorem dX13_letter_10 : decode cX13_letter 10 = .ok (.aload_n 0, 1) := by decide +kernel
theorem dX13_letter_11 : decode cX13_letter 11 = .ok (.getfield 232, 3) := by decide +kernel
theorem dX13_letter_14 : decode cX13_letter 14 = .ok (.ireturn, 1) := by decide +kernel
theorem dX13_letter_15 : decode cX13_letter 15 = .ok (.iload_n 1, 1) := by decide +kernel
theorem dX13_letter_16 : decode cX13_letter 16 = .ok (.bipush (-2), 2) := by decide +kernel
theorem dX13_letter_18 : decode cX13_letter 18 = .ok (.if_icmp .ne 35, 3) := by decide +kernel
theorem dX13_letter_21 : decode cX13_letter 21 = .ok (.iconst 0, 1) := by decide +kernel
theorem dX13_letter_22 : decode cX13_letter 22 = .ok (.istore_n 2, 1) := by decide +kernel
theorem dX13_letter_23 : decode cX13_letter 23 = .ok (.iconst 0, 1) := by decide +kernel
theorem dX13_letter_24 : decode cX13_letter 24 = .ok (.istore_n 3, 1) := by decide +kernel
theorem dX13_letter_25 : decode cX13_letter 25 = .ok (.iload_n 3, 1) := by decide +kernel
theorem dX13_letter_26 : decode cX13_letter 26 = .ok (.aload_n 0, 1) := by decide +kernel
theorem dX13_letter_27 : decode cX13_letter 27 = .ok (.getfield 232, 3) := by decide +kernel
theorem dX13_letter_30 : decode cX13_letter 30 = .ok (.if_icmp .ge 21, 3) := by decide +kernel
theorem dX13_letter_33 : decode cX13_letter 33 = .ok (.bipush 31, 2) := by decide +kernel
theorem dX13_letter_35 : decode cX13_letter 35 = .ok (.iload_n 2, 1) := by decide +kernel
theorem dX13_letter_36 : decode cX13_letter 36 = .ok (.imul, 1) := by decide +kernel
theorem dX13_letter_37 : decode cX13_letter 37 = .ok (.aload_n 0, 1) := by decide +kernel
theorem dX13_letter_38 : decode cX13_letter 38 = .ok (.getfield 90, 3) := by decide +kernel
theorem dX13_letter_41 : decode cX13_letter 41 = .ok (.iload_n 3, 1) := by decide +kernel
theorem dX13_letter_42 : decode cX13_letter 42 = .ok (.iaload, 1) := by decide +kernel
theorem dX13_letter_43 : decode cX13_letter 43 = .ok (.iadd, 1) := by decide +kernel
theorem dX13_letter_44 : decode cX13_letter 44 = .ok (.istore_n 2, 1) := by decide +kernel
theorem dX13_letter_45 : decode cX13_letter 45 = .ok (.iinc 3 1, 3) := by decide +kernel
theorem dX13_letter_48 : decode cX13_letter 48 = .ok (.goto (-23), 3) := by decide +kernel
theorem dX13_letter_51 : decode cX13_letter 51 = .ok (.iload_n 2, 1) := by decide +kernel
theorem dX13_letter_52 : decode cX13_letter 52 = .ok (.ireturn, 1) := by decide +kernel
theorem dX13_letter_53 : decode cX13_letter 53 = .ok (.iload_n 1, 1) := by decide +kernel
theorem dX13_letter_54 : decode cX13_letter 54 = .ok (.ifCond .lt 11, 3) := by decide +kernel
theorem dX13_letter_57 : decode cX13_letter 57 = .ok (.iload_n 1, 1) := by decide +kernel
theorem dX13_letter_58 : decode cX13_letter 58 = .ok (.aload_n 0, 1) := by decide +kernel
theorem dX13_letter_59 : decode cX13_letter 59 = .ok (.getfield 232, 3) := by decide +kernel
theorem dX13_letter_62 : decode cX13_letter 62 = .ok (.if_icmp .lt 7, 3) := by decide +kernel
theorem dX13_letter_65 : decode cX13_letter 65 = .ok (.iconst (-1), 1) := by decide +kernel
theorem dX13_letter_66 : decode cX13_letter 66 = .ok (.goto 9, 3) := by decide +kernel
theorem dX13_letter_69 : decode cX13_letter 69 = .ok (.aload_n 0, 1) := by decide +kernel
theorem dX13_letter_70 : decode cX13_letter 70 = .ok (.getfield 90, 3) := by decide +kernel
theorem dX13_letter_73 : decode cX13_letter 73 = .ok (.iload_n 1, 1) := by decide +kernel
theorem dX13_letter_74 : decode cX13_letter 74 = .ok (.iaload, 1) := by decide +kernel
theorem dX13_letter_75 : decode cX13_letter 75 = .ok (.ireturn, 1) := by decide +kernel
theorem dX13_suffix_0 : decode cX13_suffix 0 = .ok (.aload_n 0, 1) := by decide +kernel
theorem dX13_suffix_1 : decode cX13_suffix 1 = .ok (.iconst 0, 1) := by decide +kernel
theorem dX13_suffix_2 : decode cX13_suffix 2 = .ok (.putfield 99, 3) := by decide +kernel
theorem dX13_suffix_5 : decode cX13_suffix 5 = .ok (.iload_n 1, 1) := by decide +kernel
theorem dX13_suffix_6 : decode cX13_suffix 6 = .ok (.ifCond .lt 20, 3) := by decide +kernel
theorem dX13_suffix_9 : decode cX13_suffix 9 = .ok (.iload_n 1, 1) := by decide +kernel
theorem dX13_suffix_10 : decode cX13_suffix 10 = .ok (.aload_n 0, 1) := by decide +kernel
theorem dX13_suffix_11 : decode cX13_suffix 11 = .ok (.getfield 232, 3) := by decide +kernel
theorem dX13_suffix_14 : decode cX13_suffix 14 = .ok (.if_icmp .ge 12, 3) := by decide +kernel
theorem dX13_suffix_17 : decode cX13_suffix 17 = .ok (.iload_n 2, 1) := by decide +kernel
theorem dX13_suffix_18 : decode cX13_suffix 18 = .ok (.ifCond .lt 8, 3) := by decide +kernel
theorem dX13_suffix_21 : decode cX13_suffix 21 = .ok (.iload_n 2, 1) := by decide +kernel
theorem dX13_suffix_22 : decode cX13_suffix 22 = .ok (.iconst 1, 1) := by decide +kernel
theorem dX13_suffix_23 : decode cX13_suffix 23 = .ok (.if_icmp .le 5, 3) := by decide +kernel
theorem dX13_suffix_26 : decode cX13_suffix 26 = .ok (.iconst (-1), 1) := by decide +kernel
theorem dX13_suffix_27 : decode cX13_suffix 27 = .ok (.ireturn, 1) := by decide +kernel
theorem dX13_suffix_28 : decode cX13_suffix 28 = .ok (.aload_n 0, 1) := by decide +kernel
theorem dX13_suffix_29 : decode cX13_suffix 29 = .ok (.iload_n 1, 1) := by decide +kernel
theorem dX13_suffix_30 : decode cX13_suffix 30 = .ok (.invokevirtual 240, 3) := by decide +kernel
theorem dX13_suffix_33 : decode cX13_suffix 33 = .ok (.istore_n 3, 1) := by decide +kernel
theorem dX13_suffix_34 : decode cX13_suffix 34 = .ok (.iload_n 2, 1) := by decide +kernel
theorem dX13_suffix_35 : decode cX13_suffix 35 = .ok (.ifCond .ne 5, 3) := by decide +kernel
theorem dX13_suffix_38 : decode cX13_suffix 38 = .ok (.iload_n 3, 1) := by decide +kernel
theorem dX13_suffix_39 : decode cX13_suffix 39 = .ok (.ireturn, 1) := by decide +kernel
theorem dX13_suffix_40 : decode cX13_suffix 40 = .ok (.iload_n 1, 1) := by decide +kernel
theorem dX13_suffix_41 : decode cX13_suffix 41 = .ok (.ifCond .ne 5, 3) := by decide +kernel
theorem dX13_suffix_44 : decode cX13_suffix 44 = .ok (.iconst 0, 1) := by decide +kernel
theorem dX13_suffix_45 : decode cX13_suffix 45 = .ok (.ireturn, 1) := by decide +kernel
theorem dX13_suffix_46 : decode cX13_suffix 46 = .ok (.aload_n 0, 1) := by decide +kernel
theorem dX13_suffix_47 : decode cX13_suffix 47 = .ok (.iload_n 1, 1) := by decide +kernel
theorem dX13_suffix_48 : decode cX13_suffix 48 = .ok (.iconst 1, 1) := by decide +kernel
theorem dX13_suffix_49 : decode cX13_suffix 49 = .ok (.isub, 1) := by decide +kernel
theorem dX13_suffix_50 : decode cX13_suffix 50 = .ok (.invokevirtual 240, 3) := by decide +kernel
theorem dX13_suffix_53 : decode cX13_suffix 53 = .ok (.istore 4, 2) := by decide +kernel
theorem dX13_suffix_55 : decode cX13_suffix 55 = .ok (.iconst 0, 1) := by decide +kernel
theorem dX13_suffix_56 : decode cX13_suffix 56 = .ok (.istore 5, 2) := by decide +kernel
theorem dX13_suffix_58 : decode cX13_suffix 58 = .ok (.iload_n 3, 1) := by decide +kernel
theorem dX13_suffix_59 : decode cX13_suffix 59 = .ok (.iload 5, 2) := by decide +kernel
theorem dX13_suffix_61 : decode cX13_suffix 61 = .ok (.iadd, 1) := by decide +kernel
theorem dX13_suffix_62 : decode cX13_suffix 62 = .ok (.aload_n 0, 1) := by decide +kernel
theorem dX13_suffix_63 : decode cX13_suffix 63 = .ok (.getfield 232, 3) := by decide +kernel
theorem dX13_suffix_66 : decode cX13_suffix 66 = .ok (.if_icmp .ge 43, 3) := by decide +kernel
theorem dX13_suffix_69 : decode cX13_suffix 69 = .ok (.iload 4, 2) := by decide +kernel
theorem dX13_suffix_71 : decode cX13_suffix 71 = .ok (.iload 5, 2) := by decide +kernel
theorem dX13_suffix_73 : decode cX13_suffix 73 = .ok (.iadd, 1) := by decide +kernel
theorem dX13_suffix_74 : decode cX13_suffix 74 = .ok (.aload_n 0, 1) := by decide +kernel
theorem dX13_suffix_75 : decode cX13_suffix 75 = .ok (.getfield 232, 3) := by decide +kernel
theorem dX13_suffix_78 : decode cX13_suffix 78 = .ok (.if_icmp .ge 31, 3) := by decide +kernel
theorem dX13_suffix_81 : decode cX13_suffix 81 = .ok (.aload_n 0, 1) := by decide +kernel
theorem dX13_suffix_82 : decode cX13_suffix 82 = .ok (.getfield 90, 3) := by decide +kernel
theorem dX13_suffix_85 : decode cX13_suffix 85 = .ok (.iload_n 3, 1) := by decide +kernel
theorem dX13_suffix_86 : decode cX13_suffix 86 = .ok (.iload 5, 2) := by decide +kernel
theorem dX13_suffix_88 : decode cX13_suffix 88 = .ok (.iadd, 1) := by decide +kernel
theorem dX13_suffix_89 : decode cX13_suffix 89 = .ok (.iaload, 1) := by decide +kernel
theorem dX13_suffix_90 : decode cX13_suffix 90 = .ok (.aload_n 0, 1) := by decide +kernel
theorem dX13_suffix_91 : decode cX13_suffix 91 = .ok (.getfield 90, 3) := by decide +kernel
theorem dX13_suffix_94 : decode cX13_suffix 94 = .ok (.iload 4, 2) := by decide +kernel
theorem dX13_suffix_96 : decode cX13_suffix 96 = .ok (.iload 5, 2) := by decide +kernel
theorem dX13_suffix_98 : decode cX13_suffix 98 = .ok (.iadd, 1) := by decide +kernel
theorem dX13_suffix_99 : decode cX13_suffix 99 = .ok (.iaload, 1) := by decide +kernel
theorem dX13_suffix_100 : decode cX13_suffix 100 = .ok (.if_icmp .ne 9, 3) := by decide +kernel
theorem dX13_suffix_103 : decode cX13_suffix 103 = .ok (.iinc 5 1, 3) := by decide +kernel
theorem dX13_suffix_106 : decode cX13_suffix 106 = .ok (.goto (-48), 3) := by decide +kernel
theorem dX13_suffix_109 : decode cX13_suffix 109 = .ok (.iload 5, 2) := by decide +kernel
theorem dX13_suffix_111 : decode cX13_suffix 111 = .ok (.ireturn, 1) := by decide +kernel
theorem dX13_begin_0 : decode cX13_begin 0 = .ok (.iconst 0, 1) := by decide +kernel
theorem dX13_begin_1 : decode cX13_begin 1 = .ok (.istore_n 2, 1) := by decide +kernel
theorem dX13_begin_2 : decode cX13_begin 2 = .ok (.iload_n 2, 1) := by decide +kernel
theorem dX13_begin_3 : decode cX13_begin 3 = .ok (.aload_n 0, 1) := by decide +kernel
theorem dX13_begin_4 : decode cX13_begin 4 = .ok (.getfield 232, 3) := by decide +kernel
theorem dX13_begin_7 : decode cX13_begin 7 = .ok (.if_icmp .ge 74, 3) := by decide +kernel
theorem dX13_begin_10 : decode cX13_begin 10 = .ok (.iconst 0, 1) := by decide +kernel
theorem dX13_begin_11 : decode cX13_begin 11 = .ok (.istore_n 3, 1) := by decide +kernel
theorem dX13_begin_12 : decode cX13_begin 12 = .ok (.iconst 0, 1) := by decide +kernel
theorem dX13_begin_13 : decode cX13_begin 13 = .ok (.istore 4, 2) := by decide +kernel
theorem dX13_begin_15 : decode cX13_begin 15 = .ok (.iload 4, 2) := by decide +kernel
theorem dX13_begin_17 : decode cX13_begin 17 = .ok (.aload_n 0, 1) := by decide +kernel
theorem dX13_begin_18 : decode cX13_begin 18 = .ok (.getfield 232, 3) := by decide +kernel
theorem dX13_begin_21 : decode cX13_begin 21 = .ok (.if_icmp .ge 47, 3) := by decide +kernel
theorem dX13_begin_24 : decode cX13_begin 24 = .ok (.iload_n 3, 1) := by decide +kernel
theorem dX13_begin_25 : decode cX13_begin 25 = .ok (.aload_n 0, 1) := by decide +kernel
theorem dX13_begin_26 : decode cX13_begin 26 = .ok (.getfield 90, 3) := by decide +kernel
theorem dX13_begin_29 : decode cX13_begin 29 = .ok (.iload 4, 2) := by decide +kernel
theorem dX13_begin_31 : decode cX13_begin 31 = .ok (.aload_n 0, 1) := by decide +kernel
theorem dX13_begin_32 : decode cX13_begin 32 = .ok (.getfield 232, 3) := by decide +kernel
theorem dX13_begin_35 : decode cX13_begin 35 = .ok (.iload 4, 2) := by decide +kernel
theorem dX13_begin_37 : decode cX13_begin 37 = .ok (.isub, 1) := by decide +kernel
theorem dX13_begin_38 : decode cX13_begin 38 = .ok (.aload_n 0, 1) := by decide +kernel
theorem dX13_begin_39 : decode cX13_begin 39 = .ok (.getfield 90, 3) := by decide +kernel
theorem dX13_begin_42 : decode cX13_begin 42 = .ok (.iload_n 2, 1) := by decide +kernel
theorem dX13_begin_43 : decode cX13_begin 43 = .ok (.aload_n 0, 1) := by decide +kernel
theorem dX13_begin_44 : decode cX13_begin 44 = .ok (.getfield 232, 3) := by decide +kernel
theorem dX13_begin_47 : decode cX13_begin 47 = .ok (.iload_n 2, 1) := by decide +kernel
theorem dX13_begin_48 : decode cX13_begin 48 = .ok (.isub, 1) := by decide +kernel
theorem dX13_begin_49 : decode cX13_begin 49 = .ok (.invokestatic 106, 3) := by decide +kernel
theorem dX13_begin_52 : decode cX13_begin 52 = .ok (.ifCond .ge 7, 3) := by decide +kernel
theorem dX13_begin_55 : decode cX13_begin 55 = .ok (.iconst 1, 1) := by decide +kernel
theorem dX13_begin_56 : decode cX13_begin 56 = .ok (.goto 4, 3) := by decide +kernel
theorem dX13_begin_59 : decode cX13_begin 59 = .ok (.iconst 0, 1) := by decide +kernel
theorem dX13_begin_60 : decode cX13_begin 60 = .ok (.iadd, 1) := by decide +kernel
theorem dX13_begin_61 : decode cX13_begin 61 = .ok (.istore_n 3, 1) := by decide +kernel
theorem dX13_begin_62 : decode cX13_begin 62 = .ok (.iinc 4 1, 3) := by decide +kernel
theorem dX13_begin_65 : decode cX13_begin 65 = .ok (.goto (-50), 3) := by decide +kernel
theorem dX13_begin_68 : decode cX13_begin 68 = .ok (.iload_n 3, 1) := by decide +kernel
theorem dX13_begin_69 : decode cX13_begin 69 = .ok (.iload_n 1, 1) := by decide +kernel
theorem dX13_begin_70 : decode cX13_begin 70 = .ok (.if_icmp .ne 5, 3) := by decide +kernel
theorem dX13_begin_73 : decode cX13_begin 73 = .ok (.iload_n 2, 1) := by decide +kernel
theorem dX13_begin_74 : decode cX13_begin 74 = .ok (.ireturn, 1) := by decide +kernel
theorem dX13_begin_75 : decode cX13_begin 75 = .ok (.iinc 2 1, 3) := by decide +kernel
theorem dX13_begin_78 : decode cX13_begin 78 = .ok (.goto (-76), 3) := by decide +kernel
theorem dX13_begin_81 : decode cX13_begin 81 = .ok (.iconst (-1), 1) := by decide +kernel
theorem dX13_begin_82 : decode cX13_begin 82 = .ok (.ireturn, 1) := by decide +kernel
theorem dX13_locate_0 : decode cX13_locate 0 = .ok (.aload_n 0, 1) := by decide +kernel
theorem dX13_locate_1 : decode cX13_locate 1 = .ok (.iconst 0, 1) := by decide +kernel
theorem dX13_locate_2 : decode cX13_locate 2 = .ok (.putfield 99, 3) := by decide +kernel
theorem dX13_locate_5 : decode cX13_locate 5 = .ok (.iload_n 1, 1) := by decide +kernel
theorem dX13_locate_6 : decode cX13_locate 6 = .ok (.ifCond .eq 10, 3) := by decide +kernel
theorem dX13_locate_9 : decode cX13_locate 9 = .ok (.iload_n 1, 1) := by decide +kernel
theorem dX13_locate_10 : decode cX13_locate 10 = .ok (.iconst 1, 1) := by decide +kernel
theorem dX13_locate_11 : decode cX13_locate 11 = .ok (.if_icmp .eq 5, 3) := by decide +kernel
theorem dX13_locate_14 : decode cX13_locate 14 = .ok (.iconst (-1), 1) := by decide +kernel
theorem dX13_locate_15 : decode cX13_locate 15 = .ok (.ireturn, 1) := by decide +kernel
theorem dX13_locate_16 : decode cX13_locate 16 = .ok (.aload_n 0, 1) := by decide +kernel
theorem dX13_locate_17 : decode cX13_locate 17 = .ok (.getfield 102, 3) := by decide +kernel
theorem dX13_locate_20 : decode cX13_locate 20 = .ok (.istore_n 2, 1) := by decide +kernel
theorem dX13_locate_21 : decode cX13_locate 21 = .ok (.aload_n 0, 1) := by decide +kernel
theorem dX13_locate_22 : decode cX13_locate 22 = .ok (.iconst 0, 1) := by decide +kernel
theorem dX13_locate_23 : decode cX13_locate 23 = .ok (.putfield 102, 3) := by decide +kernel
theorem dX13_locate_26 : decode cX13_locate 26 = .ok (.iconst 0, 1) := by decide +kernel
theorem dX13_locate_27 : decode cX13_locate 27 = .ok (.istore_n 3, 1) := by decide +kernel
theorem dX13_locate_28 : decode cX13_locate 28 = .ok (.iconst 0, 1) := by decide +kernel
theorem dX13_locate_29 : decode cX13_locate 29 = .ok (.istore 4, 2) := by decide +kernel
theorem dX13_locate_31 : decode cX13_locate 31 = .ok (.iload 4, 2) := by decide +kernel
theorem dX13_locate_33 : decode cX13_locate 33 = .ok (.aload_n 0, 1) := by decide +kernel
theorem dX13_locate_34 : decode cX13_locate 34 = .ok (.getfield 232, 3) := by decide +kernel
theorem dX13_locate_37 : decode cX13_locate 37 = .ok (.if_icmp .ge 42, 3) := by decide +kernel
theorem dX13_locate_40 : decode cX13_locate 40 = .ok (.iload_n 3, 1) := by decide +kernel
theorem dX13_locate_41 : decode cX13_locate 41 = .ok (.aload_n 0, 1) := by decide +kernel
theorem dX13_locate_42 : decode cX13_locate 42 = .ok (.getfield 90, 3) := by decide +kernel
theorem dX13_locate_45 : decode cX13_locate 45 = .ok (.iload 4, 2) := by decide +kernel
theorem dX13_locate_47 : decode cX13_locate 47 = .ok (.aload_n 0, 1) := by decide +kernel
theorem dX13_locate_48 : decode cX13_locate 48 = .ok (.getfield 232, 3) := by decide +kernel
theorem dX13_locate_51 : decode cX13_locate 51 = .ok (.iload 4, 2) := by decide +kernel
theorem dX13_locate_53 : decode cX13_locate 53 = .ok (.isub, 1) := by decide +kernel
theorem dX13_locate_54 : decode cX13_locate 54 = .ok (.aload_n 0, 1) := by decide +kernel
theorem dX13_locate_55 : decode cX13_locate 55 = .ok (.getfield 7, 3) := by decide +kernel
theorem dX13_locate_58 : decode cX13_locate 58 = .ok (.iconst 0, 1) := by decide +kernel
theorem dX13_locate_59 : decode cX13_locate 59 = .ok (.iload_n 2, 1) := by decide +kernel
theorem dX13_locate_60 : decode cX13_locate 60 = .ok (.invokestatic 110, 3) := by decide +kernel
theorem dX13_locate_63 : decode cX13_locate 63 = .ok (.ifCond .eq 7, 3) := by decide +kernel
theorem dX13_locate_66 : decode cX13_locate 66 = .ok (.iconst 1, 1) := by decide +kernel
theorem dX13_locate_67 : decode cX13_locate 67 = .ok (.goto 4, 3) := by decide +kernel
theorem dX13_locate_70 : decode cX13_locate 70 = .ok (.iconst 0, 1) := by decide +kernel
theorem dX13_locate_71 : decode cX13_locate 71 = .ok (.iadd, 1) := by decide +kernel
theorem dX13_locate_72 : decode cX13_locate 72 = .ok (.istore_n 3, 1) := by decide +kernel
theorem dX13_locate_73 : decode cX13_locate 73 = .ok (.iinc 4 1, 3) := by decide +kernel
theorem dX13_locate_76 : decode cX13_locate 76 = .ok (.goto (-45), 3) := by decide +kernel
theorem dX13_locate_79 : decode cX13_locate 79 = .ok (.iload_n 1, 1) := by decide +kernel
theorem dX13_locate_80 : decode cX13_locate 80 = .ok (.ifCond .ne 5, 3) := by decide +kernel
theorem dX13_locate_83 : decode cX13_locate 83 = .ok (.iload_n 3, 1) := by decide +kernel
theorem dX13_locate_84 : decode cX13_locate 84 = .ok (.ireturn, 1) := by decide +kernel
theorem dX13_locate_85 : decode cX13_locate 85 = .ok (.iconst 0, 1) := by decide +kernel
theorem dX13_locate_86 : decode cX13_locate 86 = .ok (.istore 4, 2) := by decide +kernel
theorem dX13_locate_88 : decode cX13_locate 88 = .ok (.iload 4, 2) := by decide +kernel
theorem dX13_locate_90 : decode cX13_locate 90 = .ok (.aload_n 0, 1) := by decide +kernel
theorem dX13_locate_91 : decode cX13_locate 91 = .ok (.getfield 232, 3) := by decide +kernel
theorem dX13_locate_94 : decode cX13_locate 94 = .ok (.if_icmp .ge 49, 3) := by decide +kernel
theorem dX13_locate_97 : decode cX13_locate 97 = .ok (.iload_n 3, 1) := by decide +kernel
theorem dX13_locate_98 : decode cX13_locate 98 = .ok (.ifCond .le 45, 3) := by decide +kernel
theorem dX13_locate_101 : decode cX13_locate 101 = .ok (.aload_n 0, 1) := by decide +kernel
theorem dX13_locate_102 : decode cX13_locate 102 = .ok (.getfield 90, 3) := by decide +kernel
theorem dX13_locate_105 : decode cX13_locate 105 = .ok (.aload_n 0, 1) := by decide +kernel
theorem dX13_locate_106 : decode cX13_locate 106 = .ok (.iload 4, 2) := by decide +kernel
theorem dX13_locate_108 : decode cX13_locate 108 = .ok (.invokevirtual 240, 3) := by decide +kernel
theorem dX13_locate_111 : decode cX13_locate 111 = .ok (.aload_n 0, 1) := by decide +kernel
theorem dX13_locate_112 : decode cX13_locate 112 = .ok (.getfield 232, 3) := by decide +kernel
theorem dX13_locate_115 : decode cX13_locate 115 = .ok (.aload_n 0, 1) := by decide +kernel
theorem dX13_locate_116 : decode cX13_locate 116 = .ok (.iload 4, 2) := by decide +kernel
theorem dX13_locate_118 : decode cX13_locate 118 = .ok (.invokevirtual 240, 3) := by decide +kernel
theorem dX13_locate_121 : decode cX13_locate 121 = .ok (.isub, 1) := by decide +kernel
theorem dX13_locate_122 : decode cX13_locate 122 = .ok (.aload_n 0, 1) := by decide +kernel
theorem dX13_locate_123 : decode cX13_locate 123 = .ok (.getfield 7, 3) := by decide +kernel
theorem dX13_locate_126 : decode cX13_locate 126 = .ok (.iconst 0, 1) := by decide +kernel
theorem dX13_locate_127 : decode cX13_locate 127 = .ok (.iload_n 2, 1) := by decide +kernel
theorem dX13_locate_128 : decode cX13_locate 128 = .ok (.invokestatic 110, 3) := by decide +kernel
theorem dX13_locate_131 : decode cX13_locate 131 = .ok (.ifCond .eq 6, 3) := by decide +kernel
theorem dX13_locate_134 : decode cX13_locate 134 = .ok (.iload 4, 2) := by decide +kernel
theorem dX13_locate_136 : decode cX13_locate 136 = .ok (.ireturn, 1) := by decide +kernel
theorem dX13_locate_137 : decode cX13_locate 137 = .ok (.iinc 4 1, 3) := by decide +kernel
theorem dX13_locate_140 : decode cX13_locate 140 = .ok (.goto (-52), 3) := by decide +kernel
theorem dX13_locate_143 : decode cX13_locate 143 = .ok (.iconst (-1), 1) := by decide +kernel
theorem dX13_locate_144 : decode cX13_locate 144 = .ok (.ireturn, 1) := by decide +kernel
theorem dJ0_init_0 : decode cJ0_init 0 = .ok (.aload_n 0, 1) := by decide +kernel
theorem dJ0_init_1 : decode cJ0_init 1 = .ok (.invokespecial 1, 3) := by decide +kernel
theorem dJ0_init_4 : decode cJ0_init 4 = .ok (.aload_n 0, 1) := by decide +kernel
theorem dJ0_init_5 : decode cJ0_init 5 = .ok (.aload_n 0, 1) := by decide +kernel
theorem dJ0_init_6 : decode cJ0_init 6 = .ok (.putfield 7, 3) := by decide +kernel
theorem dJ0_init_9 : decode cJ0_init 9 = .ok (.aload_n 0, 1) := by decide +kernel
theorem dJ0_init_10 : decode cJ0_init 10 = .ok (.getstatic 13, 3) := by decide +kernel
theorem dJ0_init_13 : decode cJ0_init 13 = .ok (.putfield 17, 3) := by decide +kernel
theorem dJ0_init_16 : decode cJ0_init 16 = .ok (.aload_n 0, 1) := by decide +kernel
theorem dJ0_init_17 : decode cJ0_init 17 = .ok (.getstatic 20, 3) := by decide +kernel
theorem dJ0_init_20 : decode cJ0_init 20 = .ok (.putfield 24, 3) := by decide +kernel
theorem dJ0_init_23 : decode cJ0_init 23 = .ok (.aload_n 0, 1) := by decide +kernel
theorem dJ0_init_24 : decode cJ0_init 24 = .ok (.invokevirtual 27, 3) := by decide +kernel
theorem dJ0_init_27 : decode cJ0_init 27 = .ok (.pop, 1) := by decide +kernel
theorem dJ0_init_28 : decode cJ0_init 28 = .ok (.aload_n 0, 1) := by decide +kernel
theorem dJ0_init_29 : decode cJ0_init 29 = .ok (.aload_n 1, 1) := by decide +kernel
theorem dJ0_init_30 : decode cJ0_init 30 = .ok (.putfield 31, 3) := by decide +kernel
theorem dJ0_init_33 : decode cJ0_init 33 = .ok (.return_, 1) := by decide +kernel
theorem dJ0_init_2_0 : decode cJ0_init_2 0 = .ok (.aload_n 0, 1) := by decide +kernel
theorem dJ0_init_2_1 : decode cJ0_init_2 1 = .ok (.invokespecial 1, 3) := by decide +kernel
theorem dJ0_init_2_4 : decode cJ0_init_2 4 = .ok (.aload_n 0, 1) := by decide +kernel
theorem dJ0_init_2_5 : decode cJ0_init_2 5 = .ok (.aload_n 0, 1) := by decide +kernel
theorem dJ0_init_2_6 : decode cJ0_init_2 6 = .ok (.putfield 7, 3) := by decide +kernel
theorem dJ0_init_2_9 : decode cJ0_init_2 9 = .ok (.aload_n 0, 1) := by decide +kernel
theorem dJ0_init_2_10 : decode cJ0_init_2 10 = .ok (.getstatic 13, 3) := by decide +kernel
theorem dJ0_init_2_13 : decode cJ0_init_2 13 = .ok (.putfield 17, 3) := by decide +kernel
theorem dJ0_init_2_16 : decode cJ0_init_2 16 = .ok (.aload_n 0, 1) := by decide +kernel
theorem dJ0_init_2_17 : decode cJ0_init_2 17 = .ok (.getstatic 20, 3) := by decide +kernel
theorem dJ0_init_2_20 : decode cJ0_init_2 20 = .ok (.putfield 24, 3) := by decide +kernel
theorem dJ0_init_2_23 : decode cJ0_init_2 23 = .ok (.aload_n 0, 1) := by decide +kernel
theorem dJ0_init_2_24 : decode cJ0_init_2 24 = .ok (.invokevirtual 27, 3) := by decide +kernel
theorem dJ0_init_2_27 : decode cJ0_init_2 27 = .ok (.pop, 1) := by decide +kernel
theorem dJ0_init_2_28 : decode cJ0_init_2 28 = .ok (.return_, 1) := by decide +kernel
theorem dJ1_init_0 : decode cJ1_init 0 = .ok (.aload_n 0, 1) := by decide +kernel
theorem dJ1_init_1 : decode cJ1_init 1 = .ok (.aload_n 1, 1) := by decide +kernel
theorem dJ1_init_2 : decode cJ1_init 2 = .ok (.invokespecial 7, 3) := by decide +kernel
theorem dJ1_init_5 : decode cJ1_init 5 = .ok (.return_, 1) := by decide +kernel
theorem dJ2_init_0 : decode cJ2_init 0 = .ok (.aload_n 0, 1) := by decide +kernel
theorem dJ2_init_1 : decode cJ2_init 1 = .ok (.aload_n 1, 1) := by decide +kernel
theorem dJ2_init_2 : decode cJ2_init 2 = .ok (.invokespecial 7, 3) := by decide +kernel
theorem dJ2_init_5 : decode cJ2_init 5 = .ok (.return_, 1) := by decide +kernel
theorem dJ3_init_0 : decode cJ3_init 0 = .ok (.aload_n 0, 1) := by decide +kernel
theorem dJ3_init_1 : decode cJ3_init 1 = .ok (.aload_n 1, 1) := by decide +kernel
theorem dJ3_init_2 : decode cJ3_init 2 = .ok (.invokespecial 7, 3) := by decide +kernel
theorem dJ3_init_5 : decode cJ3_init 5 = .ok (.return_, 1) := by decide +kernel
theorem dJ4_init_0 : decode cJ4_init 0 = .ok (.aload_n 0, 1) := by decide +kernel
theorem dJ4_init_1 : decode cJ4_init 1 = .ok (.aload_n 1, 1) := by decide +kernel
theorem dJ4_init_2 : decode cJ4_init 2 = .ok (.invokespecial 7, 3) := by decide +kernel
theorem dJ4_init_5 : decode cJ4_init 5 = .ok (.return_, 1) := by decide +kernel
theorem dJ6_min_0 : decode cJ6_min 0 = .ok (.iload_n 0, 1) := by decide +kernel
theorem dJ6_min_1 : decode cJ6_min 1 = .ok (.iload_n 1, 1) := by decide +kernel
theorem dJ6_min_2 : decode cJ6_min 2 = .ok (.if_icmp .gt 7, 3) := by decide +kernel
theorem dJ6_min_5 : decode cJ6_min 5 = .ok (.iload_n 0, 1) := by decide +kernel
theorem dJ6_min_6 : decode cJ6_min 6 = .ok (.goto 4, 3) := by decide +kernel
theorem dJ6_min_9 : decode cJ6_min 9 = .ok (.iload_n 1, 1) := by decide +kernel
theorem dJ6_min_10 : decode cJ6_min 10 = .ok (.ireturn, 1) := by decide +kernel
theorem dJ6_max_0 : decode cJ6_max 0 = .ok (.iload_n 0, 1) := by decide +kernel
theorem dJ6_max_1 : decode cJ6_max 1 = .ok (.iload_n 1, 1) := by decide +kernel
theorem dJ6_max_2 : decode cJ6_max 2 = .ok (.if_icmp .lt 7, 3) := by decide +kernel
theorem dJ6_max_5 : decode cJ6_max 5 = .ok (.iload_n 0, 1) := by decide +kernel
theorem dJ6_max_6 : decode cJ6_max 6 = .ok (.goto 4, 3) := by decide +kernel
theorem dJ6_max_9 : decode cJ6_max 9 = .ok (.iload_n 1, 1) := by decide +kernel
theorem dJ6_max_10 : decode cJ6_max 10 = .ok (.ireturn, 1) := by decide +kernel
theorem dJ7_compare_0 : decode cJ7_compare 0 = .ok (.iload_n 0, 1) := by decide +kernel
theorem dJ7_compare_1 : decode cJ7_compare 1 = .ok (.iload_n 1, 1) := by decide +kernel
theorem dJ7_compare_2 : decode cJ7_compare 2 = .ok (.if_icmp .ge 7, 3) := by decide +kernel
theorem dJ7_compare_5 : decode cJ7_compare 5 = .ok (.iconst (-1), 1) := by decide +kernel
theorem dJ7_compare_6 : decode cJ7_compare 6 = .ok (.goto 13, 3) := by decide +kernel
theorem dJ7_compare_9 : decode cJ7_compare 9 = .ok (.iload_n 0, 1) := by decide +kernel
theorem dJ7_compare_10 : decode cJ7_compare 10 = .ok (.iload_n 1, 1) := by decide +kernel
theorem dJ7_compare_11 : decode cJ7_compare 11 = .ok (.if_icmp .ne 7, 3) := by decide +kernel
theorem dJ7_compare_14 : decode cJ7_compare 14 = .ok (.iconst 0, 1) := by decide +kernel
theorem dJ7_compare_15 : decode cJ7_compare 15 = .ok (.goto 4, 3) := by decide +kernel
theorem dJ7_compare_18 : decode cJ7_compare 18 = .ok (.iconst 1, 1) := by decide +kernel
theorem dJ7_compare_19 : decode cJ7_compare 19 = .ok (.ireturn, 1) := by decide +kernel
theorem dJ8_init_0 : decode cJ8_init 0 = .ok (.aload_n 0, 1) := by decide +kernel
theorem dJ8_init_1 : decode cJ8_init 1 = .ok (.aload_n 1, 1) := by decide +kernel
theorem dJ8_init_2 : decode cJ8_init 2 = .ok (.invokespecial 7, 3) := by decide +kernel
theorem dJ8_init_5 : decode cJ8_init 5 = .ok (.return_, 1) := by decide +kernel
theorem dJ9_init_0 : decode cJ9_init 0 = .ok (.aload_n 0, 1) := by decide +kernel
theorem dJ9_init_1 : decode cJ9_init 1 = .ok (.aload_n 1, 1) := by decide +kernel
theorem dJ9_init_2 : decode cJ9_init 2 = .ok (.invokespecial 7, 3) := by decide +kernel
theorem dJ9_init_5 : decode cJ9_init 5 = .ok (.return_, 1) := by decide +kernel
theorem dX14_init_0 : decode cX14_init 0 = .ok (.aload_n 0, 1) := by decide +kernel
theorem dX14_init_1 : decode cX14_init 1 = .ok (.invokespecial 1, 3) := by decide +kernel
theorem dX14_init_4 : decode cX14_init 4 = .ok (.aload_n 0, 1) := by decide +kernel
theorem dX14_init_5 : decode cX14_init 5 = .ok (.aload_n 1, 1) := by decide +kernel
theorem dX14_init_6 : decode cX14_init 6 = .ok (.invokevirtual 7, 3) := by decide +kernel
theorem dX14_init_9 : decode cX14_init 9 = .ok (.pop, 1) := by decide +kernel
theorem dX14_init_10 : decode cX14_init 10 = .ok (.aload_n 0, 1) := by decide +kernel
theorem dX14_init_11 : decode cX14_init 11 = .ok (.iload_n 2, 1) := by decide +kernel
theorem dX14_init_12 : decode cX14_init 12 = .ok (.putfield 13, 3) := by decide +kernel
theorem dX14_init_15 : decode cX14_init 15 = .ok (.return_, 1) := by decide +kernel
theorem dX15_end_0 : decode cX15_end 0 = .ok (.aload_n 0, 1) := by decide +kernel
theorem dX15_end_1 : decode cX15_end 1 = .ok (.astore_n 2, 1) := by decide +kernel
theorem dX15_end_2 : decode cX15_end 2 = .ok (.aload_n 2, 1) := by decide +kernel
theorem dX15_end_3 : decode cX15_end 3 = .ok (.getfield 7, 3) := by decide +kernel
theorem dX15_end_6 : decode cX15_end 6 = .ok (.ifnonnull 12, 3) := by decide +kernel
theorem dX15_end_9 : decode cX15_end 9 = .ok (.aload_n 2, 1) := by decide +kernel
theorem dX15_end_10 : decode cX15_end 10 = .ok (.iload_n 1, 1) := by decide +kernel
theorem dX15_end_11 : decode cX15_end 11 = .ok (.invokevirtual 24, 3) := by decide +kernel
theorem dX15_end_14 : decode cX15_end 14 = .ok (.astore_n 2, 1) := by decide +kernel
theorem dX15_end_15 : decode cX15_end 15 = .ok (.goto (-13), 3) := by decide +kernel
theorem dX15_end_18 : decode cX15_end 18 = .ok (.aload_n 2, 1) := by decide +kernel
theorem dX15_end_19 : decode cX15_end 19 = .ok (.getfield 7, 3) := by decide +kernel
theorem dX15_end_22 : decode cX15_end 22 = .ok (.areturn, 1) := by decide +kernel
theorem dX15_to_0 : decode cX15_to 0 = .ok (.iload_n 1, 1) := by decide +kernel
theorem dX15_to_1 : decode cX15_to 1 = .ok (.ifCond .ne 10, 3) := by decide +kernel
theorem dX15_to_4 : decode cX15_to 4 = .ok (.aload_n 0, 1) := by decide +kernel
theorem dX15_to_5 : decode cX15_to 5 = .ok (.getfield 17, 3) := by decide +kernel
theorem dX15_to_8 : decode cX15_to 8 = .ok (.goto 7, 3) := by decide +kernel
theorem dX15_to_11 : decode cX15_to 11 = .ok (.aload_n 0, 1) := by decide +kernel
theorem dX15_to_12 : decode cX15_to 12 = .ok (.getfield 21, 3) := by decide +kernel
theorem dX15_to_15 : decode cX15_to 15 = .ok (.areturn, 1) := by decide +kernel
theorem dX15_init_0 : decode cX15_init 0 = .ok (.aload_n 0, 1) := by decide +kernel
theorem dX15_init_1 : decode cX15_init 1 = .ok (.invokespecial 1, 3) := by decide +kernel
theorem dX15_init_4 : decode cX15_init 4 = .ok (.aload_n 0, 1) := by decide +kernel
theorem dX15_init_5 : decode cX15_init 5 = .ok (.aload_n 1, 1) := by decide +kernel
theorem dX15_init_6 : decode cX15_init 6 = .ok (.putfield 7, 3) := by decide +kernel
theorem dX15_init_9 : decode cX15_init 9 = .ok (.return_, 1) := by decide +kernel
theorem dX15_init_2_0 : decode cX15_init_2 0 = .ok (.aload_n 0, 1) := by decide +kernel
theorem dX15_init_2_1 : decode cX15_init_2 1 = .ok (.invokespecial 1, 3) := by decide +kernel
theorem dX15_init_2_4 : decode cX15_init_2 4 = .ok (.aload_n 0, 1) := by decide +kernel
theorem dX15_init_2_5 : decode cX15_init_2 5 = .ok (.iload_n 1, 1) := by decide +kernel
theorem dX15_init_2_6 : decode cX15_init_2 6 = .ok (.putfield 13, 3) := by decide +kernel
theorem dX15_init_2_9 : decode cX15_init_2 9 = .ok (.aload_n 0, 1) := by decide +kernel
theorem dX15_init_2_10 : decode cX15_init_2 10 = .ok (.aload_n 2, 1) := by decide +kernel
theorem dX15_init_2_11 : decode cX15_init_2 11 = .ok (.putfield 17, 3) := by decide +kernel
theorem dX15_init_2_14 : decode cX15_init_2 14 = .ok (.aload_n 0, 1) := by decide +kernel
theorem dX15_init_2_15 : decode cX15_init_2 15 = .ok (.aload_n 3, 1) := by decide +kernel
theorem dX15_init_2_16 : decode cX15_init_2 16 = .ok (.putfield 21, 3) := by decide +kernel
theorem dX15_init_2_19 : decode cX15_init_2 19 = .ok (.return_, 1) := by decide +kernel
theorem dX16_from_0 : decode cX16_from 0 = .ok (.iload_n 1, 1) := by decide +kernel
theorem dX16_from_1 : decode cX16_from 1 = .ok (.istore_n 2, 1) := by decide +kernel
