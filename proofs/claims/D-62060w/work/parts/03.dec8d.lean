set_option maxRecDepth 100000
theorem dX0_move_126 : decode cX0_move 126 = .ok (.if_icmp .ge 45, 3) := by decide +kernel
theorem dX0_move_129 : decode cX0_move 129 = .ok (.aload_n 0, 1) := by decide +kernel
theorem dX0_move_130 : decode cX0_move 130 = .ok (.getfield 26, 3) := by decide +kernel
theorem dX0_move_133 : decode cX0_move 133 = .ok (.aload_n 0, 1) := by decide +kernel
theorem dX0_move_134 : decode cX0_move 134 = .ok (.getfield 29, 3) := by decide +kernel
theorem dX0_move_137 : decode cX0_move 137 = .ok (.iload 6, 2) := by decide +kernel
theorem dX0_move_139 : decode cX0_move 139 = .ok (.invokevirtual 163, 3) := by decide +kernel
theorem dX0_move_142 : decode cX0_move 142 = .ok (.checkcast 7, 3) := by decide +kernel
theorem dX0_move_145 : decode cX0_move 145 = .ok (.invokevirtual 185, 3) := by decide +kernel
theorem dX0_move_148 : decode cX0_move 148 = .ok (.pop, 1) := by decide +kernel
theorem dX0_move_149 : decode cX0_move 149 = .ok (.aload_n 0, 1) := by decide +kernel
theorem dX0_move_150 : decode cX0_move 150 = .ok (.getfield 29, 3) := by decide +kernel
theorem dX0_move_153 : decode cX0_move 153 = .ok (.iload 6, 2) := by decide +kernel
theorem dX0_move_155 : decode cX0_move 155 = .ok (.invokevirtual 163, 3) := by decide +kernel
theorem dX0_move_158 : decode cX0_move 158 = .ok (.checkcast 7, 3) := by decide +kernel
theorem dX0_move_161 : decode cX0_move 161 = .ok (.iconst 1, 1) := by decide +kernel
theorem dX0_move_162 : decode cX0_move 162 = .ok (.putfield 182, 3) := by decide +kernel
theorem dX0_move_165 : decode cX0_move 165 = .ok (.iinc 6 1, 3) := by decide +kernel
theorem dX0_move_168 : decode cX0_move 168 = .ok (.goto (-51), 3) := by decide +kernel
theorem dX0_move_171 : decode cX0_move 171 = .ok (.iconst 0, 1) := by decide +kernel
theorem dX0_move_172 : decode cX0_move 172 = .ok (.istore 6, 2) := by decide +kernel
theorem dX0_move_174 : decode cX0_move 174 = .ok (.iload 6, 2) := by decide +kernel
theorem dX0_move_176 : decode cX0_move 176 = .ok (.aload 5, 2) := by decide +kernel
theorem dX0_move_178 : decode cX0_move 178 = .ok (.getfield 218, 3) := by decide +kernel
theorem dX0_move_181 : decode cX0_move 181 = .ok (.invokevirtual 160, 3) := by decide +kernel
theorem dX0_move_184 : decode cX0_move 184 = .ok (.if_icmp .ge 29, 3) := by decide +kernel
theorem dX0_move_187 : decode cX0_move 187 = .ok (.aload 4, 2) := by decide +kernel
theorem dX0_move_189 : decode cX0_move 189 = .ok (.iload 6, 2) := by decide +kernel
theorem dX0_move_191 : decode cX0_move 191 = .ok (.aload 5, 2) := by decide +kernel
theorem dX0_move_193 : decode cX0_move 193 = .ok (.getfield 218, 3) := by decide +kernel
theorem dX0_move_196 : decode cX0_move 196 = .ok (.iload 6, 2) := by decide +kernel
theorem dX0_move_198 : decode cX0_move 198 = .ok (.invokevirtual 163, 3) := by decide +kernel
theorem dX0_move_201 : decode cX0_move 201 = .ok (.checkcast 252, 3) := by decide +kernel
theorem dX0_move_204 : decode cX0_move 204 = .ok (.invokevirtual 224, 3) := by decide +kernel
theorem dX0_move_207 : decode cX0_move 207 = .ok (.iinc 6 1, 3) := by decide +kernel
theorem dX0_move_210 : decode cX0_move 210 = .ok (.goto (-36), 3) := by decide +kernel
theorem dX0_move_213 : decode cX0_move 213 = .ok (.aload 5, 2) := by decide +kernel
theorem dX0_move_215 : decode cX0_move 215 = .ok (.getfield 218, 3) := by decide +kernel
theorem dX0_move_218 : decode cX0_move 218 = .ok (.invokevirtual 68, 3) := by decide +kernel
theorem dX0_move_221 : decode cX0_move 221 = .ok (.aload 5, 2) := by decide +kernel
theorem dX0_move_223 : decode cX0_move 223 = .ok (.iconst 0, 1) := by decide +kernel
theorem dX0_move_224 : decode cX0_move 224 = .ok (.aload 4, 2) := by decide +kernel
theorem dX0_move_226 : decode cX0_move 226 = .ok (.invokevirtual 224, 3) := by decide +kernel
theorem dX0_move_229 : decode cX0_move 229 = .ok (.return_, 1) := by decide +kernel
theorem dX0_start_0 : decode cX0_start 0 = .ok (.ldc_w 269, 3) := by decide +kernel
theorem dX0_start_3 : decode cX0_start 3 = .ok (.iload_n 1, 1) := by decide +kernel
theorem dX0_start_4 : decode cX0_start 4 = .ok (.invokevirtual 173, 3) := by decide +kernel
theorem dX0_start_7 : decode cX0_start 7 = .ok (.ifCond .lt 7, 3) := by decide +kernel
theorem dX0_start_10 : decode cX0_start 10 = .ok (.iconst 1, 1) := by decide +kernel
theorem dX0_start_11 : decode cX0_start 11 = .ok (.goto 4, 3) := by decide +kernel
theorem dX0_start_14 : decode cX0_start 14 = .ok (.iconst 0, 1) := by decide +kernel
theorem dX0_start_15 : decode cX0_start 15 = .ok (.istore_n 2, 1) := by decide +kernel
theorem dX0_start_16 : decode cX0_start 16 = .ok (.iload_n 1, 1) := by decide +kernel
theorem dX0_start_17 : decode cX0_start 17 = .ok (.bipush 114, 2) := by decide +kernel
theorem dX0_start_19 : decode cX0_start 19 = .ok (.if_icmp .eq 9, 3) := by decide +kernel
theorem dX0_start_22 : decode cX0_start 22 = .ok (.iload_n 1, 1) := by decide +kernel
theorem dX0_start_23 : decode cX0_start 23 = .ok (.bipush 99, 2) := by decide +kernel
theorem dX0_start_25 : decode cX0_start 25 = .ok (.if_icmp .ne 7, 3) := by decide +kernel
theorem dX0_start_28 : decode cX0_start 28 = .ok (.iconst 1, 1) := by decide +kernel
theorem dX0_start_29 : decode cX0_start 29 = .ok (.goto 4, 3) := by decide +kernel
theorem dX0_start_32 : decode cX0_start 32 = .ok (.iconst 0, 1) := by decide +kernel
theorem dX0_start_33 : decode cX0_start 33 = .ok (.istore_n 3, 1) := by decide +kernel
theorem dX0_start_34 : decode cX0_start 34 = .ok (.iload_n 2, 1) := by decide +kernel
theorem dX0_start_35 : decode cX0_start 35 = .ok (.ifCond .eq 16, 3) := by decide +kernel
theorem dX0_start_38 : decode cX0_start 38 = .ok (.aload_n 0, 1) := by decide +kernel
theorem dX0_start_39 : decode cX0_start 39 = .ok (.aload_n 0, 1) := by decide +kernel
theorem dX0_start_40 : decode cX0_start 40 = .ok (.bipush 112, 2) := by decide +kernel
theorem dX0_start_42 : decode cX0_start 42 = .ok (.ldc_w 271, 3) := by decide +kernel
theorem dX0_start_45 : decode cX0_start 45 = .ok (.invokevirtual 201, 3) := by decide +kernel
theorem dX0_start_48 : decode cX0_start 48 = .ok (.invokevirtual 273, 3) := by decide +kernel
theorem dX0_start_51 : decode cX0_start 51 = .ok (.iload_n 1, 1) := by decide +kernel
theorem dX0_start_52 : decode cX0_start 52 = .ok (.bipush 108, 2) := by decide +kernel
theorem dX0_start_54 : decode cX0_start 54 = .ok (.if_icmp .ne 16, 3) := by decide +kernel
theorem dX0_start_57 : decode cX0_start 57 = .ok (.aload_n 0, 1) := by decide +kernel
theorem dX0_start_58 : decode cX0_start 58 = .ok (.aload_n 0, 1) := by decide +kernel
theorem dX0_start_59 : decode cX0_start 59 = .ok (.bipush 108, 2) := by decide +kernel
theorem dX0_start_61 : decode cX0_start 61 = .ok (.ldc_w 276, 3) := by decide +kernel
theorem dX0_start_64 : decode cX0_start 64 = .ok (.invokevirtual 201, 3) := by decide +kernel
theorem dX0_start_67 : decode cX0_start 67 = .ok (.invokevirtual 273, 3) := by decide +kernel
theorem dX0_start_70 : decode cX0_start 70 = .ok (.iload_n 3, 1) := by decide +kernel
theorem dX0_start_71 : decode cX0_start 71 = .ok (.ifCond .eq 12, 3) := by decide +kernel
theorem dX0_start_74 : decode cX0_start 74 = .ok (.aload_n 0, 1) := by decide +kernel
theorem dX0_start_75 : decode cX0_start 75 = .ok (.iload_n 1, 1) := by decide +kernel
theorem dX0_start_76 : decode cX0_start 76 = .ok (.invokevirtual 278, 3) := by decide +kernel
theorem dX0_start_79 : decode cX0_start 79 = .ok (.ifCond .ne 4, 3) := by decide +kernel
theorem dX0_start_82 : decode cX0_start 82 = .ok (.return_, 1) := by decide +kernel
theorem dX0_start_83 : decode cX0_start 83 = .ok (.iload_n 2, 1) := by decide +kernel
theorem dX0_start_84 : decode cX0_start 84 = .ok (.ifCond .ne 11, 3) := by decide +kernel
theorem dX0_start_87 : decode cX0_start 87 = .ok (.iload_n 3, 1) := by decide +kernel
theorem dX0_start_88 : decode cX0_start 88 = .ok (.ifCond .ne 7, 3) := by decide +kernel
theorem dX0_start_91 : decode cX0_start 91 = .ok (.aload_n 0, 1) := by decide +kernel
theorem dX0_start_92 : decode cX0_start 92 = .ok (.invokevirtual 249, 3) := by decide +kernel
theorem dX0_start_95 : decode cX0_start 95 = .ok (.aload_n 0, 1) := by decide +kernel
theorem dX0_start_96 : decode cX0_start 96 = .ok (.getfield 82, 3) := by decide +kernel
theorem dX0_start_99 : decode cX0_start 99 = .ok (.ifCond .eq 7, 3) := by decide +kernel
theorem dX0_start_102 : decode cX0_start 102 = .ok (.aconst_null, 1) := by decide +kernel
theorem dX0_start_103 : decode cX0_start 103 = .ok (.goto 12, 3) := by decide +kernel
theorem dX0_start_106 : decode cX0_start 106 = .ok (.aload_n 0, 1) := by decide +kernel
theorem dX0_start_107 : decode cX0_start 107 = .ok (.iload_n 1, 1) := by decide +kernel
theorem dX0_start_108 : decode cX0_start 108 = .ok (.aload_n 0, 1) := by decide +kernel
theorem dX0_start_109 : decode cX0_start 109 = .ok (.getfield 114, 3) := by decide +kernel
theorem dX0_start_112 : decode cX0_start 112 = .ok (.invokevirtual 237, 3) := by decide +kernel
theorem dX0_start_115 : decode cX0_start 115 = .ok (.astore 4, 2) := by decide +kernel
theorem dX0_start_117 : decode cX0_start 117 = .ok (.aload 4, 2) := by decide +kernel
theorem dX0_start_119 : decode cX0_start 119 = .ok (.ifnonnull 4, 3) := by decide +kernel
theorem dX0_start_122 : decode cX0_start 122 = .ok (.return_, 1) := by decide +kernel
theorem dX0_start_123 : decode cX0_start 123 = .ok (.iload_n 3, 1) := by decide +kernel
theorem dX0_start_124 : decode cX0_start 124 = .ok (.ifCond .eq 25, 3) := by decide +kernel
theorem dX0_start_127 : decode cX0_start 127 = .ok (.aload_n 0, 1) := by decide +kernel
theorem dX0_start_128 : decode cX0_start 128 = .ok (.invokevirtual 195, 3) := by decide +kernel
theorem dX0_start_131 : decode cX0_start 131 = .ok (.aload_n 0, 1) := by decide +kernel
theorem dX0_start_132 : decode cX0_start 132 = .ok (.invokevirtual 195, 3) := by decide +kernel
theorem dX0_start_135 : decode cX0_start 135 = .ok (.getfield 218, 3) := by decide +kernel
theorem dX0_start_138 : decode cX0_start 138 = .ok (.invokevirtual 160, 3) := by decide +kernel
theorem dX0_start_141 : decode cX0_start 141 = .ok (.aload 4, 2) := by decide +kernel
theorem dX0_start_143 : decode cX0_start 143 = .ok (.invokevirtual 224, 3) := by decide +kernel
theorem dX0_start_146 : decode cX0_start 146 = .ok (.goto 9, 3) := by decide +kernel
theorem dX0_start_149 : decode cX0_start 149 = .ok (.aload_n 0, 1) := by decide +kernel
theorem dX0_start_150 : decode cX0_start 150 = .ok (.aload 4, 2) := by decide +kernel
theorem dX0_start_152 : decode cX0_start 152 = .ok (.invokevirtual 241, 3) := by decide +kernel
theorem dX0_start_155 : decode cX0_start 155 = .ok (.iload_n 1, 1) := by decide +kernel
theorem dX0_start_156 : decode cX0_start 156 = .ok (.bipush 104, 2) := by decide +kernel
theorem dX0_start_158 : decode cX0_start 158 = .ok (.if_icmp .eq 9, 3) := by decide +kernel
theorem dX0_start_161 : decode cX0_start 161 = .ok (.iload_n 1, 1) := by decide +kernel
theorem dX0_start_162 : decode cX0_start 162 = .ok (.bipush 107, 2) := by decide +kernel
theorem dX0_start_164 : decode cX0_start 164 = .ok (.if_icmp .ne 4, 3) := by decide +kernel
theorem dX0_start_167 : decode cX0_start 167 = .ok (.return_, 1) := by decide +kernel
theorem dX0_start_168 : decode cX0_start 168 = .ok (.aload_n 0, 1) := by decide +kernel
theorem dX0_start_169 : decode cX0_start 169 = .ok (.aload 4, 2) := by decide +kernel
theorem dX0_start_171 : decode cX0_start 171 = .ok (.invokevirtual 71, 3) := by decide +kernel
theorem dX0_start_174 : decode cX0_start 174 = .ok (.aload 4, 2) := by decide +kernel
theorem dX0_start_176 : decode cX0_start 176 = .ok (.invokevirtual 281, 3) := by decide +kernel
theorem dX0_start_179 : decode cX0_start 179 = .ok (.ifCond .eq 33, 3) := by decide +kernel
theorem dX0_start_182 : decode cX0_start 182 = .ok (.aload_n 0, 1) := by decide +kernel
theorem dX0_start_183 : decode cX0_start 183 = .ok (.invokevirtual 231, 3) := by decide +kernel
theorem dX0_start_186 : decode cX0_start 186 = .ok (.astore 5, 2) := by decide +kernel
theorem dX0_start_188 : decode cX0_start 188 = .ok (.aload 5, 2) := by decide +kernel
theorem dX0_start_190 : decode cX0_start 190 = .ok (.invokevirtual 160, 3) := by decide +kernel
theorem dX0_start_193 : decode cX0_start 193 = .ok (.iconst 4, 1) := by decide +kernel
theorem dX0_start_194 : decode cX0_start 194 = .ok (.if_icmp .ne 10, 3) := by decide +kernel
theorem dX0_start_197 : decode cX0_start 197 = .ok (.aload 5, 2) := by decide +kernel
theorem dX0_start_199 : decode cX0_start 199 = .ok (.iconst 0, 1) := by decide +kernel
theorem dX0_start_200 : decode cX0_start 200 = .ok (.invokevirtual 179, 3) := by decide +kernel
theorem dX0_start_203 : decode cX0_start 203 = .ok (.pop, 1) := by decide +kernel
theorem dX0_start_204 : decode cX0_start 204 = .ok (.aload 5, 2) := by decide +kernel
theorem dX0_start_206 : decode cX0_start 206 = .ok (.aload 4, 2) := by decide +kernel
theorem dX0_start_208 : decode cX0_start 208 = .ok (.invokevirtual 185, 3) := by decide +kernel
theorem dX0_start_211 : decode cX0_start 211 = .ok (.pop, 1) := by decide +kernel
theorem dX0_start_212 : decode cX0_start 212 = .ok (.return_, 1) := by decide +kernel
theorem dX0_ready_0 : decode cX0_ready 0 = .ok (.aload_n 0, 1) := by decide +kernel
theorem dX0_ready_1 : decode cX0_ready 1 = .ok (.bipush 116, 2) := by decide +kernel
theorem dX0_ready_3 : decode cX0_ready 3 = .ok (.ldc 199, 2) := by decide +kernel
theorem dX0_ready_5 : decode cX0_ready 5 = .ok (.invokevirtual 201, 3) := by decide +kernel
theorem dX0_ready_8 : decode cX0_ready 8 = .ok (.istore_n 2, 1) := by decide +kernel
theorem dX0_ready_9 : decode cX0_ready 9 = .ok (.iload_n 2, 1) := by decide +kernel
theorem dX0_ready_10 : decode cX0_ready 10 = .ok (.ifCond .ne 5, 3) := by decide +kernel
theorem dX0_ready_13 : decode cX0_ready 13 = .ok (.iconst 0, 1) := by decide +kernel
theorem dX0_ready_14 : decode cX0_ready 14 = .ok (.ireturn, 1) := by decide +kernel
theorem dX0_ready_15 : decode cX0_ready 15 = .ok (.aload_n 0, 1) := by decide +kernel
theorem dX0_ready_16 : decode cX0_ready 16 = .ok (.bipush 114, 2) := by decide +kernel
theorem dX0_ready_18 : decode cX0_ready 18 = .ok (.ldc_w 284, 3) := by decide +kernel
theorem dX0_ready_21 : decode cX0_ready 21 = .ok (.invokevirtual 201, 3) := by decide +kernel
theorem dX0_ready_24 : decode cX0_ready 24 = .ok (.istore_n 3, 1) := by decide +kernel
theorem dX0_ready_25 : decode cX0_ready 25 = .ok (.iload_n 1, 1) := by decide +kernel
theorem dX0_ready_26 : decode cX0_ready 26 = .ok (.bipush 114, 2) := by decide +kernel
theorem dX0_ready_28 : decode cX0_ready 28 = .ok (.if_icmp .eq 7, 3) := by decide +kernel
theorem dX0_ready_31 : decode cX0_ready 31 = .ok (.iload_n 3, 1) := by decide +kernel
theorem dX0_ready_32 : decode cX0_ready 32 = .ok (.ifCond .ne 13, 3) := by decide +kernel
theorem dX0_ready_35 : decode cX0_ready 35 = .ok (.aload_n 0, 1) := by decide +kernel
theorem dX0_ready_36 : decode cX0_ready 36 = .ok (.iload_n 2, 1) := by decide +kernel
theorem dX0_ready_37 : decode cX0_ready 37 = .ok (.iconst 1, 1) := by decide +kernel
theorem dX0_ready_38 : decode cX0_ready 38 = .ok (.iadd, 1) := by decide +kernel
theorem dX0_ready_39 : decode cX0_ready 39 = .ok (.invokevirtual 273, 3) := by decide +kernel
theorem dX0_ready_42 : decode cX0_ready 42 = .ok (.goto 10, 3) := by decide +kernel
theorem dX0_ready_45 : decode cX0_ready 45 = .ok (.aload_n 0, 1) := by decide +kernel
theorem dX0_ready_46 : decode cX0_ready 46 = .ok (.iload_n 3, 1) := by decide +kernel
theorem dX0_ready_47 : decode cX0_ready 47 = .ok (.iconst 1, 1) := by decide +kernel
theorem dX0_ready_48 : decode cX0_ready 48 = .ok (.iadd, 1) := by decide +kernel
theorem dX0_ready_49 : decode cX0_ready 49 = .ok (.invokevirtual 273, 3) := by decide +kernel
theorem dX0_ready_52 : decode cX0_ready 52 = .ok (.iload_n 1, 1) := by decide +kernel
theorem dX0_ready_53 : decode cX0_ready 53 = .ok (.bipush 114, 2) := by decide +kernel
theorem dX0_ready_55 : decode cX0_ready 55 = .ok (.if_icmp .eq 7, 3) := by decide +kernel
theorem dX0_ready_58 : decode cX0_ready 58 = .ok (.iload_n 3, 1) := by decide +kernel
theorem dX0_ready_59 : decode cX0_ready 59 = .ok (.ifCond .le 5, 3) := by decide +kernel
theorem dX0_ready_62 : decode cX0_ready 62 = .ok (.iconst 1, 1) := by decide +kernel
theorem dX0_ready_63 : decode cX0_ready 63 = .ok (.ireturn, 1) := by decide +kernel
theorem dX0_ready_64 : decode cX0_ready 64 = .ok (.aload_n 0, 1) := by decide +kernel
theorem dX0_ready_65 : decode cX0_ready 65 = .ok (.bipush 114, 2) := by decide +kernel
theorem dX0_ready_67 : decode cX0_ready 67 = .ok (.iconst 0, 1) := by decide +kernel
theorem dX0_ready_68 : decode cX0_ready 68 = .ok (.invokevirtual 237, 3) := by decide +kernel
theorem dX0_ready_71 : decode cX0_ready 71 = .ok (.astore 4, 2) := by decide +kernel
theorem dX0_ready_73 : decode cX0_ready 73 = .ok (.aload 4, 2) := by decide +kernel
theorem dX0_ready_75 : decode cX0_ready 75 = .ok (.ifnonnull 5, 3) := by decide +kernel
theorem dX0_ready_78 : decode cX0_ready 78 = .ok (.iconst 0, 1) := by decide +kernel
theorem dX0_ready_79 : decode cX0_ready 79 = .ok (.ireturn, 1) := by decide +kernel
theorem dX0_ready_80 : decode cX0_ready 80 = .ok (.aload_n 0, 1) := by decide +kernel
theorem dX0_ready_81 : decode cX0_ready 81 = .ok (.invokevirtual 195, 3) := by decide +kernel
theorem dX0_ready_84 : decode cX0_ready 84 = .ok (.aload_n 0, 1) := by decide +kernel
theorem dX0_ready_85 : decode cX0_ready 85 = .ok (.invokevirtual 195, 3) := by decide +kernel
theorem dX0_ready_88 : decode cX0_ready 88 = .ok (.getfield 218, 3) := by decide +kernel
theorem dX0_ready_91 : decode cX0_ready 91 = .ok (.invokevirtual 160, 3) := by decide +kernel
theorem dX0_ready_94 : decode cX0_ready 94 = .ok (.aload 4, 2) := by decide +kernel
theorem dX0_ready_96 : decode cX0_ready 96 = .ok (.invokevirtual 224, 3) := by decide +kernel
theorem dX0_ready_99 : decode cX0_ready 99 = .ok (.aload_n 0, 1) := by decide +kernel
theorem dX0_ready_100 : decode cX0_ready 100 = .ok (.aload 4, 2) := by decide +kernel
theorem dX0_ready_102 : decode cX0_ready 102 = .ok (.invokevirtual 71, 3) := by decide +kernel
theorem dX0_ready_105 : decode cX0_ready 105 = .ok (.iconst 1, 1) := by decide +kernel
theorem dX0_ready_106 : decode cX0_ready 106 = .ok (.ireturn, 1) := by decide +kernel
theorem dX0_and_0 : decode cX0_and 0 = .ok (.iload_n 1, 1) := by decide +kernel
theorem dX0_and_1 : decode cX0_and 1 = .ok (.bipush 108, 2) := by decide +kernel
theorem dX0_and_3 : decode cX0_and 3 = .ok (.if_icmp .eq 15, 3) := by decide +kernel
theorem dX0_and_6 : decode cX0_and 6 = .ok (.iload_n 1, 1) := by decide +kernel
theorem dX0_and_7 : decode cX0_and 7 = .ok (.bipush 103, 2) := by decide +kernel
theorem dX0_and_9 : decode cX0_and 9 = .ok (.if_icmp .eq 9, 3) := by decide +kernel
theorem dX0_and_12 : decode cX0_and 12 = .ok (.iload_n 1, 1) := by decide +kernel
theorem dX0_and_13 : decode cX0_and 13 = .ok (.bipush 97, 2) := by decide +kernel
theorem dX0_and_15 : decode cX0_and 15 = .ok (.if_icmp .ne 18, 3) := by decide +kernel
theorem dX0_and_18 : decode cX0_and 18 = .ok (.aload_n 0, 1) := by decide +kernel
theorem dX0_and_19 : decode cX0_and 19 = .ok (.iload_n 1, 1) := by decide +kernel
theorem dX0_and_20 : decode cX0_and 20 = .ok (.putfield 110, 3) := by decide +kernel
theorem dX0_and_23 : decode cX0_and 23 = .ok (.aload_n 0, 1) := by decide +kernel
theorem dX0_and_24 : decode cX0_and 24 = .ok (.getstatic 157, 3) := by decide +kernel
theorem dX0_and_27 : decode cX0_and 27 = .ok (.putfield 38, 3) := by decide +kernel
theorem dX0_and_30 : decode cX0_and 30 = .ok (.goto 14, 3) := by decide +kernel
theorem dX0_and_33 : decode cX0_and 33 = .ok (.aload_n 0, 1) := by decide +kernel
theorem dX0_and_34 : decode cX0_and 34 = .ok (.bipush 38, 2) := by decide +kernel
theorem dX0_and_36 : decode cX0_and 36 = .ok (.invokevirtual 133, 3) := by decide +kernel
theorem dX0_and_39 : decode cX0_and 39 = .ok (.aload_n 0, 1) := by decide +kernel
theorem dX0_and_40 : decode cX0_and 40 = .ok (.iload_n 1, 1) := by decide +kernel
theorem dX0_and_41 : decode cX0_and 41 = .ok (.invokevirtual 103, 3) := by decide +kernel
theorem dX0_and_44 : decode cX0_and 44 = .ok (.return_, 1) := by decide +kernel
theorem dX0_css_0 : decode cX0_css 0 = .ok (.aload_n 0, 1) := by decide +kernel
theorem dX0_css_1 : decode cX0_css 1 = .ok (.getfield 44, 3) := by decide +kernel
theorem dX0_css_4 : decode cX0_css 4 = .ok (.iload_n 1, 1) := by decide +kernel
theorem dX0_css_5 : decode cX0_css 5 = .ok (.invokevirtual 300, 3) := by decide +kernel
theorem dX0_css_8 : decode cX0_css 8 = .ok (.istore_n 2, 1) := by decide +kernel
theorem dX0_css_9 : decode cX0_css 9 = .ok (.iload_n 2, 1) := by decide +kernel
theorem dX0_css_10 : decode cX0_css 10 = .ok (.ifCond .eq 7, 3) := by decide +kernel
theorem dX0_css_13 : decode cX0_css 13 = .ok (.aload_n 0, 1) := by decide +kernel
theorem dX0_css_14 : decode cX0_css 14 = .ok (.invokevirtual 90, 3) := by decide +kernel
theorem dX0_css_17 : decode cX0_css 17 = .ok (.iload_n 2, 1) := by decide +kernel
theorem dX0_css_18 : decode cX0_css 18 = .ok (.ireturn, 1) := by decide +kernel
theorem dX0_read_0 : decode cX0_read 0 = .ok (.aconst_null, 1) := by decide +kernel
theorem dX0_read_1 : decode cX0_read 1 = .ok (.astore_n 1, 1) := by decide +kernel
theorem dX0_read_2 : decode cX0_read 2 = .ok (.iconst 0, 1) := by decide +kernel
theorem dX0_read_3 : decode cX0_read 3 = .ok (.istore_n 2, 1) := by decide +kernel
theorem dX0_read_4 : decode cX0_read 4 = .ok (.aload_n 0, 1) := by decide +kernel
theorem dX0_read_5 : decode cX0_read 5 = .ok (.iconst 0, 1) := by decide +kernel
theorem dX0_read_6 : decode cX0_read 6 = .ok (.invokestatic 310, 3) := by decide +kernel
theorem dX0_read_9 : decode cX0_read 9 = .ok (.istore_n 3, 1) := by decide +kernel
theorem dX0_read_10 : decode cX0_read 10 = .ok (.iconst 0, 1) := by decide +kernel
theorem dX0_read_11 : decode cX0_read 11 = .ok (.istore 4, 2) := by decide +kernel
theorem dX0_read_13 : decode cX0_read 13 = .ok (.iload 4, 2) := by decide +kernel
theorem dX0_read_15 : decode cX0_read 15 = .ok (.iconst 4, 1) := by decide +kernel
theorem dX0_read_16 : decode cX0_read 16 = .ok (.if_icmp .ge 184, 3) := by decide +kernel
theorem dX0_read_19 : decode cX0_read 19 = .ok (.iload_n 3, 1) := by decide +kernel
theorem dX0_read_20 : decode cX0_read 20 = .ok (.istore 5, 2) := by decide +kernel
theorem dX0_read_22 : decode cX0_read 22 = .ok (.iconst 0, 1) := by decide +kernel
theorem dX0_read_23 : decode cX0_read 23 = .ok (.istore 6, 2) := by decide +kernel
theorem dX0_read_25 : decode cX0_read 25 = .ok (.iload_n 3, 1) := by decide +kernel
theorem dX0_read_26 : decode cX0_read 26 = .ok (.aload_n 0, 1) := by decide +kernel
theorem dX0_read_27 : decode cX0_read 27 = .ok (.invokevirtual 303, 3) := by decide +kernel
theorem dX0_read_30 : decode cX0_read 30 = .ok (.if_icmp .ge 34, 3) := by decide +kernel
theorem dX0_read_33 : decode cX0_read 33 = .ok (.aload_n 0, 1) := by decide +kernel
theorem dX0_read_34 : decode cX0_read 34 = .ok (.iload_n 3, 1) := by decide +kernel
theorem dX0_read_35 : decode cX0_read 35 = .ok (.invokevirtual 306, 3) := by decide +kernel
theorem dX0_read_38 : decode cX0_read 38 = .ok (.invokestatic 117, 3) := by decide +kernel
theorem dX0_read_41 : decode cX0_read 41 = .ok (.ifCond .ne 13, 3) := by decide +kernel
theorem dX0_read_44 : decode cX0_read 44 = .ok (.aload_n 0, 1) := by decide +kernel
theorem dX0_read_45 : decode cX0_read 45 = .ok (.iload_n 3, 1) := by decide +kernel
theorem dX0_read_46 : decode cX0_read 46 = .ok (.invokevirtual 306, 3) := by decide +kernel
theorem dX0_read_49 : decode cX0_read 49 = .ok (.bipush 42, 2) := by decide +kernel
theorem dX0_read_51 : decode cX0_read 51 = .ok (.if_icmp .ne 13, 3) := by decide +kernel
theorem dX0_read_54 : decode cX0_read 54 = .ok (.aload_n 0, 1) := by decide +kernel
theorem dX0_read_55 : decode cX0_read 55 = .ok (.iload_n 3, 1) := by decide +kernel
theorem dX0_read_56 : decode cX0_read 56 = .ok (.iinc 3 1, 3) := by decide +kernel
theorem dX0_read_59 : decode cX0_read 59 = .ok (.invokevirtual 306, 3) := by decide +kernel
theorem dX0_read_62 : decode cX0_read 62 = .ok (.istore 6, 2) := by decide +kernel
theorem dX0_read_64 : decode cX0_read 64 = .ok (.iconst 0, 1) := by decide +kernel
theorem dX0_read_65 : decode cX0_read 65 = .ok (.istore 7, 2) := by decide +kernel
theorem dX0_read_67 : decode cX0_read 67 = .ok (.iload_n 3, 1) := by decide +kernel
theorem dX0_read_68 : decode cX0_read 68 = .ok (.aload_n 0, 1) := by decide +kernel
theorem dX0_read_69 : decode cX0_read 69 = .ok (.invokevirtual 303, 3) := by decide +kernel
theorem dX0_read_72 : decode cX0_read 72 = .ok (.if_icmp .ge 35, 3) := by decide +kernel
theorem dX0_read_75 : decode cX0_read 75 = .ok (.aload_n 0, 1) := by decide +kernel
theorem dX0_read_76 : decode cX0_read 76 = .ok (.iload_n 3, 1) := by decide +kernel
theorem dX0_read_77 : decode cX0_read 77 = .ok (.invokevirtual 306, 3) := by decide +kernel
theorem dX0_read_80 : decode cX0_read 80 = .ok (.invokestatic 148, 3) := by decide +kernel
theorem dX0_read_83 : decode cX0_read 83 = .ok (.ifCond .eq 24, 3) := by decide +kernel
theorem dX0_read_86 : decode cX0_read 86 = .ok (.iload 7, 2) := by decide +kernel
theorem dX0_read_88 : decode cX0_read 88 = .ok (.iconst 1, 1) := by decide +kernel
theorem dX0_read_89 : decode cX0_read 89 = .ok (.aload_n 0, 1) := by decide +kernel
theorem dX0_read_90 : decode cX0_read 90 = .ok (.iload_n 3, 1) := by decide +kernel
theorem dX0_read_91 : decode cX0_read 91 = .ok (.iinc 3 1, 3) := by decide +kernel
theorem dX0_read_94 : decode cX0_read 94 = .ok (.invokevirtual 306, 3) := by decide +kernel
theorem dX0_read_97 : decode cX0_read 97 = .ok (.bipush 65, 2) := by decide +kernel
theorem dX0_read_99 : decode cX0_read 99 = .ok (.isub, 1) := by decide +kernel
theorem dX0_read_100 : decode cX0_read 100 = .ok (.ishl, 1) := by decide +kernel
theorem dX0_read_101 : decode cX0_read 101 = .ok (.ior, 1) := by decide +kernel
theorem dX0_read_102 : decode cX0_read 102 = .ok (.istore 7, 2) := by decide +kernel
theorem dX0_read_104 : decode cX0_read 104 = .ok (.goto (-37), 3) := by decide +kernel
theorem dX0_read_107 : decode cX0_read 107 = .ok (.iload_n 3, 1) := by decide +kernel
theorem dX0_read_108 : decode cX0_read 108 = .ok (.iload 5, 2) := by decide +kernel
theorem dX0_read_110 : decode cX0_read 110 = .ok (.if_icmp .ne 5, 3) := by decide +kernel
theorem dX0_read_113 : decode cX0_read 113 = .ok (.aconst_null, 1) := by decide +kernel
theorem dX0_read_114 : decode cX0_read 114 = .ok (.areturn, 1) := by decide +kernel
theorem dX0_read_115 : decode cX0_read 115 = .ok (.new 314, 3) := by decide +kernel
theorem dX0_read_118 : decode cX0_read 118 = .ok (.dup, 1) := by decide +kernel
theorem dX0_read_119 : decode cX0_read 119 = .ok (.iload 6, 2) := by decide +kernel
theorem dX0_read_121 : decode cX0_read 121 = .ok (.iload 7, 2) := by decide +kernel
theorem dX0_read_123 : decode cX0_read 123 = .ok (.iload_n 2, 1) := by decide +kernel
theorem dX0_read_124 : decode cX0_read 124 = .ok (.aload_n 1, 1) := by decide +kernel
theorem dX0_read_125 : decode cX0_read 125 = .ok (.invokespecial 316, 3) := by decide +kernel
theorem dX0_read_128 : decode cX0_read 128 = .ok (.astore_n 1, 1) := by decide +kernel
theorem dX0_read_129 : decode cX0_read 129 = .ok (.aload_n 0, 1) := by decide +kernel
theorem dX0_read_130 : decode cX0_read 130 = .ok (.iload_n 3, 1) := by decide +kernel
theorem dX0_read_131 : decode cX0_read 131 = .ok (.invokestatic 310, 3) := by decide +kernel
theorem dX0_read_134 : decode cX0_read 134 = .ok (.istore 8, 2) := by decide +kernel
theorem dX0_read_136 : decode cX0_read 136 = .ok (.iload 8, 2) := by decide +kernel
theorem dX0_read_138 : decode cX0_read 138 = .ok (.aload_n 0, 1) := by decide +kernel
theorem dX0_read_139 : decode cX0_read 139 = .ok (.invokevirtual 303, 3) := by decide +kernel
theorem dX0_read_142 : decode cX0_read 142 = .ok (.if_icmp .ne 5, 3) := by decide +kernel
theorem dX0_read_145 : decode cX0_read 145 = .ok (.aload_n 1, 1) := by decide +kernel
theorem dX0_read_146 : decode cX0_read 146 = .ok (.areturn, 1) := by decide +kernel
theorem dX0_read_147 : decode cX0_read 147 = .ok (.aload_n 0, 1) := by decide +kernel
theorem dX0_read_148 : decode cX0_read 148 = .ok (.iload 8, 2) := by decide +kernel
theorem dX0_read_150 : decode cX0_read 150 = .ok (.invokevirtual 306, 3) := by decide +kernel
theorem dX0_read_153 : decode cX0_read 153 = .ok (.bipush 62, 2) := by decide +kernel
theorem dX0_read_155 : decode cX0_read 155 = .ok (.if_icmp .ne 7, 3) := by decide +kernel
theorem dX0_read_158 : decode cX0_read 158 = .ok (.iconst 1, 1) := by decide +kernel
theorem dX0_read_159 : decode cX0_read 159 = .ok (.goto 4, 3) := by decide +kernel
theorem dX0_read_162 : decode cX0_read 162 = .ok (.iconst 0, 1) := by decide +kernel
theorem dX0_read_163 : decode cX0_read 163 = .ok (.istore_n 2, 1) := by decide +kernel
theorem dX0_read_164 : decode cX0_read 164 = .ok (.iload_n 2, 1) := by decide +kernel
theorem dX0_read_165 : decode cX0_read 165 = .ok (.ifCond .ne 11, 3) := by decide +kernel
theorem dX0_read_168 : decode cX0_read 168 = .ok (.iload 8, 2) := by decide +kernel
theorem dX0_read_170 : decode cX0_read 170 = .ok (.iload_n 3, 1) := by decide +kernel
theorem dX0_read_171 : decode cX0_read 171 = .ok (.if_icmp .ne 5, 3) := by decide +kernel
theorem dX0_read_174 : decode cX0_read 174 = .ok (.aconst_null, 1) := by decide +kernel
theorem dX0_read_175 : decode cX0_read 175 = .ok (.areturn, 1) := by decide +kernel
theorem dX0_read_176 : decode cX0_read 176 = .ok (.iload_n 2, 1) := by decide +kernel
theorem dX0_read_177 : decode cX0_read 177 = .ok (.ifCond .eq 14, 3) := by decide +kernel
theorem dX0_read_180 : decode cX0_read 180 = .ok (.aload_n 0, 1) := by decide +kernel
theorem dX0_read_181 : decode cX0_read 181 = .ok (.iload 8, 2) := by decide +kernel
theorem dX0_read_183 : decode cX0_read 183 = .ok (.iconst 1, 1) := by decide +kernel
theorem dX0_read_184 : decode cX0_read 184 = .ok (.iadd, 1) := by decide +kernel
theorem dX0_read_185 : decode cX0_read 185 = .ok (.invokestatic 310, 3) := by decide +kernel
theorem dX0_read_188 : decode cX0_read 188 = .ok (.goto 5, 3) := by decide +kernel
theorem dX0_read_191 : decode cX0_read 191 = .ok (.iload 8, 2) := by decide +kernel
theorem dX0_read_193 : decode cX0_read 193 = .ok (.istore_n 3, 1) := by decide +kernel
theorem dX0_read_194 : decode cX0_read 194 = .ok (.iinc 4 1, 3) := by decide +kernel
theorem dX0_read_197 : decode cX0_read 197 = .ok (.goto (-184), 3) := by decide +kernel
theorem dX0_read_200 : decode cX0_read 200 = .ok (.aconst_null, 1) := by decide +kernel
theorem dX0_read_201 : decode cX0_read 201 = .ok (.areturn, 1) := by decide +kernel
theorem dX0_afterBlanks_0 : decode cX0_afterBlanks 0 = .ok (.iload_n 1, 1) := by decide +kernel
theorem dX0_afterBlanks_1 : decode cX0_afterBlanks 1 = .ok (.istore_n 2, 1) := by decide +kernel
theorem dX0_afterBlanks_2 : decode cX0_afterBlanks 2 = .ok (.iload_n 2, 1) := by decide +kernel
theorem dX0_afterBlanks_3 : decode cX0_afterBlanks 3 = .ok (.aload_n 0, 1) := by decide +kernel
theorem dX0_afterBlanks_4 : decode cX0_afterBlanks 4 = .ok (.invokevirtual 303, 3) := by decide +kernel
theorem dX0_afterBlanks_7 : decode cX0_afterBlanks 7 = .ok (.if_icmp .ge 19, 3) := by decide +kernel
theorem dX0_afterBlanks_10 : decode cX0_afterBlanks 10 = .ok (.aload_n 0, 1) := by decide +kernel
theorem dX0_afterBlanks_11 : decode cX0_afterBlanks 11 = .ok (.iload_n 2, 1) := by decide +kernel
theorem dX0_afterBlanks_12 : decode cX0_afterBlanks 12 = .ok (.invokevirtual 306, 3) := by decide +kernel
theorem dX0_afterBlanks_15 : decode cX0_afterBlanks 15 = .ok (.bipush 32, 2) := by decide +kernel
theorem dX0_afterBlanks_17 : decode cX0_afterBlanks 17 = .ok (.if_icmp .ne 9, 3) := by decide +kernel
theorem dX0_afterBlanks_20 : decode cX0_afterBlanks 20 = .ok (.iinc 2 1, 3) := by decide +kernel
theorem dX0_afterBlanks_23 : decode cX0_afterBlanks 23 = .ok (.goto (-21), 3) := by decide +kernel
theorem dX0_afterBlanks_26 : decode cX0_afterBlanks 26 = .ok (.iload_n 2, 1) := by decide +kernel
theorem dX0_afterBlanks_27 : decode cX0_afterBlanks 27 = .ok (.ireturn, 1) := by decide +kernel
theorem dX0_declare_0 : decode cX0_declare 0 = .ok (.aload_n 1, 1) := by decide +kernel
theorem dX0_declare_1 : decode cX0_declare 1 = .ok (.invokevirtual 303, 3) := by decide +kernel
theorem dX0_declare_4 : decode cX0_declare 4 = .ok (.ifCond .le 22, 3) := by decide +kernel
theorem dX0_declare_7 : decode cX0_declare 7 = .ok (.aload_n 1, 1) := by decide +kernel
theorem dX0_declare_8 : decode cX0_declare 8 = .ok (.aload_n 1, 1) := by decide +kernel
theorem dX0_declare_9 : decode cX0_declare 9 = .ok (.invokevirtual 303, 3) := by decide +kernel
theorem dX0_declare_12 : decode cX0_declare 12 = .ok (.iconst 1, 1) := by decide +kernel
theorem dX0_declare_13 : decode cX0_declare 13 = .ok (.isub, 1) := by decide +kernel
theorem dX0_declare_14 : decode cX0_declare 14 = .ok (.invokevirtual 306, 3) := by decide +kernel
theorem dX0_declare_17 : decode cX0_declare 17 = .ok (.bipush 33, 2) := by decide +kernel
theorem dX0_declare_19 : decode cX0_declare 19 = .ok (.if_icmp .ne 7, 3) := by decide +kernel
theorem dX0_declare_22 : decode cX0_declare 22 = .ok (.iconst 1, 1) := by decide +kernel
theorem dX0_declare_23 : decode cX0_declare 23 = .ok (.goto 4, 3) := by decide +kernel
theorem dX0_declare_26 : decode cX0_declare 26 = .ok (.iconst 0, 1) := by decide +kernel
theorem dX0_declare_27 : decode cX0_declare 27 = .ok (.istore_n 2, 1) := by decide +kernel
theorem dX0_declare_28 : decode cX0_declare 28 = .ok (.aload_n 1, 1) := by decide +kernel
theorem dX0_declare_29 : decode cX0_declare 29 = .ok (.invokevirtual 303, 3) := by decide +kernel
theorem dX0_declare_32 : decode cX0_declare 32 = .ok (.iconst 2, 1) := by decide +kernel
theorem dX0_declare_33 : decode cX0_declare 33 = .ok (.isub, 1) := by decide +kernel
theorem dX0_declare_34 : decode cX0_declare 34 = .ok (.iload_n 2, 1) := by decide +kernel
theorem dX0_declare_35 : decode cX0_declare 35 = .ok (.ifCond .eq 7, 3) := by decide +kernel
theorem dX0_declare_38 : decode cX0_declare 38 = .ok (.iconst 1, 1) := by decide +kernel
theorem dX0_declare_39 : decode cX0_declare 39 = .ok (.goto 4, 3) := by decide +kernel
theorem dX0_declare_42 : decode cX0_declare 42 = .ok (.iconst 0, 1) := by decide +kernel
theorem dX0_declare_43 : decode cX0_declare 43 = .ok (.isub, 1) := by decide +kernel
theorem dX0_declare_44 : decode cX0_declare 44 = .ok (.istore_n 3, 1) := by decide +kernel
theorem dX0_declare_45 : decode cX0_declare 45 = .ok (.iload_n 3, 1) := by decide +kernel
theorem dX0_declare_46 : decode cX0_declare 46 = .ok (.iconst 1, 1) := by decide +kernel
theorem dX0_declare_47 : decode cX0_declare 47 = .ok (.if_icmp .lt 18, 3) := by decide +kernel
theorem dX0_declare_50 : decode cX0_declare 50 = .ok (.iload_n 3, 1) := by decide +kernel
theorem dX0_declare_51 : decode cX0_declare 51 = .ok (.iconst 2, 1) := by decide +kernel
theorem dX0_declare_52 : decode cX0_declare 52 = .ok (.if_icmp .gt 13, 3) := by decide +kernel
theorem dX0_declare_55 : decode cX0_declare 55 = .ok (.aload_n 1, 1) := by decide +kernel
theorem dX0_declare_56 : decode cX0_declare 56 = .ok (.iconst 1, 1) := by decide +kernel
theorem dX0_declare_57 : decode cX0_declare 57 = .ok (.invokevirtual 306, 3) := by decide +kernel
theorem dX0_declare_60 : decode cX0_declare 60 = .ok (.bipush 58, 2) := by decide +kernel
theorem dX0_declare_62 : decode cX0_declare 62 = .ok (.if_icmp .eq 7, 3) := by decide +kernel
theorem dX0_declare_65 : decode cX0_declare 65 = .ok (.iconst (-1), 1) := by decide +kernel
theorem dX0_declare_66 : decode cX0_declare 66 = .ok (.goto 14, 3) := by decide +kernel
theorem dX0_declare_69 : decode cX0_declare 69 = .ok (.ldc_w 319, 3) := by decide +kernel
theorem dX0_declare_72 : decode cX0_declare 72 = .ok (.aload_n 1, 1) := by decide +kernel
theorem dX0_declare_73 : decode cX0_declare 73 = .ok (.iconst 0, 1) := by decide +kernel
theorem dX0_declare_74 : decode cX0_declare 74 = .ok (.invokevirtual 306, 3) := by decide +kernel
theorem dX0_declare_77 : decode cX0_declare 77 = .ok (.invokevirtual 173, 3) := by decide +kernel
theorem dX0_declare_80 : decode cX0_declare 80 = .ok (.istore 4, 2) := by decide +kernel
theorem dX0_declare_82 : decode cX0_declare 82 = .ok (.iload 4, 2) := by decide +kernel
theorem dX0_declare_84 : decode cX0_declare 84 = .ok (.ifCond .lt 14, 3) := by decide +kernel
theorem dX0_declare_87 : decode cX0_declare 87 = .ok (.iload_n 3, 1) := by decide +kernel
theorem dX0_declare_88 : decode cX0_declare 88 = .ok (.iconst 2, 1) := by decide +kernel
theorem dX0_declare_89 : decode cX0_declare 89 = .ok (.if_icmp .ne 10, 3) := by decide +kernel
theorem dX0_declare_92 : decode cX0_declare 92 = .ok (.iload 4, 2) := by decide +kernel
theorem dX0_declare_94 : decode cX0_declare 94 = .ok (.iconst 4, 1) := by decide +kernel
theorem dX0_declare_95 : decode cX0_declare 95 = .ok (.if_icmp .ge 4, 3) := by decide +kernel
theorem dX0_declare_98 : decode cX0_declare 98 = .ok (.return_, 1) := by decide +kernel
theorem dX0_declare_99 : decode cX0_declare 99 = .ok (.iconst 0, 1) := by decide +kernel
theorem dX0_declare_100 : decode cX0_declare 100 = .ok (.istore 5, 2) := by decide +kernel
theorem dX0_declare_102 : decode cX0_declare 102 = .ok (.iconst 2, 1) := by decide +kernel
theorem dX0_declare_103 : decode cX0_declare 103 = .ok (.istore 6, 2) := by decide +kernel
theorem dX0_declare_105 : decode cX0_declare 105 = .ok (.iload 6, 2) := by decide +kernel
theorem dX0_declare_107 : decode cX0_declare 107 = .ok (.iconst 2, 1) := by decide +kernel
theorem dX0_declare_108 : decode cX0_declare 108 = .ok (.iload_n 3, 1) := by decide +kernel
theorem dX0_declare_109 : decode cX0_declare 109 = .ok (.iadd, 1) := by decide +kernel
theorem dX0_declare_110 : decode cX0_declare 110 = .ok (.if_icmp .ge 76, 3) := by decide +kernel
theorem dX0_declare_113 : decode cX0_declare 113 = .ok (.aload_n 1, 1) := by decide +kernel
theorem dX0_declare_114 : decode cX0_declare 114 = .ok (.iload 6, 2) := by decide +kernel
theorem dX0_declare_116 : decode cX0_declare 116 = .ok (.invokevirtual 306, 3) := by decide +kernel
theorem dX0_declare_119 : decode cX0_declare 119 = .ok (.istore 7, 2) := by decide +kernel
theorem dX0_declare_121 : decode cX0_declare 121 = .ok (.iload 4, 2) := by decide +kernel
theorem dX0_declare_123 : decode cX0_declare 123 = .ok (.iconst 3, 1) := by decide +kernel
theorem dX0_declare_124 : decode cX0_declare 124 = .ok (.if_icmp .ne 17, 3) := by decide +kernel
theorem dX0_declare_127 : decode cX0_declare 127 = .ok (.ldc_w 321, 3) := by decide +kernel
theorem dX0_declare_130 : decode cX0_declare 130 = .ok (.iload 7, 2) := by decide +kernel
theorem dX0_declare_132 : decode cX0_declare 132 = .ok (.invokevirtual 173, 3) := by decide +kernel
theorem dX0_declare_135 : decode cX0_declare 135 = .ok (.ifCond .ge 21, 3) := by decide +kernel
theorem dX0_declare_138 : decode cX0_declare 138 = .ok (.goto 17, 3) := by decide +kernel
theorem dX0_declare_141 : decode cX0_declare 141 = .ok (.iload 7, 2) := by decide +kernel
theorem dX0_declare_143 : decode cX0_declare 143 = .ok (.bipush 48, 2) := by decide +kernel
theorem dX0_declare_145 : decode cX0_declare 145 = .ok (.if_icmp .lt 10, 3) := by decide +kernel
theorem dX0_declare_148 : decode cX0_declare 148 = .ok (.iload 7, 2) := by decide +kernel
theorem dX0_declare_150 : decode cX0_declare 150 = .ok (.bipush 57, 2) := by decide +kernel
theorem dX0_declare_152 : decode cX0_declare 152 = .ok (.if_icmp .le 4, 3) := by decide +kernel
theorem dX0_declare_155 : decode cX0_declare 155 = .ok (.return_, 1) := by decide +kernel
theorem dX0_declare_156 : decode cX0_declare 156 = .ok (.iload 4, 2) := by decide +kernel
theorem dX0_declare_158 : decode cX0_declare 158 = .ok (.iconst 3, 1) := by decide +kernel
theorem dX0_declare_159 : decode cX0_declare 159 = .ok (.if_icmp .ne 8, 3) := by decide +kernel
theorem dX0_declare_162 : decode cX0_declare 162 = .ok (.iload 7, 2) := by decide +kernel
theorem dX0_declare_164 : decode cX0_declare 164 = .ok (.goto 14, 3) := by decide +kernel
theorem dX0_declare_167 : decode cX0_declare 167 = .ok (.bipush 10, 2) := by decide +kernel
theorem dX0_declare_169 : decode cX0_declare 169 = .ok (.iload 5, 2) := by decide +kernel
theorem dX0_declare_171 : decode cX0_declare 171 = .ok (.imul, 1) := by decide +kernel
theorem dX0_declare_172 : decode cX0_declare 172 = .ok (.iload 7, 2) := by decide +kernel
theorem dX0_declare_174 : decode cX0_declare 174 = .ok (.iadd, 1) := by decide +kernel
theorem dX0_declare_175 : decode cX0_declare 175 = .ok (.bipush 48, 2) := by decide +kernel
theorem dX0_declare_177 : decode cX0_declare 177 = .ok (.isub, 1) := by decide +kernel
theorem dX0_declare_178 : decode cX0_declare 178 = .ok (.istore 5, 2) := by decide +kernel
theorem dX0_declare_180 : decode cX0_declare 180 = .ok (.iinc 6 1, 3) := by decide +kernel
theorem dX0_declare_183 : decode cX0_declare 183 = .ok (.goto (-78), 3) := by decide +kernel
theorem dX0_declare_186 : decode cX0_declare 186 = .ok (.iload 4, 2) := by decide +kernel
theorem dX0_declare_188 : decode cX0_declare 188 = .ok (.iconst 2, 1) := by decide +kernel
theorem dX0_declare_189 : decode cX0_declare 189 = .ok (.if_icmp .ne 8, 3) := by decide +kernel
theorem dX0_declare_192 : decode cX0_declare 192 = .ok (.iload 5, 2) := by decide +kernel
theorem dX0_declare_194 : decode cX0_declare 194 = .ok (.ifCond .le 12, 3) := by decide +kernel
theorem dX0_declare_197 : decode cX0_declare 197 = .ok (.aload_n 0, 1) := by decide +kernel
theorem dX0_declare_198 : decode cX0_declare 198 = .ok (.iload 4, 2) := by decide +kernel
theorem dX0_declare_200 : decode cX0_declare 200 = .ok (.iload 5, 2) := by decide +kernel
theorem dX0_declare_202 : decode cX0_declare 202 = .ok (.iload_n 2, 1) := by decide +kernel
theorem dX0_declare_203 : decode cX0_declare 203 = .ok (.invokevirtual 323, 3) := by decide +kernel
theorem dX0_declare_206 : decode cX0_declare 206 = .ok (.return_, 1) := by decide +kernel
theorem dX0_layout_0 : decode cX0_layout 0 = .ok (.iload_n 1, 1) := by decide +kernel
theorem dX0_layout_1 : decode cX0_layout 1 = .ok (.iconst 1, 1) := by decide +kernel
theorem dX0_layout_2 : decode cX0_layout 2 = .ok (.if_icmp .lt 16, 3) := by decide +kernel
theorem dX0_layout_5 : decode cX0_layout 5 = .ok (.iload_n 1, 1) := by decide +kernel
theorem dX0_layout_6 : decode cX0_layout 6 = .ok (.bipush 64, 2) := by decide +kernel
theorem dX0_layout_8 : decode cX0_layout 8 = .ok (.if_icmp .gt 10, 3) := by decide +kernel
theorem dX0_layout_11 : decode cX0_layout 11 = .ok (.aload_n 0, 1) := by decide +kernel
theorem dX0_layout_12 : decode cX0_layout 12 = .ok (.getfield 82, 3) := by decide +kernel
theorem dX0_layout_15 : decode cX0_layout 15 = .ok (.ifCond .eq 5, 3) := by decide +kernel
theorem dX0_layout_18 : decode cX0_layout 18 = .ok (.iconst (-1), 1) := by decide +kernel
theorem dX0_layout_19 : decode cX0_layout 19 = .ok (.ireturn, 1) := by decide +kernel
theorem dX0_layout_20 : decode cX0_layout 20 = .ok (.aload_n 0, 1) := by decide +kernel
theorem dX0_layout_21 : decode cX0_layout 21 = .ok (.invokevirtual 465, 3) := by decide +kernel
theorem dX0_layout_24 : decode cX0_layout 24 = .ok (.iconst 0, 1) := by decide +kernel
theorem dX0_layout_25 : decode cX0_layout 25 = .ok (.istore_n 2, 1) := by decide +kernel
theorem dX0_layout_26 : decode cX0_layout 26 = .ok (.iload_n 2, 1) := by decide +kernel
theorem dX0_layout_27 : decode cX0_layout 27 = .ok (.aload_n 0, 1) := by decide +kernel
theorem dX0_layout_28 : decode cX0_layout 28 = .ok (.getfield 48, 3) := by decide +kernel
theorem dX0_layout_31 : decode cX0_layout 31 = .ok (.invokevirtual 160, 3) := by decide +kernel
theorem dX0_layout_34 : decode cX0_layout 34 = .ok (.if_icmp .ge 39, 3) := by decide +kernel
theorem dX0_layout_37 : decode cX0_layout 37 = .ok (.aload_n 0, 1) := by decide +kernel
theorem dX0_layout_38 : decode cX0_layout 38 = .ok (.getfield 48, 3) := by decide +kernel
theorem dX0_layout_41 : decode cX0_layout 41 = .ok (.iload_n 2, 1) := by decide +kernel
theorem dX0_layout_42 : decode cX0_layout 42 = .ok (.invokevirtual 163, 3) := by decide +kernel
theorem dX0_layout_45 : decode cX0_layout 45 = .ok (.checkcast 252, 3) := by decide +kernel
theorem dX0_layout_48 : decode cX0_layout 48 = .ok (.astore_n 3, 1) := by decide +kernel
theorem dX0_layout_49 : decode cX0_layout 49 = .ok (.aload_n 3, 1) := by decide +kernel
theorem dX0_layout_50 : decode cX0_layout 50 = .ok (.instanceof 254, 3) := by decide +kernel
theorem dX0_layout_53 : decode cX0_layout 53 = .ok (.ifCond .eq 14, 3) := by decide +kernel
theorem dX0_layout_56 : decode cX0_layout 56 = .ok (.aload_n 3, 1) := by decide +kernel
theorem dX0_layout_57 : decode cX0_layout 57 = .ok (.checkcast 254, 3) := by decide +kernel
theorem dX0_layout_60 : decode cX0_layout 60 = .ok (.getfield 468, 3) := by decide +kernel
theorem dX0_layout_63 : decode cX0_layout 63 = .ok (.iconst (-1), 1) := by decide +kernel
theorem dX0_layout_64 : decode cX0_layout 64 = .ok (.invokestatic 471, 3) := by decide +kernel
theorem dX0_layout_67 : decode cX0_layout 67 = .ok (.iinc 2 1, 3) := by decide +kernel
theorem dX0_layout_70 : decode cX0_layout 70 = .ok (.goto (-44), 3) := by decide +kernel
theorem dX0_layout_73 : decode cX0_layout 73 = .ok (.aload_n 0, 1) := by decide +kernel
theorem dX0_layout_74 : decode cX0_layout 74 = .ok (.getfield 54, 3) := by decide +kernel
theorem dX0_layout_77 : decode cX0_layout 77 = .ok (.iconst 0, 1) := by decide +kernel
theorem dX0_layout_78 : decode cX0_layout 78 = .ok (.putfield 462, 3) := by decide +kernel
theorem dX0_layout_81 : decode cX0_layout 81 = .ok (.aload_n 0, 1) := by decide +kernel
theorem dX0_layout_82 : decode cX0_layout 82 = .ok (.getfield 10, 3) := by decide +kernel
theorem dX0_layout_85 : decode cX0_layout 85 = .ok (.iconst 0, 1) := by decide +kernel
theorem dX0_layout_86 : decode cX0_layout 86 = .ok (.iconst 0, 1) := by decide +kernel
theorem dX0_layout_87 : decode cX0_layout 87 = .ok (.iload_n 1, 1) := by decide +kernel
theorem dX0_layout_88 : decode cX0_layout 88 = .ok (.aload_n 0, 1) := by decide +kernel
theorem dX0_layout_89 : decode cX0_layout 89 = .ok (.getfield 54, 3) := by decide +kernel
theorem dX0_layout_92 : decode cX0_layout 92 = .ok (.invokestatic 421, 3) := by decide +kernel
theorem dX0_layout_95 : decode cX0_layout 95 = .ok (.aload_n 0, 1) := by decide +kernel
theorem dX0_layout_96 : decode cX0_layout 96 = .ok (.iload_n 1, 1) := by decide +kernel
theorem dX0_layout_97 : decode cX0_layout 97 = .ok (.putfield 96, 3) := by decide +kernel
theorem dX0_layout_100 : decode cX0_layout 100 = .ok (.aload_n 0, 1) := by decide +kernel
theorem dX0_layout_101 : decode cX0_layout 101 = .ok (.invokevirtual 477, 3) := by decide +kernel
theorem dX0_layout_104 : decode cX0_layout 104 = .ok (.aload_n 0, 1) := by decide +kernel
theorem dX0_layout_105 : decode cX0_layout 105 = .ok (.getfield 10, 3) := by decide +kernel
theorem dX0_layout_108 : decode cX0_layout 108 = .ok (.getfield 432, 3) := by decide +kernel
theorem dX0_layout_111 : decode cX0_layout 111 = .ok (.ireturn, 1) := by decide +kernel
theorem dX0_refresh_0 : decode cX0_refresh 0 = .ok (.aload_n 0, 1) := by decide +kernel
theorem dX0_refresh_1 : decode cX0_refresh 1 = .ok (.getfield 93, 3) := by decide +kernel
theorem dX0_refresh_4 : decode cX0_refresh 4 = .ok (.ifCond .eq 4, 3) := by decide +kernel
theorem dX0_refresh_7 : decode cX0_refresh 7 = .ok (.return_, 1) := by decide +kernel
theorem dX0_refresh_8 : decode cX0_refresh 8 = .ok (.aload_n 0, 1) := by decide +kernel
theorem dX0_refresh_9 : decode cX0_refresh 9 = .ok (.getfield 48, 3) := by decide +kernel
theorem dX0_refresh_12 : decode cX0_refresh 12 = .ok (.invokevirtual 68, 3) := by decide +kernel
theorem dX0_refresh_15 : decode cX0_refresh 15 = .ok (.aload_n 0, 1) := by decide +kernel
theorem dX0_refresh_16 : decode cX0_refresh 16 = .ok (.getfield 82, 3) := by decide +kernel
theorem dX0_refresh_19 : decode cX0_refresh 19 = .ok (.ifCond .ne 21, 3) := by decide +kernel
theorem dX0_refresh_22 : decode cX0_refresh 22 = .ok (.aload_n 0, 1) := by decide +kernel
theorem dX0_refresh_23 : decode cX0_refresh 23 = .ok (.getfield 10, 3) := by decide +kernel
theorem dX0_refresh_26 : decode cX0_refresh 26 = .ok (.aload_n 0, 1) := by decide +kernel
theorem dX0_refresh_27 : decode cX0_refresh 27 = .ok (.getfield 48, 3) := by decide +kernel
theorem dX0_refresh_30 : decode cX0_refresh 30 = .ok (.aload_n 0, 1) := by decide +kernel
theorem dX0_refresh_31 : decode cX0_refresh 31 = .ok (.getfield 44, 3) := by decide +kernel
theorem dX0_refresh_34 : decode cX0_refresh 34 = .ok (.getfield 379, 3) := by decide +kernel
theorem dX0_refresh_37 : decode cX0_refresh 37 = .ok (.invokestatic 375, 3) := by decide +kernel
theorem dX0_refresh_40 : decode cX0_refresh 40 = .ok (.aload_n 0, 1) := by decide +kernel
theorem dX0_refresh_41 : decode cX0_refresh 41 = .ok (.iconst 1, 1) := by decide +kernel
theorem dX0_refresh_42 : decode cX0_refresh 42 = .ok (.putfield 93, 3) := by decide +kernel
theorem dX0_refresh_45 : decode cX0_refresh 45 = .ok (.return_, 1) := by decide +kernel
theorem dX0_visit_0 : decode cX0_visit 0 = .ok (.aload_n 0, 1) := by decide +kernel
theorem dX0_visit_1 : decode cX0_visit 1 = .ok (.aload_n 1, 1) := by decide +kernel
theorem dX0_visit_2 : decode cX0_visit 2 = .ok (.invokevirtual 160, 3) := by decide +kernel
theorem dX0_visit_5 : decode cX0_visit 5 = .ok (.putfield 368, 3) := by decide +kernel
theorem dX0_visit_8 : decode cX0_visit 8 = .ok (.aload_n 1, 1) := by decide +kernel
theorem dX0_visit_9 : decode cX0_visit 9 = .ok (.aload_n 0, 1) := by decide +kernel
theorem dX0_visit_10 : decode cX0_visit 10 = .ok (.invokevirtual 185, 3) := by decide +kernel
theorem dX0_visit_13 : decode cX0_visit 13 = .ok (.pop, 1) := by decide +kernel
theorem dX0_visit_14 : decode cX0_visit 14 = .ok (.aload_n 0, 1) := by decide +kernel
theorem dX0_visit_15 : decode cX0_visit 15 = .ok (.instanceof 7, 3) := by decide +kernel
theorem dX0_visit_18 : decode cX0_visit 18 = .ok (.ifCond .eq 12, 3) := by decide +kernel
theorem dX0_visit_21 : decode cX0_visit 21 = .ok (.aload_n 1, 1) := by decide +kernel
theorem dX0_visit_22 : decode cX0_visit 22 = .ok (.invokevirtual 160, 3) := by decide +kernel
theorem dX0_visit_25 : decode cX0_visit 25 = .ok (.bipush 24, 2) := by decide +kernel
theorem dX0_visit_27 : decode cX0_visit 27 = .ok (.if_icmp .le 4, 3) := by decide +kernel
theorem dX0_visit_30 : decode cX0_visit 30 = .ok (.return_, 1) := by decide +kernel
theorem dX0_visit_31 : decode cX0_visit 31 = .ok (.aload_n 0, 1) := by decide +kernel
theorem dX0_visit_32 : decode cX0_visit 32 = .ok (.checkcast 7, 3) := by decide +kernel
theorem dX0_visit_35 : decode cX0_visit 35 = .ok (.astore_n 3, 1) := by decide +kernel
theorem dX0_visit_36 : decode cX0_visit 36 = .ok (.aload_n 3, 1) := by decide +kernel
theorem dX0_visit_37 : decode cX0_visit 37 = .ok (.aload_n 2, 1) := by decide +kernel
theorem dX0_visit_38 : decode cX0_visit 38 = .ok (.invokestatic 371, 3) := by decide +kernel
theorem dX0_visit_41 : decode cX0_visit 41 = .ok (.iconst 0, 1) := by decide +kernel
theorem dX0_visit_42 : decode cX0_visit 42 = .ok (.istore 4, 2) := by decide +kernel
theorem dX0_visit_44 : decode cX0_visit 44 = .ok (.iload 4, 2) := by decide +kernel
theorem dX0_visit_46 : decode cX0_visit 46 = .ok (.aload_n 3, 1) := by decide +kernel
theorem dX0_visit_47 : decode cX0_visit 47 = .ok (.getfield 218, 3) := by decide +kernel
theorem dX0_visit_50 : decode cX0_visit 50 = .ok (.invokevirtual 160, 3) := by decide +kernel
theorem dX0_visit_53 : decode cX0_visit 53 = .ok (.if_icmp .ge 26, 3) := by decide +kernel
theorem dX0_visit_56 : decode cX0_visit 56 = .ok (.aload_n 3, 1) := by decide +kernel
theorem dX0_visit_57 : decode cX0_visit 57 = .ok (.getfield 218, 3) := by decide +kernel
theorem dX0_visit_60 : decode cX0_visit 60 = .ok (.iload 4, 2) := by decide +kernel
theorem dX0_visit_62 : decode cX0_visit 62 = .ok (.invokevirtual 163, 3) := by decide +kernel
theorem dX0_visit_65 : decode cX0_visit 65 = .ok (.checkcast 252, 3) := by decide +kernel
theorem dX0_visit_68 : decode cX0_visit 68 = .ok (.aload_n 1, 1) := by decide +kernel
theorem dX0_visit_69 : decode cX0_visit 69 = .ok (.aload_n 2, 1) := by decide +kernel
theorem dX0_visit_70 : decode cX0_visit 70 = .ok (.invokestatic 375, 3) := by decide +kernel
theorem dX0_visit_73 : decode cX0_visit 73 = .ok (.iinc 4 1, 3) := by decide +kernel
theorem dX0_visit_76 : decode cX0_visit 76 = .ok (.goto (-32), 3) := by decide +kernel
theorem dX0_visit_79 : decode cX0_visit 79 = .ok (.return_, 1) := by decide +kernel
theorem dX0_evaluate_0 : decode cX0_evaluate 0 = .ok (.iconst 0, 1) := by decide +kernel
theorem dX0_evaluate_1 : decode cX0_evaluate 1 = .ok (.istore_n 2, 1) := by decide +kernel
theorem dX0_evaluate_2 : decode cX0_evaluate 2 = .ok (.iload_n 2, 1) := by decide +kernel
theorem dX0_evaluate_3 : decode cX0_evaluate 3 = .ok (.bipush 7, 2) := by decide +kernel
theorem dX0_evaluate_5 : decode cX0_evaluate 5 = .ok (.if_icmp .ge 37, 3) := by decide +kernel
theorem dX0_evaluate_8 : decode cX0_evaluate 8 = .ok (.aload_n 0, 1) := by decide +kernel
theorem dX0_evaluate_9 : decode cX0_evaluate 9 = .ok (.iload_n 2, 1) := by decide +kernel
theorem dX0_evaluate_10 : decode cX0_evaluate 10 = .ok (.aload_n 1, 1) := by decide +kernel
theorem dX0_evaluate_11 : decode cX0_evaluate 11 = .ok (.invokestatic 357, 3) := by decide +kernel
theorem dX0_evaluate_14 : decode cX0_evaluate 14 = .ok (.istore_n 3, 1) := by decide +kernel
theorem dX0_evaluate_15 : decode cX0_evaluate 15 = .ok (.aload_n 0, 1) := by decide +kernel
theorem dX0_evaluate_16 : decode cX0_evaluate 16 = .ok (.getfield 354, 3) := by decide +kernel
theorem dX0_evaluate_19 : decode cX0_evaluate 19 = .ok (.iload_n 2, 1) := by decide +kernel
theorem dX0_evaluate_20 : decode cX0_evaluate 20 = .ok (.iload_n 3, 1) := by decide +kernel
theorem dX0_evaluate_21 : decode cX0_evaluate 21 = .ok (.bipush (-2), 2) := by decide +kernel
theorem dX0_evaluate_23 : decode cX0_evaluate 23 = .ok (.if_icmp .eq 7, 3) := by decide +kernel
theorem dX0_evaluate_26 : decode cX0_evaluate 26 = .ok (.iload_n 3, 1) := by decide +kernel
theorem dX0_evaluate_27 : decode cX0_evaluate 27 = .ok (.goto 8, 3) := by decide +kernel
theorem dX0_evaluate_30 : decode cX0_evaluate 30 = .ok (.aload_n 0, 1) := by decide +kernel
theorem dX0_evaluate_31 : decode cX0_evaluate 31 = .ok (.iload_n 2, 1) := by decide +kernel
theorem dX0_evaluate_32 : decode cX0_evaluate 32 = .ok (.invokestatic 361, 3) := by decide +kernel
theorem dX0_evaluate_35 : decode cX0_evaluate 35 = .ok (.iastore, 1) := by decide +kernel
theorem dX0_evaluate_36 : decode cX0_evaluate 36 = .ok (.iinc 2 1, 3) := by decide +kernel
theorem dX0_evaluate_39 : decode cX0_evaluate 39 = .ok (.goto (-37), 3) := by decide +kernel
theorem dX0_evaluate_42 : decode cX0_evaluate 42 = .ok (.aload_n 0, 1) := by decide +kernel
theorem dX0_evaluate_43 : decode cX0_evaluate 43 = .ok (.bipush 116, 2) := by decide +kernel
theorem dX0_evaluate_45 : decode cX0_evaluate 45 = .ok (.invokevirtual 167, 3) := by decide +kernel
theorem dX0_evaluate_48 : decode cX0_evaluate 48 = .ok (.ifCond .ne 21, 3) := by decide +kernel
theorem dX0_evaluate_51 : decode cX0_evaluate 51 = .ok (.aload_n 0, 1) := by decide +kernel
theorem dX0_evaluate_52 : decode cX0_evaluate 52 = .ok (.bipush 114, 2) := by decide +kernel
theorem dX0_evaluate_54 : decode cX0_evaluate 54 = .ok (.invokevirtual 167, 3) := by decide +kernel
theorem dX0_evaluate_57 : decode cX0_evaluate 57 = .ok (.ifCond .ne 12, 3) := by decide +kernel
theorem dX0_evaluate_60 : decode cX0_evaluate 60 = .ok (.aload_n 0, 1) := by decide +kernel
theorem dX0_evaluate_61 : decode cX0_evaluate 61 = .ok (.bipush 99, 2) := by decide +kernel
theorem dX0_evaluate_63 : decode cX0_evaluate 63 = .ok (.invokevirtual 167, 3) := by decide +kernel
theorem dX0_evaluate_66 : decode cX0_evaluate 66 = .ok (.ifCond .eq 22, 3) := by decide +kernel
theorem dX0_evaluate_69 : decode cX0_evaluate 69 = .ok (.aload_n 0, 1) := by decide +kernel
theorem dX0_evaluate_70 : decode cX0_evaluate 70 = .ok (.getfield 354, 3) := by decide +kernel
theorem dX0_evaluate_73 : decode cX0_evaluate 73 = .ok (.iconst 3, 1) := by decide +kernel
theorem dX0_evaluate_74 : decode cX0_evaluate 74 = .ok (.iaload, 1) := by decide +kernel
theorem dX0_evaluate_75 : decode cX0_evaluate 75 = .ok (.bipush 105, 2) := by decide +kernel
theorem dX0_evaluate_77 : decode cX0_evaluate 77 = .ok (.if_icmp .ne 11, 3) := by decide +kernel
theorem dX0_evaluate_80 : decode cX0_evaluate 80 = .ok (.aload_n 0, 1) := by decide +kernel
theorem dX0_evaluate_81 : decode cX0_evaluate 81 = .ok (.getfield 354, 3) := by decide +kernel
theorem dX0_evaluate_84 : decode cX0_evaluate 84 = .ok (.iconst 3, 1) := by decide +kernel
theorem dX0_evaluate_85 : decode cX0_evaluate 85 = .ok (.bipush 98, 2) := by decide +kernel
theorem dX0_evaluate_87 : decode cX0_evaluate 87 = .ok (.iastore, 1) := by decide +kernel
theorem dX0_evaluate_88 : decode cX0_evaluate 88 = .ok (.aload_n 0, 1) := by decide +kernel
theorem dX0_evaluate_89 : decode cX0_evaluate 89 = .ok (.aload_n 0, 1) := by decide +kernel
theorem dX0_evaluate_90 : decode cX0_evaluate 90 = .ok (.getfield 205, 3) := by decide +kernel
theorem dX0_evaluate_93 : decode cX0_evaluate 93 = .ok (.ifnull 13, 3) := by decide +kernel
theorem dX0_evaluate_96 : decode cX0_evaluate 96 = .ok (.aload_n 0, 1) := by decide +kernel
theorem dX0_evaluate_97 : decode cX0_evaluate 97 = .ok (.getfield 205, 3) := by decide +kernel
theorem dX0_evaluate_100 : decode cX0_evaluate 100 = .ok (.getfield 365, 3) := by decide +kernel
theorem dX0_evaluate_103 : decode cX0_evaluate 103 = .ok (.ifCond .eq 18, 3) := by decide +kernel
theorem dX0_evaluate_106 : decode cX0_evaluate 106 = .ok (.aload_n 0, 1) := by decide +kernel
theorem dX0_evaluate_107 : decode cX0_evaluate 107 = .ok (.getfield 354, 3) := by decide +kernel
theorem dX0_evaluate_110 : decode cX0_evaluate 110 = .ok (.iconst 3, 1) := by decide +kernel
theorem dX0_evaluate_111 : decode cX0_evaluate 111 = .ok (.iaload, 1) := by decide +kernel
theorem dX0_evaluate_112 : decode cX0_evaluate 112 = .ok (.bipush 110, 2) := by decide +kernel
theorem dX0_evaluate_114 : decode cX0_evaluate 114 = .ok (.if_icmp .eq 7, 3) := by decide +kernel
theorem dX0_evaluate_117 : decode cX0_evaluate 117 = .ok (.iconst 1, 1) := by decide +kernel
theorem dX0_evaluate_118 : decode cX0_evaluate 118 = .ok (.goto 4, 3) := by decide +kernel
theorem dX0_evaluate_121 : decode cX0_evaluate 121 = .ok (.iconst 0, 1) := by decide +kernel
theorem dX0_evaluate_122 : decode cX0_evaluate 122 = .ok (.putfield 365, 3) := by decide +kernel
theorem dX0_evaluate_125 : decode cX0_evaluate 125 = .ok (.return_, 1) := by decide +kernel
theorem dX0_given_0 : decode cX0_given 0 = .ok (.bipush (-2), 2) := by decide +kernel
theorem dX0_given_2 : decode cX0_given 2 = .ok (.istore_n 3, 1) := by decide +kernel
theorem dX0_given_3 : decode cX0_given 3 = .ok (.bipush (-2), 2) := by decide +kernel
theorem dX0_given_5 : decode cX0_given 5 = .ok (.istore 4, 2) := by decide +kernel
theorem dX0_given_7 : decode cX0_given 7 = .ok (.iconst (-1), 1) := by decide +kernel
theorem dX0_given_8 : decode cX0_given 8 = .ok (.istore 5, 2) := by decide +kernel
theorem dX0_given_10 : decode cX0_given 10 = .ok (.iconst (-1), 1) := by decide +kernel
theorem dX0_given_11 : decode cX0_given 11 = .ok (.istore 6, 2) := by decide +kernel
theorem dX0_given_13 : decode cX0_given 13 = .ok (.iconst 0, 1) := by decide +kernel
theorem dX0_given_14 : decode cX0_given 14 = .ok (.istore 7, 2) := by decide +kernel
theorem dX0_given_16 : decode cX0_given 16 = .ok (.iload 7, 2) := by decide +kernel
theorem dX0_given_18 : decode cX0_given 18 = .ok (.aload_n 2, 1) := by decide +kernel
theorem dX0_given_19 : decode cX0_given 19 = .ok (.invokevirtual 160, 3) := by decide +kernel
theorem dX0_given_22 : decode cX0_given 22 = .ok (.if_icmp .ge 170, 3) := by decide +kernel
theorem dX0_given_25 : decode cX0_given 25 = .ok (.aload_n 2, 1) := by decide +kernel
theorem dX0_given_26 : decode cX0_given 26 = .ok (.iload 7, 2) := by decide +kernel
theorem dX0_given_28 : decode cX0_given 28 = .ok (.invokevirtual 163, 3) := by decide +kernel
theorem dX0_given_31 : decode cX0_given 31 = .ok (.checkcast 324, 3) := by decide +kernel
theorem dX0_given_34 : decode cX0_given 34 = .ok (.astore 8, 2) := by decide +kernel
theorem dX0_given_36 : decode cX0_given 36 = .ok (.aload 8, 2) := by decide +kernel
theorem dX0_given_38 : decode cX0_given 38 = .ok (.getfield 342, 3) := by decide +kernel
theorem dX0_given_41 : decode cX0_given 41 = .ok (.iload_n 1, 1) := by decide +kernel
theorem dX0_given_42 : decode cX0_given 42 = .ok (.iaload, 1) := by decide +kernel
theorem dX0_given_43 : decode cX0_given 43 = .ok (.bipush (-2), 2) := by decide +kernel
theorem dX0_given_45 : decode cX0_given 45 = .ok (.if_icmp .eq 17, 3) := by decide +kernel
theorem dX0_given_48 : decode cX0_given 48 = .ok (.aload 8, 2) := by decide +kernel
theorem dX0_given_50 : decode cX0_given 50 = .ok (.getfield 345, 3) := by decide +kernel
theorem dX0_given_53 : decode cX0_given 53 = .ok (.iload 5, 2) := by decide +kernel
theorem dX0_given_55 : decode cX0_given 55 = .ok (.if_icmp .lt 7, 3) := by decide +kernel
theorem dX0_given_58 : decode cX0_given 58 = .ok (.iconst 1, 1) := by decide +kernel
theorem dX0_given_59 : decode cX0_given 59 = .ok (.goto 4, 3) := by decide +kernel
theorem dX0_given_62 : decode cX0_given 62 = .ok (.iconst 0, 1) := by decide +kernel
theorem dX0_given_63 : decode cX0_given 63 = .ok (.istore 9, 2) := by decide +kernel
theorem dX0_given_65 : decode cX0_given 65 = .ok (.aload 8, 2) := by decide +kernel
theorem dX0_given_67 : decode cX0_given 67 = .ok (.getfield 348, 3) := by decide +kernel
theorem dX0_given_70 : decode cX0_given 70 = .ok (.iload_n 1, 1) := by decide +kernel
theorem dX0_given_71 : decode cX0_given 71 = .ok (.iaload, 1) := by decide +kernel
theorem dX0_given_72 : decode cX0_given 72 = .ok (.bipush (-2), 2) := by decide +kernel
