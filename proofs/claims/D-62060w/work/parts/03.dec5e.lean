set_option maxRecDepth 100000
theorem dX5_layout_74 : decode cX5_layout 74 = .ok (.iload_n 1, 1) := by decide +kernel
theorem dX5_layout_75 : decode cX5_layout 75 = .ok (.invokevirtual 316, 3) := by decide +kernel
theorem dX5_layout_78 : decode cX5_layout 78 = .ok (.iinc 2 1, 3) := by decide +kernel
theorem dX5_layout_81 : decode cX5_layout 81 = .ok (.goto (-17), 3) := by decide +kernel
theorem dX5_layout_84 : decode cX5_layout 84 = .ok (.aload_n 0, 1) := by decide +kernel
theorem dX5_layout_85 : decode cX5_layout 85 = .ok (.getfield 142, 3) := by decide +kernel
theorem dX5_layout_88 : decode cX5_layout 88 = .ok (.iconst 1, 1) := by decide +kernel
theorem dX5_layout_89 : decode cX5_layout 89 = .ok (.isub, 1) := by decide +kernel
theorem dX5_layout_90 : decode cX5_layout 90 = .ok (.istore_n 2, 1) := by decide +kernel
theorem dX5_layout_91 : decode cX5_layout 91 = .ok (.iload_n 2, 1) := by decide +kernel
theorem dX5_layout_92 : decode cX5_layout 92 = .ok (.ifCond .lt 23, 3) := by decide +kernel
theorem dX5_layout_95 : decode cX5_layout 95 = .ok (.aload_n 0, 1) := by decide +kernel
theorem dX5_layout_96 : decode cX5_layout 96 = .ok (.getfield 89, 3) := by decide +kernel
theorem dX5_layout_99 : decode cX5_layout 99 = .ok (.iload_n 2, 1) := by decide +kernel
theorem dX5_layout_100 : decode cX5_layout 100 = .ok (.baload, 1) := by decide +kernel
theorem dX5_layout_101 : decode cX5_layout 101 = .ok (.ifCond .eq 8, 3) := by decide +kernel
theorem dX5_layout_104 : decode cX5_layout 104 = .ok (.aload_n 0, 1) := by decide +kernel
theorem dX5_layout_105 : decode cX5_layout 105 = .ok (.iload_n 2, 1) := by decide +kernel
theorem dX5_layout_106 : decode cX5_layout 106 = .ok (.invokevirtual 319, 3) := by decide +kernel
theorem dX5_layout_109 : decode cX5_layout 109 = .ok (.iinc 2 (-1), 3) := by decide +kernel
theorem dX5_layout_112 : decode cX5_layout 112 = .ok (.goto (-21), 3) := by decide +kernel
theorem dX5_layout_115 : decode cX5_layout 115 = .ok (.aload_n 0, 1) := by decide +kernel
theorem dX5_layout_116 : decode cX5_layout 116 = .ok (.invokevirtual 322, 3) := by decide +kernel
theorem dX5_layout_119 : decode cX5_layout 119 = .ok (.aload_n 0, 1) := by decide +kernel
theorem dX5_layout_120 : decode cX5_layout 120 = .ok (.getfield 101, 3) := by decide +kernel
theorem dX5_layout_123 : decode cX5_layout 123 = .ok (.iconst 0, 1) := by decide +kernel
theorem dX5_layout_124 : decode cX5_layout 124 = .ok (.iaload, 1) := by decide +kernel
theorem dX5_layout_125 : decode cX5_layout 125 = .ok (.ireturn, 1) := by decide +kernel
theorem dX5_widths_0 : decode cX5_widths 0 = .ok (.aload_n 0, 1) := by decide +kernel
theorem dX5_widths_1 : decode cX5_widths 1 = .ok (.getfield 19, 3) := by decide +kernel
theorem dX5_widths_4 : decode cX5_widths 4 = .ok (.aload_n 0, 1) := by decide +kernel
theorem dX5_widths_5 : decode cX5_widths 5 = .ok (.getfield 16, 3) := by decide +kernel
theorem dX5_widths_8 : decode cX5_widths 8 = .ok (.iload_n 1, 1) := by decide +kernel
theorem dX5_widths_9 : decode cX5_widths 9 = .ok (.iaload, 1) := by decide +kernel
theorem dX5_widths_10 : decode cX5_widths 10 = .ok (.iaload, 1) := by decide +kernel
theorem dX5_widths_11 : decode cX5_widths 11 = .ok (.iconst 1, 1) := by decide +kernel
theorem dX5_widths_12 : decode cX5_widths 12 = .ok (.if_icmp .eq 7, 3) := by decide +kernel
theorem dX5_widths_15 : decode cX5_widths 15 = .ok (.iconst 1, 1) := by decide +kernel
theorem dX5_widths_16 : decode cX5_widths 16 = .ok (.goto 4, 3) := by decide +kernel
theorem dX5_widths_19 : decode cX5_widths 19 = .ok (.iconst 0, 1) := by decide +kernel
theorem dX5_widths_20 : decode cX5_widths 20 = .ok (.istore_n 3, 1) := by decide +kernel
theorem dX5_widths_21 : decode cX5_widths 21 = .ok (.aload_n 0, 1) := by decide +kernel
theorem dX5_widths_22 : decode cX5_widths 22 = .ok (.getfield 86, 3) := by decide +kernel
theorem dX5_widths_25 : decode cX5_widths 25 = .ok (.iload_n 1, 1) := by decide +kernel
theorem dX5_widths_26 : decode cX5_widths 26 = .ok (.iload_n 1, 1) := by decide +kernel
theorem dX5_widths_27 : decode cX5_widths 27 = .ok (.ifCond .le 39, 3) := by decide +kernel
theorem dX5_widths_30 : decode cX5_widths 30 = .ok (.aload_n 0, 1) := by decide +kernel
theorem dX5_widths_31 : decode cX5_widths 31 = .ok (.getfield 86, 3) := by decide +kernel
theorem dX5_widths_34 : decode cX5_widths 34 = .ok (.aload_n 0, 1) := by decide +kernel
theorem dX5_widths_35 : decode cX5_widths 35 = .ok (.getfield 74, 3) := by decide +kernel
theorem dX5_widths_38 : decode cX5_widths 38 = .ok (.iload_n 1, 1) := by decide +kernel
theorem dX5_widths_39 : decode cX5_widths 39 = .ok (.iaload, 1) := by decide +kernel
theorem dX5_widths_40 : decode cX5_widths 40 = .ok (.baload, 1) := by decide +kernel
theorem dX5_widths_41 : decode cX5_widths 41 = .ok (.ifCond .ne 21, 3) := by decide +kernel
theorem dX5_widths_44 : decode cX5_widths 44 = .ok (.iload_n 3, 1) := by decide +kernel
theorem dX5_widths_45 : decode cX5_widths 45 = .ok (.ifCond .eq 21, 3) := by decide +kernel
theorem dX5_widths_48 : decode cX5_widths 48 = .ok (.aload_n 0, 1) := by decide +kernel
theorem dX5_widths_49 : decode cX5_widths 49 = .ok (.getfield 83, 3) := by decide +kernel
theorem dX5_widths_52 : decode cX5_widths 52 = .ok (.bipush 120, 2) := by decide +kernel
theorem dX5_widths_54 : decode cX5_widths 54 = .ok (.iload_n 1, 1) := by decide +kernel
theorem dX5_widths_55 : decode cX5_widths 55 = .ok (.iadd, 1) := by decide +kernel
theorem dX5_widths_56 : decode cX5_widths 56 = .ok (.iaload, 1) := by decide +kernel
theorem dX5_widths_57 : decode cX5_widths 57 = .ok (.bipush 110, 2) := by decide +kernel
theorem dX5_widths_59 : decode cX5_widths 59 = .ok (.if_icmp .ne 7, 3) := by decide +kernel
theorem dX5_widths_62 : decode cX5_widths 62 = .ok (.iconst 1, 1) := by decide +kernel
theorem dX5_widths_63 : decode cX5_widths 63 = .ok (.goto 4, 3) := by decide +kernel
theorem dX5_widths_66 : decode cX5_widths 66 = .ok (.iconst 0, 1) := by decide +kernel
theorem dX5_widths_67 : decode cX5_widths 67 = .ok (.bastore, 1) := by decide +kernel
theorem dX5_widths_68 : decode cX5_widths 68 = .ok (.aload_n 0, 1) := by decide +kernel
theorem dX5_widths_69 : decode cX5_widths 69 = .ok (.getfield 89, 3) := by decide +kernel
theorem dX5_widths_72 : decode cX5_widths 72 = .ok (.iload_n 1, 1) := by decide +kernel
theorem dX5_widths_73 : decode cX5_widths 73 = .ok (.iload_n 3, 1) := by decide +kernel
theorem dX5_widths_74 : decode cX5_widths 74 = .ok (.ifCond .eq 30, 3) := by decide +kernel
theorem dX5_widths_77 : decode cX5_widths 77 = .ok (.aload_n 0, 1) := by decide +kernel
theorem dX5_widths_78 : decode cX5_widths 78 = .ok (.getfield 86, 3) := by decide +kernel
theorem dX5_widths_81 : decode cX5_widths 81 = .ok (.iload_n 1, 1) := by decide +kernel
theorem dX5_widths_82 : decode cX5_widths 82 = .ok (.baload, 1) := by decide +kernel
theorem dX5_widths_83 : decode cX5_widths 83 = .ok (.ifCond .ne 21, 3) := by decide +kernel
theorem dX5_widths_86 : decode cX5_widths 86 = .ok (.aload_n 0, 1) := by decide +kernel
theorem dX5_widths_87 : decode cX5_widths 87 = .ok (.getfield 83, 3) := by decide +kernel
theorem dX5_widths_90 : decode cX5_widths 90 = .ok (.bipush 120, 2) := by decide +kernel
theorem dX5_widths_92 : decode cX5_widths 92 = .ok (.iload_n 1, 1) := by decide +kernel
theorem dX5_widths_93 : decode cX5_widths 93 = .ok (.iadd, 1) := by decide +kernel
theorem dX5_widths_94 : decode cX5_widths 94 = .ok (.iaload, 1) := by decide +kernel
theorem dX5_widths_95 : decode cX5_widths 95 = .ok (.bipush 98, 2) := by decide +kernel
theorem dX5_widths_97 : decode cX5_widths 97 = .ok (.if_icmp .ne 7, 3) := by decide +kernel
theorem dX5_widths_100 : decode cX5_widths 100 = .ok (.iconst 1, 1) := by decide +kernel
theorem dX5_widths_101 : decode cX5_widths 101 = .ok (.goto 4, 3) := by decide +kernel
theorem dX5_widths_104 : decode cX5_widths 104 = .ok (.iconst 0, 1) := by decide +kernel
theorem dX5_widths_105 : decode cX5_widths 105 = .ok (.bastore, 1) := by decide +kernel
theorem dX5_widths_106 : decode cX5_widths 106 = .ok (.aload_n 0, 1) := by decide +kernel
theorem dX5_widths_107 : decode cX5_widths 107 = .ok (.getfield 92, 3) := by decide +kernel
theorem dX5_widths_110 : decode cX5_widths 110 = .ok (.iload_n 1, 1) := by decide +kernel
theorem dX5_widths_111 : decode cX5_widths 111 = .ok (.iload_n 1, 1) := by decide +kernel
theorem dX5_widths_112 : decode cX5_widths 112 = .ok (.ifCond .ne 7, 3) := by decide +kernel
theorem dX5_widths_115 : decode cX5_widths 115 = .ok (.iconst (-1), 1) := by decide +kernel
theorem dX5_widths_116 : decode cX5_widths 116 = .ok (.goto 37, 3) := by decide +kernel
theorem dX5_widths_119 : decode cX5_widths 119 = .ok (.aload_n 0, 1) := by decide +kernel
theorem dX5_widths_120 : decode cX5_widths 120 = .ok (.getfield 89, 3) := by decide +kernel
theorem dX5_widths_123 : decode cX5_widths 123 = .ok (.aload_n 0, 1) := by decide +kernel
theorem dX5_widths_124 : decode cX5_widths 124 = .ok (.getfield 74, 3) := by decide +kernel
theorem dX5_widths_127 : decode cX5_widths 127 = .ok (.iload_n 1, 1) := by decide +kernel
theorem dX5_widths_128 : decode cX5_widths 128 = .ok (.iaload, 1) := by decide +kernel
theorem dX5_widths_129 : decode cX5_widths 129 = .ok (.baload, 1) := by decide +kernel
theorem dX5_widths_130 : decode cX5_widths 130 = .ok (.ifCond .eq 12, 3) := by decide +kernel
theorem dX5_widths_133 : decode cX5_widths 133 = .ok (.aload_n 0, 1) := by decide +kernel
theorem dX5_widths_134 : decode cX5_widths 134 = .ok (.getfield 74, 3) := by decide +kernel
theorem dX5_widths_137 : decode cX5_widths 137 = .ok (.iload_n 1, 1) := by decide +kernel
theorem dX5_widths_138 : decode cX5_widths 138 = .ok (.iaload, 1) := by decide +kernel
theorem dX5_widths_139 : decode cX5_widths 139 = .ok (.goto 14, 3) := by decide +kernel
theorem dX5_widths_142 : decode cX5_widths 142 = .ok (.aload_n 0, 1) := by decide +kernel
theorem dX5_widths_143 : decode cX5_widths 143 = .ok (.getfield 92, 3) := by decide +kernel
theorem dX5_widths_146 : decode cX5_widths 146 = .ok (.aload_n 0, 1) := by decide +kernel
theorem dX5_widths_147 : decode cX5_widths 147 = .ok (.getfield 74, 3) := by decide +kernel
theorem dX5_widths_150 : decode cX5_widths 150 = .ok (.iload_n 1, 1) := by decide +kernel
theorem dX5_widths_151 : decode cX5_widths 151 = .ok (.iaload, 1) := by decide +kernel
theorem dX5_widths_152 : decode cX5_widths 152 = .ok (.iaload, 1) := by decide +kernel
theorem dX5_widths_153 : decode cX5_widths 153 = .ok (.iastore, 1) := by decide +kernel
theorem dX5_widths_154 : decode cX5_widths 154 = .ok (.iload_n 1, 1) := by decide +kernel
theorem dX5_widths_155 : decode cX5_widths 155 = .ok (.ifCond .ne 20, 3) := by decide +kernel
theorem dX5_widths_158 : decode cX5_widths 158 = .ok (.aload_n 0, 1) := by decide +kernel
theorem dX5_widths_159 : decode cX5_widths 159 = .ok (.getfield 95, 3) := by decide +kernel
theorem dX5_widths_162 : decode cX5_widths 162 = .ok (.iconst 0, 1) := by decide +kernel
theorem dX5_widths_163 : decode cX5_widths 163 = .ok (.iconst 0, 1) := by decide +kernel
theorem dX5_widths_164 : decode cX5_widths 164 = .ok (.iastore, 1) := by decide +kernel
theorem dX5_widths_165 : decode cX5_widths 165 = .ok (.aload_n 0, 1) := by decide +kernel
theorem dX5_widths_166 : decode cX5_widths 166 = .ok (.getfield 98, 3) := by decide +kernel
theorem dX5_widths_169 : decode cX5_widths 169 = .ok (.iconst 0, 1) := by decide +kernel
theorem dX5_widths_170 : decode cX5_widths 170 = .ok (.iload_n 2, 1) := by decide +kernel
theorem dX5_widths_171 : decode cX5_widths 171 = .ok (.iastore, 1) := by decide +kernel
theorem dX5_widths_172 : decode cX5_widths 172 = .ok (.goto 224, 3) := by decide +kernel
theorem dX5_widths_175 : decode cX5_widths 175 = .ok (.aload_n 0, 1) := by decide +kernel
theorem dX5_widths_176 : decode cX5_widths 176 = .ok (.getfield 89, 3) := by decide +kernel
theorem dX5_widths_179 : decode cX5_widths 179 = .ok (.iload_n 1, 1) := by decide +kernel
theorem dX5_widths_180 : decode cX5_widths 180 = .ok (.baload, 1) := by decide +kernel
theorem dX5_widths_181 : decode cX5_widths 181 = .ok (.ifCond .eq 215, 3) := by decide +kernel
theorem dX5_widths_184 : decode cX5_widths 184 = .ok (.aload_n 0, 1) := by decide +kernel
theorem dX5_widths_185 : decode cX5_widths 185 = .ok (.getfield 92, 3) := by decide +kernel
theorem dX5_widths_188 : decode cX5_widths 188 = .ok (.iload_n 1, 1) := by decide +kernel
theorem dX5_widths_189 : decode cX5_widths 189 = .ok (.iaload, 1) := by decide +kernel
theorem dX5_widths_190 : decode cX5_widths 190 = .ok (.istore 4, 2) := by decide +kernel
theorem dX5_widths_192 : decode cX5_widths 192 = .ok (.aload_n 0, 1) := by decide +kernel
theorem dX5_widths_193 : decode cX5_widths 193 = .ok (.getfield 95, 3) := by decide +kernel
theorem dX5_widths_196 : decode cX5_widths 196 = .ok (.iload 4, 2) := by decide +kernel
theorem dX5_widths_198 : decode cX5_widths 198 = .ok (.iaload, 1) := by decide +kernel
theorem dX5_widths_199 : decode cX5_widths 199 = .ok (.aload_n 0, 1) := by decide +kernel
theorem dX5_widths_200 : decode cX5_widths 200 = .ok (.iload 4, 2) := by decide +kernel
theorem dX5_widths_202 : decode cX5_widths 202 = .ok (.iconst 5, 1) := by decide +kernel
theorem dX5_widths_203 : decode cX5_widths 203 = .ok (.invokevirtual 325, 3) := by decide +kernel
theorem dX5_widths_206 : decode cX5_widths 206 = .ok (.iadd, 1) := by decide +kernel
theorem dX5_widths_207 : decode cX5_widths 207 = .ok (.istore 5, 2) := by decide +kernel
theorem dX5_widths_209 : decode cX5_widths 209 = .ok (.aload_n 0, 1) := by decide +kernel
theorem dX5_widths_210 : decode cX5_widths 210 = .ok (.getfield 98, 3) := by decide +kernel
theorem dX5_widths_213 : decode cX5_widths 213 = .ok (.iload 4, 2) := by decide +kernel
theorem dX5_widths_215 : decode cX5_widths 215 = .ok (.iaload, 1) := by decide +kernel
theorem dX5_widths_216 : decode cX5_widths 216 = .ok (.istore 6, 2) := by decide +kernel
theorem dX5_widths_218 : decode cX5_widths 218 = .ok (.aload_n 0, 1) := by decide +kernel
theorem dX5_widths_219 : decode cX5_widths 219 = .ok (.getfield 19, 3) := by decide +kernel
theorem dX5_widths_222 : decode cX5_widths 222 = .ok (.aload_n 0, 1) := by decide +kernel
theorem dX5_widths_223 : decode cX5_widths 223 = .ok (.getfield 16, 3) := by decide +kernel
theorem dX5_widths_226 : decode cX5_widths 226 = .ok (.iload 4, 2) := by decide +kernel
theorem dX5_widths_228 : decode cX5_widths 228 = .ok (.iaload, 1) := by decide +kernel
theorem dX5_widths_229 : decode cX5_widths 229 = .ok (.iaload, 1) := by decide +kernel
theorem dX5_widths_230 : decode cX5_widths 230 = .ok (.bipush 114, 2) := by decide +kernel
theorem dX5_widths_232 : decode cX5_widths 232 = .ok (.if_icmp .ne 79, 3) := by decide +kernel
theorem dX5_widths_235 : decode cX5_widths 235 = .ok (.iconst 0, 1) := by decide +kernel
theorem dX5_widths_236 : decode cX5_widths 236 = .ok (.istore 7, 2) := by decide +kernel
theorem dX5_widths_238 : decode cX5_widths 238 = .ok (.iconst 0, 1) := by decide +kernel
theorem dX5_widths_239 : decode cX5_widths 239 = .ok (.istore 8, 2) := by decide +kernel
theorem dX5_widths_241 : decode cX5_widths 241 = .ok (.iload 4, 2) := by decide +kernel
theorem dX5_widths_243 : decode cX5_widths 243 = .ok (.iconst 1, 1) := by decide +kernel
theorem dX5_widths_244 : decode cX5_widths 244 = .ok (.iadd, 1) := by decide +kernel
theorem dX5_widths_245 : decode cX5_widths 245 = .ok (.istore 9, 2) := by decide +kernel
theorem dX5_widths_247 : decode cX5_widths 247 = .ok (.iload 9, 2) := by decide +kernel
theorem dX5_widths_249 : decode cX5_widths 249 = .ok (.aload_n 0, 1) := by decide +kernel
theorem dX5_widths_250 : decode cX5_widths 250 = .ok (.iload 4, 2) := by decide +kernel
theorem dX5_widths_252 : decode cX5_widths 252 = .ok (.invokevirtual 205, 3) := by decide +kernel
theorem dX5_widths_255 : decode cX5_widths 255 = .ok (.if_icmp .ge 39, 3) := by decide +kernel
theorem dX5_widths_258 : decode cX5_widths 258 = .ok (.aload_n 0, 1) := by decide +kernel
theorem dX5_widths_259 : decode cX5_widths 259 = .ok (.iload 9, 2) := by decide +kernel
theorem dX5_widths_261 : decode cX5_widths 261 = .ok (.iload 4, 2) := by decide +kernel
theorem dX5_widths_263 : decode cX5_widths 263 = .ok (.invokevirtual 328, 3) := by decide +kernel
theorem dX5_widths_266 : decode cX5_widths 266 = .ok (.ifCond .eq 22, 3) := by decide +kernel
theorem dX5_widths_269 : decode cX5_widths 269 = .ok (.iinc 7 1, 3) := by decide +kernel
theorem dX5_widths_272 : decode cX5_widths 272 = .ok (.iload 8, 2) := by decide +kernel
theorem dX5_widths_274 : decode cX5_widths 274 = .ok (.iload 9, 2) := by decide +kernel
theorem dX5_widths_276 : decode cX5_widths 276 = .ok (.iload_n 1, 1) := by decide +kernel
theorem dX5_widths_277 : decode cX5_widths 277 = .ok (.if_icmp .ge 7, 3) := by decide +kernel
theorem dX5_widths_280 : decode cX5_widths 280 = .ok (.iconst 1, 1) := by decide +kernel
theorem dX5_widths_281 : decode cX5_widths 281 = .ok (.goto 4, 3) := by decide +kernel
theorem dX5_widths_284 : decode cX5_widths 284 = .ok (.iconst 0, 1) := by decide +kernel
theorem dX5_widths_285 : decode cX5_widths 285 = .ok (.iadd, 1) := by decide +kernel
theorem dX5_widths_286 : decode cX5_widths 286 = .ok (.istore 8, 2) := by decide +kernel
theorem dX5_widths_288 : decode cX5_widths 288 = .ok (.iinc 9 1, 3) := by decide +kernel
theorem dX5_widths_291 : decode cX5_widths 291 = .ok (.goto (-44), 3) := by decide +kernel
theorem dX5_widths_294 : decode cX5_widths 294 = .ok (.iload 6, 2) := by decide +kernel
theorem dX5_widths_296 : decode cX5_widths 296 = .ok (.iload 7, 2) := by decide +kernel
theorem dX5_widths_298 : decode cX5_widths 298 = .ok (.idiv, 1) := by decide +kernel
theorem dX5_widths_299 : decode cX5_widths 299 = .ok (.istore 6, 2) := by decide +kernel
theorem dX5_widths_301 : decode cX5_widths 301 = .ok (.iload 5, 2) := by decide +kernel
theorem dX5_widths_303 : decode cX5_widths 303 = .ok (.iload 8, 2) := by decide +kernel
theorem dX5_widths_305 : decode cX5_widths 305 = .ok (.iload 6, 2) := by decide +kernel
theorem dX5_widths_307 : decode cX5_widths 307 = .ok (.imul, 1) := by decide +kernel
theorem dX5_widths_308 : decode cX5_widths 308 = .ok (.iadd, 1) := by decide +kernel
theorem dX5_widths_309 : decode cX5_widths 309 = .ok (.istore 5, 2) := by decide +kernel
theorem dX5_widths_311 : decode cX5_widths 311 = .ok (.aload_n 0, 1) := by decide +kernel
theorem dX5_widths_312 : decode cX5_widths 312 = .ok (.getfield 83, 3) := by decide +kernel
theorem dX5_widths_315 : decode cX5_widths 315 = .ok (.sipush 160, 3) := by decide +kernel
theorem dX5_widths_318 : decode cX5_widths 318 = .ok (.iload_n 1, 1) := by decide +kernel
theorem dX5_widths_319 : decode cX5_widths 319 = .ok (.iadd, 1) := by decide +kernel
theorem dX5_widths_320 : decode cX5_widths 320 = .ok (.iaload, 1) := by decide +kernel
theorem dX5_widths_321 : decode cX5_widths 321 = .ok (.istore 7, 2) := by decide +kernel
theorem dX5_widths_323 : decode cX5_widths 323 = .ok (.aload_n 0, 1) := by decide +kernel
theorem dX5_widths_324 : decode cX5_widths 324 = .ok (.getfield 83, 3) := by decide +kernel
theorem dX5_widths_327 : decode cX5_widths 327 = .ok (.sipush 240, 3) := by decide +kernel
theorem dX5_widths_330 : decode cX5_widths 330 = .ok (.iload_n 1, 1) := by decide +kernel
theorem dX5_widths_331 : decode cX5_widths 331 = .ok (.iadd, 1) := by decide +kernel
theorem dX5_widths_332 : decode cX5_widths 332 = .ok (.iaload, 1) := by decide +kernel
theorem dX5_widths_333 : decode cX5_widths 333 = .ok (.istore 8, 2) := by decide +kernel
theorem dX5_widths_335 : decode cX5_widths 335 = .ok (.iload 6, 2) := by decide +kernel
theorem dX5_widths_337 : decode cX5_widths 337 = .ok (.iconst 2, 1) := by decide +kernel
theorem dX5_widths_338 : decode cX5_widths 338 = .ok (.iload 7, 2) := by decide +kernel
theorem dX5_widths_340 : decode cX5_widths 340 = .ok (.imul, 1) := by decide +kernel
theorem dX5_widths_341 : decode cX5_widths 341 = .ok (.isub, 1) := by decide +kernel
theorem dX5_widths_342 : decode cX5_widths 342 = .ok (.iconst 2, 1) := by decide +kernel
theorem dX5_widths_343 : decode cX5_widths 343 = .ok (.aload_n 0, 1) := by decide +kernel
theorem dX5_widths_344 : decode cX5_widths 344 = .ok (.getfield 83, 3) := by decide +kernel
theorem dX5_widths_347 : decode cX5_widths 347 = .ok (.sipush 200, 3) := by decide +kernel
theorem dX5_widths_350 : decode cX5_widths 350 = .ok (.iload_n 1, 1) := by decide +kernel
theorem dX5_widths_351 : decode cX5_widths 351 = .ok (.iadd, 1) := by decide +kernel
theorem dX5_widths_352 : decode cX5_widths 352 = .ok (.iaload, 1) := by decide +kernel
theorem dX5_widths_353 : decode cX5_widths 353 = .ok (.imul, 1) := by decide +kernel
theorem dX5_widths_354 : decode cX5_widths 354 = .ok (.isub, 1) := by decide +kernel
theorem dX5_widths_355 : decode cX5_widths 355 = .ok (.istore 9, 2) := by decide +kernel
theorem dX5_widths_357 : decode cX5_widths 357 = .ok (.aload_n 0, 1) := by decide +kernel
theorem dX5_widths_358 : decode cX5_widths 358 = .ok (.getfield 95, 3) := by decide +kernel
theorem dX5_widths_361 : decode cX5_widths 361 = .ok (.iload_n 1, 1) := by decide +kernel
theorem dX5_widths_362 : decode cX5_widths 362 = .ok (.iload 5, 2) := by decide +kernel
theorem dX5_widths_364 : decode cX5_widths 364 = .ok (.iload 7, 2) := by decide +kernel
theorem dX5_widths_366 : decode cX5_widths 366 = .ok (.iadd, 1) := by decide +kernel
theorem dX5_widths_367 : decode cX5_widths 367 = .ok (.iastore, 1) := by decide +kernel
theorem dX5_widths_368 : decode cX5_widths 368 = .ok (.aload_n 0, 1) := by decide +kernel
theorem dX5_widths_369 : decode cX5_widths 369 = .ok (.getfield 98, 3) := by decide +kernel
theorem dX5_widths_372 : decode cX5_widths 372 = .ok (.iload_n 1, 1) := by decide +kernel
theorem dX5_widths_373 : decode cX5_widths 373 = .ok (.iload 8, 2) := by decide +kernel
theorem dX5_widths_375 : decode cX5_widths 375 = .ok (.iconst (-1), 1) := by decide +kernel
theorem dX5_widths_376 : decode cX5_widths 376 = .ok (.if_icmp .eq 8, 3) := by decide +kernel
theorem dX5_widths_379 : decode cX5_widths 379 = .ok (.iload 8, 2) := by decide +kernel
theorem dX5_widths_381 : decode cX5_widths 381 = .ok (.goto 14, 3) := by decide +kernel
theorem dX5_widths_384 : decode cX5_widths 384 = .ok (.iload 9, 2) := by decide +kernel
theorem dX5_widths_386 : decode cX5_widths 386 = .ok (.ifCond .ge 7, 3) := by decide +kernel
theorem dX5_widths_389 : decode cX5_widths 389 = .ok (.iconst 0, 1) := by decide +kernel
theorem dX5_widths_390 : decode cX5_widths 390 = .ok (.goto 5, 3) := by decide +kernel
theorem dX5_widths_393 : decode cX5_widths 393 = .ok (.iload 9, 2) := by decide +kernel
theorem dX5_widths_395 : decode cX5_widths 395 = .ok (.iastore, 1) := by decide +kernel
theorem dX5_widths_396 : decode cX5_widths 396 = .ok (.return_, 1) := by decide +kernel
theorem dX5_border_0 : decode cX5_border 0 = .ok (.iload_n 1, 1) := by decide +kernel
theorem dX5_border_1 : decode cX5_border 1 = .ok (.ifCond .ne 7, 3) := by decide +kernel
theorem dX5_border_4 : decode cX5_border 4 = .ok (.iconst 0, 1) := by decide +kernel
theorem dX5_border_5 : decode cX5_border 5 = .ok (.goto 14, 3) := by decide +kernel
theorem dX5_border_8 : decode cX5_border 8 = .ok (.aload_n 0, 1) := by decide +kernel
theorem dX5_border_9 : decode cX5_border 9 = .ok (.getfield 83, 3) := by decide +kernel
theorem dX5_border_12 : decode cX5_border 12 = .ok (.bipush 40, 2) := by decide +kernel
theorem dX5_border_14 : decode cX5_border 14 = .ok (.iload_n 2, 1) := by decide +kernel
theorem dX5_border_15 : decode cX5_border 15 = .ok (.imul, 1) := by decide +kernel
theorem dX5_border_16 : decode cX5_border 16 = .ok (.iload_n 1, 1) := by decide +kernel
theorem dX5_border_17 : decode cX5_border 17 = .ok (.iadd, 1) := by decide +kernel
theorem dX5_border_18 : decode cX5_border 18 = .ok (.iaload, 1) := by decide +kernel
theorem dX5_border_19 : decode cX5_border 19 = .ok (.ireturn, 1) := by decide +kernel
theorem dX5_within_0 : decode cX5_within 0 = .ok (.aload_n 0, 1) := by decide +kernel
theorem dX5_within_1 : decode cX5_within 1 = .ok (.getfield 19, 3) := by decide +kernel
theorem dX5_within_4 : decode cX5_within 4 = .ok (.aload_n 0, 1) := by decide +kernel
theorem dX5_within_5 : decode cX5_within 5 = .ok (.getfield 16, 3) := by decide +kernel
theorem dX5_within_8 : decode cX5_within 8 = .ok (.iload_n 1, 1) := by decide +kernel
theorem dX5_within_9 : decode cX5_within 9 = .ok (.iaload, 1) := by decide +kernel
theorem dX5_within_10 : decode cX5_within 10 = .ok (.iaload, 1) := by decide +kernel
theorem dX5_within_11 : decode cX5_within 11 = .ok (.iconst 1, 1) := by decide +kernel
theorem dX5_within_12 : decode cX5_within 12 = .ok (.if_icmp .eq 21, 3) := by decide +kernel
theorem dX5_within_15 : decode cX5_within 15 = .ok (.aload_n 0, 1) := by decide +kernel
theorem dX5_within_16 : decode cX5_within 16 = .ok (.getfield 83, 3) := by decide +kernel
theorem dX5_within_19 : decode cX5_within 19 = .ok (.bipush 120, 2) := by decide +kernel
theorem dX5_within_21 : decode cX5_within 21 = .ok (.iload_n 1, 1) := by decide +kernel
theorem dX5_within_22 : decode cX5_within 22 = .ok (.iadd, 1) := by decide +kernel
theorem dX5_within_23 : decode cX5_within 23 = .ok (.iaload, 1) := by decide +kernel
theorem dX5_within_24 : decode cX5_within 24 = .ok (.bipush 98, 2) := by decide +kernel
theorem dX5_within_26 : decode cX5_within 26 = .ok (.if_icmp .ne 7, 3) := by decide +kernel
theorem dX5_within_29 : decode cX5_within 29 = .ok (.iconst 1, 1) := by decide +kernel
theorem dX5_within_30 : decode cX5_within 30 = .ok (.goto 4, 3) := by decide +kernel
theorem dX5_within_33 : decode cX5_within 33 = .ok (.iconst 0, 1) := by decide +kernel
theorem dX5_within_34 : decode cX5_within 34 = .ok (.istore_n 3, 1) := by decide +kernel
theorem dX5_within_35 : decode cX5_within 35 = .ok (.aload_n 0, 1) := by decide +kernel
theorem dX5_within_36 : decode cX5_within 36 = .ok (.getfield 74, 3) := by decide +kernel
theorem dX5_within_39 : decode cX5_within 39 = .ok (.iload_n 1, 1) := by decide +kernel
theorem dX5_within_40 : decode cX5_within 40 = .ok (.iaload, 1) := by decide +kernel
theorem dX5_within_41 : decode cX5_within 41 = .ok (.istore 4, 2) := by decide +kernel
theorem dX5_within_43 : decode cX5_within 43 = .ok (.iconst 0, 1) := by decide +kernel
theorem dX5_within_44 : decode cX5_within 44 = .ok (.istore 5, 2) := by decide +kernel
theorem dX5_within_46 : decode cX5_within 46 = .ok (.iload 5, 2) := by decide +kernel
theorem dX5_within_48 : decode cX5_within 48 = .ok (.bipush 40, 2) := by decide +kernel
theorem dX5_within_50 : decode cX5_within 50 = .ok (.if_icmp .ge 49, 3) := by decide +kernel
theorem dX5_within_53 : decode cX5_within 53 = .ok (.iload 4, 2) := by decide +kernel
theorem dX5_within_55 : decode cX5_within 55 = .ok (.iload_n 2, 1) := by decide +kernel
theorem dX5_within_56 : decode cX5_within 56 = .ok (.if_icmp .le 43, 3) := by decide +kernel
theorem dX5_within_59 : decode cX5_within 59 = .ok (.iload_n 3, 1) := by decide +kernel
theorem dX5_within_60 : decode cX5_within 60 = .ok (.ifCond .eq 22, 3) := by decide +kernel
theorem dX5_within_63 : decode cX5_within 63 = .ok (.aload_n 0, 1) := by decide +kernel
theorem dX5_within_64 : decode cX5_within 64 = .ok (.getfield 83, 3) := by decide +kernel
theorem dX5_within_67 : decode cX5_within 67 = .ok (.bipush 120, 2) := by decide +kernel
theorem dX5_within_69 : decode cX5_within 69 = .ok (.iload 4, 2) := by decide +kernel
theorem dX5_within_71 : decode cX5_within 71 = .ok (.iadd, 1) := by decide +kernel
theorem dX5_within_72 : decode cX5_within 72 = .ok (.iaload, 1) := by decide +kernel
theorem dX5_within_73 : decode cX5_within 73 = .ok (.bipush 105, 2) := by decide +kernel
theorem dX5_within_75 : decode cX5_within 75 = .ok (.if_icmp .ne 7, 3) := by decide +kernel
theorem dX5_within_78 : decode cX5_within 78 = .ok (.iconst 1, 1) := by decide +kernel
theorem dX5_within_79 : decode cX5_within 79 = .ok (.goto 4, 3) := by decide +kernel
theorem dX5_within_82 : decode cX5_within 82 = .ok (.iconst 0, 1) := by decide +kernel
theorem dX5_within_83 : decode cX5_within 83 = .ok (.istore_n 3, 1) := by decide +kernel
theorem dX5_within_84 : decode cX5_within 84 = .ok (.aload_n 0, 1) := by decide +kernel
theorem dX5_within_85 : decode cX5_within 85 = .ok (.getfield 74, 3) := by decide +kernel
theorem dX5_within_88 : decode cX5_within 88 = .ok (.iload 4, 2) := by decide +kernel
theorem dX5_within_90 : decode cX5_within 90 = .ok (.iaload, 1) := by decide +kernel
theorem dX5_within_91 : decode cX5_within 91 = .ok (.istore 4, 2) := by decide +kernel
theorem dX5_within_93 : decode cX5_within 93 = .ok (.iinc 5 1, 3) := by decide +kernel
theorem dX5_within_96 : decode cX5_within 96 = .ok (.goto (-50), 3) := by decide +kernel
theorem dX5_within_99 : decode cX5_within 99 = .ok (.iload_n 3, 1) := by decide +kernel
theorem dX5_within_100 : decode cX5_within 100 = .ok (.ireturn, 1) := by decide +kernel
theorem dX5_heights_0 : decode cX5_heights 0 = .ok (.iconst 2, 1) := by decide +kernel
theorem dX5_heights_1 : decode cX5_heights 1 = .ok (.aload_n 0, 1) := by decide +kernel
theorem dX5_heights_2 : decode cX5_heights 2 = .ok (.iload_n 1, 1) := by decide +kernel
theorem dX5_heights_3 : decode cX5_heights 3 = .ok (.iconst 5, 1) := by decide +kernel
theorem dX5_heights_4 : decode cX5_heights 4 = .ok (.invokevirtual 325, 3) := by decide +kernel
theorem dX5_heights_7 : decode cX5_heights 7 = .ok (.imul, 1) := by decide +kernel
theorem dX5_heights_8 : decode cX5_heights 8 = .ok (.istore_n 2, 1) := by decide +kernel
theorem dX5_heights_9 : decode cX5_heights 9 = .ok (.aload_n 0, 1) := by decide +kernel
theorem dX5_heights_10 : decode cX5_heights 10 = .ok (.getfield 19, 3) := by decide +kernel
theorem dX5_heights_13 : decode cX5_heights 13 = .ok (.aload_n 0, 1) := by decide +kernel
theorem dX5_heights_14 : decode cX5_heights 14 = .ok (.getfield 16, 3) := by decide +kernel
theorem dX5_heights_17 : decode cX5_heights 17 = .ok (.iload_n 1, 1) := by decide +kernel
theorem dX5_heights_18 : decode cX5_heights 18 = .ok (.iaload, 1) := by decide +kernel
theorem dX5_heights_19 : decode cX5_heights 19 = .ok (.iaload, 1) := by decide +kernel
theorem dX5_heights_20 : decode cX5_heights 20 = .ok (.istore_n 3, 1) := by decide +kernel
theorem dX5_heights_21 : decode cX5_heights 21 = .ok (.iconst 0, 1) := by decide +kernel
theorem dX5_heights_22 : decode cX5_heights 22 = .ok (.istore 4, 2) := by decide +kernel
theorem dX5_heights_24 : decode cX5_heights 24 = .ok (.iconst 0, 1) := by decide +kernel
theorem dX5_heights_25 : decode cX5_heights 25 = .ok (.istore 5, 2) := by decide +kernel
theorem dX5_heights_27 : decode cX5_heights 27 = .ok (.iconst 0, 1) := by decide +kernel
theorem dX5_heights_28 : decode cX5_heights 28 = .ok (.istore 6, 2) := by decide +kernel
theorem dX5_heights_30 : decode cX5_heights 30 = .ok (.aload_n 0, 1) := by decide +kernel
theorem dX5_heights_31 : decode cX5_heights 31 = .ok (.iconst 0, 1) := by decide +kernel
theorem dX5_heights_32 : decode cX5_heights 32 = .ok (.putfield 331, 3) := by decide +kernel
theorem dX5_heights_35 : decode cX5_heights 35 = .ok (.aload_n 0, 1) := by decide +kernel
theorem dX5_heights_36 : decode cX5_heights 36 = .ok (.iload_n 1, 1) := by decide +kernel
theorem dX5_heights_37 : decode cX5_heights 37 = .ok (.invokevirtual 205, 3) := by decide +kernel
theorem dX5_heights_40 : decode cX5_heights 40 = .ok (.istore 7, 2) := by decide +kernel
theorem dX5_heights_42 : decode cX5_heights 42 = .ok (.iload_n 1, 1) := by decide +kernel
theorem dX5_heights_43 : decode cX5_heights 43 = .ok (.iconst 1, 1) := by decide +kernel
theorem dX5_heights_44 : decode cX5_heights 44 = .ok (.iadd, 1) := by decide +kernel
theorem dX5_heights_45 : decode cX5_heights 45 = .ok (.istore 8, 2) := by decide +kernel
theorem dX5_heights_47 : decode cX5_heights 47 = .ok (.iload 8, 2) := by decide +kernel
theorem dX5_heights_49 : decode cX5_heights 49 = .ok (.iload 7, 2) := by decide +kernel
theorem dX5_heights_51 : decode cX5_heights 51 = .ok (.if_icmp .ge 206, 3) := by decide +kernel
theorem dX5_heights_54 : decode cX5_heights 54 = .ok (.aload_n 0, 1) := by decide +kernel
theorem dX5_heights_55 : decode cX5_heights 55 = .ok (.getfield 92, 3) := by decide +kernel
theorem dX5_heights_58 : decode cX5_heights 58 = .ok (.iload 8, 2) := by decide +kernel
theorem dX5_heights_60 : decode cX5_heights 60 = .ok (.iaload, 1) := by decide +kernel
theorem dX5_heights_61 : decode cX5_heights 61 = .ok (.iload_n 1, 1) := by decide +kernel
theorem dX5_heights_62 : decode cX5_heights 62 = .ok (.if_icmp .ne 162, 3) := by decide +kernel
theorem dX5_heights_65 : decode cX5_heights 65 = .ok (.aload_n 0, 1) := by decide +kernel
theorem dX5_heights_66 : decode cX5_heights 66 = .ok (.getfield 89, 3) := by decide +kernel
theorem dX5_heights_69 : decode cX5_heights 69 = .ok (.iload 8, 2) := by decide +kernel
theorem dX5_heights_71 : decode cX5_heights 71 = .ok (.baload, 1) := by decide +kernel
theorem dX5_heights_72 : decode cX5_heights 72 = .ok (.ifCond .eq 152, 3) := by decide +kernel
theorem dX5_heights_75 : decode cX5_heights 75 = .ok (.aload_n 0, 1) := by decide +kernel
theorem dX5_heights_76 : decode cX5_heights 76 = .ok (.invokevirtual 334, 3) := by decide +kernel
theorem dX5_heights_79 : decode cX5_heights 79 = .ok (.istore 9, 2) := by decide +kernel
theorem dX5_heights_81 : decode cX5_heights 81 = .ok (.iload 9, 2) := by decide +kernel
theorem dX5_heights_83 : decode cX5_heights 83 = .ok (.ifCond .eq 15, 3) := by decide +kernel
theorem dX5_heights_86 : decode cX5_heights 86 = .ok (.aload_n 0, 1) := by decide +kernel
theorem dX5_heights_87 : decode cX5_heights 87 = .ok (.iload_n 1, 1) := by decide +kernel
theorem dX5_heights_88 : decode cX5_heights 88 = .ok (.iload 4, 2) := by decide +kernel
theorem dX5_heights_90 : decode cX5_heights 90 = .ok (.iload 5, 2) := by decide +kernel
theorem dX5_heights_92 : decode cX5_heights 92 = .ok (.iadd, 1) := by decide +kernel
theorem dX5_heights_93 : decode cX5_heights 93 = .ok (.invokevirtual 338, 3) := by decide +kernel
theorem dX5_heights_96 : decode cX5_heights 96 = .ok (.istore 4, 2) := by decide +kernel
theorem dX5_heights_98 : decode cX5_heights 98 = .ok (.iload 9, 2) := by decide +kernel
theorem dX5_heights_100 : decode cX5_heights 100 = .ok (.ifCond .eq 7, 3) := by decide +kernel
theorem dX5_heights_103 : decode cX5_heights 103 = .ok (.iconst 0, 1) := by decide +kernel
theorem dX5_heights_104 : decode cX5_heights 104 = .ok (.goto 5, 3) := by decide +kernel
theorem dX5_heights_107 : decode cX5_heights 107 = .ok (.iload 5, 2) := by decide +kernel
theorem dX5_heights_109 : decode cX5_heights 109 = .ok (.istore 5, 2) := by decide +kernel
theorem dX5_heights_111 : decode cX5_heights 111 = .ok (.aload_n 0, 1) := by decide +kernel
theorem dX5_heights_112 : decode cX5_heights 112 = .ok (.iconst 0, 1) := by decide +kernel
theorem dX5_heights_113 : decode cX5_heights 113 = .ok (.putfield 331, 3) := by decide +kernel
theorem dX5_heights_116 : decode cX5_heights 116 = .ok (.aload_n 0, 1) := by decide +kernel
theorem dX5_heights_117 : decode cX5_heights 117 = .ok (.getfield 83, 3) := by decide +kernel
theorem dX5_heights_120 : decode cX5_heights 120 = .ok (.sipush 160, 3) := by decide +kernel
theorem dX5_heights_123 : decode cX5_heights 123 = .ok (.iload 8, 2) := by decide +kernel
theorem dX5_heights_125 : decode cX5_heights 125 = .ok (.iadd, 1) := by decide +kernel
theorem dX5_heights_126 : decode cX5_heights 126 = .ok (.iaload, 1) := by decide +kernel
theorem dX5_heights_127 : decode cX5_heights 127 = .ok (.istore 10, 2) := by decide +kernel
theorem dX5_heights_129 : decode cX5_heights 129 = .ok (.aload_n 0, 1) := by decide +kernel
theorem dX5_heights_130 : decode cX5_heights 130 = .ok (.getfield 104, 3) := by decide +kernel
theorem dX5_heights_133 : decode cX5_heights 133 = .ok (.iload 8, 2) := by decide +kernel
theorem dX5_heights_135 : decode cX5_heights 135 = .ok (.iload_n 3, 1) := by decide +kernel
theorem dX5_heights_136 : decode cX5_heights 136 = .ok (.bipush 114, 2) := by decide +kernel
theorem dX5_heights_138 : decode cX5_heights 138 = .ok (.if_icmp .ne 8, 3) := by decide +kernel
theorem dX5_heights_141 : decode cX5_heights 141 = .ok (.iload 10, 2) := by decide +kernel
theorem dX5_heights_143 : decode cX5_heights 143 = .ok (.goto 20, 3) := by decide +kernel
theorem dX5_heights_146 : decode cX5_heights 146 = .ok (.iload 4, 2) := by decide +kernel
theorem dX5_heights_148 : decode cX5_heights 148 = .ok (.iload 5, 2) := by decide +kernel
theorem dX5_heights_150 : decode cX5_heights 150 = .ok (.iload 10, 2) := by decide +kernel
theorem dX5_heights_152 : decode cX5_heights 152 = .ok (.if_icmp .le 8, 3) := by decide +kernel
theorem dX5_heights_155 : decode cX5_heights 155 = .ok (.iload 5, 2) := by decide +kernel
theorem dX5_heights_157 : decode cX5_heights 157 = .ok (.goto 5, 3) := by decide +kernel
theorem dX5_heights_160 : decode cX5_heights 160 = .ok (.iload 10, 2) := by decide +kernel
theorem dX5_heights_162 : decode cX5_heights 162 = .ok (.iadd, 1) := by decide +kernel
theorem dX5_heights_163 : decode cX5_heights 163 = .ok (.iastore, 1) := by decide +kernel
theorem dX5_heights_164 : decode cX5_heights 164 = .ok (.aload_n 0, 1) := by decide +kernel
theorem dX5_heights_165 : decode cX5_heights 165 = .ok (.getfield 104, 3) := by decide +kernel
theorem dX5_heights_168 : decode cX5_heights 168 = .ok (.iload 8, 2) := by decide +kernel
theorem dX5_heights_170 : decode cX5_heights 170 = .ok (.iaload, 1) := by decide +kernel
theorem dX5_heights_171 : decode cX5_heights 171 = .ok (.aload_n 0, 1) := by decide +kernel
theorem dX5_heights_172 : decode cX5_heights 172 = .ok (.getfield 101, 3) := by decide +kernel
theorem dX5_heights_175 : decode cX5_heights 175 = .ok (.iload 8, 2) := by decide +kernel
theorem dX5_heights_177 : decode cX5_heights 177 = .ok (.iaload, 1) := by decide +kernel
theorem dX5_heights_178 : decode cX5_heights 178 = .ok (.iadd, 1) := by decide +kernel
theorem dX5_heights_179 : decode cX5_heights 179 = .ok (.istore 4, 2) := by decide +kernel
theorem dX5_heights_181 : decode cX5_heights 181 = .ok (.iload 6, 2) := by decide +kernel
theorem dX5_heights_183 : decode cX5_heights 183 = .ok (.iconst 2, 1) := by decide +kernel
theorem dX5_heights_184 : decode cX5_heights 184 = .ok (.iload 10, 2) := by decide +kernel
theorem dX5_heights_186 : decode cX5_heights 186 = .ok (.imul, 1) := by decide +kernel
theorem dX5_heights_187 : decode cX5_heights 187 = .ok (.aload_n 0, 1) := by decide +kernel
theorem dX5_heights_188 : decode cX5_heights 188 = .ok (.getfield 101, 3) := by decide +kernel
theorem dX5_heights_191 : decode cX5_heights 191 = .ok (.iload 8, 2) := by decide +kernel
theorem dX5_heights_193 : decode cX5_heights 193 = .ok (.iaload, 1) := by decide +kernel
theorem dX5_heights_194 : decode cX5_heights 194 = .ok (.iadd, 1) := by decide +kernel
theorem dX5_heights_195 : decode cX5_heights 195 = .ok (.if_icmp .le 8, 3) := by decide +kernel
theorem dX5_heights_198 : decode cX5_heights 198 = .ok (.iload 6, 2) := by decide +kernel
theorem dX5_heights_200 : decode cX5_heights 200 = .ok (.goto 15, 3) := by decide +kernel
theorem dX5_heights_203 : decode cX5_heights 203 = .ok (.iconst 2, 1) := by decide +kernel
theorem dX5_heights_204 : decode cX5_heights 204 = .ok (.iload 10, 2) := by decide +kernel
theorem dX5_heights_206 : decode cX5_heights 206 = .ok (.imul, 1) := by decide +kernel
theorem dX5_heights_207 : decode cX5_heights 207 = .ok (.aload_n 0, 1) := by decide +kernel
theorem dX5_heights_208 : decode cX5_heights 208 = .ok (.getfield 101, 3) := by decide +kernel
theorem dX5_heights_211 : decode cX5_heights 211 = .ok (.iload 8, 2) := by decide +kernel
theorem dX5_heights_213 : decode cX5_heights 213 = .ok (.iaload, 1) := by decide +kernel
theorem dX5_heights_214 : decode cX5_heights 214 = .ok (.iadd, 1) := by decide +kernel
theorem dX5_heights_215 : decode cX5_heights 215 = .ok (.istore 6, 2) := by decide +kernel
theorem dX5_heights_217 : decode cX5_heights 217 = .ok (.iload 10, 2) := by decide +kernel
theorem dX5_heights_219 : decode cX5_heights 219 = .ok (.istore 5, 2) := by decide +kernel
theorem dX5_heights_221 : decode cX5_heights 221 = .ok (.goto 30, 3) := by decide +kernel
theorem dX5_heights_224 : decode cX5_heights 224 = .ok (.aload_n 0, 1) := by decide +kernel
theorem dX5_heights_225 : decode cX5_heights 225 = .ok (.getfield 92, 3) := by decide +kernel
theorem dX5_heights_228 : decode cX5_heights 228 = .ok (.iload 8, 2) := by decide +kernel
theorem dX5_heights_230 : decode cX5_heights 230 = .ok (.iaload, 1) := by decide +kernel
theorem dX5_heights_231 : decode cX5_heights 231 = .ok (.iload_n 1, 1) := by decide +kernel
theorem dX5_heights_232 : decode cX5_heights 232 = .ok (.if_icmp .ne 19, 3) := by decide +kernel
theorem dX5_heights_235 : decode cX5_heights 235 = .ok (.aload_n 0, 1) := by decide +kernel
theorem dX5_heights_236 : decode cX5_heights 236 = .ok (.getfield 86, 3) := by decide +kernel
theorem dX5_heights_239 : decode cX5_heights 239 = .ok (.iload 8, 2) := by decide +kernel
theorem dX5_heights_241 : decode cX5_heights 241 = .ok (.baload, 1) := by decide +kernel
theorem dX5_heights_242 : decode cX5_heights 242 = .ok (.ifCond .ne 9, 3) := by decide +kernel
theorem dX5_heights_245 : decode cX5_heights 245 = .ok (.aload_n 0, 1) := by decide +kernel
theorem dX5_heights_246 : decode cX5_heights 246 = .ok (.iload 8, 2) := by decide +kernel
theorem dX5_heights_248 : decode cX5_heights 248 = .ok (.invokevirtual 341, 3) := by decide +kernel
theorem dX5_heights_251 : decode cX5_heights 251 = .ok (.iinc 8 1, 3) := by decide +kernel
theorem dX5_heights_254 : decode cX5_heights 254 = .ok (.goto (-207), 3) := by decide +kernel
theorem dX5_heights_257 : decode cX5_heights 257 = .ok (.aload_n 0, 1) := by decide +kernel
theorem dX5_heights_258 : decode cX5_heights 258 = .ok (.invokevirtual 334, 3) := by decide +kernel
theorem dX5_heights_261 : decode cX5_heights 261 = .ok (.ifCond .eq 18, 3) := by decide +kernel
theorem dX5_heights_264 : decode cX5_heights 264 = .ok (.aload_n 0, 1) := by decide +kernel
theorem dX5_heights_265 : decode cX5_heights 265 = .ok (.iload_n 1, 1) := by decide +kernel
theorem dX5_heights_266 : decode cX5_heights 266 = .ok (.iload 4, 2) := by decide +kernel
theorem dX5_heights_268 : decode cX5_heights 268 = .ok (.iload 5, 2) := by decide +kernel
theorem dX5_heights_270 : decode cX5_heights 270 = .ok (.iadd, 1) := by decide +kernel
theorem dX5_heights_271 : decode cX5_heights 271 = .ok (.invokevirtual 338, 3) := by decide +kernel
theorem dX5_heights_274 : decode cX5_heights 274 = .ok (.istore 4, 2) := by decide +kernel
theorem dX5_heights_276 : decode cX5_heights 276 = .ok (.iconst 0, 1) := by decide +kernel
theorem dX5_heights_277 : decode cX5_heights 277 = .ok (.istore 5, 2) := by decide +kernel
theorem dX5_heights_279 : decode cX5_heights 279 = .ok (.aload_n 0, 1) := by decide +kernel
theorem dX5_heights_280 : decode cX5_heights 280 = .ok (.getfield 101, 3) := by decide +kernel
theorem dX5_heights_283 : decode cX5_heights 283 = .ok (.iload_n 1, 1) := by decide +kernel
theorem dX5_heights_284 : decode cX5_heights 284 = .ok (.iload_n 2, 1) := by decide +kernel
theorem dX5_heights_285 : decode cX5_heights 285 = .ok (.iload_n 3, 1) := by decide +kernel
theorem dX5_heights_286 : decode cX5_heights 286 = .ok (.bipush 104, 2) := by decide +kernel
theorem dX5_heights_288 : decode cX5_heights 288 = .ok (.if_icmp .ne 7, 3) := by decide +kernel
theorem dX5_heights_291 : decode cX5_heights 291 = .ok (.iconst 1, 1) := by decide +kernel
theorem dX5_heights_292 : decode cX5_heights 292 = .ok (.goto 19, 3) := by decide +kernel
theorem dX5_heights_295 : decode cX5_heights 295 = .ok (.iload_n 3, 1) := by decide +kernel
theorem dX5_heights_296 : decode cX5_heights 296 = .ok (.bipush 114, 2) := by decide +kernel
theorem dX5_heights_298 : decode cX5_heights 298 = .ok (.if_icmp .ne 8, 3) := by decide +kernel
theorem dX5_heights_301 : decode cX5_heights 301 = .ok (.iload 6, 2) := by decide +kernel
theorem dX5_heights_303 : decode cX5_heights 303 = .ok (.goto 8, 3) := by decide +kernel
theorem dX5_heights_306 : decode cX5_heights 306 = .ok (.iload 4, 2) := by decide +kernel
theorem dX5_heights_308 : decode cX5_heights 308 = .ok (.iload 5, 2) := by decide +kernel
theorem dX5_heights_310 : decode cX5_heights 310 = .ok (.iadd, 1) := by decide +kernel
theorem dX5_heights_311 : decode cX5_heights 311 = .ok (.iadd, 1) := by decide +kernel
theorem dX5_heights_312 : decode cX5_heights 312 = .ok (.iastore, 1) := by decide +kernel
theorem dX5_heights_313 : decode cX5_heights 313 = .ok (.return_, 1) := by decide +kernel
theorem dX5_runs_0 : decode cX5_runs 0 = .ok (.iconst 0, 1) := by decide +kernel
theorem dX5_runs_1 : decode cX5_runs 1 = .ok (.istore_n 1, 1) := by decide +kernel
theorem dX5_runs_2 : decode cX5_runs 2 = .ok (.iconst 0, 1) := by decide +kernel
theorem dX5_runs_3 : decode cX5_runs 3 = .ok (.istore_n 2, 1) := by decide +kernel
theorem dX5_runs_4 : decode cX5_runs 4 = .ok (.iload_n 2, 1) := by decide +kernel
theorem dX5_runs_5 : decode cX5_runs 5 = .ok (.aload_n 0, 1) := by decide +kernel
theorem dX5_runs_6 : decode cX5_runs 6 = .ok (.getfield 331, 3) := by decide +kernel
theorem dX5_runs_9 : decode cX5_runs 9 = .ok (.if_icmp .ge 44, 3) := by decide +kernel
theorem dX5_runs_12 : decode cX5_runs 12 = .ok (.iload_n 1, 1) := by decide +kernel
theorem dX5_runs_13 : decode cX5_runs 13 = .ok (.ifCond .ne 28, 3) := by decide +kernel
theorem dX5_runs_16 : decode cX5_runs 16 = .ok (.aload_n 0, 1) := by decide +kernel
theorem dX5_runs_17 : decode cX5_runs 17 = .ok (.getfield 119, 3) := by decide +kernel
theorem dX5_runs_20 : decode cX5_runs 20 = .ok (.iload_n 2, 1) := by decide +kernel
theorem dX5_runs_21 : decode cX5_runs 21 = .ok (.iaload, 1) := by decide +kernel
theorem dX5_runs_22 : decode cX5_runs 22 = .ok (.ifCond .lt 19, 3) := by decide +kernel
theorem dX5_runs_25 : decode cX5_runs 25 = .ok (.aload_n 0, 1) := by decide +kernel
theorem dX5_runs_26 : decode cX5_runs 26 = .ok (.getfield 40, 3) := by decide +kernel
theorem dX5_runs_29 : decode cX5_runs 29 = .ok (.aload_n 0, 1) := by decide +kernel
theorem dX5_runs_30 : decode cX5_runs 30 = .ok (.getfield 119, 3) := by decide +kernel
theorem dX5_runs_33 : decode cX5_runs 33 = .ok (.iload_n 2, 1) := by decide +kernel
theorem dX5_runs_34 : decode cX5_runs 34 = .ok (.iaload, 1) := by decide +kernel
theorem dX5_runs_35 : decode cX5_runs 35 = .ok (.iaload, 1) := by decide +kernel
theorem dX5_runs_36 : decode cX5_runs 36 = .ok (.bipush 32, 2) := by decide +kernel
theorem dX5_runs_38 : decode cX5_runs 38 = .ok (.if_icmp .eq 7, 3) := by decide +kernel
theorem dX5_runs_41 : decode cX5_runs 41 = .ok (.iconst 1, 1) := by decide +kernel
theorem dX5_runs_42 : decode cX5_runs 42 = .ok (.goto 4, 3) := by decide +kernel
theorem dX5_runs_45 : decode cX5_runs 45 = .ok (.iconst 0, 1) := by decide +kernel
theorem dX5_runs_46 : decode cX5_runs 46 = .ok (.istore_n 1, 1) := by decide +kernel
theorem dX5_runs_47 : decode cX5_runs 47 = .ok (.iinc 2 1, 3) := by decide +kernel
theorem dX5_runs_50 : decode cX5_runs 50 = .ok (.goto (-46), 3) := by decide +kernel
theorem dX5_runs_53 : decode cX5_runs 53 = .ok (.iload_n 1, 1) := by decide +kernel
theorem dX5_runs_54 : decode cX5_runs 54 = .ok (.ireturn, 1) := by decide +kernel
theorem dX5_lay_0 : decode cX5_lay 0 = .ok (.aload_n 0, 1) := by decide +kernel
theorem dX5_lay_1 : decode cX5_lay 1 = .ok (.iload_n 2, 1) := by decide +kernel
theorem dX5_lay_2 : decode cX5_lay 2 = .ok (.putfield 344, 3) := by decide +kernel
theorem dX5_lay_5 : decode cX5_lay 5 = .ok (.aload_n 0, 1) := by decide +kernel
theorem dX5_lay_6 : decode cX5_lay 6 = .ok (.iconst 0, 1) := by decide +kernel
theorem dX5_lay_7 : decode cX5_lay 7 = .ok (.invokevirtual 347, 3) := by decide +kernel
theorem dX5_lay_10 : decode cX5_lay 10 = .ok (.iconst 0, 1) := by decide +kernel
theorem dX5_lay_11 : decode cX5_lay 11 = .ok (.istore_n 3, 1) := by decide +kernel
theorem dX5_lay_12 : decode cX5_lay 12 = .ok (.iconst 0, 1) := by decide +kernel
theorem dX5_lay_13 : decode cX5_lay 13 = .ok (.istore 4, 2) := by decide +kernel
theorem dX5_lay_15 : decode cX5_lay 15 = .ok (.iconst 0, 1) := by decide +kernel
theorem dX5_lay_16 : decode cX5_lay 16 = .ok (.istore 5, 2) := by decide +kernel
theorem dX5_lay_18 : decode cX5_lay 18 = .ok (.iload 5, 2) := by decide +kernel
theorem dX5_lay_20 : decode cX5_lay 20 = .ok (.aload_n 0, 1) := by decide +kernel
theorem dX5_lay_21 : decode cX5_lay 21 = .ok (.getfield 331, 3) := by decide +kernel
theorem dX5_lay_24 : decode cX5_lay 24 = .ok (.if_icmp .gt 167, 3) := by decide +kernel
theorem dX5_lay_27 : decode cX5_lay 27 = .ok (.iload 5, 2) := by decide +kernel
theorem dX5_lay_29 : decode cX5_lay 29 = .ok (.aload_n 0, 1) := by decide +kernel
theorem dX5_lay_30 : decode cX5_lay 30 = .ok (.getfield 331, 3) := by decide +kernel
theorem dX5_lay_33 : decode cX5_lay 33 = .ok (.if_icmp .ge 17, 3) := by decide +kernel
theorem dX5_lay_36 : decode cX5_lay 36 = .ok (.aload_n 0, 1) := by decide +kernel
theorem dX5_lay_37 : decode cX5_lay 37 = .ok (.getfield 119, 3) := by decide +kernel
theorem dX5_lay_40 : decode cX5_lay 40 = .ok (.iload 5, 2) := by decide +kernel
theorem dX5_lay_42 : decode cX5_lay 42 = .ok (.iaload, 1) := by decide +kernel
theorem dX5_lay_43 : decode cX5_lay 43 = .ok (.ifCond .ge 7, 3) := by decide +kernel
theorem dX5_lay_46 : decode cX5_lay 46 = .ok (.iconst 1, 1) := by decide +kernel
theorem dX5_lay_47 : decode cX5_lay 47 = .ok (.goto 4, 3) := by decide +kernel
theorem dX5_lay_50 : decode cX5_lay 50 = .ok (.iconst 0, 1) := by decide +kernel
theorem dX5_lay_51 : decode cX5_lay 51 = .ok (.istore 6, 2) := by decide +kernel
theorem dX5_lay_53 : decode cX5_lay 53 = .ok (.iload 5, 2) := by decide +kernel
theorem dX5_lay_55 : decode cX5_lay 55 = .ok (.aload_n 0, 1) := by decide +kernel
theorem dX5_lay_56 : decode cX5_lay 56 = .ok (.getfield 331, 3) := by decide +kernel
theorem dX5_lay_59 : decode cX5_lay 59 = .ok (.if_icmp .ge 29, 3) := by decide +kernel
theorem dX5_lay_62 : decode cX5_lay 62 = .ok (.iload 6, 2) := by decide +kernel
theorem dX5_lay_64 : decode cX5_lay 64 = .ok (.ifCond .ne 24, 3) := by decide +kernel
theorem dX5_lay_67 : decode cX5_lay 67 = .ok (.aload_n 0, 1) := by decide +kernel
theorem dX5_lay_68 : decode cX5_lay 68 = .ok (.getfield 40, 3) := by decide +kernel
theorem dX5_lay_71 : decode cX5_lay 71 = .ok (.aload_n 0, 1) := by decide +kernel
theorem dX5_lay_72 : decode cX5_lay 72 = .ok (.getfield 119, 3) := by decide +kernel
theorem dX5_lay_75 : decode cX5_lay 75 = .ok (.iload 5, 2) := by decide +kernel
theorem dX5_lay_77 : decode cX5_lay 77 = .ok (.iaload, 1) := by decide +kernel
theorem dX5_lay_78 : decode cX5_lay 78 = .ok (.iaload, 1) := by decide +kernel
theorem dX5_lay_79 : decode cX5_lay 79 = .ok (.bipush 32, 2) := by decide +kernel
theorem dX5_lay_81 : decode cX5_lay 81 = .ok (.if_icmp .ne 7, 3) := by decide +kernel
theorem dX5_lay_84 : decode cX5_lay 84 = .ok (.iconst 1, 1) := by decide +kernel
theorem dX5_lay_85 : decode cX5_lay 85 = .ok (.goto 4, 3) := by decide +kernel
theorem dX5_lay_88 : decode cX5_lay 88 = .ok (.iconst 0, 1) := by decide +kernel
theorem dX5_lay_89 : decode cX5_lay 89 = .ok (.istore 7, 2) := by decide +kernel
theorem dX5_lay_91 : decode cX5_lay 91 = .ok (.iload 5, 2) := by decide +kernel
theorem dX5_lay_93 : decode cX5_lay 93 = .ok (.aload_n 0, 1) := by decide +kernel
theorem dX5_lay_94 : decode cX5_lay 94 = .ok (.getfield 331, 3) := by decide +kernel
theorem dX5_lay_97 : decode cX5_lay 97 = .ok (.if_icmp .eq 13, 3) := by decide +kernel
theorem dX5_lay_100 : decode cX5_lay 100 = .ok (.iload 6, 2) := by decide +kernel
theorem dX5_lay_102 : decode cX5_lay 102 = .ok (.ifCond .ne 8, 3) := by decide +kernel
theorem dX5_lay_105 : decode cX5_lay 105 = .ok (.iload 7, 2) := by decide +kernel
theorem dX5_lay_107 : decode cX5_lay 107 = .ok (.ifCond .eq 27, 3) := by decide +kernel
theorem dX5_lay_110 : decode cX5_lay 110 = .ok (.iload 5, 2) := by decide +kernel
theorem dX5_lay_112 : decode cX5_lay 112 = .ok (.iload_n 3, 1) := by decide +kernel
theorem dX5_lay_113 : decode cX5_lay 113 = .ok (.if_icmp .le 16, 3) := by decide +kernel
theorem dX5_lay_116 : decode cX5_lay 116 = .ok (.aload_n 0, 1) := by decide +kernel
theorem dX5_lay_117 : decode cX5_lay 117 = .ok (.iload_n 1, 1) := by decide +kernel
theorem dX5_lay_118 : decode cX5_lay 118 = .ok (.iload_n 3, 1) := by decide +kernel
theorem dX5_lay_119 : decode cX5_lay 119 = .ok (.iload 5, 2) := by decide +kernel
theorem dX5_lay_121 : decode cX5_lay 121 = .ok (.iload 4, 2) := by decide +kernel
theorem dX5_lay_123 : decode cX5_lay 123 = .ok (.invokevirtual 350, 3) := by decide +kernel
theorem dX5_lay_126 : decode cX5_lay 126 = .ok (.iconst 0, 1) := by decide +kernel
theorem dX5_lay_127 : decode cX5_lay 127 = .ok (.istore 4, 2) := by decide +kernel
theorem dX5_lay_129 : decode cX5_lay 129 = .ok (.iload 5, 2) := by decide +kernel
theorem dX5_lay_131 : decode cX5_lay 131 = .ok (.iconst 1, 1) := by decide +kernel
theorem dX5_lay_132 : decode cX5_lay 132 = .ok (.iadd, 1) := by decide +kernel
theorem dX5_lay_133 : decode cX5_lay 133 = .ok (.istore_n 3, 1) := by decide +kernel
theorem dX5_lay_134 : decode cX5_lay 134 = .ok (.iload 7, 2) := by decide +kernel
theorem dX5_lay_136 : decode cX5_lay 136 = .ok (.ifCond .eq 16, 3) := by decide +kernel
theorem dX5_lay_139 : decode cX5_lay 139 = .ok (.iload 4, 2) := by decide +kernel
theorem dX5_lay_141 : decode cX5_lay 141 = .ok (.ifCond .ne 11, 3) := by decide +kernel
theorem dX5_lay_144 : decode cX5_lay 144 = .ok (.aload_n 0, 1) := by decide +kernel
theorem dX5_lay_145 : decode cX5_lay 145 = .ok (.iload 5, 2) := by decide +kernel
theorem dX5_lay_147 : decode cX5_lay 147 = .ok (.invokevirtual 354, 3) := by decide +kernel
theorem dX5_lay_150 : decode cX5_lay 150 = .ok (.istore 4, 2) := by decide +kernel
theorem dX5_lay_152 : decode cX5_lay 152 = .ok (.iload 6, 2) := by decide +kernel
theorem dX5_lay_154 : decode cX5_lay 154 = .ok (.ifCond .eq 31, 3) := by decide +kernel
theorem dX5_lay_157 : decode cX5_lay 157 = .ok (.aload_n 0, 1) := by decide +kernel
theorem dX5_lay_158 : decode cX5_lay 158 = .ok (.getfield 357, 3) := by decide +kernel
theorem dX5_lay_161 : decode cX5_lay 161 = .ok (.ifCond .ne 13, 3) := by decide +kernel
theorem dX5_lay_164 : decode cX5_lay 164 = .ok (.aload_n 0, 1) := by decide +kernel
theorem dX5_lay_165 : decode cX5_lay 165 = .ok (.aload_n 0, 1) := by decide +kernel
theorem dX5_lay_166 : decode cX5_lay 166 = .ok (.iload 5, 2) := by decide +kernel
theorem dX5_lay_168 : decode cX5_lay 168 = .ok (.invokevirtual 354, 3) := by decide +kernel
theorem dX5_lay_171 : decode cX5_lay 171 = .ok (.putfield 360, 3) := by decide +kernel
theorem dX5_lay_174 : decode cX5_lay 174 = .ok (.aload_n 0, 1) := by decide +kernel
theorem dX5_lay_175 : decode cX5_lay 175 = .ok (.iconst 1, 1) := by decide +kernel
theorem dX5_lay_176 : decode cX5_lay 176 = .ok (.putfield 357, 3) := by decide +kernel
theorem dX5_lay_179 : decode cX5_lay 179 = .ok (.aload_n 0, 1) := by decide +kernel
theorem dX5_lay_180 : decode cX5_lay 180 = .ok (.iload 5, 2) := by decide +kernel
theorem dX5_lay_182 : decode cX5_lay 182 = .ok (.invokevirtual 363, 3) := by decide +kernel
theorem dX5_lay_185 : decode cX5_lay 185 = .ok (.iinc 5 1, 3) := by decide +kernel
theorem dX5_lay_188 : decode cX5_lay 188 = .ok (.goto (-170), 3) := by decide +kernel
theorem dX5_lay_191 : decode cX5_lay 191 = .ok (.aload_n 0, 1) := by decide +kernel
theorem dX5_lay_192 : decode cX5_lay 192 = .ok (.getfield 357, 3) := by decide +kernel
theorem dX5_lay_195 : decode cX5_lay 195 = .ok (.ifCond .eq 11, 3) := by decide +kernel
theorem dX5_lay_198 : decode cX5_lay 198 = .ok (.aload_n 0, 1) := by decide +kernel
theorem dX5_lay_199 : decode cX5_lay 199 = .ok (.aload_n 0, 1) := by decide +kernel
theorem dX5_lay_200 : decode cX5_lay 200 = .ok (.getfield 331, 3) := by decide +kernel
theorem dX5_lay_203 : decode cX5_lay 203 = .ok (.invokevirtual 363, 3) := by decide +kernel
theorem dX5_lay_206 : decode cX5_lay 206 = .ok (.aload_n 0, 1) := by decide +kernel
theorem dX5_lay_207 : decode cX5_lay 207 = .ok (.getfield 344, 3) := by decide +kernel
theorem dX5_lay_210 : decode cX5_lay 210 = .ok (.ireturn, 1) := by decide +kernel
theorem dX5_newLine_0 : decode cX5_newLine 0 = .ok (.aload_n 0, 1) := by decide +kernel
theorem dX5_newLine_1 : decode cX5_newLine 1 = .ok (.iload_n 1, 1) := by decide +kernel
theorem dX5_newLine_2 : decode cX5_newLine 2 = .ok (.putfield 366, 3) := by decide +kernel
theorem dX5_newLine_5 : decode cX5_newLine 5 = .ok (.aload_n 0, 1) := by decide +kernel
theorem dX5_newLine_6 : decode cX5_newLine 6 = .ok (.iconst 0, 1) := by decide +kernel
theorem dX5_newLine_7 : decode cX5_newLine 7 = .ok (.putfield 369, 3) := by decide +kernel
theorem dX5_newLine_10 : decode cX5_newLine 10 = .ok (.aload_n 0, 1) := by decide +kernel
theorem dX5_newLine_11 : decode cX5_newLine 11 = .ok (.iconst 0, 1) := by decide +kernel
theorem dX5_newLine_12 : decode cX5_newLine 12 = .ok (.putfield 360, 3) := by decide +kernel
theorem dX5_newLine_15 : decode cX5_newLine 15 = .ok (.aload_n 0, 1) := by decide +kernel
theorem dX5_newLine_16 : decode cX5_newLine 16 = .ok (.iconst 0, 1) := by decide +kernel
theorem dX5_newLine_17 : decode cX5_newLine 17 = .ok (.putfield 357, 3) := by decide +kernel
theorem dX5_newLine_20 : decode cX5_newLine 20 = .ok (.return_, 1) := by decide +kernel
theorem dX5_putWord_0 : decode cX5_putWord 0 = .ok (.iconst 0, 1) := by decide +kernel
theorem dX5_putWord_1 : decode cX5_putWord 1 = .ok (.istore 5, 2) := by decide +kernel
theorem dX5_putWord_3 : decode cX5_putWord 3 = .ok (.iconst 0, 1) := by decide +kernel
theorem dX5_putWord_4 : decode cX5_putWord 4 = .ok (.istore 6, 2) := by decide +kernel
theorem dX5_putWord_6 : decode cX5_putWord 6 = .ok (.iload_n 2, 1) := by decide +kernel
theorem dX5_putWord_7 : decode cX5_putWord 7 = .ok (.istore 7, 2) := by decide +kernel
theorem dX5_putWord_9 : decode cX5_putWord 9 = .ok (.iload 7, 2) := by decide +kernel
theorem dX5_putWord_11 : decode cX5_putWord 11 = .ok (.iload_n 3, 1) := by decide +kernel
theorem dX5_putWord_12 : decode cX5_putWord 12 = .ok (.if_icmp .ge 40, 3) := by decide +kernel
theorem dX5_putWord_15 : decode cX5_putWord 15 = .ok (.aload_n 0, 1) := by decide +kernel
theorem dX5_putWord_16 : decode cX5_putWord 16 = .ok (.iload 7, 2) := by decide +kernel
theorem dX5_putWord_18 : decode cX5_putWord 18 = .ok (.invokevirtual 354, 3) := by decide +kernel
theorem dX5_putWord_21 : decode cX5_putWord 21 = .ok (.istore 8, 2) := by decide +kernel
theorem dX5_putWord_23 : decode cX5_putWord 23 = .ok (.iload 5, 2) := by decide +kernel
theorem dX5_putWord_25 : decode cX5_putWord 25 = .ok (.iload 8, 2) := by decide +kernel
theorem dX5_putWord_27 : decode cX5_putWord 27 = .ok (.iadd, 1) := by decide +kernel
theorem dX5_putWord_28 : decode cX5_putWord 28 = .ok (.istore 5, 2) := by decide +kernel
theorem dX5_putWord_30 : decode cX5_putWord 30 = .ok (.iload 8, 2) := by decide +kernel
theorem dX5_putWord_32 : decode cX5_putWord 32 = .ok (.iload 6, 2) := by decide +kernel
theorem dX5_putWord_34 : decode cX5_putWord 34 = .ok (.if_icmp .le 8, 3) := by decide +kernel
theorem dX5_putWord_37 : decode cX5_putWord 37 = .ok (.iload 8, 2) := by decide +kernel
theorem dX5_putWord_39 : decode cX5_putWord 39 = .ok (.goto 5, 3) := by decide +kernel
theorem dX5_putWord_42 : decode cX5_putWord 42 = .ok (.iload 6, 2) := by decide +kernel
theorem dX5_putWord_44 : decode cX5_putWord 44 = .ok (.istore 6, 2) := by decide +kernel
theorem dX5_putWord_46 : decode cX5_putWord 46 = .ok (.iinc 7 1, 3) := by decide +kernel
theorem dX5_putWord_49 : decode cX5_putWord 49 = .ok (.goto (-40), 3) := by decide +kernel
theorem dX5_putWord_52 : decode cX5_putWord 52 = .ok (.aload_n 0, 1) := by decide +kernel
theorem dX5_putWord_53 : decode cX5_putWord 53 = .ok (.getfield 357, 3) := by decide +kernel
theorem dX5_putWord_56 : decode cX5_putWord 56 = .ok (.ifCond .eq 27, 3) := by decide +kernel
theorem dX5_putWord_59 : decode cX5_putWord 59 = .ok (.aload_n 0, 1) := by decide +kernel
theorem dX5_putWord_60 : decode cX5_putWord 60 = .ok (.getfield 369, 3) := by decide +kernel
theorem dX5_putWord_63 : decode cX5_putWord 63 = .ok (.iload 4, 2) := by decide +kernel
theorem dX5_putWord_65 : decode cX5_putWord 65 = .ok (.iadd, 1) := by decide +kernel
theorem dX5_putWord_66 : decode cX5_putWord 66 = .ok (.iload 5, 2) := by decide +kernel
theorem dX5_putWord_68 : decode cX5_putWord 68 = .ok (.iadd, 1) := by decide +kernel
theorem dX5_putWord_69 : decode cX5_putWord 69 = .ok (.aload_n 0, 1) := by decide +kernel
theorem dX5_putWord_70 : decode cX5_putWord 70 = .ok (.getfield 98, 3) := by decide +kernel
theorem dX5_putWord_73 : decode cX5_putWord 73 = .ok (.iload_n 1, 1) := by decide +kernel
theorem dX5_putWord_74 : decode cX5_putWord 74 = .ok (.iaload, 1) := by decide +kernel
theorem dX5_putWord_75 : decode cX5_putWord 75 = .ok (.if_icmp .le 8, 3) := by decide +kernel
theorem dX5_putWord_78 : decode cX5_putWord 78 = .ok (.aload_n 0, 1) := by decide +kernel
theorem dX5_putWord_79 : decode cX5_putWord 79 = .ok (.iload_n 2, 1) := by decide +kernel
theorem dX5_putWord_80 : decode cX5_putWord 80 = .ok (.invokevirtual 363, 3) := by decide +kernel
theorem dX5_putWord_83 : decode cX5_putWord 83 = .ok (.aload_n 0, 1) := by decide +kernel
theorem dX5_putWord_84 : decode cX5_putWord 84 = .ok (.getfield 357, 3) := by decide +kernel
theorem dX5_putWord_87 : decode cX5_putWord 87 = .ok (.ifCond .eq 13, 3) := by decide +kernel
theorem dX5_putWord_90 : decode cX5_putWord 90 = .ok (.aload_n 0, 1) := by decide +kernel
theorem dX5_putWord_91 : decode cX5_putWord 91 = .ok (.getfield 369, 3) := by decide +kernel
theorem dX5_putWord_94 : decode cX5_putWord 94 = .ok (.iload 4, 2) := by decide +kernel
