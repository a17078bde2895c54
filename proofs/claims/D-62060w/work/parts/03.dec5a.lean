set_option maxRecDepth 100000
theorem dX5_init_0 : decode cX5_init 0 = .ok (.aload_n 0, 1) := by decide +kernel
theorem dX5_init_1 : decode cX5_init 1 = .ok (.invokespecial 1, 3) := by decide +kernel
theorem dX5_init_4 : decode cX5_init 4 = .ok (.aload_n 0, 1) := by decide +kernel
theorem dX5_init_5 : decode cX5_init 5 = .ok (.sipush 160, 3) := by decide +kernel
theorem dX5_init_8 : decode cX5_init 8 = .ok (.newarray .int, 2) := by decide +kernel
theorem dX5_init_10 : decode cX5_init 10 = .ok (.putfield 7, 3) := by decide +kernel
theorem dX5_init_13 : decode cX5_init 13 = .ok (.aload_n 0, 1) := by decide +kernel
theorem dX5_init_14 : decode cX5_init 14 = .ok (.bipush 120, 2) := by decide +kernel
theorem dX5_init_16 : decode cX5_init 16 = .ok (.newarray .int, 2) := by decide +kernel
theorem dX5_init_18 : decode cX5_init 18 = .ok (.putfield 13, 3) := by decide +kernel
theorem dX5_init_21 : decode cX5_init 21 = .ok (.aload_n 0, 1) := by decide +kernel
theorem dX5_init_22 : decode cX5_init 22 = .ok (.bipush 40, 2) := by decide +kernel
theorem dX5_init_24 : decode cX5_init 24 = .ok (.newarray .int, 2) := by decide +kernel
theorem dX5_init_26 : decode cX5_init 26 = .ok (.putfield 16, 3) := by decide +kernel
theorem dX5_init_29 : decode cX5_init 29 = .ok (.aload_n 0, 1) := by decide +kernel
theorem dX5_init_30 : decode cX5_init 30 = .ok (.bipush 40, 2) := by decide +kernel
theorem dX5_init_32 : decode cX5_init 32 = .ok (.newarray .int, 2) := by decide +kernel
theorem dX5_init_34 : decode cX5_init 34 = .ok (.putfield 19, 3) := by decide +kernel
theorem dX5_init_37 : decode cX5_init 37 = .ok (.aload_n 0, 1) := by decide +kernel
theorem dX5_init_38 : decode cX5_init 38 = .ok (.bipush 40, 2) := by decide +kernel
theorem dX5_init_40 : decode cX5_init 40 = .ok (.newarray .int, 2) := by decide +kernel
theorem dX5_init_42 : decode cX5_init 42 = .ok (.putfield 22, 3) := by decide +kernel
theorem dX5_init_45 : decode cX5_init 45 = .ok (.aload_n 0, 1) := by decide +kernel
theorem dX5_init_46 : decode cX5_init 46 = .ok (.bipush 40, 2) := by decide +kernel
theorem dX5_init_48 : decode cX5_init 48 = .ok (.newarray .int, 2) := by decide +kernel
theorem dX5_init_50 : decode cX5_init 50 = .ok (.putfield 25, 3) := by decide +kernel
theorem dX5_init_53 : decode cX5_init 53 = .ok (.aload_n 0, 1) := by decide +kernel
theorem dX5_init_54 : decode cX5_init 54 = .ok (.bipush 40, 2) := by decide +kernel
theorem dX5_init_56 : decode cX5_init 56 = .ok (.newarray .int, 2) := by decide +kernel
theorem dX5_init_58 : decode cX5_init 58 = .ok (.putfield 28, 3) := by decide +kernel
theorem dX5_init_61 : decode cX5_init 61 = .ok (.aload_n 0, 1) := by decide +kernel
theorem dX5_init_62 : decode cX5_init 62 = .ok (.bipush 40, 2) := by decide +kernel
theorem dX5_init_64 : decode cX5_init 64 = .ok (.newarray .int, 2) := by decide +kernel
theorem dX5_init_66 : decode cX5_init 66 = .ok (.putfield 31, 3) := by decide +kernel
theorem dX5_init_69 : decode cX5_init 69 = .ok (.aload_n 0, 1) := by decide +kernel
theorem dX5_init_70 : decode cX5_init 70 = .ok (.bipush 40, 2) := by decide +kernel
theorem dX5_init_72 : decode cX5_init 72 = .ok (.newarray .int, 2) := by decide +kernel
theorem dX5_init_74 : decode cX5_init 74 = .ok (.putfield 34, 3) := by decide +kernel
theorem dX5_init_77 : decode cX5_init 77 = .ok (.aload_n 0, 1) := by decide +kernel
theorem dX5_init_78 : decode cX5_init 78 = .ok (.bipush 40, 2) := by decide +kernel
theorem dX5_init_80 : decode cX5_init 80 = .ok (.newarray .int, 2) := by decide +kernel
theorem dX5_init_82 : decode cX5_init 82 = .ok (.putfield 37, 3) := by decide +kernel
theorem dX5_init_85 : decode cX5_init 85 = .ok (.aload_n 0, 1) := by decide +kernel
theorem dX5_init_86 : decode cX5_init 86 = .ok (.sipush 160, 3) := by decide +kernel
theorem dX5_init_89 : decode cX5_init 89 = .ok (.newarray .int, 2) := by decide +kernel
theorem dX5_init_91 : decode cX5_init 91 = .ok (.putfield 40, 3) := by decide +kernel
theorem dX5_init_94 : decode cX5_init 94 = .ok (.aload_n 0, 1) := by decide +kernel
theorem dX5_init_95 : decode cX5_init 95 = .ok (.sipush 160, 3) := by decide +kernel
theorem dX5_init_98 : decode cX5_init 98 = .ok (.newarray .int, 2) := by decide +kernel
theorem dX5_init_100 : decode cX5_init 100 = .ok (.putfield 43, 3) := by decide +kernel
theorem dX5_init_103 : decode cX5_init 103 = .ok (.aload_n 0, 1) := by decide +kernel
theorem dX5_init_104 : decode cX5_init 104 = .ok (.bipush 48, 2) := by decide +kernel
theorem dX5_init_106 : decode cX5_init 106 = .ok (.newarray .int, 2) := by decide +kernel
theorem dX5_init_108 : decode cX5_init 108 = .ok (.putfield 46, 3) := by decide +kernel
theorem dX5_init_111 : decode cX5_init 111 = .ok (.aload_n 0, 1) := by decide +kernel
theorem dX5_init_112 : decode cX5_init 112 = .ok (.bipush 48, 2) := by decide +kernel
theorem dX5_init_114 : decode cX5_init 114 = .ok (.newarray .int, 2) := by decide +kernel
theorem dX5_init_116 : decode cX5_init 116 = .ok (.putfield 49, 3) := by decide +kernel
theorem dX5_init_119 : decode cX5_init 119 = .ok (.aload_n 0, 1) := by decide +kernel
theorem dX5_init_120 : decode cX5_init 120 = .ok (.bipush 48, 2) := by decide +kernel
theorem dX5_init_122 : decode cX5_init 122 = .ok (.newarray .boolean, 2) := by decide +kernel
theorem dX5_init_124 : decode cX5_init 124 = .ok (.putfield 52, 3) := by decide +kernel
theorem dX5_init_127 : decode cX5_init 127 = .ok (.aload_n 0, 1) := by decide +kernel
theorem dX5_init_128 : decode cX5_init 128 = .ok (.bipush 12, 2) := by decide +kernel
theorem dX5_init_130 : decode cX5_init 130 = .ok (.newarray .int, 2) := by decide +kernel
theorem dX5_init_132 : decode cX5_init 132 = .ok (.putfield 56, 3) := by decide +kernel
theorem dX5_init_135 : decode cX5_init 135 = .ok (.aload_n 0, 1) := by decide +kernel
theorem dX5_init_136 : decode cX5_init 136 = .ok (.bipush 12, 2) := by decide +kernel
theorem dX5_init_138 : decode cX5_init 138 = .ok (.newarray .int, 2) := by decide +kernel
theorem dX5_init_140 : decode cX5_init 140 = .ok (.putfield 59, 3) := by decide +kernel
theorem dX5_init_143 : decode cX5_init 143 = .ok (.aload_n 0, 1) := by decide +kernel
theorem dX5_init_144 : decode cX5_init 144 = .ok (.bipush 12, 2) := by decide +kernel
theorem dX5_init_146 : decode cX5_init 146 = .ok (.newarray .int, 2) := by decide +kernel
theorem dX5_init_148 : decode cX5_init 148 = .ok (.putfield 62, 3) := by decide +kernel
theorem dX5_init_151 : decode cX5_init 151 = .ok (.aload_n 0, 1) := by decide +kernel
theorem dX5_init_152 : decode cX5_init 152 = .ok (.bipush 12, 2) := by decide +kernel
theorem dX5_init_154 : decode cX5_init 154 = .ok (.newarray .int, 2) := by decide +kernel
theorem dX5_init_156 : decode cX5_init 156 = .ok (.putfield 65, 3) := by decide +kernel
theorem dX5_init_159 : decode cX5_init 159 = .ok (.aload_n 0, 1) := by decide +kernel
theorem dX5_init_160 : decode cX5_init 160 = .ok (.bipush 12, 2) := by decide +kernel
theorem dX5_init_162 : decode cX5_init 162 = .ok (.newarray .int, 2) := by decide +kernel
theorem dX5_init_164 : decode cX5_init 164 = .ok (.putfield 68, 3) := by decide +kernel
theorem dX5_init_167 : decode cX5_init 167 = .ok (.aload_n 0, 1) := by decide +kernel
theorem dX5_init_168 : decode cX5_init 168 = .ok (.bipush 120, 2) := by decide +kernel
theorem dX5_init_170 : decode cX5_init 170 = .ok (.newarray .int, 2) := by decide +kernel
theorem dX5_init_172 : decode cX5_init 172 = .ok (.putfield 71, 3) := by decide +kernel
theorem dX5_init_175 : decode cX5_init 175 = .ok (.aload_n 0, 1) := by decide +kernel
theorem dX5_init_176 : decode cX5_init 176 = .ok (.bipush 40, 2) := by decide +kernel
theorem dX5_init_178 : decode cX5_init 178 = .ok (.newarray .int, 2) := by decide +kernel
theorem dX5_init_180 : decode cX5_init 180 = .ok (.putfield 74, 3) := by decide +kernel
theorem dX5_init_183 : decode cX5_init 183 = .ok (.aload_n 0, 1) := by decide +kernel
theorem dX5_init_184 : decode cX5_init 184 = .ok (.sipush 200, 3) := by decide +kernel
theorem dX5_init_187 : decode cX5_init 187 = .ok (.newarray .boolean, 2) := by decide +kernel
theorem dX5_init_189 : decode cX5_init 189 = .ok (.putfield 77, 3) := by decide +kernel
theorem dX5_init_192 : decode cX5_init 192 = .ok (.aload_n 0, 1) := by decide +kernel
theorem dX5_init_193 : decode cX5_init 193 = .ok (.sipush 280, 3) := by decide +kernel
theorem dX5_init_196 : decode cX5_init 196 = .ok (.newarray .int, 2) := by decide +kernel
theorem dX5_init_198 : decode cX5_init 198 = .ok (.putfield 80, 3) := by decide +kernel
theorem dX5_init_201 : decode cX5_init 201 = .ok (.aload_n 0, 1) := by decide +kernel
theorem dX5_init_202 : decode cX5_init 202 = .ok (.sipush 280, 3) := by decide +kernel
theorem dX5_init_205 : decode cX5_init 205 = .ok (.newarray .int, 2) := by decide +kernel
theorem dX5_init_207 : decode cX5_init 207 = .ok (.putfield 83, 3) := by decide +kernel
theorem dX5_init_210 : decode cX5_init 210 = .ok (.aload_n 0, 1) := by decide +kernel
theorem dX5_init_211 : decode cX5_init 211 = .ok (.bipush 40, 2) := by decide +kernel
theorem dX5_init_213 : decode cX5_init 213 = .ok (.newarray .boolean, 2) := by decide +kernel
theorem dX5_init_215 : decode cX5_init 215 = .ok (.putfield 86, 3) := by decide +kernel
theorem dX5_init_218 : decode cX5_init 218 = .ok (.aload_n 0, 1) := by decide +kernel
theorem dX5_init_219 : decode cX5_init 219 = .ok (.bipush 40, 2) := by decide +kernel
theorem dX5_init_221 : decode cX5_init 221 = .ok (.newarray .boolean, 2) := by decide +kernel
theorem dX5_init_223 : decode cX5_init 223 = .ok (.putfield 89, 3) := by decide +kernel
theorem dX5_init_226 : decode cX5_init 226 = .ok (.aload_n 0, 1) := by decide +kernel
theorem dX5_init_227 : decode cX5_init 227 = .ok (.bipush 40, 2) := by decide +kernel
theorem dX5_init_229 : decode cX5_init 229 = .ok (.newarray .int, 2) := by decide +kernel
theorem dX5_init_231 : decode cX5_init 231 = .ok (.putfield 92, 3) := by decide +kernel
theorem dX5_init_234 : decode cX5_init 234 = .ok (.aload_n 0, 1) := by decide +kernel
theorem dX5_init_235 : decode cX5_init 235 = .ok (.bipush 40, 2) := by decide +kernel
theorem dX5_init_237 : decode cX5_init 237 = .ok (.newarray .int, 2) := by decide +kernel
theorem dX5_init_239 : decode cX5_init 239 = .ok (.putfield 95, 3) := by decide +kernel
theorem dX5_init_242 : decode cX5_init 242 = .ok (.aload_n 0, 1) := by decide +kernel
theorem dX5_init_243 : decode cX5_init 243 = .ok (.bipush 40, 2) := by decide +kernel
theorem dX5_init_245 : decode cX5_init 245 = .ok (.newarray .int, 2) := by decide +kernel
theorem dX5_init_247 : decode cX5_init 247 = .ok (.putfield 98, 3) := by decide +kernel
theorem dX5_init_250 : decode cX5_init 250 = .ok (.aload_n 0, 1) := by decide +kernel
theorem dX5_init_251 : decode cX5_init 251 = .ok (.bipush 40, 2) := by decide +kernel
theorem dX5_init_253 : decode cX5_init 253 = .ok (.newarray .int, 2) := by decide +kernel
theorem dX5_init_255 : decode cX5_init 255 = .ok (.putfield 101, 3) := by decide +kernel
theorem dX5_init_258 : decode cX5_init 258 = .ok (.aload_n 0, 1) := by decide +kernel
theorem dX5_init_259 : decode cX5_init 259 = .ok (.bipush 40, 2) := by decide +kernel
theorem dX5_init_261 : decode cX5_init 261 = .ok (.newarray .int, 2) := by decide +kernel
theorem dX5_init_263 : decode cX5_init 263 = .ok (.putfield 104, 3) := by decide +kernel
theorem dX5_init_266 : decode cX5_init 266 = .ok (.aload_n 0, 1) := by decide +kernel
theorem dX5_init_267 : decode cX5_init 267 = .ok (.sipush 160, 3) := by decide +kernel
theorem dX5_init_270 : decode cX5_init 270 = .ok (.newarray .boolean, 2) := by decide +kernel
theorem dX5_init_272 : decode cX5_init 272 = .ok (.putfield 107, 3) := by decide +kernel
theorem dX5_init_275 : decode cX5_init 275 = .ok (.aload_n 0, 1) := by decide +kernel
theorem dX5_init_276 : decode cX5_init 276 = .ok (.sipush 160, 3) := by decide +kernel
theorem dX5_init_279 : decode cX5_init 279 = .ok (.newarray .int, 2) := by decide +kernel
theorem dX5_init_281 : decode cX5_init 281 = .ok (.putfield 110, 3) := by decide +kernel
theorem dX5_init_284 : decode cX5_init 284 = .ok (.aload_n 0, 1) := by decide +kernel
theorem dX5_init_285 : decode cX5_init 285 = .ok (.sipush 160, 3) := by decide +kernel
theorem dX5_init_288 : decode cX5_init 288 = .ok (.newarray .int, 2) := by decide +kernel
theorem dX5_init_290 : decode cX5_init 290 = .ok (.putfield 113, 3) := by decide +kernel
theorem dX5_init_293 : decode cX5_init 293 = .ok (.aload_n 0, 1) := by decide +kernel
theorem dX5_init_294 : decode cX5_init 294 = .ok (.sipush 160, 3) := by decide +kernel
theorem dX5_init_297 : decode cX5_init 297 = .ok (.newarray .int, 2) := by decide +kernel
theorem dX5_init_299 : decode cX5_init 299 = .ok (.putfield 116, 3) := by decide +kernel
theorem dX5_init_302 : decode cX5_init 302 = .ok (.aload_n 0, 1) := by decide +kernel
theorem dX5_init_303 : decode cX5_init 303 = .ok (.sipush 200, 3) := by decide +kernel
theorem dX5_init_306 : decode cX5_init 306 = .ok (.newarray .int, 2) := by decide +kernel
theorem dX5_init_308 : decode cX5_init 308 = .ok (.putfield 119, 3) := by decide +kernel
theorem dX5_init_311 : decode cX5_init 311 = .ok (.aload_n 0, 1) := by decide +kernel
theorem dX5_init_312 : decode cX5_init 312 = .ok (.invokevirtual 122, 3) := by decide +kernel
theorem dX5_init_315 : decode cX5_init 315 = .ok (.return_, 1) := by decide +kernel
theorem dX5_reset_0 : decode cX5_reset 0 = .ok (.aload_n 0, 1) := by decide +kernel
theorem dX5_reset_1 : decode cX5_reset 1 = .ok (.iconst 0, 1) := by decide +kernel
theorem dX5_reset_2 : decode cX5_reset 2 = .ok (.putfield 129, 3) := by decide +kernel
theorem dX5_reset_5 : decode cX5_reset 5 = .ok (.aload_n 0, 1) := by decide +kernel
theorem dX5_reset_6 : decode cX5_reset 6 = .ok (.iconst 1, 1) := by decide +kernel
theorem dX5_reset_7 : decode cX5_reset 7 = .ok (.putfield 142, 3) := by decide +kernel
theorem dX5_reset_10 : decode cX5_reset 10 = .ok (.aload_n 0, 1) := by decide +kernel
theorem dX5_reset_11 : decode cX5_reset 11 = .ok (.getfield 16, 3) := by decide +kernel
theorem dX5_reset_14 : decode cX5_reset 14 = .ok (.iconst 0, 1) := by decide +kernel
theorem dX5_reset_15 : decode cX5_reset 15 = .ok (.iconst 0, 1) := by decide +kernel
theorem dX5_reset_16 : decode cX5_reset 16 = .ok (.iastore, 1) := by decide +kernel
theorem dX5_reset_17 : decode cX5_reset 17 = .ok (.aload_n 0, 1) := by decide +kernel
theorem dX5_reset_18 : decode cX5_reset 18 = .ok (.iconst 1, 1) := by decide +kernel
theorem dX5_reset_19 : decode cX5_reset 19 = .ok (.putfield 145, 3) := by decide +kernel
theorem dX5_reset_22 : decode cX5_reset 22 = .ok (.aload_n 0, 1) := by decide +kernel
theorem dX5_reset_23 : decode cX5_reset 23 = .ok (.getfield 19, 3) := by decide +kernel
theorem dX5_reset_26 : decode cX5_reset 26 = .ok (.iconst 0, 1) := by decide +kernel
theorem dX5_reset_27 : decode cX5_reset 27 = .ok (.iconst 0, 1) := by decide +kernel
theorem dX5_reset_28 : decode cX5_reset 28 = .ok (.iastore, 1) := by decide +kernel
theorem dX5_reset_29 : decode cX5_reset 29 = .ok (.aload_n 0, 1) := by decide +kernel
theorem dX5_reset_30 : decode cX5_reset 30 = .ok (.getfield 22, 3) := by decide +kernel
theorem dX5_reset_33 : decode cX5_reset 33 = .ok (.iconst 0, 1) := by decide +kernel
theorem dX5_reset_34 : decode cX5_reset 34 = .ok (.iconst 0, 1) := by decide +kernel
theorem dX5_reset_35 : decode cX5_reset 35 = .ok (.iastore, 1) := by decide +kernel
theorem dX5_reset_36 : decode cX5_reset 36 = .ok (.aload_n 0, 1) := by decide +kernel
theorem dX5_reset_37 : decode cX5_reset 37 = .ok (.getfield 25, 3) := by decide +kernel
theorem dX5_reset_40 : decode cX5_reset 40 = .ok (.iconst 0, 1) := by decide +kernel
theorem dX5_reset_41 : decode cX5_reset 41 = .ok (.iconst 0, 1) := by decide +kernel
theorem dX5_reset_42 : decode cX5_reset 42 = .ok (.iastore, 1) := by decide +kernel
theorem dX5_reset_43 : decode cX5_reset 43 = .ok (.aload_n 0, 1) := by decide +kernel
theorem dX5_reset_44 : decode cX5_reset 44 = .ok (.getfield 31, 3) := by decide +kernel
theorem dX5_reset_47 : decode cX5_reset 47 = .ok (.iconst 0, 1) := by decide +kernel
theorem dX5_reset_48 : decode cX5_reset 48 = .ok (.iconst 0, 1) := by decide +kernel
theorem dX5_reset_49 : decode cX5_reset 49 = .ok (.iastore, 1) := by decide +kernel
theorem dX5_reset_50 : decode cX5_reset 50 = .ok (.aload_n 0, 1) := by decide +kernel
theorem dX5_reset_51 : decode cX5_reset 51 = .ok (.iconst 1, 1) := by decide +kernel
theorem dX5_reset_52 : decode cX5_reset 52 = .ok (.putfield 148, 3) := by decide +kernel
theorem dX5_reset_55 : decode cX5_reset 55 = .ok (.aload_n 0, 1) := by decide +kernel
theorem dX5_reset_56 : decode cX5_reset 56 = .ok (.iconst 0, 1) := by decide +kernel
theorem dX5_reset_57 : decode cX5_reset 57 = .ok (.putfield 151, 3) := by decide +kernel
theorem dX5_reset_60 : decode cX5_reset 60 = .ok (.aload_n 0, 1) := by decide +kernel
theorem dX5_reset_61 : decode cX5_reset 61 = .ok (.iconst 0, 1) := by decide +kernel
theorem dX5_reset_62 : decode cX5_reset 62 = .ok (.putfield 154, 3) := by decide +kernel
theorem dX5_reset_65 : decode cX5_reset 65 = .ok (.return_, 1) := by decide +kernel
theorem dX5_html_0 : decode cX5_html 0 = .ok (.iload_n 1, 1) := by decide +kernel
theorem dX5_html_1 : decode cX5_html 1 = .ok (.bipush 32, 2) := by decide +kernel
theorem dX5_html_3 : decode cX5_html 3 = .ok (.if_icmp .lt 26, 3) := by decide +kernel
theorem dX5_html_6 : decode cX5_html 6 = .ok (.iload_n 1, 1) := by decide +kernel
theorem dX5_html_7 : decode cX5_html 7 = .ok (.bipush 126, 2) := by decide +kernel
theorem dX5_html_9 : decode cX5_html 9 = .ok (.if_icmp .gt 20, 3) := by decide +kernel
theorem dX5_html_12 : decode cX5_html 12 = .ok (.aload_n 0, 1) := by decide +kernel
theorem dX5_html_13 : decode cX5_html 13 = .ok (.getfield 125, 3) := by decide +kernel
theorem dX5_html_16 : decode cX5_html 16 = .ok (.sipush 160, 3) := by decide +kernel
theorem dX5_html_19 : decode cX5_html 19 = .ok (.if_icmp .eq 10, 3) := by decide +kernel
theorem dX5_html_22 : decode cX5_html 22 = .ok (.aload_n 0, 1) := by decide +kernel
theorem dX5_html_23 : decode cX5_html 23 = .ok (.getfield 129, 3) := by decide +kernel
theorem dX5_html_26 : decode cX5_html 26 = .ok (.ifCond .eq 5, 3) := by decide +kernel
theorem dX5_html_29 : decode cX5_html 29 = .ok (.iconst 0, 1) := by decide +kernel
theorem dX5_html_30 : decode cX5_html 30 = .ok (.ireturn, 1) := by decide +kernel
theorem dX5_html_31 : decode cX5_html 31 = .ok (.aload_n 0, 1) := by decide +kernel
theorem dX5_html_32 : decode cX5_html 32 = .ok (.getfield 7, 3) := by decide +kernel
theorem dX5_html_35 : decode cX5_html 35 = .ok (.aload_n 0, 1) := by decide +kernel
theorem dX5_html_36 : decode cX5_html 36 = .ok (.getfield 125, 3) := by decide +kernel
theorem dX5_html_39 : decode cX5_html 39 = .ok (.iload_n 1, 1) := by decide +kernel
theorem dX5_html_40 : decode cX5_html 40 = .ok (.iastore, 1) := by decide +kernel
theorem dX5_html_41 : decode cX5_html 41 = .ok (.aload_n 0, 1) := by decide +kernel
theorem dX5_html_42 : decode cX5_html 42 = .ok (.dup, 1) := by decide +kernel
theorem dX5_html_43 : decode cX5_html 43 = .ok (.getfield 125, 3) := by decide +kernel
theorem dX5_html_46 : decode cX5_html 46 = .ok (.iconst 1, 1) := by decide +kernel
theorem dX5_html_47 : decode cX5_html 47 = .ok (.iadd, 1) := by decide +kernel
theorem dX5_html_48 : decode cX5_html 48 = .ok (.putfield 125, 3) := by decide +kernel
theorem dX5_html_51 : decode cX5_html 51 = .ok (.aload_n 0, 1) := by decide +kernel
theorem dX5_html_52 : decode cX5_html 52 = .ok (.iconst 0, 1) := by decide +kernel
theorem dX5_html_53 : decode cX5_html 53 = .ok (.putfield 133, 3) := by decide +kernel
theorem dX5_html_56 : decode cX5_html 56 = .ok (.aload_n 0, 1) := by decide +kernel
theorem dX5_html_57 : decode cX5_html 57 = .ok (.invokevirtual 136, 3) := by decide +kernel
theorem dX5_html_60 : decode cX5_html 60 = .ok (.aload_n 0, 1) := by decide +kernel
theorem dX5_html_61 : decode cX5_html 61 = .ok (.getfield 129, 3) := by decide +kernel
theorem dX5_html_64 : decode cX5_html 64 = .ok (.ifCond .ne 7, 3) := by decide +kernel
theorem dX5_html_67 : decode cX5_html 67 = .ok (.iconst 1, 1) := by decide +kernel
theorem dX5_html_68 : decode cX5_html 68 = .ok (.goto 4, 3) := by decide +kernel
theorem dX5_html_71 : decode cX5_html 71 = .ok (.iconst 0, 1) := by decide +kernel
theorem dX5_html_72 : decode cX5_html 72 = .ok (.ireturn, 1) := by decide +kernel
theorem dX5_read_0 : decode cX5_read 0 = .ok (.aload_n 0, 1) := by decide +kernel
theorem dX5_read_1 : decode cX5_read 1 = .ok (.invokevirtual 122, 3) := by decide +kernel
theorem dX5_read_4 : decode cX5_read 4 = .ok (.iconst 0, 1) := by decide +kernel
theorem dX5_read_5 : decode cX5_read 5 = .ok (.istore_n 1, 1) := by decide +kernel
theorem dX5_read_6 : decode cX5_read 6 = .ok (.iload_n 1, 1) := by decide +kernel
theorem dX5_read_7 : decode cX5_read 7 = .ok (.ifCond .lt 123, 3) := by decide +kernel
theorem dX5_read_10 : decode cX5_read 10 = .ok (.iload_n 1, 1) := by decide +kernel
theorem dX5_read_11 : decode cX5_read 11 = .ok (.aload_n 0, 1) := by decide +kernel
theorem dX5_read_12 : decode cX5_read 12 = .ok (.getfield 125, 3) := by decide +kernel
theorem dX5_read_15 : decode cX5_read 15 = .ok (.if_icmp .ge 115, 3) := by decide +kernel
theorem dX5_read_18 : decode cX5_read 18 = .ok (.aload_n 0, 1) := by decide +kernel
theorem dX5_read_19 : decode cX5_read 19 = .ok (.getfield 129, 3) := by decide +kernel
theorem dX5_read_22 : decode cX5_read 22 = .ok (.ifCond .ne 108, 3) := by decide +kernel
theorem dX5_read_25 : decode cX5_read 25 = .ok (.aload_n 0, 1) := by decide +kernel
theorem dX5_read_26 : decode cX5_read 26 = .ok (.getfield 7, 3) := by decide +kernel
theorem dX5_read_29 : decode cX5_read 29 = .ok (.iload_n 1, 1) := by decide +kernel
theorem dX5_read_30 : decode cX5_read 30 = .ok (.iaload, 1) := by decide +kernel
theorem dX5_read_31 : decode cX5_read 31 = .ok (.istore_n 2, 1) := by decide +kernel
theorem dX5_read_32 : decode cX5_read 32 = .ok (.aload_n 0, 1) := by decide +kernel
theorem dX5_read_33 : decode cX5_read 33 = .ok (.iload_n 1, 1) := by decide +kernel
theorem dX5_read_34 : decode cX5_read 34 = .ok (.iconst 1, 1) := by decide +kernel
theorem dX5_read_35 : decode cX5_read 35 = .ok (.iadd, 1) := by decide +kernel
theorem dX5_read_36 : decode cX5_read 36 = .ok (.invokevirtual 157, 3) := by decide +kernel
theorem dX5_read_39 : decode cX5_read 39 = .ok (.istore_n 3, 1) := by decide +kernel
theorem dX5_read_40 : decode cX5_read 40 = .ok (.iload_n 2, 1) := by decide +kernel
theorem dX5_read_41 : decode cX5_read 41 = .ok (.bipush 60, 2) := by decide +kernel
theorem dX5_read_43 : decode cX5_read 43 = .ok (.if_icmp .ne 37, 3) := by decide +kernel
theorem dX5_read_46 : decode cX5_read 46 = .ok (.iload_n 3, 1) := by decide +kernel
theorem dX5_read_47 : decode cX5_read 47 = .ok (.bipush 47, 2) := by decide +kernel
theorem dX5_read_49 : decode cX5_read 49 = .ok (.if_icmp .eq 21, 3) := by decide +kernel
theorem dX5_read_52 : decode cX5_read 52 = .ok (.iload_n 3, 1) := by decide +kernel
theorem dX5_read_53 : decode cX5_read 53 = .ok (.bipush 33, 2) := by decide +kernel
theorem dX5_read_55 : decode cX5_read 55 = .ok (.if_icmp .eq 15, 3) := by decide +kernel
theorem dX5_read_58 : decode cX5_read 58 = .ok (.iload_n 3, 1) := by decide +kernel
theorem dX5_read_59 : decode cX5_read 59 = .ok (.iconst (-1), 1) := by decide +kernel
theorem dX5_read_60 : decode cX5_read 60 = .ok (.if_icmp .eq 10, 3) := by decide +kernel
theorem dX5_read_63 : decode cX5_read 63 = .ok (.iload_n 3, 1) := by decide +kernel
theorem dX5_read_64 : decode cX5_read 64 = .ok (.invokestatic 161, 3) := by decide +kernel
theorem dX5_read_67 : decode cX5_read 67 = .ok (.ifCond .eq 13, 3) := by decide +kernel
theorem dX5_read_70 : decode cX5_read 70 = .ok (.aload_n 0, 1) := by decide +kernel
theorem dX5_read_71 : decode cX5_read 71 = .ok (.iload_n 1, 1) := by decide +kernel
theorem dX5_read_72 : decode cX5_read 72 = .ok (.iload_n 3, 1) := by decide +kernel
theorem dX5_read_73 : decode cX5_read 73 = .ok (.invokevirtual 165, 3) := by decide +kernel
theorem dX5_read_76 : decode cX5_read 76 = .ok (.istore_n 1, 1) := by decide +kernel
theorem dX5_read_77 : decode cX5_read 77 = .ok (.goto 50, 3) := by decide +kernel
theorem dX5_read_80 : decode cX5_read 80 = .ok (.iload_n 2, 1) := by decide +kernel
theorem dX5_read_81 : decode cX5_read 81 = .ok (.bipush 38, 2) := by decide +kernel
theorem dX5_read_83 : decode cX5_read 83 = .ok (.if_icmp .ne 36, 3) := by decide +kernel
theorem dX5_read_86 : decode cX5_read 86 = .ok (.iload_n 3, 1) := by decide +kernel
theorem dX5_read_87 : decode cX5_read 87 = .ok (.bipush 108, 2) := by decide +kernel
theorem dX5_read_89 : decode cX5_read 89 = .ok (.if_icmp .eq 20, 3) := by decide +kernel
theorem dX5_read_92 : decode cX5_read 92 = .ok (.iload_n 3, 1) := by decide +kernel
theorem dX5_read_93 : decode cX5_read 93 = .ok (.bipush 103, 2) := by decide +kernel
theorem dX5_read_95 : decode cX5_read 95 = .ok (.if_icmp .eq 14, 3) := by decide +kernel
theorem dX5_read_98 : decode cX5_read 98 = .ok (.iload_n 3, 1) := by decide +kernel
theorem dX5_read_99 : decode cX5_read 99 = .ok (.bipush 97, 2) := by decide +kernel
theorem dX5_read_101 : decode cX5_read 101 = .ok (.if_icmp .eq 8, 3) := by decide +kernel
theorem dX5_read_104 : decode cX5_read 104 = .ok (.iload_n 3, 1) := by decide +kernel
theorem dX5_read_105 : decode cX5_read 105 = .ok (.iconst (-1), 1) := by decide +kernel
theorem dX5_read_106 : decode cX5_read 106 = .ok (.if_icmp .ne 13, 3) := by decide +kernel
theorem dX5_read_109 : decode cX5_read 109 = .ok (.aload_n 0, 1) := by decide +kernel
theorem dX5_read_110 : decode cX5_read 110 = .ok (.iload_n 1, 1) := by decide +kernel
theorem dX5_read_111 : decode cX5_read 111 = .ok (.iload_n 3, 1) := by decide +kernel
theorem dX5_read_112 : decode cX5_read 112 = .ok (.invokevirtual 169, 3) := by decide +kernel
theorem dX5_read_115 : decode cX5_read 115 = .ok (.istore_n 1, 1) := by decide +kernel
theorem dX5_read_116 : decode cX5_read 116 = .ok (.goto 11, 3) := by decide +kernel
theorem dX5_read_119 : decode cX5_read 119 = .ok (.aload_n 0, 1) := by decide +kernel
theorem dX5_read_120 : decode cX5_read 120 = .ok (.iload_n 2, 1) := by decide +kernel
theorem dX5_read_121 : decode cX5_read 121 = .ok (.invokevirtual 172, 3) := by decide +kernel
theorem dX5_read_124 : decode cX5_read 124 = .ok (.iinc 1 1, 3) := by decide +kernel
theorem dX5_read_127 : decode cX5_read 127 = .ok (.goto (-121), 3) := by decide +kernel
theorem dX5_read_130 : decode cX5_read 130 = .ok (.return_, 1) := by decide +kernel
theorem dX5_peek_0 : decode cX5_peek 0 = .ok (.iload_n 1, 1) := by decide +kernel
theorem dX5_peek_1 : decode cX5_peek 1 = .ok (.aload_n 0, 1) := by decide +kernel
theorem dX5_peek_2 : decode cX5_peek 2 = .ok (.getfield 125, 3) := by decide +kernel
theorem dX5_peek_5 : decode cX5_peek 5 = .ok (.if_icmp .ge 12, 3) := by decide +kernel
theorem dX5_peek_8 : decode cX5_peek 8 = .ok (.aload_n 0, 1) := by decide +kernel
theorem dX5_peek_9 : decode cX5_peek 9 = .ok (.getfield 7, 3) := by decide +kernel
theorem dX5_peek_12 : decode cX5_peek 12 = .ok (.iload_n 1, 1) := by decide +kernel
theorem dX5_peek_13 : decode cX5_peek 13 = .ok (.iaload, 1) := by decide +kernel
theorem dX5_peek_14 : decode cX5_peek 14 = .ok (.goto 4, 3) := by decide +kernel
theorem dX5_peek_17 : decode cX5_peek 17 = .ok (.iconst (-1), 1) := by decide +kernel
theorem dX5_peek_18 : decode cX5_peek 18 = .ok (.ireturn, 1) := by decide +kernel
theorem dX5_small_0 : decode cX5_small 0 = .ok (.iload_n 0, 1) := by decide +kernel
theorem dX5_small_1 : decode cX5_small 1 = .ok (.bipush 97, 2) := by decide +kernel
theorem dX5_small_3 : decode cX5_small 3 = .ok (.if_icmp .lt 13, 3) := by decide +kernel
theorem dX5_small_6 : decode cX5_small 6 = .ok (.iload_n 0, 1) := by decide +kernel
theorem dX5_small_7 : decode cX5_small 7 = .ok (.bipush 122, 2) := by decide +kernel
theorem dX5_small_9 : decode cX5_small 9 = .ok (.if_icmp .gt 7, 3) := by decide +kernel
theorem dX5_small_12 : decode cX5_small 12 = .ok (.iconst 1, 1) := by decide +kernel
theorem dX5_small_13 : decode cX5_small 13 = .ok (.goto 4, 3) := by decide +kernel
theorem dX5_small_16 : decode cX5_small 16 = .ok (.iconst 0, 1) := by decide +kernel
theorem dX5_small_17 : decode cX5_small 17 = .ok (.ireturn, 1) := by decide +kernel
theorem dX5_tag_0 : decode cX5_tag 0 = .ok (.aload_n 0, 1) := by decide +kernel
theorem dX5_tag_1 : decode cX5_tag 1 = .ok (.iload_n 1, 1) := by decide +kernel
theorem dX5_tag_2 : decode cX5_tag 2 = .ok (.iconst 2, 1) := by decide +kernel
theorem dX5_tag_3 : decode cX5_tag 3 = .ok (.iadd, 1) := by decide +kernel
theorem dX5_tag_4 : decode cX5_tag 4 = .ok (.invokevirtual 157, 3) := by decide +kernel
theorem dX5_tag_7 : decode cX5_tag 7 = .ok (.istore_n 3, 1) := by decide +kernel
theorem dX5_tag_8 : decode cX5_tag 8 = .ok (.iload_n 2, 1) := by decide +kernel
theorem dX5_tag_9 : decode cX5_tag 9 = .ok (.iconst (-1), 1) := by decide +kernel
theorem dX5_tag_10 : decode cX5_tag 10 = .ok (.if_icmp .eq 14, 3) := by decide +kernel
theorem dX5_tag_13 : decode cX5_tag 13 = .ok (.iload_n 2, 1) := by decide +kernel
theorem dX5_tag_14 : decode cX5_tag 14 = .ok (.bipush 47, 2) := by decide +kernel
theorem dX5_tag_16 : decode cX5_tag 16 = .ok (.if_icmp .ne 10, 3) := by decide +kernel
theorem dX5_tag_19 : decode cX5_tag 19 = .ok (.iload_n 3, 1) := by decide +kernel
theorem dX5_tag_20 : decode cX5_tag 20 = .ok (.iconst (-1), 1) := by decide +kernel
theorem dX5_tag_21 : decode cX5_tag 21 = .ok (.if_icmp .ne 5, 3) := by decide +kernel
theorem dX5_tag_24 : decode cX5_tag 24 = .ok (.iconst (-1), 1) := by decide +kernel
theorem dX5_tag_25 : decode cX5_tag 25 = .ok (.ireturn, 1) := by decide +kernel
theorem dX5_tag_26 : decode cX5_tag 26 = .ok (.iload_n 2, 1) := by decide +kernel
theorem dX5_tag_27 : decode cX5_tag 27 = .ok (.bipush 47, 2) := by decide +kernel
theorem dX5_tag_29 : decode cX5_tag 29 = .ok (.if_icmp .ne 14, 3) := by decide +kernel
theorem dX5_tag_32 : decode cX5_tag 32 = .ok (.iload_n 3, 1) := by decide +kernel
theorem dX5_tag_33 : decode cX5_tag 33 = .ok (.invokestatic 161, 3) := by decide +kernel
theorem dX5_tag_36 : decode cX5_tag 36 = .ok (.ifCond .eq 7, 3) := by decide +kernel
theorem dX5_tag_39 : decode cX5_tag 39 = .ok (.iconst 1, 1) := by decide +kernel
theorem dX5_tag_40 : decode cX5_tag 40 = .ok (.goto 4, 3) := by decide +kernel
theorem dX5_tag_43 : decode cX5_tag 43 = .ok (.iconst 0, 1) := by decide +kernel
theorem dX5_tag_44 : decode cX5_tag 44 = .ok (.istore 4, 2) := by decide +kernel
theorem dX5_tag_46 : decode cX5_tag 46 = .ok (.aload_n 0, 1) := by decide +kernel
theorem dX5_tag_47 : decode cX5_tag 47 = .ok (.iload_n 1, 1) := by decide +kernel
theorem dX5_tag_48 : decode cX5_tag 48 = .ok (.iconst 2, 1) := by decide +kernel
theorem dX5_tag_49 : decode cX5_tag 49 = .ok (.iadd, 1) := by decide +kernel
theorem dX5_tag_50 : decode cX5_tag 50 = .ok (.invokevirtual 176, 3) := by decide +kernel
theorem dX5_tag_53 : decode cX5_tag 53 = .ok (.istore 5, 2) := by decide +kernel
theorem dX5_tag_55 : decode cX5_tag 55 = .ok (.iload 5, 2) := by decide +kernel
theorem dX5_tag_57 : decode cX5_tag 57 = .ok (.ifCond .ge 5, 3) := by decide +kernel
theorem dX5_tag_60 : decode cX5_tag 60 = .ok (.iconst (-1), 1) := by decide +kernel
theorem dX5_tag_61 : decode cX5_tag 61 = .ok (.ireturn, 1) := by decide +kernel
theorem dX5_tag_62 : decode cX5_tag 62 = .ok (.iconst 0, 1) := by decide +kernel
theorem dX5_tag_63 : decode cX5_tag 63 = .ok (.istore 6, 2) := by decide +kernel
theorem dX5_tag_65 : decode cX5_tag 65 = .ok (.iload_n 1, 1) := by decide +kernel
theorem dX5_tag_66 : decode cX5_tag 66 = .ok (.iconst 2, 1) := by decide +kernel
theorem dX5_tag_67 : decode cX5_tag 67 = .ok (.iadd, 1) := by decide +kernel
theorem dX5_tag_68 : decode cX5_tag 68 = .ok (.istore 7, 2) := by decide +kernel
theorem dX5_tag_70 : decode cX5_tag 70 = .ok (.iload 7, 2) := by decide +kernel
theorem dX5_tag_72 : decode cX5_tag 72 = .ok (.iload 5, 2) := by decide +kernel
theorem dX5_tag_74 : decode cX5_tag 74 = .ok (.if_icmp .ge 39, 3) := by decide +kernel
theorem dX5_tag_77 : decode cX5_tag 77 = .ok (.aload_n 0, 1) := by decide +kernel
theorem dX5_tag_78 : decode cX5_tag 78 = .ok (.getfield 7, 3) := by decide +kernel
theorem dX5_tag_81 : decode cX5_tag 81 = .ok (.iload 7, 2) := by decide +kernel
theorem dX5_tag_83 : decode cX5_tag 83 = .ok (.iaload, 1) := by decide +kernel
theorem dX5_tag_84 : decode cX5_tag 84 = .ok (.invokestatic 179, 3) := by decide +kernel
theorem dX5_tag_87 : decode cX5_tag 87 = .ok (.ifCond .eq 20, 3) := by decide +kernel
theorem dX5_tag_90 : decode cX5_tag 90 = .ok (.iload 6, 2) := by decide +kernel
theorem dX5_tag_92 : decode cX5_tag 92 = .ok (.iconst 1, 1) := by decide +kernel
theorem dX5_tag_93 : decode cX5_tag 93 = .ok (.aload_n 0, 1) := by decide +kernel
theorem dX5_tag_94 : decode cX5_tag 94 = .ok (.getfield 7, 3) := by decide +kernel
theorem dX5_tag_97 : decode cX5_tag 97 = .ok (.iload 7, 2) := by decide +kernel
theorem dX5_tag_99 : decode cX5_tag 99 = .ok (.iaload, 1) := by decide +kernel
theorem dX5_tag_100 : decode cX5_tag 100 = .ok (.bipush 65, 2) := by decide +kernel
theorem dX5_tag_102 : decode cX5_tag 102 = .ok (.isub, 1) := by decide +kernel
theorem dX5_tag_103 : decode cX5_tag 103 = .ok (.ishl, 1) := by decide +kernel
theorem dX5_tag_104 : decode cX5_tag 104 = .ok (.ior, 1) := by decide +kernel
theorem dX5_tag_105 : decode cX5_tag 105 = .ok (.istore 6, 2) := by decide +kernel
theorem dX5_tag_107 : decode cX5_tag 107 = .ok (.iinc 7 1, 3) := by decide +kernel
theorem dX5_tag_110 : decode cX5_tag 110 = .ok (.goto (-40), 3) := by decide +kernel
theorem dX5_tag_113 : decode cX5_tag 113 = .ok (.iload_n 2, 1) := by decide +kernel
theorem dX5_tag_114 : decode cX5_tag 114 = .ok (.invokestatic 161, 3) := by decide +kernel
theorem dX5_tag_117 : decode cX5_tag 117 = .ok (.ifCond .eq 13, 3) := by decide +kernel
theorem dX5_tag_120 : decode cX5_tag 120 = .ok (.aload_n 0, 1) := by decide +kernel
theorem dX5_tag_121 : decode cX5_tag 121 = .ok (.iload_n 2, 1) := by decide +kernel
theorem dX5_tag_122 : decode cX5_tag 122 = .ok (.iload 6, 2) := by decide +kernel
theorem dX5_tag_124 : decode cX5_tag 124 = .ok (.invokevirtual 182, 3) := by decide +kernel
theorem dX5_tag_127 : decode cX5_tag 127 = .ok (.goto 13, 3) := by decide +kernel
theorem dX5_tag_130 : decode cX5_tag 130 = .ok (.iload 4, 2) := by decide +kernel
theorem dX5_tag_132 : decode cX5_tag 132 = .ok (.ifCond .eq 8, 3) := by decide +kernel
theorem dX5_tag_135 : decode cX5_tag 135 = .ok (.aload_n 0, 1) := by decide +kernel
theorem dX5_tag_136 : decode cX5_tag 136 = .ok (.iload_n 3, 1) := by decide +kernel
theorem dX5_tag_137 : decode cX5_tag 137 = .ok (.invokevirtual 186, 3) := by decide +kernel
theorem dX5_tag_140 : decode cX5_tag 140 = .ok (.iload 5, 2) := by decide +kernel
theorem dX5_tag_142 : decode cX5_tag 142 = .ok (.iconst 1, 1) := by decide +kernel
theorem dX5_tag_143 : decode cX5_tag 143 = .ok (.iadd, 1) := by decide +kernel
theorem dX5_tag_144 : decode cX5_tag 144 = .ok (.ireturn, 1) := by decide +kernel
theorem dX5_closed_0 : decode cX5_closed 0 = .ok (.iload_n 1, 1) := by decide +kernel
theorem dX5_closed_1 : decode cX5_closed 1 = .ok (.istore_n 2, 1) := by decide +kernel
theorem dX5_closed_2 : decode cX5_closed 2 = .ok (.iload_n 2, 1) := by decide +kernel
theorem dX5_closed_3 : decode cX5_closed 3 = .ok (.aload_n 0, 1) := by decide +kernel
theorem dX5_closed_4 : decode cX5_closed 4 = .ok (.getfield 125, 3) := by decide +kernel
theorem dX5_closed_7 : decode cX5_closed 7 = .ok (.if_icmp .ge 22, 3) := by decide +kernel
theorem dX5_closed_10 : decode cX5_closed 10 = .ok (.aload_n 0, 1) := by decide +kernel
theorem dX5_closed_11 : decode cX5_closed 11 = .ok (.getfield 7, 3) := by decide +kernel
theorem dX5_closed_14 : decode cX5_closed 14 = .ok (.iload_n 2, 1) := by decide +kernel
theorem dX5_closed_15 : decode cX5_closed 15 = .ok (.iaload, 1) := by decide +kernel
theorem dX5_closed_16 : decode cX5_closed 16 = .ok (.bipush 62, 2) := by decide +kernel
theorem dX5_closed_18 : decode cX5_closed 18 = .ok (.if_icmp .ne 5, 3) := by decide +kernel
theorem dX5_closed_21 : decode cX5_closed 21 = .ok (.iload_n 2, 1) := by decide +kernel
theorem dX5_closed_22 : decode cX5_closed 22 = .ok (.ireturn, 1) := by decide +kernel
theorem dX5_closed_23 : decode cX5_closed 23 = .ok (.iinc 2 1, 3) := by decide +kernel
theorem dX5_closed_26 : decode cX5_closed 26 = .ok (.goto (-24), 3) := by decide +kernel
theorem dX5_closed_29 : decode cX5_closed 29 = .ok (.iconst (-1), 1) := by decide +kernel
theorem dX5_closed_30 : decode cX5_closed 30 = .ok (.ireturn, 1) := by decide +kernel
theorem dX5_capital_0 : decode cX5_capital 0 = .ok (.iload_n 0, 1) := by decide +kernel
theorem dX5_capital_1 : decode cX5_capital 1 = .ok (.bipush 65, 2) := by decide +kernel
theorem dX5_capital_3 : decode cX5_capital 3 = .ok (.if_icmp .lt 13, 3) := by decide +kernel
theorem dX5_capital_6 : decode cX5_capital 6 = .ok (.iload_n 0, 1) := by decide +kernel
theorem dX5_capital_7 : decode cX5_capital 7 = .ok (.bipush 90, 2) := by decide +kernel
theorem dX5_capital_9 : decode cX5_capital 9 = .ok (.if_icmp .gt 7, 3) := by decide +kernel
theorem dX5_capital_12 : decode cX5_capital 12 = .ok (.iconst 1, 1) := by decide +kernel
theorem dX5_capital_13 : decode cX5_capital 13 = .ok (.goto 4, 3) := by decide +kernel
theorem dX5_capital_16 : decode cX5_capital 16 = .ok (.iconst 0, 1) := by decide +kernel
theorem dX5_capital_17 : decode cX5_capital 17 = .ok (.ireturn, 1) := by decide +kernel
theorem dX5_start_0 : decode cX5_start 0 = .ok (.aload_n 0, 1) := by decide +kernel
theorem dX5_start_1 : decode cX5_start 1 = .ok (.iload_n 1, 1) := by decide +kernel
theorem dX5_start_2 : decode cX5_start 2 = .ok (.invokevirtual 246, 3) := by decide +kernel
theorem dX5_start_5 : decode cX5_start 5 = .ok (.ifCond .ne 4, 3) := by decide +kernel
theorem dX5_start_8 : decode cX5_start 8 = .ok (.return_, 1) := by decide +kernel
theorem dX5_start_9 : decode cX5_start 9 = .ok (.iload_n 1, 1) := by decide +kernel
theorem dX5_start_10 : decode cX5_start 10 = .ok (.bipush 114, 2) := by decide +kernel
theorem dX5_start_12 : decode cX5_start 12 = .ok (.if_icmp .eq 9, 3) := by decide +kernel
theorem dX5_start_15 : decode cX5_start 15 = .ok (.iload_n 1, 1) := by decide +kernel
theorem dX5_start_16 : decode cX5_start 16 = .ok (.bipush 99, 2) := by decide +kernel
theorem dX5_start_18 : decode cX5_start 18 = .ok (.if_icmp .ne 21, 3) := by decide +kernel
theorem dX5_start_21 : decode cX5_start 21 = .ok (.aload_n 0, 1) := by decide +kernel
theorem dX5_start_22 : decode cX5_start 22 = .ok (.aload_n 0, 1) := by decide +kernel
theorem dX5_start_23 : decode cX5_start 23 = .ok (.getfield 31, 3) := by decide +kernel
theorem dX5_start_26 : decode cX5_start 26 = .ok (.aload_n 0, 1) := by decide +kernel
theorem dX5_start_27 : decode cX5_start 27 = .ok (.getfield 148, 3) := by decide +kernel
theorem dX5_start_30 : decode cX5_start 30 = .ok (.iconst 1, 1) := by decide +kernel
theorem dX5_start_31 : decode cX5_start 31 = .ok (.isub, 1) := by decide +kernel
theorem dX5_start_32 : decode cX5_start 32 = .ok (.iaload, 1) := by decide +kernel
theorem dX5_start_33 : decode cX5_start 33 = .ok (.invokevirtual 216, 3) := by decide +kernel
theorem dX5_start_36 : decode cX5_start 36 = .ok (.goto 11, 3) := by decide +kernel
theorem dX5_start_39 : decode cX5_start 39 = .ok (.aload_n 0, 1) := by decide +kernel
theorem dX5_start_40 : decode cX5_start 40 = .ok (.aload_n 0, 1) := by decide +kernel
theorem dX5_start_41 : decode cX5_start 41 = .ok (.getfield 148, 3) := by decide +kernel
theorem dX5_start_44 : decode cX5_start 44 = .ok (.invokevirtual 226, 3) := by decide +kernel
theorem dX5_start_47 : decode cX5_start 47 = .ok (.aload_n 0, 1) := by decide +kernel
theorem dX5_start_48 : decode cX5_start 48 = .ok (.invokevirtual 219, 3) := by decide +kernel
theorem dX5_start_51 : decode cX5_start 51 = .ok (.istore_n 3, 1) := by decide +kernel
theorem dX5_start_52 : decode cX5_start 52 = .ok (.aload_n 0, 1) := by decide +kernel
theorem dX5_start_53 : decode cX5_start 53 = .ok (.iload_n 1, 1) := by decide +kernel
theorem dX5_start_54 : decode cX5_start 54 = .ok (.iload_n 2, 1) := by decide +kernel
theorem dX5_start_55 : decode cX5_start 55 = .ok (.invokevirtual 229, 3) := by decide +kernel
theorem dX5_start_58 : decode cX5_start 58 = .ok (.istore 4, 2) := by decide +kernel
theorem dX5_start_60 : decode cX5_start 60 = .ok (.aload_n 0, 1) := by decide +kernel
theorem dX5_start_61 : decode cX5_start 61 = .ok (.getfield 129, 3) := by decide +kernel
theorem dX5_start_64 : decode cX5_start 64 = .ok (.ifCond .eq 4, 3) := by decide +kernel
theorem dX5_start_67 : decode cX5_start 67 = .ok (.return_, 1) := by decide +kernel
theorem dX5_start_68 : decode cX5_start 68 = .ok (.iload_n 1, 1) := by decide +kernel
theorem dX5_start_69 : decode cX5_start 69 = .ok (.bipush 104, 2) := by decide +kernel
theorem dX5_start_71 : decode cX5_start 71 = .ok (.if_icmp .eq 15, 3) := by decide +kernel
theorem dX5_start_74 : decode cX5_start 74 = .ok (.iload_n 1, 1) := by decide +kernel
theorem dX5_start_75 : decode cX5_start 75 = .ok (.bipush 107, 2) := by decide +kernel
theorem dX5_start_77 : decode cX5_start 77 = .ok (.if_icmp .eq 9, 3) := by decide +kernel
theorem dX5_start_80 : decode cX5_start 80 = .ok (.aload_n 0, 1) := by decide +kernel
theorem dX5_start_81 : decode cX5_start 81 = .ok (.iload 4, 2) := by decide +kernel
theorem dX5_start_83 : decode cX5_start 83 = .ok (.invokevirtual 232, 3) := by decide +kernel
theorem dX5_start_86 : decode cX5_start 86 = .ok (.iload_n 1, 1) := by decide +kernel
theorem dX5_start_87 : decode cX5_start 87 = .ok (.invokestatic 189, 3) := by decide +kernel
theorem dX5_start_90 : decode cX5_start 90 = .ok (.ldc 249, 2) := by decide +kernel
theorem dX5_start_92 : decode cX5_start 92 = .ok (.iand, 1) := by decide +kernel
theorem dX5_start_93 : decode cX5_start 93 = .ok (.ifCond .eq 10, 3) := by decide +kernel
theorem dX5_start_96 : decode cX5_start 96 = .ok (.aload_n 0, 1) := by decide +kernel
theorem dX5_start_97 : decode cX5_start 97 = .ok (.iload 4, 2) := by decide +kernel
theorem dX5_start_99 : decode cX5_start 99 = .ok (.iload_n 3, 1) := by decide +kernel
theorem dX5_start_100 : decode cX5_start 100 = .ok (.invokevirtual 250, 3) := by decide +kernel
theorem dX5_start_103 : decode cX5_start 103 = .ok (.return_, 1) := by decide +kernel
theorem dX5_clearWay_0 : decode cX5_clearWay 0 = .ok (.iload_n 1, 1) := by decide +kernel
theorem dX5_clearWay_1 : decode cX5_clearWay 1 = .ok (.invokestatic 189, 3) := by decide +kernel
theorem dX5_clearWay_4 : decode cX5_clearWay 4 = .ok (.ldc 235, 2) := by decide +kernel
theorem dX5_clearWay_6 : decode cX5_clearWay 6 = .ok (.iand, 1) := by decide +kernel
theorem dX5_clearWay_7 : decode cX5_clearWay 7 = .ok (.ifCond .eq 7, 3) := by decide +kernel
theorem dX5_clearWay_10 : decode cX5_clearWay 10 = .ok (.iconst 1, 1) := by decide +kernel
theorem dX5_clearWay_11 : decode cX5_clearWay 11 = .ok (.goto 4, 3) := by decide +kernel
theorem dX5_clearWay_14 : decode cX5_clearWay 14 = .ok (.iconst 0, 1) := by decide +kernel
theorem dX5_clearWay_15 : decode cX5_clearWay 15 = .ok (.istore_n 2, 1) := by decide +kernel
theorem dX5_clearWay_16 : decode cX5_clearWay 16 = .ok (.aload_n 0, 1) := by decide +kernel
theorem dX5_clearWay_17 : decode cX5_clearWay 17 = .ok (.bipush 116, 2) := by decide +kernel
theorem dX5_clearWay_19 : decode cX5_clearWay 19 = .ok (.invokevirtual 196, 3) := by decide +kernel
theorem dX5_clearWay_22 : decode cX5_clearWay 22 = .ok (.istore_n 3, 1) := by decide +kernel
theorem dX5_clearWay_23 : decode cX5_clearWay 23 = .ok (.iload_n 2, 1) := by decide +kernel
theorem dX5_clearWay_24 : decode cX5_clearWay 24 = .ok (.ifCond .eq 23, 3) := by decide +kernel
theorem dX5_clearWay_27 : decode cX5_clearWay 27 = .ok (.aload_n 0, 1) := by decide +kernel
theorem dX5_clearWay_28 : decode cX5_clearWay 28 = .ok (.bipush 112, 2) := by decide +kernel
theorem dX5_clearWay_30 : decode cX5_clearWay 30 = .ok (.iconst 4, 1) := by decide +kernel
theorem dX5_clearWay_31 : decode cX5_clearWay 31 = .ok (.invokevirtual 236, 3) := by decide +kernel
theorem dX5_clearWay_34 : decode cX5_clearWay 34 = .ok (.ifCond .eq 13, 3) := by decide +kernel
theorem dX5_clearWay_37 : decode cX5_clearWay 37 = .ok (.aload_n 0, 1) := by decide +kernel
theorem dX5_clearWay_38 : decode cX5_clearWay 38 = .ok (.aload_n 0, 1) := by decide +kernel
theorem dX5_clearWay_39 : decode cX5_clearWay 39 = .ok (.bipush 112, 2) := by decide +kernel
theorem dX5_clearWay_41 : decode cX5_clearWay 41 = .ok (.invokevirtual 196, 3) := by decide +kernel
theorem dX5_clearWay_44 : decode cX5_clearWay 44 = .ok (.putfield 148, 3) := by decide +kernel
theorem dX5_clearWay_47 : decode cX5_clearWay 47 = .ok (.iload_n 1, 1) := by decide +kernel
theorem dX5_clearWay_48 : decode cX5_clearWay 48 = .ok (.bipush 108, 2) := by decide +kernel
theorem dX5_clearWay_50 : decode cX5_clearWay 50 = .ok (.if_icmp .ne 27, 3) := by decide +kernel
theorem dX5_clearWay_53 : decode cX5_clearWay 53 = .ok (.aload_n 0, 1) := by decide +kernel
theorem dX5_clearWay_54 : decode cX5_clearWay 54 = .ok (.bipush 108, 2) := by decide +kernel
theorem dX5_clearWay_56 : decode cX5_clearWay 56 = .ok (.ldc 239, 2) := by decide +kernel
theorem dX5_clearWay_58 : decode cX5_clearWay 58 = .ok (.invokevirtual 236, 3) := by decide +kernel
theorem dX5_clearWay_61 : decode cX5_clearWay 61 = .ok (.ifCond .eq 120, 3) := by decide +kernel
theorem dX5_clearWay_64 : decode cX5_clearWay 64 = .ok (.aload_n 0, 1) := by decide +kernel
theorem dX5_clearWay_65 : decode cX5_clearWay 65 = .ok (.aload_n 0, 1) := by decide +kernel
theorem dX5_clearWay_66 : decode cX5_clearWay 66 = .ok (.bipush 108, 2) := by decide +kernel
theorem dX5_clearWay_68 : decode cX5_clearWay 68 = .ok (.invokevirtual 196, 3) := by decide +kernel
theorem dX5_clearWay_71 : decode cX5_clearWay 71 = .ok (.putfield 148, 3) := by decide +kernel
theorem dX5_clearWay_74 : decode cX5_clearWay 74 = .ok (.goto 107, 3) := by decide +kernel
theorem dX5_clearWay_77 : decode cX5_clearWay 77 = .ok (.iload_n 1, 1) := by decide +kernel
theorem dX5_clearWay_78 : decode cX5_clearWay 78 = .ok (.bipush 114, 2) := by decide +kernel
theorem dX5_clearWay_80 : decode cX5_clearWay 80 = .ok (.if_icmp .ne 19, 3) := by decide +kernel
theorem dX5_clearWay_83 : decode cX5_clearWay 83 = .ok (.iload_n 3, 1) := by decide +kernel
theorem dX5_clearWay_84 : decode cX5_clearWay 84 = .ok (.ifCond .ge 5, 3) := by decide +kernel
theorem dX5_clearWay_87 : decode cX5_clearWay 87 = .ok (.iconst 0, 1) := by decide +kernel
theorem dX5_clearWay_88 : decode cX5_clearWay 88 = .ok (.ireturn, 1) := by decide +kernel
theorem dX5_clearWay_89 : decode cX5_clearWay 89 = .ok (.aload_n 0, 1) := by decide +kernel
theorem dX5_clearWay_90 : decode cX5_clearWay 90 = .ok (.iload_n 3, 1) := by decide +kernel
theorem dX5_clearWay_91 : decode cX5_clearWay 91 = .ok (.iconst 1, 1) := by decide +kernel
theorem dX5_clearWay_92 : decode cX5_clearWay 92 = .ok (.iadd, 1) := by decide +kernel
theorem dX5_clearWay_93 : decode cX5_clearWay 93 = .ok (.putfield 148, 3) := by decide +kernel
theorem dX5_clearWay_96 : decode cX5_clearWay 96 = .ok (.goto 85, 3) := by decide +kernel
theorem dX5_clearWay_99 : decode cX5_clearWay 99 = .ok (.iload_n 1, 1) := by decide +kernel
theorem dX5_clearWay_100 : decode cX5_clearWay 100 = .ok (.bipush 99, 2) := by decide +kernel
theorem dX5_clearWay_102 : decode cX5_clearWay 102 = .ok (.if_icmp .ne 71, 3) := by decide +kernel
theorem dX5_clearWay_105 : decode cX5_clearWay 105 = .ok (.iload_n 3, 1) := by decide +kernel
theorem dX5_clearWay_106 : decode cX5_clearWay 106 = .ok (.ifCond .ge 5, 3) := by decide +kernel
theorem dX5_clearWay_109 : decode cX5_clearWay 109 = .ok (.iconst 0, 1) := by decide +kernel
theorem dX5_clearWay_110 : decode cX5_clearWay 110 = .ok (.ireturn, 1) := by decide +kernel
theorem dX5_clearWay_111 : decode cX5_clearWay 111 = .ok (.aload_n 0, 1) := by decide +kernel
theorem dX5_clearWay_112 : decode cX5_clearWay 112 = .ok (.bipush 114, 2) := by decide +kernel
theorem dX5_clearWay_114 : decode cX5_clearWay 114 = .ok (.invokevirtual 196, 3) := by decide +kernel
theorem dX5_clearWay_117 : decode cX5_clearWay 117 = .ok (.istore 4, 2) := by decide +kernel
theorem dX5_clearWay_119 : decode cX5_clearWay 119 = .ok (.aload_n 0, 1) := by decide +kernel
theorem dX5_clearWay_120 : decode cX5_clearWay 120 = .ok (.iload 4, 2) := by decide +kernel
theorem dX5_clearWay_122 : decode cX5_clearWay 122 = .ok (.iload_n 3, 1) := by decide +kernel
theorem dX5_clearWay_123 : decode cX5_clearWay 123 = .ok (.if_icmp .le 10, 3) := by decide +kernel
theorem dX5_clearWay_126 : decode cX5_clearWay 126 = .ok (.iload 4, 2) := by decide +kernel
theorem dX5_clearWay_128 : decode cX5_clearWay 128 = .ok (.iconst 1, 1) := by decide +kernel
theorem dX5_clearWay_129 : decode cX5_clearWay 129 = .ok (.iadd, 1) := by decide +kernel
theorem dX5_clearWay_130 : decode cX5_clearWay 130 = .ok (.goto 6, 3) := by decide +kernel
theorem dX5_clearWay_133 : decode cX5_clearWay 133 = .ok (.iload_n 3, 1) := by decide +kernel
theorem dX5_clearWay_134 : decode cX5_clearWay 134 = .ok (.iconst 1, 1) := by decide +kernel
theorem dX5_clearWay_135 : decode cX5_clearWay 135 = .ok (.iadd, 1) := by decide +kernel
theorem dX5_clearWay_136 : decode cX5_clearWay 136 = .ok (.putfield 148, 3) := by decide +kernel
theorem dX5_clearWay_139 : decode cX5_clearWay 139 = .ok (.iload 4, 2) := by decide +kernel
theorem dX5_clearWay_141 : decode cX5_clearWay 141 = .ok (.iload_n 3, 1) := by decide +kernel
theorem dX5_clearWay_142 : decode cX5_clearWay 142 = .ok (.if_icmp .gt 28, 3) := by decide +kernel
theorem dX5_clearWay_145 : decode cX5_clearWay 145 = .ok (.aload_n 0, 1) := by decide +kernel
theorem dX5_clearWay_146 : decode cX5_clearWay 146 = .ok (.aload_n 0, 1) := by decide +kernel
theorem dX5_clearWay_147 : decode cX5_clearWay 147 = .ok (.getfield 31, 3) := by decide +kernel
theorem dX5_clearWay_150 : decode cX5_clearWay 150 = .ok (.iload_n 3, 1) := by decide +kernel
theorem dX5_clearWay_151 : decode cX5_clearWay 151 = .ok (.iaload, 1) := by decide +kernel
theorem dX5_clearWay_152 : decode cX5_clearWay 152 = .ok (.invokevirtual 216, 3) := by decide +kernel
theorem dX5_clearWay_155 : decode cX5_clearWay 155 = .ok (.aload_n 0, 1) := by decide +kernel
theorem dX5_clearWay_156 : decode cX5_clearWay 156 = .ok (.bipush 114, 2) := by decide +kernel
theorem dX5_clearWay_158 : decode cX5_clearWay 158 = .ok (.iconst 0, 1) := by decide +kernel
theorem dX5_clearWay_159 : decode cX5_clearWay 159 = .ok (.invokevirtual 229, 3) := by decide +kernel
theorem dX5_clearWay_162 : decode cX5_clearWay 162 = .ok (.istore 5, 2) := by decide +kernel
theorem dX5_clearWay_164 : decode cX5_clearWay 164 = .ok (.aload_n 0, 1) := by decide +kernel
theorem dX5_clearWay_165 : decode cX5_clearWay 165 = .ok (.iload 5, 2) := by decide +kernel
theorem dX5_clearWay_167 : decode cX5_clearWay 167 = .ok (.invokevirtual 232, 3) := by decide +kernel
theorem dX5_clearWay_170 : decode cX5_clearWay 170 = .ok (.goto 11, 3) := by decide +kernel
theorem dX5_clearWay_173 : decode cX5_clearWay 173 = .ok (.iload_n 2, 1) := by decide +kernel
theorem dX5_clearWay_174 : decode cX5_clearWay 174 = .ok (.ifCond .ne 7, 3) := by decide +kernel
theorem dX5_clearWay_177 : decode cX5_clearWay 177 = .ok (.aload_n 0, 1) := by decide +kernel
theorem dX5_clearWay_178 : decode cX5_clearWay 178 = .ok (.invokevirtual 240, 3) := by decide +kernel
theorem dX5_clearWay_181 : decode cX5_clearWay 181 = .ok (.aload_n 0, 1) := by decide +kernel
theorem dX5_clearWay_182 : decode cX5_clearWay 182 = .ok (.getfield 129, 3) := by decide +kernel
theorem dX5_clearWay_185 : decode cX5_clearWay 185 = .ok (.ifCond .ne 7, 3) := by decide +kernel
theorem dX5_clearWay_188 : decode cX5_clearWay 188 = .ok (.iconst 1, 1) := by decide +kernel
theorem dX5_clearWay_189 : decode cX5_clearWay 189 = .ok (.goto 4, 3) := by decide +kernel
theorem dX5_clearWay_192 : decode cX5_clearWay 192 = .ok (.iconst 0, 1) := by decide +kernel
theorem dX5_clearWay_193 : decode cX5_clearWay 193 = .ok (.ireturn, 1) := by decide +kernel
theorem dX5_bit_0 : decode cX5_bit 0 = .ok (.iload_n 0, 1) := by decide +kernel
theorem dX5_bit_1 : decode cX5_bit 1 = .ok (.invokestatic 161, 3) := by decide +kernel
theorem dX5_bit_4 : decode cX5_bit 4 = .ok (.ifCond .eq 12, 3) := by decide +kernel
theorem dX5_bit_7 : decode cX5_bit 7 = .ok (.iconst 1, 1) := by decide +kernel
theorem dX5_bit_8 : decode cX5_bit 8 = .ok (.iload_n 0, 1) := by decide +kernel
theorem dX5_bit_9 : decode cX5_bit 9 = .ok (.bipush 97, 2) := by decide +kernel
theorem dX5_bit_11 : decode cX5_bit 11 = .ok (.isub, 1) := by decide +kernel
theorem dX5_bit_12 : decode cX5_bit 12 = .ok (.ishl, 1) := by decide +kernel
theorem dX5_bit_13 : decode cX5_bit 13 = .ok (.goto 4, 3) := by decide +kernel
theorem dX5_bit_16 : decode cX5_bit 16 = .ok (.iconst 0, 1) := by decide +kernel
theorem dX5_bit_17 : decode cX5_bit 17 = .ok (.ireturn, 1) := by decide +kernel
theorem dX5_topmost_0 : decode cX5_topmost 0 = .ok (.iconst (-1), 1) := by decide +kernel
theorem dX5_topmost_1 : decode cX5_topmost 1 = .ok (.istore_n 2, 1) := by decide +kernel
theorem dX5_topmost_2 : decode cX5_topmost 2 = .ok (.iconst 1, 1) := by decide +kernel
theorem dX5_topmost_3 : decode cX5_topmost 3 = .ok (.istore_n 3, 1) := by decide +kernel
theorem dX5_topmost_4 : decode cX5_topmost 4 = .ok (.iload_n 3, 1) := by decide +kernel
theorem dX5_topmost_5 : decode cX5_topmost 5 = .ok (.aload_n 0, 1) := by decide +kernel
theorem dX5_topmost_6 : decode cX5_topmost 6 = .ok (.getfield 148, 3) := by decide +kernel
theorem dX5_topmost_9 : decode cX5_topmost 9 = .ok (.if_icmp .ge 30, 3) := by decide +kernel
theorem dX5_topmost_12 : decode cX5_topmost 12 = .ok (.aload_n 0, 1) := by decide +kernel
theorem dX5_topmost_13 : decode cX5_topmost 13 = .ok (.getfield 19, 3) := by decide +kernel
theorem dX5_topmost_16 : decode cX5_topmost 16 = .ok (.aload_n 0, 1) := by decide +kernel
theorem dX5_topmost_17 : decode cX5_topmost 17 = .ok (.getfield 31, 3) := by decide +kernel
theorem dX5_topmost_20 : decode cX5_topmost 20 = .ok (.iload_n 3, 1) := by decide +kernel
theorem dX5_topmost_21 : decode cX5_topmost 21 = .ok (.iaload, 1) := by decide +kernel
theorem dX5_topmost_22 : decode cX5_topmost 22 = .ok (.iaload, 1) := by decide +kernel
theorem dX5_topmost_23 : decode cX5_topmost 23 = .ok (.iload_n 1, 1) := by decide +kernel
theorem dX5_topmost_24 : decode cX5_topmost 24 = .ok (.if_icmp .ne 7, 3) := by decide +kernel
theorem dX5_topmost_27 : decode cX5_topmost 27 = .ok (.iload_n 3, 1) := by decide +kernel
theorem dX5_topmost_28 : decode cX5_topmost 28 = .ok (.goto 4, 3) := by decide +kernel
theorem dX5_topmost_31 : decode cX5_topmost 31 = .ok (.iload_n 2, 1) := by decide +kernel
theorem dX5_topmost_32 : decode cX5_topmost 32 = .ok (.istore_n 2, 1) := by decide +kernel
theorem dX5_topmost_33 : decode cX5_topmost 33 = .ok (.iinc 3 1, 3) := by decide +kernel
theorem dX5_topmost_36 : decode cX5_topmost 36 = .ok (.goto (-32), 3) := by decide +kernel
theorem dX5_topmost_39 : decode cX5_topmost 39 = .ok (.iload_n 2, 1) := by decide +kernel
theorem dX5_topmost_40 : decode cX5_topmost 40 = .ok (.ireturn, 1) := by decide +kernel
theorem dX5_reach_0 : decode cX5_reach 0 = .ok (.aload_n 0, 1) := by decide +kernel
theorem dX5_reach_1 : decode cX5_reach 1 = .ok (.iload_n 1, 1) := by decide +kernel
theorem dX5_reach_2 : decode cX5_reach 2 = .ok (.invokevirtual 196, 3) := by decide +kernel
theorem dX5_reach_5 : decode cX5_reach 5 = .ok (.istore_n 3, 1) := by decide +kernel
theorem dX5_reach_6 : decode cX5_reach 6 = .ok (.iload_n 3, 1) := by decide +kernel
theorem dX5_reach_7 : decode cX5_reach 7 = .ok (.ifCond .lt 16, 3) := by decide +kernel
theorem dX5_reach_10 : decode cX5_reach 10 = .ok (.aload_n 0, 1) := by decide +kernel
theorem dX5_reach_11 : decode cX5_reach 11 = .ok (.iload_n 3, 1) := by decide +kernel
theorem dX5_reach_12 : decode cX5_reach 12 = .ok (.iload_n 2, 1) := by decide +kernel
theorem dX5_reach_13 : decode cX5_reach 13 = .ok (.invokevirtual 199, 3) := by decide +kernel
theorem dX5_reach_16 : decode cX5_reach 16 = .ok (.ifCond .ne 7, 3) := by decide +kernel
theorem dX5_reach_19 : decode cX5_reach 19 = .ok (.iconst 1, 1) := by decide +kernel
theorem dX5_reach_20 : decode cX5_reach 20 = .ok (.goto 4, 3) := by decide +kernel
theorem dX5_reach_23 : decode cX5_reach 23 = .ok (.iconst 0, 1) := by decide +kernel
theorem dX5_reach_24 : decode cX5_reach 24 = .ok (.ireturn, 1) := by decide +kernel
theorem dX5_above_0 : decode cX5_above 0 = .ok (.iconst 0, 1) := by decide +kernel
theorem dX5_above_1 : decode cX5_above 1 = .ok (.istore_n 3, 1) := by decide +kernel
theorem dX5_above_2 : decode cX5_above 2 = .ok (.iload_n 1, 1) := by decide +kernel
theorem dX5_above_3 : decode cX5_above 3 = .ok (.iconst 1, 1) := by decide +kernel
theorem dX5_above_4 : decode cX5_above 4 = .ok (.iadd, 1) := by decide +kernel
theorem dX5_above_5 : decode cX5_above 5 = .ok (.istore 4, 2) := by decide +kernel
theorem dX5_above_7 : decode cX5_above 7 = .ok (.iload 4, 2) := by decide +kernel
theorem dX5_above_9 : decode cX5_above 9 = .ok (.aload_n 0, 1) := by decide +kernel
theorem dX5_above_10 : decode cX5_above 10 = .ok (.getfield 148, 3) := by decide +kernel
theorem dX5_above_13 : decode cX5_above 13 = .ok (.if_icmp .ge 34, 3) := by decide +kernel
theorem dX5_above_16 : decode cX5_above 16 = .ok (.iload_n 3, 1) := by decide +kernel
theorem dX5_above_17 : decode cX5_above 17 = .ok (.ifCond .ne 18, 3) := by decide +kernel
theorem dX5_above_20 : decode cX5_above 20 = .ok (.aload_n 0, 1) := by decide +kernel
theorem dX5_above_21 : decode cX5_above 21 = .ok (.aload_n 0, 1) := by decide +kernel
theorem dX5_above_22 : decode cX5_above 22 = .ok (.getfield 31, 3) := by decide +kernel
theorem dX5_above_25 : decode cX5_above 25 = .ok (.iload 4, 2) := by decide +kernel
theorem dX5_above_27 : decode cX5_above 27 = .ok (.iaload, 1) := by decide +kernel
theorem dX5_above_28 : decode cX5_above 28 = .ok (.iload_n 2, 1) := by decide +kernel
theorem dX5_above_29 : decode cX5_above 29 = .ok (.invokevirtual 192, 3) := by decide +kernel
theorem dX5_above_32 : decode cX5_above 32 = .ok (.ifCond .eq 7, 3) := by decide +kernel
theorem dX5_above_35 : decode cX5_above 35 = .ok (.iconst 1, 1) := by decide +kernel
theorem dX5_above_36 : decode cX5_above 36 = .ok (.goto 4, 3) := by decide +kernel
theorem dX5_above_39 : decode cX5_above 39 = .ok (.iconst 0, 1) := by decide +kernel
theorem dX5_above_40 : decode cX5_above 40 = .ok (.istore_n 3, 1) := by decide +kernel
theorem dX5_above_41 : decode cX5_above 41 = .ok (.iinc 4 1, 3) := by decide +kernel
theorem dX5_above_44 : decode cX5_above 44 = .ok (.goto (-37), 3) := by decide +kernel
theorem dX5_above_47 : decode cX5_above 47 = .ok (.iload_n 3, 1) := by decide +kernel
theorem dX5_above_48 : decode cX5_above 48 = .ok (.ireturn, 1) := by decide +kernel
theorem dX5_named_0 : decode cX5_named 0 = .ok (.aload_n 0, 1) := by decide +kernel
theorem dX5_named_1 : decode cX5_named 1 = .ok (.getfield 19, 3) := by decide +kernel
theorem dX5_named_4 : decode cX5_named 4 = .ok (.iload_n 1, 1) := by decide +kernel
theorem dX5_named_5 : decode cX5_named 5 = .ok (.iaload, 1) := by decide +kernel
theorem dX5_named_6 : decode cX5_named 6 = .ok (.invokestatic 189, 3) := by decide +kernel
theorem dX5_named_9 : decode cX5_named 9 = .ok (.iload_n 2, 1) := by decide +kernel
theorem dX5_named_10 : decode cX5_named 10 = .ok (.iand, 1) := by decide +kernel
theorem dX5_named_11 : decode cX5_named 11 = .ok (.ifCond .eq 7, 3) := by decide +kernel
theorem dX5_named_14 : decode cX5_named 14 = .ok (.iconst 1, 1) := by decide +kernel
theorem dX5_named_15 : decode cX5_named 15 = .ok (.goto 4, 3) := by decide +kernel
theorem dX5_named_18 : decode cX5_named 18 = .ok (.iconst 0, 1) := by decide +kernel
theorem dX5_named_19 : decode cX5_named 19 = .ok (.ireturn, 1) := by decide +kernel
theorem dX5_insideTop_0 : decode cX5_insideTop 0 = .ok (.aload_n 0, 1) := by decide +kernel
theorem dX5_insideTop_1 : decode cX5_insideTop 1 = .ok (.iload_n 1, 1) := by decide +kernel
theorem dX5_insideTop_2 : decode cX5_insideTop 2 = .ok (.invokevirtual 202, 3) := by decide +kernel
theorem dX5_insideTop_5 : decode cX5_insideTop 5 = .ok (.istore_n 2, 1) := by decide +kernel
theorem dX5_insideTop_6 : decode cX5_insideTop 6 = .ok (.aload_n 0, 1) := by decide +kernel
theorem dX5_insideTop_7 : decode cX5_insideTop 7 = .ok (.aload_n 0, 1) := by decide +kernel
theorem dX5_insideTop_8 : decode cX5_insideTop 8 = .ok (.iload_n 2, 1) := by decide +kernel
theorem dX5_insideTop_9 : decode cX5_insideTop 9 = .ok (.invokevirtual 205, 3) := by decide +kernel
theorem dX5_insideTop_12 : decode cX5_insideTop 12 = .ok (.putfield 208, 3) := by decide +kernel
theorem dX5_insideTop_15 : decode cX5_insideTop 15 = .ok (.aload_n 0, 1) := by decide +kernel
