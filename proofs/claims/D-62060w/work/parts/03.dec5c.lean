set_option maxRecDepth 100000
theorem dX5_adopt_166 : decode cX5_adopt 166 = .ok (.getfield 142, 3) := by decide +kernel
theorem dX5_adopt_169 : decode cX5_adopt 169 = .ok (.iconst 1, 1) := by decide +kernel
theorem dX5_adopt_170 : decode cX5_adopt 170 = .ok (.isub, 1) := by decide +kernel
theorem dX5_adopt_171 : decode cX5_adopt 171 = .ok (.istore 9, 2) := by decide +kernel
theorem dX5_adopt_173 : decode cX5_adopt 173 = .ok (.iload 9, 2) := by decide +kernel
theorem dX5_adopt_175 : decode cX5_adopt 175 = .ok (.iload 8, 2) := by decide +kernel
theorem dX5_adopt_177 : decode cX5_adopt 177 = .ok (.if_icmp .lt 26, 3) := by decide +kernel
theorem dX5_adopt_180 : decode cX5_adopt 180 = .ok (.aload_n 0, 1) := by decide +kernel
theorem dX5_adopt_181 : decode cX5_adopt 181 = .ok (.getfield 16, 3) := by decide +kernel
theorem dX5_adopt_184 : decode cX5_adopt 184 = .ok (.iload 9, 2) := by decide +kernel
theorem dX5_adopt_186 : decode cX5_adopt 186 = .ok (.iload 6, 2) := by decide +kernel
theorem dX5_adopt_188 : decode cX5_adopt 188 = .ok (.iadd, 1) := by decide +kernel
theorem dX5_adopt_189 : decode cX5_adopt 189 = .ok (.aload_n 0, 1) := by decide +kernel
theorem dX5_adopt_190 : decode cX5_adopt 190 = .ok (.getfield 16, 3) := by decide +kernel
theorem dX5_adopt_193 : decode cX5_adopt 193 = .ok (.iload 9, 2) := by decide +kernel
theorem dX5_adopt_195 : decode cX5_adopt 195 = .ok (.iaload, 1) := by decide +kernel
theorem dX5_adopt_196 : decode cX5_adopt 196 = .ok (.iastore, 1) := by decide +kernel
theorem dX5_adopt_197 : decode cX5_adopt 197 = .ok (.iinc 9 (-1), 3) := by decide +kernel
theorem dX5_adopt_200 : decode cX5_adopt 200 = .ok (.goto (-27), 3) := by decide +kernel
theorem dX5_adopt_203 : decode cX5_adopt 203 = .ok (.aload_n 0, 1) := by decide +kernel
theorem dX5_adopt_204 : decode cX5_adopt 204 = .ok (.dup, 1) := by decide +kernel
theorem dX5_adopt_205 : decode cX5_adopt 205 = .ok (.getfield 142, 3) := by decide +kernel
theorem dX5_adopt_208 : decode cX5_adopt 208 = .ok (.iload 6, 2) := by decide +kernel
theorem dX5_adopt_210 : decode cX5_adopt 210 = .ok (.iadd, 1) := by decide +kernel
theorem dX5_adopt_211 : decode cX5_adopt 211 = .ok (.putfield 142, 3) := by decide +kernel
theorem dX5_adopt_214 : decode cX5_adopt 214 = .ok (.iconst 0, 1) := by decide +kernel
theorem dX5_adopt_215 : decode cX5_adopt 215 = .ok (.istore 9, 2) := by decide +kernel
theorem dX5_adopt_217 : decode cX5_adopt 217 = .ok (.iload 9, 2) := by decide +kernel
theorem dX5_adopt_219 : decode cX5_adopt 219 = .ok (.iload 6, 2) := by decide +kernel
theorem dX5_adopt_221 : decode cX5_adopt 221 = .ok (.if_icmp .ge 55, 3) := by decide +kernel
theorem dX5_adopt_224 : decode cX5_adopt 224 = .ok (.aload_n 0, 1) := by decide +kernel
theorem dX5_adopt_225 : decode cX5_adopt 225 = .ok (.getfield 16, 3) := by decide +kernel
theorem dX5_adopt_228 : decode cX5_adopt 228 = .ok (.iload 8, 2) := by decide +kernel
theorem dX5_adopt_230 : decode cX5_adopt 230 = .ok (.iload 9, 2) := by decide +kernel
theorem dX5_adopt_232 : decode cX5_adopt 232 = .ok (.iadd, 1) := by decide +kernel
theorem dX5_adopt_233 : decode cX5_adopt 233 = .ok (.aload_n 0, 1) := by decide +kernel
theorem dX5_adopt_234 : decode cX5_adopt 234 = .ok (.getfield 28, 3) := by decide +kernel
theorem dX5_adopt_237 : decode cX5_adopt 237 = .ok (.iload 9, 2) := by decide +kernel
theorem dX5_adopt_239 : decode cX5_adopt 239 = .ok (.iaload, 1) := by decide +kernel
theorem dX5_adopt_240 : decode cX5_adopt 240 = .ok (.iastore, 1) := by decide +kernel
theorem dX5_adopt_241 : decode cX5_adopt 241 = .ok (.aload_n 0, 1) := by decide +kernel
theorem dX5_adopt_242 : decode cX5_adopt 242 = .ok (.getfield 25, 3) := by decide +kernel
theorem dX5_adopt_245 : decode cX5_adopt 245 = .ok (.aload_n 0, 1) := by decide +kernel
theorem dX5_adopt_246 : decode cX5_adopt 246 = .ok (.getfield 28, 3) := by decide +kernel
theorem dX5_adopt_249 : decode cX5_adopt 249 = .ok (.iload 9, 2) := by decide +kernel
theorem dX5_adopt_251 : decode cX5_adopt 251 = .ok (.iaload, 1) := by decide +kernel
theorem dX5_adopt_252 : decode cX5_adopt 252 = .ok (.dup2, 1) := by decide +kernel
theorem dX5_adopt_253 : decode cX5_adopt 253 = .ok (.iaload, 1) := by decide +kernel
theorem dX5_adopt_254 : decode cX5_adopt 254 = .ok (.iload 9, 2) := by decide +kernel
theorem dX5_adopt_256 : decode cX5_adopt 256 = .ok (.ifCond .ne 8, 3) := by decide +kernel
theorem dX5_adopt_259 : decode cX5_adopt 259 = .ok (.iload 7, 2) := by decide +kernel
theorem dX5_adopt_261 : decode cX5_adopt 261 = .ok (.goto 7, 3) := by decide +kernel
theorem dX5_adopt_264 : decode cX5_adopt 264 = .ok (.iload 7, 2) := by decide +kernel
theorem dX5_adopt_266 : decode cX5_adopt 266 = .ok (.iconst 1, 1) := by decide +kernel
theorem dX5_adopt_267 : decode cX5_adopt 267 = .ok (.iadd, 1) := by decide +kernel
theorem dX5_adopt_268 : decode cX5_adopt 268 = .ok (.iadd, 1) := by decide +kernel
theorem dX5_adopt_269 : decode cX5_adopt 269 = .ok (.iastore, 1) := by decide +kernel
theorem dX5_adopt_270 : decode cX5_adopt 270 = .ok (.iinc 9 1, 3) := by decide +kernel
theorem dX5_adopt_273 : decode cX5_adopt 273 = .ok (.goto (-56), 3) := by decide +kernel
theorem dX5_adopt_276 : decode cX5_adopt 276 = .ok (.iload_n 3, 1) := by decide +kernel
theorem dX5_adopt_277 : decode cX5_adopt 277 = .ok (.istore 9, 2) := by decide +kernel
theorem dX5_adopt_279 : decode cX5_adopt 279 = .ok (.iload 9, 2) := by decide +kernel
theorem dX5_adopt_281 : decode cX5_adopt 281 = .ok (.aload_n 0, 1) := by decide +kernel
theorem dX5_adopt_282 : decode cX5_adopt 282 = .ok (.getfield 148, 3) := by decide +kernel
theorem dX5_adopt_285 : decode cX5_adopt 285 = .ok (.if_icmp .ge 27, 3) := by decide +kernel
theorem dX5_adopt_288 : decode cX5_adopt 288 = .ok (.aload_n 0, 1) := by decide +kernel
theorem dX5_adopt_289 : decode cX5_adopt 289 = .ok (.getfield 31, 3) := by decide +kernel
theorem dX5_adopt_292 : decode cX5_adopt 292 = .ok (.iload_n 1, 1) := by decide +kernel
theorem dX5_adopt_293 : decode cX5_adopt 293 = .ok (.iload 9, 2) := by decide +kernel
theorem dX5_adopt_295 : decode cX5_adopt 295 = .ok (.iadd, 1) := by decide +kernel
theorem dX5_adopt_296 : decode cX5_adopt 296 = .ok (.iload_n 3, 1) := by decide +kernel
theorem dX5_adopt_297 : decode cX5_adopt 297 = .ok (.isub, 1) := by decide +kernel
theorem dX5_adopt_298 : decode cX5_adopt 298 = .ok (.aload_n 0, 1) := by decide +kernel
theorem dX5_adopt_299 : decode cX5_adopt 299 = .ok (.getfield 31, 3) := by decide +kernel
theorem dX5_adopt_302 : decode cX5_adopt 302 = .ok (.iload 9, 2) := by decide +kernel
theorem dX5_adopt_304 : decode cX5_adopt 304 = .ok (.iaload, 1) := by decide +kernel
theorem dX5_adopt_305 : decode cX5_adopt 305 = .ok (.iastore, 1) := by decide +kernel
theorem dX5_adopt_306 : decode cX5_adopt 306 = .ok (.iinc 9 1, 3) := by decide +kernel
theorem dX5_adopt_309 : decode cX5_adopt 309 = .ok (.goto (-30), 3) := by decide +kernel
theorem dX5_adopt_312 : decode cX5_adopt 312 = .ok (.aload_n 0, 1) := by decide +kernel
theorem dX5_adopt_313 : decode cX5_adopt 313 = .ok (.dup, 1) := by decide +kernel
theorem dX5_adopt_314 : decode cX5_adopt 314 = .ok (.getfield 148, 3) := by decide +kernel
theorem dX5_adopt_317 : decode cX5_adopt 317 = .ok (.iload_n 3, 1) := by decide +kernel
theorem dX5_adopt_318 : decode cX5_adopt 318 = .ok (.iload_n 1, 1) := by decide +kernel
theorem dX5_adopt_319 : decode cX5_adopt 319 = .ok (.isub, 1) := by decide +kernel
theorem dX5_adopt_320 : decode cX5_adopt 320 = .ok (.isub, 1) := by decide +kernel
theorem dX5_adopt_321 : decode cX5_adopt 321 = .ok (.putfield 148, 3) := by decide +kernel
theorem dX5_adopt_324 : decode cX5_adopt 324 = .ok (.aload_n 0, 1) := by decide +kernel
theorem dX5_adopt_325 : decode cX5_adopt 325 = .ok (.iload 8, 2) := by decide +kernel
theorem dX5_adopt_327 : decode cX5_adopt 327 = .ok (.iconst 1, 1) := by decide +kernel
theorem dX5_adopt_328 : decode cX5_adopt 328 = .ok (.iadd, 1) := by decide +kernel
theorem dX5_adopt_329 : decode cX5_adopt 329 = .ok (.putfield 208, 3) := by decide +kernel
theorem dX5_adopt_332 : decode cX5_adopt 332 = .ok (.aload_n 0, 1) := by decide +kernel
theorem dX5_adopt_333 : decode cX5_adopt 333 = .ok (.aload_n 0, 1) := by decide +kernel
theorem dX5_adopt_334 : decode cX5_adopt 334 = .ok (.getfield 25, 3) := by decide +kernel
theorem dX5_adopt_337 : decode cX5_adopt 337 = .ok (.iload 4, 2) := by decide +kernel
theorem dX5_adopt_339 : decode cX5_adopt 339 = .ok (.iaload, 1) := by decide +kernel
theorem dX5_adopt_340 : decode cX5_adopt 340 = .ok (.iconst 1, 1) := by decide +kernel
theorem dX5_adopt_341 : decode cX5_adopt 341 = .ok (.iadd, 1) := by decide +kernel
theorem dX5_adopt_342 : decode cX5_adopt 342 = .ok (.putfield 211, 3) := by decide +kernel
theorem dX5_adopt_345 : decode cX5_adopt 345 = .ok (.aload_n 0, 1) := by decide +kernel
theorem dX5_adopt_346 : decode cX5_adopt 346 = .ok (.getfield 28, 3) := by decide +kernel
theorem dX5_adopt_349 : decode cX5_adopt 349 = .ok (.iconst 0, 1) := by decide +kernel
theorem dX5_adopt_350 : decode cX5_adopt 350 = .ok (.aload_n 0, 1) := by decide +kernel
theorem dX5_adopt_351 : decode cX5_adopt 351 = .ok (.aload_n 0, 1) := by decide +kernel
theorem dX5_adopt_352 : decode cX5_adopt 352 = .ok (.getfield 19, 3) := by decide +kernel
theorem dX5_adopt_355 : decode cX5_adopt 355 = .ok (.iload_n 2, 1) := by decide +kernel
theorem dX5_adopt_356 : decode cX5_adopt 356 = .ok (.iaload, 1) := by decide +kernel
theorem dX5_adopt_357 : decode cX5_adopt 357 = .ok (.aload_n 0, 1) := by decide +kernel
theorem dX5_adopt_358 : decode cX5_adopt 358 = .ok (.getfield 22, 3) := by decide +kernel
theorem dX5_adopt_361 : decode cX5_adopt 361 = .ok (.iload_n 2, 1) := by decide +kernel
theorem dX5_adopt_362 : decode cX5_adopt 362 = .ok (.iaload, 1) := by decide +kernel
theorem dX5_adopt_363 : decode cX5_adopt 363 = .ok (.invokevirtual 229, 3) := by decide +kernel
theorem dX5_adopt_366 : decode cX5_adopt 366 = .ok (.iastore, 1) := by decide +kernel
theorem dX5_adopt_367 : decode cX5_adopt 367 = .ok (.return_, 1) := by decide +kernel
theorem dX5_entity_0 : decode cX5_entity 0 = .ok (.aload_n 0, 1) := by decide +kernel
theorem dX5_entity_1 : decode cX5_entity 1 = .ok (.iload_n 1, 1) := by decide +kernel
theorem dX5_entity_2 : decode cX5_entity 2 = .ok (.iconst 2, 1) := by decide +kernel
theorem dX5_entity_3 : decode cX5_entity 3 = .ok (.iadd, 1) := by decide +kernel
theorem dX5_entity_4 : decode cX5_entity 4 = .ok (.invokevirtual 157, 3) := by decide +kernel
theorem dX5_entity_7 : decode cX5_entity 7 = .ok (.istore_n 3, 1) := by decide +kernel
theorem dX5_entity_8 : decode cX5_entity 8 = .ok (.iload_n 2, 1) := by decide +kernel
theorem dX5_entity_9 : decode cX5_entity 9 = .ok (.iconst (-1), 1) := by decide +kernel
theorem dX5_entity_10 : decode cX5_entity 10 = .ok (.if_icmp .eq 8, 3) := by decide +kernel
theorem dX5_entity_13 : decode cX5_entity 13 = .ok (.iload_n 3, 1) := by decide +kernel
theorem dX5_entity_14 : decode cX5_entity 14 = .ok (.iconst (-1), 1) := by decide +kernel
theorem dX5_entity_15 : decode cX5_entity 15 = .ok (.if_icmp .ne 5, 3) := by decide +kernel
theorem dX5_entity_18 : decode cX5_entity 18 = .ok (.iconst (-1), 1) := by decide +kernel
theorem dX5_entity_19 : decode cX5_entity 19 = .ok (.ireturn, 1) := by decide +kernel
theorem dX5_entity_20 : decode cX5_entity 20 = .ok (.iload_n 3, 1) := by decide +kernel
theorem dX5_entity_21 : decode cX5_entity 21 = .ok (.bipush 59, 2) := by decide +kernel
theorem dX5_entity_23 : decode cX5_entity 23 = .ok (.if_icmp .ne 35, 3) := by decide +kernel
theorem dX5_entity_26 : decode cX5_entity 26 = .ok (.aload_n 0, 1) := by decide +kernel
theorem dX5_entity_27 : decode cX5_entity 27 = .ok (.iload_n 2, 1) := by decide +kernel
theorem dX5_entity_28 : decode cX5_entity 28 = .ok (.bipush 108, 2) := by decide +kernel
theorem dX5_entity_30 : decode cX5_entity 30 = .ok (.if_icmp .ne 8, 3) := by decide +kernel
theorem dX5_entity_33 : decode cX5_entity 33 = .ok (.bipush 60, 2) := by decide +kernel
theorem dX5_entity_35 : decode cX5_entity 35 = .ok (.goto 16, 3) := by decide +kernel
theorem dX5_entity_38 : decode cX5_entity 38 = .ok (.iload_n 2, 1) := by decide +kernel
theorem dX5_entity_39 : decode cX5_entity 39 = .ok (.bipush 103, 2) := by decide +kernel
theorem dX5_entity_41 : decode cX5_entity 41 = .ok (.if_icmp .ne 8, 3) := by decide +kernel
theorem dX5_entity_44 : decode cX5_entity 44 = .ok (.bipush 62, 2) := by decide +kernel
theorem dX5_entity_46 : decode cX5_entity 46 = .ok (.goto 5, 3) := by decide +kernel
theorem dX5_entity_49 : decode cX5_entity 49 = .ok (.bipush 38, 2) := by decide +kernel
theorem dX5_entity_51 : decode cX5_entity 51 = .ok (.invokevirtual 172, 3) := by decide +kernel
theorem dX5_entity_54 : decode cX5_entity 54 = .ok (.iload_n 1, 1) := by decide +kernel
theorem dX5_entity_55 : decode cX5_entity 55 = .ok (.iconst 3, 1) := by decide +kernel
theorem dX5_entity_56 : decode cX5_entity 56 = .ok (.iadd, 1) := by decide +kernel
theorem dX5_entity_57 : decode cX5_entity 57 = .ok (.ireturn, 1) := by decide +kernel
theorem dX5_entity_58 : decode cX5_entity 58 = .ok (.aload_n 0, 1) := by decide +kernel
theorem dX5_entity_59 : decode cX5_entity 59 = .ok (.bipush 38, 2) := by decide +kernel
theorem dX5_entity_61 : decode cX5_entity 61 = .ok (.invokevirtual 172, 3) := by decide +kernel
theorem dX5_entity_64 : decode cX5_entity 64 = .ok (.aload_n 0, 1) := by decide +kernel
theorem dX5_entity_65 : decode cX5_entity 65 = .ok (.getfield 129, 3) := by decide +kernel
theorem dX5_entity_68 : decode cX5_entity 68 = .ok (.ifCond .ne 8, 3) := by decide +kernel
theorem dX5_entity_71 : decode cX5_entity 71 = .ok (.aload_n 0, 1) := by decide +kernel
theorem dX5_entity_72 : decode cX5_entity 72 = .ok (.iload_n 2, 1) := by decide +kernel
theorem dX5_entity_73 : decode cX5_entity 73 = .ok (.invokevirtual 172, 3) := by decide +kernel
theorem dX5_entity_76 : decode cX5_entity 76 = .ok (.iload_n 1, 1) := by decide +kernel
theorem dX5_entity_77 : decode cX5_entity 77 = .ok (.iconst 2, 1) := by decide +kernel
theorem dX5_entity_78 : decode cX5_entity 78 = .ok (.iadd, 1) := by decide +kernel
theorem dX5_entity_79 : decode cX5_entity 79 = .ok (.ireturn, 1) := by decide +kernel
theorem dX5_character_0 : decode cX5_character 0 = .ok (.iload_n 1, 1) := by decide +kernel
theorem dX5_character_1 : decode cX5_character 1 = .ok (.bipush 32, 2) := by decide +kernel
theorem dX5_character_3 : decode cX5_character 3 = .ok (.if_icmp .ne 24, 3) := by decide +kernel
theorem dX5_character_6 : decode cX5_character 6 = .ok (.aload_n 0, 1) := by decide +kernel
theorem dX5_character_7 : decode cX5_character 7 = .ok (.aload_n 0, 1) := by decide +kernel
theorem dX5_character_8 : decode cX5_character 8 = .ok (.getfield 31, 3) := by decide +kernel
theorem dX5_character_11 : decode cX5_character 11 = .ok (.aload_n 0, 1) := by decide +kernel
theorem dX5_character_12 : decode cX5_character 12 = .ok (.getfield 148, 3) := by decide +kernel
theorem dX5_character_15 : decode cX5_character 15 = .ok (.iconst 1, 1) := by decide +kernel
theorem dX5_character_16 : decode cX5_character 16 = .ok (.isub, 1) := by decide +kernel
theorem dX5_character_17 : decode cX5_character 17 = .ok (.iaload, 1) := by decide +kernel
theorem dX5_character_18 : decode cX5_character 18 = .ok (.ldc 215, 2) := by decide +kernel
theorem dX5_character_20 : decode cX5_character 20 = .ok (.invokevirtual 192, 3) := by decide +kernel
theorem dX5_character_23 : decode cX5_character 23 = .ok (.ifCond .eq 4, 3) := by decide +kernel
theorem dX5_character_26 : decode cX5_character 26 = .ok (.return_, 1) := by decide +kernel
theorem dX5_character_27 : decode cX5_character 27 = .ok (.aload_n 0, 1) := by decide +kernel
theorem dX5_character_28 : decode cX5_character 28 = .ok (.invokevirtual 240, 3) := by decide +kernel
theorem dX5_character_31 : decode cX5_character 31 = .ok (.aload_n 0, 1) := by decide +kernel
theorem dX5_character_32 : decode cX5_character 32 = .ok (.getfield 129, 3) := by decide +kernel
theorem dX5_character_35 : decode cX5_character 35 = .ok (.ifCond .eq 4, 3) := by decide +kernel
theorem dX5_character_38 : decode cX5_character 38 = .ok (.return_, 1) := by decide +kernel
theorem dX5_character_39 : decode cX5_character 39 = .ok (.aload_n 0, 1) := by decide +kernel
theorem dX5_character_40 : decode cX5_character 40 = .ok (.aload_n 0, 1) := by decide +kernel
theorem dX5_character_41 : decode cX5_character 41 = .ok (.getfield 148, 3) := by decide +kernel
theorem dX5_character_44 : decode cX5_character 44 = .ok (.invokevirtual 226, 3) := by decide +kernel
theorem dX5_character_47 : decode cX5_character 47 = .ok (.aload_n 0, 1) := by decide +kernel
theorem dX5_character_48 : decode cX5_character 48 = .ok (.getfield 208, 3) := by decide +kernel
theorem dX5_character_51 : decode cX5_character 51 = .ok (.iconst 1, 1) := by decide +kernel
theorem dX5_character_52 : decode cX5_character 52 = .ok (.isub, 1) := by decide +kernel
theorem dX5_character_53 : decode cX5_character 53 = .ok (.istore_n 2, 1) := by decide +kernel
theorem dX5_character_54 : decode cX5_character 54 = .ok (.iload_n 2, 1) := by decide +kernel
theorem dX5_character_55 : decode cX5_character 55 = .ok (.ifCond .le 27, 3) := by decide +kernel
theorem dX5_character_58 : decode cX5_character 58 = .ok (.aload_n 0, 1) := by decide +kernel
theorem dX5_character_59 : decode cX5_character 59 = .ok (.getfield 25, 3) := by decide +kernel
theorem dX5_character_62 : decode cX5_character 62 = .ok (.aload_n 0, 1) := by decide +kernel
theorem dX5_character_63 : decode cX5_character 63 = .ok (.getfield 16, 3) := by decide +kernel
theorem dX5_character_66 : decode cX5_character 66 = .ok (.iload_n 2, 1) := by decide +kernel
theorem dX5_character_67 : decode cX5_character 67 = .ok (.iaload, 1) := by decide +kernel
theorem dX5_character_68 : decode cX5_character 68 = .ok (.iaload, 1) := by decide +kernel
theorem dX5_character_69 : decode cX5_character 69 = .ok (.aload_n 0, 1) := by decide +kernel
theorem dX5_character_70 : decode cX5_character 70 = .ok (.getfield 211, 3) := by decide +kernel
theorem dX5_character_73 : decode cX5_character 73 = .ok (.if_icmp .le 9, 3) := by decide +kernel
theorem dX5_character_76 : decode cX5_character 76 = .ok (.iinc 2 (-1), 3) := by decide +kernel
theorem dX5_character_79 : decode cX5_character 79 = .ok (.goto (-25), 3) := by decide +kernel
theorem dX5_character_82 : decode cX5_character 82 = .ok (.aload_n 0, 1) := by decide +kernel
theorem dX5_character_83 : decode cX5_character 83 = .ok (.getfield 16, 3) := by decide +kernel
theorem dX5_character_86 : decode cX5_character 86 = .ok (.iload_n 2, 1) := by decide +kernel
theorem dX5_character_87 : decode cX5_character 87 = .ok (.iaload, 1) := by decide +kernel
theorem dX5_character_88 : decode cX5_character 88 = .ok (.istore_n 3, 1) := by decide +kernel
theorem dX5_character_89 : decode cX5_character 89 = .ok (.aload_n 0, 1) := by decide +kernel
theorem dX5_character_90 : decode cX5_character 90 = .ok (.getfield 19, 3) := by decide +kernel
theorem dX5_character_93 : decode cX5_character 93 = .ok (.iload_n 3, 1) := by decide +kernel
theorem dX5_character_94 : decode cX5_character 94 = .ok (.iaload, 1) := by decide +kernel
theorem dX5_character_95 : decode cX5_character 95 = .ok (.iconst 1, 1) := by decide +kernel
theorem dX5_character_96 : decode cX5_character 96 = .ok (.if_icmp .ne 16, 3) := by decide +kernel
theorem dX5_character_99 : decode cX5_character 99 = .ok (.aload_n 0, 1) := by decide +kernel
theorem dX5_character_100 : decode cX5_character 100 = .ok (.getfield 25, 3) := by decide +kernel
theorem dX5_character_103 : decode cX5_character 103 = .ok (.iload_n 3, 1) := by decide +kernel
theorem dX5_character_104 : decode cX5_character 104 = .ok (.iaload, 1) := by decide +kernel
theorem dX5_character_105 : decode cX5_character 105 = .ok (.aload_n 0, 1) := by decide +kernel
theorem dX5_character_106 : decode cX5_character 106 = .ok (.getfield 211, 3) := by decide +kernel
theorem dX5_character_109 : decode cX5_character 109 = .ok (.if_icmp .eq 10, 3) := by decide +kernel
theorem dX5_character_112 : decode cX5_character 112 = .ok (.aload_n 0, 1) := by decide +kernel
theorem dX5_character_113 : decode cX5_character 113 = .ok (.iconst 1, 1) := by decide +kernel
theorem dX5_character_114 : decode cX5_character 114 = .ok (.iconst 0, 1) := by decide +kernel
theorem dX5_character_115 : decode cX5_character 115 = .ok (.invokevirtual 229, 3) := by decide +kernel
theorem dX5_character_118 : decode cX5_character 118 = .ok (.istore_n 3, 1) := by decide +kernel
theorem dX5_character_119 : decode cX5_character 119 = .ok (.aload_n 0, 1) := by decide +kernel
theorem dX5_character_120 : decode cX5_character 120 = .ok (.getfield 129, 3) := by decide +kernel
theorem dX5_character_123 : decode cX5_character 123 = .ok (.ifCond .eq 4, 3) := by decide +kernel
theorem dX5_character_126 : decode cX5_character 126 = .ok (.return_, 1) := by decide +kernel
theorem dX5_character_127 : decode cX5_character 127 = .ok (.aload_n 0, 1) := by decide +kernel
theorem dX5_character_128 : decode cX5_character 128 = .ok (.getfield 40, 3) := by decide +kernel
theorem dX5_character_131 : decode cX5_character 131 = .ok (.aload_n 0, 1) := by decide +kernel
theorem dX5_character_132 : decode cX5_character 132 = .ok (.getfield 154, 3) := by decide +kernel
theorem dX5_character_135 : decode cX5_character 135 = .ok (.iload_n 1, 1) := by decide +kernel
theorem dX5_character_136 : decode cX5_character 136 = .ok (.iastore, 1) := by decide +kernel
theorem dX5_character_137 : decode cX5_character 137 = .ok (.aload_n 0, 1) := by decide +kernel
theorem dX5_character_138 : decode cX5_character 138 = .ok (.getfield 43, 3) := by decide +kernel
theorem dX5_character_141 : decode cX5_character 141 = .ok (.aload_n 0, 1) := by decide +kernel
theorem dX5_character_142 : decode cX5_character 142 = .ok (.getfield 154, 3) := by decide +kernel
theorem dX5_character_145 : decode cX5_character 145 = .ok (.iload_n 3, 1) := by decide +kernel
theorem dX5_character_146 : decode cX5_character 146 = .ok (.iastore, 1) := by decide +kernel
theorem dX5_character_147 : decode cX5_character 147 = .ok (.aload_n 0, 1) := by decide +kernel
theorem dX5_character_148 : decode cX5_character 148 = .ok (.dup, 1) := by decide +kernel
theorem dX5_character_149 : decode cX5_character 149 = .ok (.getfield 154, 3) := by decide +kernel
theorem dX5_character_152 : decode cX5_character 152 = .ok (.iconst 1, 1) := by decide +kernel
theorem dX5_character_153 : decode cX5_character 153 = .ok (.iadd, 1) := by decide +kernel
theorem dX5_character_154 : decode cX5_character 154 = .ok (.putfield 154, 3) := by decide +kernel
theorem dX5_character_157 : decode cX5_character 157 = .ok (.return_, 1) := by decide +kernel
theorem dX5_css_0 : decode cX5_css 0 = .ok (.iload_n 1, 1) := by decide +kernel
theorem dX5_css_1 : decode cX5_css 1 = .ok (.bipush 32, 2) := by decide +kernel
theorem dX5_css_3 : decode cX5_css 3 = .ok (.if_icmp .lt 18, 3) := by decide +kernel
theorem dX5_css_6 : decode cX5_css 6 = .ok (.iload_n 1, 1) := by decide +kernel
theorem dX5_css_7 : decode cX5_css 7 = .ok (.bipush 126, 2) := by decide +kernel
theorem dX5_css_9 : decode cX5_css 9 = .ok (.if_icmp .gt 12, 3) := by decide +kernel
theorem dX5_css_12 : decode cX5_css 12 = .ok (.aload_n 0, 1) := by decide +kernel
theorem dX5_css_13 : decode cX5_css 13 = .ok (.getfield 139, 3) := by decide +kernel
theorem dX5_css_16 : decode cX5_css 16 = .ok (.bipush 120, 2) := by decide +kernel
theorem dX5_css_18 : decode cX5_css 18 = .ok (.if_icmp .ne 5, 3) := by decide +kernel
theorem dX5_css_21 : decode cX5_css 21 = .ok (.iconst 0, 1) := by decide +kernel
theorem dX5_css_22 : decode cX5_css 22 = .ok (.ireturn, 1) := by decide +kernel
theorem dX5_css_23 : decode cX5_css 23 = .ok (.aload_n 0, 1) := by decide +kernel
theorem dX5_css_24 : decode cX5_css 24 = .ok (.getfield 13, 3) := by decide +kernel
theorem dX5_css_27 : decode cX5_css 27 = .ok (.aload_n 0, 1) := by decide +kernel
theorem dX5_css_28 : decode cX5_css 28 = .ok (.getfield 139, 3) := by decide +kernel
theorem dX5_css_31 : decode cX5_css 31 = .ok (.iload_n 1, 1) := by decide +kernel
theorem dX5_css_32 : decode cX5_css 32 = .ok (.iastore, 1) := by decide +kernel
theorem dX5_css_33 : decode cX5_css 33 = .ok (.aload_n 0, 1) := by decide +kernel
theorem dX5_css_34 : decode cX5_css 34 = .ok (.dup, 1) := by decide +kernel
theorem dX5_css_35 : decode cX5_css 35 = .ok (.getfield 139, 3) := by decide +kernel
theorem dX5_css_38 : decode cX5_css 38 = .ok (.iconst 1, 1) := by decide +kernel
theorem dX5_css_39 : decode cX5_css 39 = .ok (.iadd, 1) := by decide +kernel
theorem dX5_css_40 : decode cX5_css 40 = .ok (.putfield 139, 3) := by decide +kernel
theorem dX5_css_43 : decode cX5_css 43 = .ok (.aload_n 0, 1) := by decide +kernel
theorem dX5_css_44 : decode cX5_css 44 = .ok (.iconst 0, 1) := by decide +kernel
theorem dX5_css_45 : decode cX5_css 45 = .ok (.putfield 133, 3) := by decide +kernel
theorem dX5_css_48 : decode cX5_css 48 = .ok (.iconst 1, 1) := by decide +kernel
theorem dX5_css_49 : decode cX5_css 49 = .ok (.ireturn, 1) := by decide +kernel
theorem dX5_clear_0 : decode cX5_clear 0 = .ok (.aload_n 0, 1) := by decide +kernel
theorem dX5_clear_1 : decode cX5_clear 1 = .ok (.iconst 0, 1) := by decide +kernel
theorem dX5_clear_2 : decode cX5_clear 2 = .ok (.putfield 125, 3) := by decide +kernel
theorem dX5_clear_5 : decode cX5_clear 5 = .ok (.aload_n 0, 1) := by decide +kernel
theorem dX5_clear_6 : decode cX5_clear 6 = .ok (.iconst 0, 1) := by decide +kernel
theorem dX5_clear_7 : decode cX5_clear 7 = .ok (.putfield 139, 3) := by decide +kernel
theorem dX5_clear_10 : decode cX5_clear 10 = .ok (.aload_n 0, 1) := by decide +kernel
theorem dX5_clear_11 : decode cX5_clear 11 = .ok (.iconst 0, 1) := by decide +kernel
theorem dX5_clear_12 : decode cX5_clear 12 = .ok (.putfield 133, 3) := by decide +kernel
theorem dX5_clear_15 : decode cX5_clear 15 = .ok (.aload_n 0, 1) := by decide +kernel
theorem dX5_clear_16 : decode cX5_clear 16 = .ok (.invokevirtual 122, 3) := by decide +kernel
theorem dX5_clear_19 : decode cX5_clear 19 = .ok (.return_, 1) := by decide +kernel
theorem dX5_nodes_0 : decode cX5_nodes 0 = .ok (.aload_n 0, 1) := by decide +kernel
theorem dX5_nodes_1 : decode cX5_nodes 1 = .ok (.getfield 129, 3) := by decide +kernel
theorem dX5_nodes_4 : decode cX5_nodes 4 = .ok (.ifCond .eq 7, 3) := by decide +kernel
theorem dX5_nodes_7 : decode cX5_nodes 7 = .ok (.iconst (-1), 1) := by decide +kernel
theorem dX5_nodes_8 : decode cX5_nodes 8 = .ok (.goto 7, 3) := by decide +kernel
theorem dX5_nodes_11 : decode cX5_nodes 11 = .ok (.aload_n 0, 1) := by decide +kernel
theorem dX5_nodes_12 : decode cX5_nodes 12 = .ok (.getfield 142, 3) := by decide +kernel
theorem dX5_nodes_15 : decode cX5_nodes 15 = .ok (.ireturn, 1) := by decide +kernel
theorem dX5_name_0 : decode cX5_name 0 = .ok (.aload_n 0, 1) := by decide +kernel
theorem dX5_name_1 : decode cX5_name 1 = .ok (.iload_n 1, 1) := by decide +kernel
theorem dX5_name_2 : decode cX5_name 2 = .ok (.invokevirtual 260, 3) := by decide +kernel
theorem dX5_name_5 : decode cX5_name 5 = .ok (.ifCond .eq 7, 3) := by decide +kernel
theorem dX5_name_8 : decode cX5_name 8 = .ok (.iconst (-1), 1) := by decide +kernel
theorem dX5_name_9 : decode cX5_name 9 = .ok (.goto 14, 3) := by decide +kernel
theorem dX5_name_12 : decode cX5_name 12 = .ok (.aload_n 0, 1) := by decide +kernel
theorem dX5_name_13 : decode cX5_name 13 = .ok (.getfield 19, 3) := by decide +kernel
theorem dX5_name_16 : decode cX5_name 16 = .ok (.aload_n 0, 1) := by decide +kernel
theorem dX5_name_17 : decode cX5_name 17 = .ok (.getfield 16, 3) := by decide +kernel
theorem dX5_name_20 : decode cX5_name 20 = .ok (.iload_n 1, 1) := by decide +kernel
theorem dX5_name_21 : decode cX5_name 21 = .ok (.iaload, 1) := by decide +kernel
theorem dX5_name_22 : decode cX5_name 22 = .ok (.iaload, 1) := by decide +kernel
theorem dX5_name_23 : decode cX5_name 23 = .ok (.ireturn, 1) := by decide +kernel
theorem dX5_none_0 : decode cX5_none 0 = .ok (.aload_n 0, 1) := by decide +kernel
theorem dX5_none_1 : decode cX5_none 1 = .ok (.getfield 129, 3) := by decide +kernel
theorem dX5_none_4 : decode cX5_none 4 = .ok (.ifCond .ne 15, 3) := by decide +kernel
theorem dX5_none_7 : decode cX5_none 7 = .ok (.iload_n 1, 1) := by decide +kernel
theorem dX5_none_8 : decode cX5_none 8 = .ok (.ifCond .lt 11, 3) := by decide +kernel
theorem dX5_none_11 : decode cX5_none 11 = .ok (.iload_n 1, 1) := by decide +kernel
theorem dX5_none_12 : decode cX5_none 12 = .ok (.aload_n 0, 1) := by decide +kernel
theorem dX5_none_13 : decode cX5_none 13 = .ok (.getfield 142, 3) := by decide +kernel
theorem dX5_none_16 : decode cX5_none 16 = .ok (.if_icmp .lt 7, 3) := by decide +kernel
theorem dX5_none_19 : decode cX5_none 19 = .ok (.iconst 1, 1) := by decide +kernel
theorem dX5_none_20 : decode cX5_none 20 = .ok (.goto 4, 3) := by decide +kernel
theorem dX5_none_23 : decode cX5_none 23 = .ok (.iconst 0, 1) := by decide +kernel
theorem dX5_none_24 : decode cX5_none 24 = .ok (.ireturn, 1) := by decide +kernel
theorem dX5_parent_0 : decode cX5_parent 0 = .ok (.aload_n 0, 1) := by decide +kernel
theorem dX5_parent_1 : decode cX5_parent 1 = .ok (.iload_n 1, 1) := by decide +kernel
theorem dX5_parent_2 : decode cX5_parent 2 = .ok (.invokevirtual 260, 3) := by decide +kernel
theorem dX5_parent_5 : decode cX5_parent 5 = .ok (.ifCond .eq 7, 3) := by decide +kernel
theorem dX5_parent_8 : decode cX5_parent 8 = .ok (.iconst (-1), 1) := by decide +kernel
theorem dX5_parent_9 : decode cX5_parent 9 = .ok (.goto 8, 3) := by decide +kernel
theorem dX5_parent_12 : decode cX5_parent 12 = .ok (.aload_n 0, 1) := by decide +kernel
theorem dX5_parent_13 : decode cX5_parent 13 = .ok (.iload_n 1, 1) := by decide +kernel
theorem dX5_parent_14 : decode cX5_parent 14 = .ok (.invokevirtual 263, 3) := by decide +kernel
theorem dX5_parent_17 : decode cX5_parent 17 = .ok (.ireturn, 1) := by decide +kernel
theorem dX5_parentOf_0 : decode cX5_parentOf 0 = .ok (.iload_n 1, 1) := by decide +kernel
theorem dX5_parentOf_1 : decode cX5_parentOf 1 = .ok (.iconst 1, 1) := by decide +kernel
theorem dX5_parentOf_2 : decode cX5_parentOf 2 = .ok (.isub, 1) := by decide +kernel
theorem dX5_parentOf_3 : decode cX5_parentOf 3 = .ok (.istore_n 2, 1) := by decide +kernel
theorem dX5_parentOf_4 : decode cX5_parentOf 4 = .ok (.iload_n 2, 1) := by decide +kernel
theorem dX5_parentOf_5 : decode cX5_parentOf 5 = .ok (.ifCond .lt 34, 3) := by decide +kernel
theorem dX5_parentOf_8 : decode cX5_parentOf 8 = .ok (.aload_n 0, 1) := by decide +kernel
theorem dX5_parentOf_9 : decode cX5_parentOf 9 = .ok (.getfield 25, 3) := by decide +kernel
theorem dX5_parentOf_12 : decode cX5_parentOf 12 = .ok (.aload_n 0, 1) := by decide +kernel
theorem dX5_parentOf_13 : decode cX5_parentOf 13 = .ok (.getfield 16, 3) := by decide +kernel
theorem dX5_parentOf_16 : decode cX5_parentOf 16 = .ok (.iload_n 2, 1) := by decide +kernel
theorem dX5_parentOf_17 : decode cX5_parentOf 17 = .ok (.iaload, 1) := by decide +kernel
theorem dX5_parentOf_18 : decode cX5_parentOf 18 = .ok (.iaload, 1) := by decide +kernel
theorem dX5_parentOf_19 : decode cX5_parentOf 19 = .ok (.aload_n 0, 1) := by decide +kernel
theorem dX5_parentOf_20 : decode cX5_parentOf 20 = .ok (.getfield 25, 3) := by decide +kernel
theorem dX5_parentOf_23 : decode cX5_parentOf 23 = .ok (.aload_n 0, 1) := by decide +kernel
theorem dX5_parentOf_24 : decode cX5_parentOf 24 = .ok (.getfield 16, 3) := by decide +kernel
theorem dX5_parentOf_27 : decode cX5_parentOf 27 = .ok (.iload_n 1, 1) := by decide +kernel
theorem dX5_parentOf_28 : decode cX5_parentOf 28 = .ok (.iaload, 1) := by decide +kernel
theorem dX5_parentOf_29 : decode cX5_parentOf 29 = .ok (.iaload, 1) := by decide +kernel
theorem dX5_parentOf_30 : decode cX5_parentOf 30 = .ok (.if_icmp .lt 9, 3) := by decide +kernel
theorem dX5_parentOf_33 : decode cX5_parentOf 33 = .ok (.iinc 2 (-1), 3) := by decide +kernel
theorem dX5_parentOf_36 : decode cX5_parentOf 36 = .ok (.goto (-32), 3) := by decide +kernel
theorem dX5_parentOf_39 : decode cX5_parentOf 39 = .ok (.iload_n 2, 1) := by decide +kernel
theorem dX5_parentOf_40 : decode cX5_parentOf 40 = .ok (.ireturn, 1) := by decide +kernel
theorem dX5_classes_0 : decode cX5_classes 0 = .ok (.aload_n 0, 1) := by decide +kernel
theorem dX5_classes_1 : decode cX5_classes 1 = .ok (.iload_n 1, 1) := by decide +kernel
theorem dX5_classes_2 : decode cX5_classes 2 = .ok (.invokevirtual 260, 3) := by decide +kernel
theorem dX5_classes_5 : decode cX5_classes 5 = .ok (.ifCond .eq 7, 3) := by decide +kernel
theorem dX5_classes_8 : decode cX5_classes 8 = .ok (.iconst (-1), 1) := by decide +kernel
theorem dX5_classes_9 : decode cX5_classes 9 = .ok (.goto 14, 3) := by decide +kernel
theorem dX5_classes_12 : decode cX5_classes 12 = .ok (.aload_n 0, 1) := by decide +kernel
theorem dX5_classes_13 : decode cX5_classes 13 = .ok (.getfield 22, 3) := by decide +kernel
theorem dX5_classes_16 : decode cX5_classes 16 = .ok (.aload_n 0, 1) := by decide +kernel
theorem dX5_classes_17 : decode cX5_classes 17 = .ok (.getfield 16, 3) := by decide +kernel
theorem dX5_classes_20 : decode cX5_classes 20 = .ok (.iload_n 1, 1) := by decide +kernel
theorem dX5_classes_21 : decode cX5_classes 21 = .ok (.iaload, 1) := by decide +kernel
theorem dX5_classes_22 : decode cX5_classes 22 = .ok (.iaload, 1) := by decide +kernel
theorem dX5_classes_23 : decode cX5_classes 23 = .ok (.ireturn, 1) := by decide +kernel
theorem dX5_letter_0 : decode cX5_letter 0 = .ok (.aload_n 0, 1) := by decide +kernel
theorem dX5_letter_1 : decode cX5_letter 1 = .ok (.iload_n 1, 1) := by decide +kernel
theorem dX5_letter_2 : decode cX5_letter 2 = .ok (.iload_n 2, 1) := by decide +kernel
theorem dX5_letter_3 : decode cX5_letter 3 = .ok (.invokevirtual 266, 3) := by decide +kernel
theorem dX5_letter_6 : decode cX5_letter 6 = .ok (.istore_n 3, 1) := by decide +kernel
theorem dX5_letter_7 : decode cX5_letter 7 = .ok (.iload_n 3, 1) := by decide +kernel
theorem dX5_letter_8 : decode cX5_letter 8 = .ok (.ifCond .ge 7, 3) := by decide +kernel
theorem dX5_letter_11 : decode cX5_letter 11 = .ok (.iconst (-1), 1) := by decide +kernel
theorem dX5_letter_12 : decode cX5_letter 12 = .ok (.goto 9, 3) := by decide +kernel
theorem dX5_letter_15 : decode cX5_letter 15 = .ok (.aload_n 0, 1) := by decide +kernel
theorem dX5_letter_16 : decode cX5_letter 16 = .ok (.getfield 40, 3) := by decide +kernel
theorem dX5_letter_19 : decode cX5_letter 19 = .ok (.iload_n 3, 1) := by decide +kernel
theorem dX5_letter_20 : decode cX5_letter 20 = .ok (.iaload, 1) := by decide +kernel
theorem dX5_letter_21 : decode cX5_letter 21 = .ok (.ireturn, 1) := by decide +kernel
theorem dX5_find_0 : decode cX5_find 0 = .ok (.aload_n 0, 1) := by decide +kernel
theorem dX5_find_1 : decode cX5_find 1 = .ok (.iload_n 1, 1) := by decide +kernel
theorem dX5_find_2 : decode cX5_find 2 = .ok (.invokevirtual 260, 3) := by decide +kernel
theorem dX5_find_5 : decode cX5_find 5 = .ok (.ifCond .ne 22, 3) := by decide +kernel
theorem dX5_find_8 : decode cX5_find 8 = .ok (.aload_n 0, 1) := by decide +kernel
theorem dX5_find_9 : decode cX5_find 9 = .ok (.getfield 19, 3) := by decide +kernel
theorem dX5_find_12 : decode cX5_find 12 = .ok (.aload_n 0, 1) := by decide +kernel
theorem dX5_find_13 : decode cX5_find 13 = .ok (.getfield 16, 3) := by decide +kernel
theorem dX5_find_16 : decode cX5_find 16 = .ok (.iload_n 1, 1) := by decide +kernel
theorem dX5_find_17 : decode cX5_find 17 = .ok (.iaload, 1) := by decide +kernel
theorem dX5_find_18 : decode cX5_find 18 = .ok (.iaload, 1) := by decide +kernel
theorem dX5_find_19 : decode cX5_find 19 = .ok (.iconst 1, 1) := by decide +kernel
theorem dX5_find_20 : decode cX5_find 20 = .ok (.if_icmp .ne 7, 3) := by decide +kernel
theorem dX5_find_23 : decode cX5_find 23 = .ok (.iload_n 2, 1) := by decide +kernel
theorem dX5_find_24 : decode cX5_find 24 = .ok (.ifCond .ge 5, 3) := by decide +kernel
theorem dX5_find_27 : decode cX5_find 27 = .ok (.iconst (-1), 1) := by decide +kernel
theorem dX5_find_28 : decode cX5_find 28 = .ok (.ireturn, 1) := by decide +kernel
theorem dX5_find_29 : decode cX5_find 29 = .ok (.iload_n 2, 1) := by decide +kernel
theorem dX5_find_30 : decode cX5_find 30 = .ok (.istore_n 3, 1) := by decide +kernel
theorem dX5_find_31 : decode cX5_find 31 = .ok (.iconst 0, 1) := by decide +kernel
theorem dX5_find_32 : decode cX5_find 32 = .ok (.istore 4, 2) := by decide +kernel
theorem dX5_find_34 : decode cX5_find 34 = .ok (.iload 4, 2) := by decide +kernel
theorem dX5_find_36 : decode cX5_find 36 = .ok (.aload_n 0, 1) := by decide +kernel
theorem dX5_find_37 : decode cX5_find 37 = .ok (.getfield 154, 3) := by decide +kernel
theorem dX5_find_40 : decode cX5_find 40 = .ok (.if_icmp .ge 35, 3) := by decide +kernel
theorem dX5_find_43 : decode cX5_find 43 = .ok (.aload_n 0, 1) := by decide +kernel
theorem dX5_find_44 : decode cX5_find 44 = .ok (.getfield 43, 3) := by decide +kernel
theorem dX5_find_47 : decode cX5_find 47 = .ok (.iload 4, 2) := by decide +kernel
theorem dX5_find_49 : decode cX5_find 49 = .ok (.iaload, 1) := by decide +kernel
theorem dX5_find_50 : decode cX5_find 50 = .ok (.aload_n 0, 1) := by decide +kernel
theorem dX5_find_51 : decode cX5_find 51 = .ok (.getfield 16, 3) := by decide +kernel
theorem dX5_find_54 : decode cX5_find 54 = .ok (.iload_n 1, 1) := by decide +kernel
theorem dX5_find_55 : decode cX5_find 55 = .ok (.iaload, 1) := by decide +kernel
theorem dX5_find_56 : decode cX5_find 56 = .ok (.if_icmp .ne 13, 3) := by decide +kernel
theorem dX5_find_59 : decode cX5_find 59 = .ok (.iload_n 3, 1) := by decide +kernel
theorem dX5_find_60 : decode cX5_find 60 = .ok (.ifCond .ne 6, 3) := by decide +kernel
theorem dX5_find_63 : decode cX5_find 63 = .ok (.iload 4, 2) := by decide +kernel
theorem dX5_find_65 : decode cX5_find 65 = .ok (.ireturn, 1) := by decide +kernel
theorem dX5_find_66 : decode cX5_find 66 = .ok (.iinc 3 (-1), 3) := by decide +kernel
theorem dX5_find_69 : decode cX5_find 69 = .ok (.iinc 4 1, 3) := by decide +kernel
theorem dX5_find_72 : decode cX5_find 72 = .ok (.goto (-38), 3) := by decide +kernel
theorem dX5_find_75 : decode cX5_find 75 = .ok (.iconst (-1), 1) := by decide +kernel
theorem dX5_find_76 : decode cX5_find 76 = .ok (.ireturn, 1) := by decide +kernel
theorem dX5_open_0 : decode cX5_open 0 = .ok (.aload_n 0, 1) := by decide +kernel
theorem dX5_open_1 : decode cX5_open 1 = .ok (.getfield 129, 3) := by decide +kernel
theorem dX5_open_4 : decode cX5_open 4 = .ok (.ifCond .eq 7, 3) := by decide +kernel
theorem dX5_open_7 : decode cX5_open 7 = .ok (.iconst (-1), 1) := by decide +kernel
theorem dX5_open_8 : decode cX5_open 8 = .ok (.goto 7, 3) := by decide +kernel
theorem dX5_open_11 : decode cX5_open 11 = .ok (.aload_n 0, 1) := by decide +kernel
theorem dX5_open_12 : decode cX5_open 12 = .ok (.getfield 148, 3) := by decide +kernel
theorem dX5_open_15 : decode cX5_open 15 = .ok (.ireturn, 1) := by decide +kernel
theorem dX5_rules_0 : decode cX5_rules 0 = .ok (.aload_n 0, 1) := by decide +kernel
theorem dX5_rules_1 : decode cX5_rules 1 = .ok (.invokevirtual 269, 3) := by decide +kernel
theorem dX5_rules_4 : decode cX5_rules 4 = .ok (.aload_n 0, 1) := by decide +kernel
theorem dX5_rules_5 : decode cX5_rules 5 = .ok (.getfield 272, 3) := by decide +kernel
theorem dX5_rules_8 : decode cX5_rules 8 = .ok (.ireturn, 1) := by decide +kernel
theorem dX5_readSheet_0 : decode cX5_readSheet 0 = .ok (.aload_n 0, 1) := by decide +kernel
theorem dX5_readSheet_1 : decode cX5_readSheet 1 = .ok (.iconst 0, 1) := by decide +kernel
theorem dX5_readSheet_2 : decode cX5_readSheet 2 = .ok (.putfield 272, 3) := by decide +kernel
theorem dX5_readSheet_5 : decode cX5_readSheet 5 = .ok (.iconst 0, 1) := by decide +kernel
theorem dX5_readSheet_6 : decode cX5_readSheet 6 = .ok (.istore_n 1, 1) := by decide +kernel
theorem dX5_readSheet_7 : decode cX5_readSheet 7 = .ok (.iload_n 1, 1) := by decide +kernel
theorem dX5_readSheet_8 : decode cX5_readSheet 8 = .ok (.ifCond .lt 96, 3) := by decide +kernel
theorem dX5_readSheet_11 : decode cX5_readSheet 11 = .ok (.aload_n 0, 1) := by decide +kernel
theorem dX5_readSheet_12 : decode cX5_readSheet 12 = .ok (.getfield 272, 3) := by decide +kernel
theorem dX5_readSheet_15 : decode cX5_readSheet 15 = .ok (.bipush 12, 2) := by decide +kernel
theorem dX5_readSheet_17 : decode cX5_readSheet 17 = .ok (.if_icmp .ge 87, 3) := by decide +kernel
theorem dX5_readSheet_20 : decode cX5_readSheet 20 = .ok (.aload_n 0, 1) := by decide +kernel
theorem dX5_readSheet_21 : decode cX5_readSheet 21 = .ok (.iload_n 1, 1) := by decide +kernel
theorem dX5_readSheet_22 : decode cX5_readSheet 22 = .ok (.bipush 123, 2) := by decide +kernel
theorem dX5_readSheet_24 : decode cX5_readSheet 24 = .ok (.invokevirtual 275, 3) := by decide +kernel
theorem dX5_readSheet_27 : decode cX5_readSheet 27 = .ok (.istore_n 2, 1) := by decide +kernel
theorem dX5_readSheet_28 : decode cX5_readSheet 28 = .ok (.iload_n 2, 1) := by decide +kernel
theorem dX5_readSheet_29 : decode cX5_readSheet 29 = .ok (.ifCond .ge 7, 3) := by decide +kernel
theorem dX5_readSheet_32 : decode cX5_readSheet 32 = .ok (.iconst (-1), 1) := by decide +kernel
theorem dX5_readSheet_33 : decode cX5_readSheet 33 = .ok (.goto 10, 3) := by decide +kernel
theorem dX5_readSheet_36 : decode cX5_readSheet 36 = .ok (.aload_n 0, 1) := by decide +kernel
theorem dX5_readSheet_37 : decode cX5_readSheet 37 = .ok (.iload_n 2, 1) := by decide +kernel
theorem dX5_readSheet_38 : decode cX5_readSheet 38 = .ok (.bipush 125, 2) := by decide +kernel
theorem dX5_readSheet_40 : decode cX5_readSheet 40 = .ok (.invokevirtual 275, 3) := by decide +kernel
theorem dX5_readSheet_43 : decode cX5_readSheet 43 = .ok (.istore_n 3, 1) := by decide +kernel
theorem dX5_readSheet_44 : decode cX5_readSheet 44 = .ok (.iload_n 3, 1) := by decide +kernel
theorem dX5_readSheet_45 : decode cX5_readSheet 45 = .ok (.ifCond .lt 44, 3) := by decide +kernel
theorem dX5_readSheet_48 : decode cX5_readSheet 48 = .ok (.aload_n 0, 1) := by decide +kernel
theorem dX5_readSheet_49 : decode cX5_readSheet 49 = .ok (.iload_n 1, 1) := by decide +kernel
theorem dX5_readSheet_50 : decode cX5_readSheet 50 = .ok (.iload_n 2, 1) := by decide +kernel
theorem dX5_readSheet_51 : decode cX5_readSheet 51 = .ok (.invokevirtual 278, 3) := by decide +kernel
theorem dX5_readSheet_54 : decode cX5_readSheet 54 = .ok (.ifCond .eq 35, 3) := by decide +kernel
theorem dX5_readSheet_57 : decode cX5_readSheet 57 = .ok (.aload_n 0, 1) := by decide +kernel
theorem dX5_readSheet_58 : decode cX5_readSheet 58 = .ok (.getfield 65, 3) := by decide +kernel
theorem dX5_readSheet_61 : decode cX5_readSheet 61 = .ok (.aload_n 0, 1) := by decide +kernel
theorem dX5_readSheet_62 : decode cX5_readSheet 62 = .ok (.getfield 272, 3) := by decide +kernel
theorem dX5_readSheet_65 : decode cX5_readSheet 65 = .ok (.iload_n 2, 1) := by decide +kernel
theorem dX5_readSheet_66 : decode cX5_readSheet 66 = .ok (.iconst 1, 1) := by decide +kernel
theorem dX5_readSheet_67 : decode cX5_readSheet 67 = .ok (.iadd, 1) := by decide +kernel
theorem dX5_readSheet_68 : decode cX5_readSheet 68 = .ok (.iastore, 1) := by decide +kernel
theorem dX5_readSheet_69 : decode cX5_readSheet 69 = .ok (.aload_n 0, 1) := by decide +kernel
theorem dX5_readSheet_70 : decode cX5_readSheet 70 = .ok (.getfield 68, 3) := by decide +kernel
theorem dX5_readSheet_73 : decode cX5_readSheet 73 = .ok (.aload_n 0, 1) := by decide +kernel
theorem dX5_readSheet_74 : decode cX5_readSheet 74 = .ok (.getfield 272, 3) := by decide +kernel
theorem dX5_readSheet_77 : decode cX5_readSheet 77 = .ok (.iload_n 3, 1) := by decide +kernel
theorem dX5_readSheet_78 : decode cX5_readSheet 78 = .ok (.iastore, 1) := by decide +kernel
theorem dX5_readSheet_79 : decode cX5_readSheet 79 = .ok (.aload_n 0, 1) := by decide +kernel
theorem dX5_readSheet_80 : decode cX5_readSheet 80 = .ok (.dup, 1) := by decide +kernel
theorem dX5_readSheet_81 : decode cX5_readSheet 81 = .ok (.getfield 272, 3) := by decide +kernel
theorem dX5_readSheet_84 : decode cX5_readSheet 84 = .ok (.iconst 1, 1) := by decide +kernel
theorem dX5_readSheet_85 : decode cX5_readSheet 85 = .ok (.iadd, 1) := by decide +kernel
theorem dX5_readSheet_86 : decode cX5_readSheet 86 = .ok (.putfield 272, 3) := by decide +kernel
theorem dX5_readSheet_89 : decode cX5_readSheet 89 = .ok (.iload_n 3, 1) := by decide +kernel
theorem dX5_readSheet_90 : decode cX5_readSheet 90 = .ok (.ifCond .ge 7, 3) := by decide +kernel
theorem dX5_readSheet_93 : decode cX5_readSheet 93 = .ok (.iconst (-1), 1) := by decide +kernel
theorem dX5_readSheet_94 : decode cX5_readSheet 94 = .ok (.goto 6, 3) := by decide +kernel
theorem dX5_readSheet_97 : decode cX5_readSheet 97 = .ok (.iload_n 3, 1) := by decide +kernel
theorem dX5_readSheet_98 : decode cX5_readSheet 98 = .ok (.iconst 1, 1) := by decide +kernel
theorem dX5_readSheet_99 : decode cX5_readSheet 99 = .ok (.iadd, 1) := by decide +kernel
theorem dX5_readSheet_100 : decode cX5_readSheet 100 = .ok (.istore_n 1, 1) := by decide +kernel
theorem dX5_readSheet_101 : decode cX5_readSheet 101 = .ok (.goto (-94), 3) := by decide +kernel
theorem dX5_readSheet_104 : decode cX5_readSheet 104 = .ok (.return_, 1) := by decide +kernel
theorem dX5_nextSign_0 : decode cX5_nextSign 0 = .ok (.iload_n 1, 1) := by decide +kernel
theorem dX5_nextSign_1 : decode cX5_nextSign 1 = .ok (.istore_n 3, 1) := by decide +kernel
theorem dX5_nextSign_2 : decode cX5_nextSign 2 = .ok (.iload_n 3, 1) := by decide +kernel
theorem dX5_nextSign_3 : decode cX5_nextSign 3 = .ok (.aload_n 0, 1) := by decide +kernel
theorem dX5_nextSign_4 : decode cX5_nextSign 4 = .ok (.getfield 139, 3) := by decide +kernel
theorem dX5_nextSign_7 : decode cX5_nextSign 7 = .ok (.if_icmp .ge 21, 3) := by decide +kernel
theorem dX5_nextSign_10 : decode cX5_nextSign 10 = .ok (.aload_n 0, 1) := by decide +kernel
theorem dX5_nextSign_11 : decode cX5_nextSign 11 = .ok (.getfield 13, 3) := by decide +kernel
theorem dX5_nextSign_14 : decode cX5_nextSign 14 = .ok (.iload_n 3, 1) := by decide +kernel
theorem dX5_nextSign_15 : decode cX5_nextSign 15 = .ok (.iaload, 1) := by decide +kernel
theorem dX5_nextSign_16 : decode cX5_nextSign 16 = .ok (.iload_n 2, 1) := by decide +kernel
theorem dX5_nextSign_17 : decode cX5_nextSign 17 = .ok (.if_icmp .ne 5, 3) := by decide +kernel
theorem dX5_nextSign_20 : decode cX5_nextSign 20 = .ok (.iload_n 3, 1) := by decide +kernel
theorem dX5_nextSign_21 : decode cX5_nextSign 21 = .ok (.ireturn, 1) := by decide +kernel
theorem dX5_nextSign_22 : decode cX5_nextSign 22 = .ok (.iinc 3 1, 3) := by decide +kernel
theorem dX5_nextSign_25 : decode cX5_nextSign 25 = .ok (.goto (-23), 3) := by decide +kernel
theorem dX5_nextSign_28 : decode cX5_nextSign 28 = .ok (.iconst (-1), 1) := by decide +kernel
theorem dX5_nextSign_29 : decode cX5_nextSign 29 = .ok (.ireturn, 1) := by decide +kernel
theorem dX5_selector_0 : decode cX5_selector 0 = .ok (.aload_n 0, 1) := by decide +kernel
theorem dX5_selector_1 : decode cX5_selector 1 = .ok (.getfield 272, 3) := by decide +kernel
theorem dX5_selector_4 : decode cX5_selector 4 = .ok (.istore_n 3, 1) := by decide +kernel
theorem dX5_selector_5 : decode cX5_selector 5 = .ok (.iconst 0, 1) := by decide +kernel
theorem dX5_selector_6 : decode cX5_selector 6 = .ok (.istore 4, 2) := by decide +kernel
theorem dX5_selector_8 : decode cX5_selector 8 = .ok (.iconst 0, 1) := by decide +kernel
theorem dX5_selector_9 : decode cX5_selector 9 = .ok (.istore 5, 2) := by decide +kernel
theorem dX5_selector_11 : decode cX5_selector 11 = .ok (.aload_n 0, 1) := by decide +kernel
theorem dX5_selector_12 : decode cX5_selector 12 = .ok (.getfield 59, 3) := by decide +kernel
theorem dX5_selector_15 : decode cX5_selector 15 = .ok (.iload_n 3, 1) := by decide +kernel
theorem dX5_selector_16 : decode cX5_selector 16 = .ok (.iconst 0, 1) := by decide +kernel
theorem dX5_selector_17 : decode cX5_selector 17 = .ok (.iastore, 1) := by decide +kernel
theorem dX5_selector_18 : decode cX5_selector 18 = .ok (.aload_n 0, 1) := by decide +kernel
theorem dX5_selector_19 : decode cX5_selector 19 = .ok (.getfield 62, 3) := by decide +kernel
theorem dX5_selector_22 : decode cX5_selector 22 = .ok (.iload_n 3, 1) := by decide +kernel
theorem dX5_selector_23 : decode cX5_selector 23 = .ok (.iconst 0, 1) := by decide +kernel
theorem dX5_selector_24 : decode cX5_selector 24 = .ok (.iastore, 1) := by decide +kernel
theorem dX5_selector_25 : decode cX5_selector 25 = .ok (.aload_n 0, 1) := by decide +kernel
theorem dX5_selector_26 : decode cX5_selector 26 = .ok (.iload_n 1, 1) := by decide +kernel
theorem dX5_selector_27 : decode cX5_selector 27 = .ok (.iload_n 2, 1) := by decide +kernel
theorem dX5_selector_28 : decode cX5_selector 28 = .ok (.invokevirtual 281, 3) := by decide +kernel
theorem dX5_selector_31 : decode cX5_selector 31 = .ok (.istore 6, 2) := by decide +kernel
theorem dX5_selector_33 : decode cX5_selector 33 = .ok (.iload 4, 2) := by decide +kernel
theorem dX5_selector_35 : decode cX5_selector 35 = .ok (.iconst 5, 1) := by decide +kernel
theorem dX5_selector_36 : decode cX5_selector 36 = .ok (.if_icmp .ge 312, 3) := by decide +kernel
theorem dX5_selector_39 : decode cX5_selector 39 = .ok (.iload 4, 2) := by decide +kernel
theorem dX5_selector_41 : decode cX5_selector 41 = .ok (.iconst 4, 1) := by decide +kernel
theorem dX5_selector_42 : decode cX5_selector 42 = .ok (.if_icmp .ne 5, 3) := by decide +kernel
theorem dX5_selector_45 : decode cX5_selector 45 = .ok (.iconst 0, 1) := by decide +kernel
theorem dX5_selector_46 : decode cX5_selector 46 = .ok (.ireturn, 1) := by decide +kernel
theorem dX5_selector_47 : decode cX5_selector 47 = .ok (.iload 6, 2) := by decide +kernel
theorem dX5_selector_49 : decode cX5_selector 49 = .ok (.istore 7, 2) := by decide +kernel
theorem dX5_selector_51 : decode cX5_selector 51 = .ok (.aload_n 0, 1) := by decide +kernel
theorem dX5_selector_52 : decode cX5_selector 52 = .ok (.getfield 46, 3) := by decide +kernel
theorem dX5_selector_55 : decode cX5_selector 55 = .ok (.iconst 4, 1) := by decide +kernel
theorem dX5_selector_56 : decode cX5_selector 56 = .ok (.iload_n 3, 1) := by decide +kernel
theorem dX5_selector_57 : decode cX5_selector 57 = .ok (.imul, 1) := by decide +kernel
theorem dX5_selector_58 : decode cX5_selector 58 = .ok (.iload 4, 2) := by decide +kernel
theorem dX5_selector_60 : decode cX5_selector 60 = .ok (.iadd, 1) := by decide +kernel
theorem dX5_selector_61 : decode cX5_selector 61 = .ok (.iconst 0, 1) := by decide +kernel
theorem dX5_selector_62 : decode cX5_selector 62 = .ok (.iastore, 1) := by decide +kernel
theorem dX5_selector_63 : decode cX5_selector 63 = .ok (.aload_n 0, 1) := by decide +kernel
theorem dX5_selector_64 : decode cX5_selector 64 = .ok (.getfield 49, 3) := by decide +kernel
theorem dX5_selector_67 : decode cX5_selector 67 = .ok (.iconst 4, 1) := by decide +kernel
theorem dX5_selector_68 : decode cX5_selector 68 = .ok (.iload_n 3, 1) := by decide +kernel
theorem dX5_selector_69 : decode cX5_selector 69 = .ok (.imul, 1) := by decide +kernel
theorem dX5_selector_70 : decode cX5_selector 70 = .ok (.iload 4, 2) := by decide +kernel
theorem dX5_selector_72 : decode cX5_selector 72 = .ok (.iadd, 1) := by decide +kernel
theorem dX5_selector_73 : decode cX5_selector 73 = .ok (.iconst 0, 1) := by decide +kernel
theorem dX5_selector_74 : decode cX5_selector 74 = .ok (.iastore, 1) := by decide +kernel
theorem dX5_selector_75 : decode cX5_selector 75 = .ok (.aload_n 0, 1) := by decide +kernel
theorem dX5_selector_76 : decode cX5_selector 76 = .ok (.getfield 52, 3) := by decide +kernel
theorem dX5_selector_79 : decode cX5_selector 79 = .ok (.iconst 4, 1) := by decide +kernel
theorem dX5_selector_80 : decode cX5_selector 80 = .ok (.iload_n 3, 1) := by decide +kernel
theorem dX5_selector_81 : decode cX5_selector 81 = .ok (.imul, 1) := by decide +kernel
theorem dX5_selector_82 : decode cX5_selector 82 = .ok (.iload 4, 2) := by decide +kernel
theorem dX5_selector_84 : decode cX5_selector 84 = .ok (.iadd, 1) := by decide +kernel
theorem dX5_selector_85 : decode cX5_selector 85 = .ok (.iload 5, 2) := by decide +kernel
theorem dX5_selector_87 : decode cX5_selector 87 = .ok (.bastore, 1) := by decide +kernel
theorem dX5_selector_88 : decode cX5_selector 88 = .ok (.iload 6, 2) := by decide +kernel
theorem dX5_selector_90 : decode cX5_selector 90 = .ok (.iload_n 2, 1) := by decide +kernel
theorem dX5_selector_91 : decode cX5_selector 91 = .ok (.if_icmp .ge 93, 3) := by decide +kernel
theorem dX5_selector_94 : decode cX5_selector 94 = .ok (.aload_n 0, 1) := by decide +kernel
theorem dX5_selector_95 : decode cX5_selector 95 = .ok (.getfield 13, 3) := by decide +kernel
theorem dX5_selector_98 : decode cX5_selector 98 = .ok (.iload 6, 2) := by decide +kernel
theorem dX5_selector_100 : decode cX5_selector 100 = .ok (.iaload, 1) := by decide +kernel
theorem dX5_selector_101 : decode cX5_selector 101 = .ok (.invokestatic 161, 3) := by decide +kernel
theorem dX5_selector_104 : decode cX5_selector 104 = .ok (.ifCond .ne 15, 3) := by decide +kernel
theorem dX5_selector_107 : decode cX5_selector 107 = .ok (.aload_n 0, 1) := by decide +kernel
theorem dX5_selector_108 : decode cX5_selector 108 = .ok (.getfield 13, 3) := by decide +kernel
theorem dX5_selector_111 : decode cX5_selector 111 = .ok (.iload 6, 2) := by decide +kernel
theorem dX5_selector_113 : decode cX5_selector 113 = .ok (.iaload, 1) := by decide +kernel
theorem dX5_selector_114 : decode cX5_selector 114 = .ok (.bipush 42, 2) := by decide +kernel
theorem dX5_selector_116 : decode cX5_selector 116 = .ok (.if_icmp .ne 68, 3) := by decide +kernel
theorem dX5_selector_119 : decode cX5_selector 119 = .ok (.aload_n 0, 1) := by decide +kernel
theorem dX5_selector_120 : decode cX5_selector 120 = .ok (.getfield 46, 3) := by decide +kernel
theorem dX5_selector_123 : decode cX5_selector 123 = .ok (.iconst 4, 1) := by decide +kernel
theorem dX5_selector_124 : decode cX5_selector 124 = .ok (.iload_n 3, 1) := by decide +kernel
theorem dX5_selector_125 : decode cX5_selector 125 = .ok (.imul, 1) := by decide +kernel
theorem dX5_selector_126 : decode cX5_selector 126 = .ok (.iload 4, 2) := by decide +kernel
theorem dX5_selector_128 : decode cX5_selector 128 = .ok (.iadd, 1) := by decide +kernel
theorem dX5_selector_129 : decode cX5_selector 129 = .ok (.aload_n 0, 1) := by decide +kernel
theorem dX5_selector_130 : decode cX5_selector 130 = .ok (.getfield 13, 3) := by decide +kernel
theorem dX5_selector_133 : decode cX5_selector 133 = .ok (.iload 6, 2) := by decide +kernel
theorem dX5_selector_135 : decode cX5_selector 135 = .ok (.iaload, 1) := by decide +kernel
theorem dX5_selector_136 : decode cX5_selector 136 = .ok (.invokestatic 161, 3) := by decide +kernel
theorem dX5_selector_139 : decode cX5_selector 139 = .ok (.ifCond .eq 13, 3) := by decide +kernel
theorem dX5_selector_142 : decode cX5_selector 142 = .ok (.aload_n 0, 1) := by decide +kernel
theorem dX5_selector_143 : decode cX5_selector 143 = .ok (.getfield 13, 3) := by decide +kernel
theorem dX5_selector_146 : decode cX5_selector 146 = .ok (.iload 6, 2) := by decide +kernel
theorem dX5_selector_148 : decode cX5_selector 148 = .ok (.iaload, 1) := by decide +kernel
theorem dX5_selector_149 : decode cX5_selector 149 = .ok (.goto 4, 3) := by decide +kernel
theorem dX5_selector_152 : decode cX5_selector 152 = .ok (.iconst 0, 1) := by decide +kernel
theorem dX5_selector_153 : decode cX5_selector 153 = .ok (.iastore, 1) := by decide +kernel
theorem dX5_selector_154 : decode cX5_selector 154 = .ok (.aload_n 0, 1) := by decide +kernel
theorem dX5_selector_155 : decode cX5_selector 155 = .ok (.getfield 62, 3) := by decide +kernel
theorem dX5_selector_158 : decode cX5_selector 158 = .ok (.iload_n 3, 1) := by decide +kernel
theorem dX5_selector_159 : decode cX5_selector 159 = .ok (.dup2, 1) := by decide +kernel
theorem dX5_selector_160 : decode cX5_selector 160 = .ok (.iaload, 1) := by decide +kernel
theorem dX5_selector_161 : decode cX5_selector 161 = .ok (.aload_n 0, 1) := by decide +kernel
theorem dX5_selector_162 : decode cX5_selector 162 = .ok (.getfield 13, 3) := by decide +kernel
theorem dX5_selector_165 : decode cX5_selector 165 = .ok (.iload 6, 2) := by decide +kernel
theorem dX5_selector_167 : decode cX5_selector 167 = .ok (.iaload, 1) := by decide +kernel
theorem dX5_selector_168 : decode cX5_selector 168 = .ok (.invokestatic 161, 3) := by decide +kernel
theorem dX5_selector_171 : decode cX5_selector 171 = .ok (.ifCond .eq 7, 3) := by decide +kernel
theorem dX5_selector_174 : decode cX5_selector 174 = .ok (.iconst 1, 1) := by decide +kernel
theorem dX5_selector_175 : decode cX5_selector 175 = .ok (.goto 4, 3) := by decide +kernel
theorem dX5_selector_178 : decode cX5_selector 178 = .ok (.iconst 0, 1) := by decide +kernel
theorem dX5_selector_179 : decode cX5_selector 179 = .ok (.iadd, 1) := by decide +kernel
theorem dX5_selector_180 : decode cX5_selector 180 = .ok (.iastore, 1) := by decide +kernel
theorem dX5_selector_181 : decode cX5_selector 181 = .ok (.iinc 6 1, 3) := by decide +kernel
theorem dX5_selector_184 : decode cX5_selector 184 = .ok (.iload 6, 2) := by decide +kernel
theorem dX5_selector_186 : decode cX5_selector 186 = .ok (.iload_n 2, 1) := by decide +kernel
theorem dX5_selector_187 : decode cX5_selector 187 = .ok (.if_icmp .ge 67, 3) := by decide +kernel
theorem dX5_selector_190 : decode cX5_selector 190 = .ok (.aload_n 0, 1) := by decide +kernel
theorem dX5_selector_191 : decode cX5_selector 191 = .ok (.getfield 13, 3) := by decide +kernel
theorem dX5_selector_194 : decode cX5_selector 194 = .ok (.iload 6, 2) := by decide +kernel
theorem dX5_selector_196 : decode cX5_selector 196 = .ok (.iaload, 1) := by decide +kernel
theorem dX5_selector_197 : decode cX5_selector 197 = .ok (.invokestatic 179, 3) := by decide +kernel
theorem dX5_selector_200 : decode cX5_selector 200 = .ok (.ifCond .eq 54, 3) := by decide +kernel
theorem dX5_selector_203 : decode cX5_selector 203 = .ok (.aload_n 0, 1) := by decide +kernel
theorem dX5_selector_204 : decode cX5_selector 204 = .ok (.getfield 49, 3) := by decide +kernel
theorem dX5_selector_207 : decode cX5_selector 207 = .ok (.iconst 4, 1) := by decide +kernel
theorem dX5_selector_208 : decode cX5_selector 208 = .ok (.iload_n 3, 1) := by decide +kernel
theorem dX5_selector_209 : decode cX5_selector 209 = .ok (.imul, 1) := by decide +kernel
theorem dX5_selector_210 : decode cX5_selector 210 = .ok (.iload 4, 2) := by decide +kernel
theorem dX5_selector_212 : decode cX5_selector 212 = .ok (.iadd, 1) := by decide +kernel
theorem dX5_selector_213 : decode cX5_selector 213 = .ok (.aload_n 0, 1) := by decide +kernel
theorem dX5_selector_214 : decode cX5_selector 214 = .ok (.getfield 49, 3) := by decide +kernel
theorem dX5_selector_217 : decode cX5_selector 217 = .ok (.iconst 4, 1) := by decide +kernel
theorem dX5_selector_218 : decode cX5_selector 218 = .ok (.iload_n 3, 1) := by decide +kernel
theorem dX5_selector_219 : decode cX5_selector 219 = .ok (.imul, 1) := by decide +kernel
theorem dX5_selector_220 : decode cX5_selector 220 = .ok (.iload 4, 2) := by decide +kernel
theorem dX5_selector_222 : decode cX5_selector 222 = .ok (.iadd, 1) := by decide +kernel
theorem dX5_selector_223 : decode cX5_selector 223 = .ok (.iaload, 1) := by decide +kernel
theorem dX5_selector_224 : decode cX5_selector 224 = .ok (.iconst 1, 1) := by decide +kernel
theorem dX5_selector_225 : decode cX5_selector 225 = .ok (.aload_n 0, 1) := by decide +kernel
theorem dX5_selector_226 : decode cX5_selector 226 = .ok (.getfield 13, 3) := by decide +kernel
theorem dX5_selector_229 : decode cX5_selector 229 = .ok (.iload 6, 2) := by decide +kernel
theorem dX5_selector_231 : decode cX5_selector 231 = .ok (.iaload, 1) := by decide +kernel
theorem dX5_selector_232 : decode cX5_selector 232 = .ok (.bipush 65, 2) := by decide +kernel
theorem dX5_selector_234 : decode cX5_selector 234 = .ok (.isub, 1) := by decide +kernel
theorem dX5_selector_235 : decode cX5_selector 235 = .ok (.ishl, 1) := by decide +kernel
theorem dX5_selector_236 : decode cX5_selector 236 = .ok (.ior, 1) := by decide +kernel
theorem dX5_selector_237 : decode cX5_selector 237 = .ok (.iastore, 1) := by decide +kernel
theorem dX5_selector_238 : decode cX5_selector 238 = .ok (.aload_n 0, 1) := by decide +kernel
theorem dX5_selector_239 : decode cX5_selector 239 = .ok (.getfield 59, 3) := by decide +kernel
theorem dX5_selector_242 : decode cX5_selector 242 = .ok (.iload_n 3, 1) := by decide +kernel
theorem dX5_selector_243 : decode cX5_selector 243 = .ok (.dup2, 1) := by decide +kernel
theorem dX5_selector_244 : decode cX5_selector 244 = .ok (.iaload, 1) := by decide +kernel
theorem dX5_selector_245 : decode cX5_selector 245 = .ok (.iconst 1, 1) := by decide +kernel
theorem dX5_selector_246 : decode cX5_selector 246 = .ok (.iadd, 1) := by decide +kernel
theorem dX5_selector_247 : decode cX5_selector 247 = .ok (.iastore, 1) := by decide +kernel
theorem dX5_selector_248 : decode cX5_selector 248 = .ok (.iinc 6 1, 3) := by decide +kernel
theorem dX5_selector_251 : decode cX5_selector 251 = .ok (.goto (-67), 3) := by decide +kernel
theorem dX5_selector_254 : decode cX5_selector 254 = .ok (.iload 6, 2) := by decide +kernel
theorem dX5_selector_256 : decode cX5_selector 256 = .ok (.iload 7, 2) := by decide +kernel
theorem dX5_selector_258 : decode cX5_selector 258 = .ok (.if_icmp .ne 5, 3) := by decide +kernel
theorem dX5_selector_261 : decode cX5_selector 261 = .ok (.iconst 0, 1) := by decide +kernel
theorem dX5_selector_262 : decode cX5_selector 262 = .ok (.ireturn, 1) := by decide +kernel
theorem dX5_selector_263 : decode cX5_selector 263 = .ok (.iinc 4 1, 3) := by decide +kernel
theorem dX5_selector_266 : decode cX5_selector 266 = .ok (.aload_n 0, 1) := by decide +kernel
theorem dX5_selector_267 : decode cX5_selector 267 = .ok (.getfield 56, 3) := by decide +kernel
theorem dX5_selector_270 : decode cX5_selector 270 = .ok (.iload_n 3, 1) := by decide +kernel
theorem dX5_selector_271 : decode cX5_selector 271 = .ok (.iload 4, 2) := by decide +kernel
theorem dX5_selector_273 : decode cX5_selector 273 = .ok (.iastore, 1) := by decide +kernel
theorem dX5_selector_274 : decode cX5_selector 274 = .ok (.aload_n 0, 1) := by decide +kernel
theorem dX5_selector_275 : decode cX5_selector 275 = .ok (.iload 6, 2) := by decide +kernel
theorem dX5_selector_277 : decode cX5_selector 277 = .ok (.iload_n 2, 1) := by decide +kernel
theorem dX5_selector_278 : decode cX5_selector 278 = .ok (.invokevirtual 281, 3) := by decide +kernel
theorem dX5_selector_281 : decode cX5_selector 281 = .ok (.istore 8, 2) := by decide +kernel
theorem dX5_selector_283 : decode cX5_selector 283 = .ok (.iload 8, 2) := by decide +kernel
theorem dX5_selector_285 : decode cX5_selector 285 = .ok (.iload_n 2, 1) := by decide +kernel
