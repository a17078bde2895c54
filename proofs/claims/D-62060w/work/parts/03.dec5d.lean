set_option maxRecDepth 100000
theorem dX5_selector_286 : decode cX5_selector 286 = .ok (.if_icmp .ne 5, 3) := by decide +kernel
theorem dX5_selector_289 : decode cX5_selector 289 = .ok (.iconst 1, 1) := by decide +kernel
theorem dX5_selector_290 : decode cX5_selector 290 = .ok (.ireturn, 1) := by decide +kernel
theorem dX5_selector_291 : decode cX5_selector 291 = .ok (.aload_n 0, 1) := by decide +kernel
theorem dX5_selector_292 : decode cX5_selector 292 = .ok (.getfield 13, 3) := by decide +kernel
theorem dX5_selector_295 : decode cX5_selector 295 = .ok (.iload 8, 2) := by decide +kernel
theorem dX5_selector_297 : decode cX5_selector 297 = .ok (.iaload, 1) := by decide +kernel
theorem dX5_selector_298 : decode cX5_selector 298 = .ok (.bipush 62, 2) := by decide +kernel
theorem dX5_selector_300 : decode cX5_selector 300 = .ok (.if_icmp .ne 7, 3) := by decide +kernel
theorem dX5_selector_303 : decode cX5_selector 303 = .ok (.iconst 1, 1) := by decide +kernel
theorem dX5_selector_304 : decode cX5_selector 304 = .ok (.goto 4, 3) := by decide +kernel
theorem dX5_selector_307 : decode cX5_selector 307 = .ok (.iconst 0, 1) := by decide +kernel
theorem dX5_selector_308 : decode cX5_selector 308 = .ok (.istore 5, 2) := by decide +kernel
theorem dX5_selector_310 : decode cX5_selector 310 = .ok (.iload 5, 2) := by decide +kernel
theorem dX5_selector_312 : decode cX5_selector 312 = .ok (.ifCond .ne 12, 3) := by decide +kernel
theorem dX5_selector_315 : decode cX5_selector 315 = .ok (.iload 8, 2) := by decide +kernel
theorem dX5_selector_317 : decode cX5_selector 317 = .ok (.iload 6, 2) := by decide +kernel
theorem dX5_selector_319 : decode cX5_selector 319 = .ok (.if_icmp .ne 5, 3) := by decide +kernel
theorem dX5_selector_322 : decode cX5_selector 322 = .ok (.iconst 0, 1) := by decide +kernel
theorem dX5_selector_323 : decode cX5_selector 323 = .ok (.ireturn, 1) := by decide +kernel
theorem dX5_selector_324 : decode cX5_selector 324 = .ok (.iload 5, 2) := by decide +kernel
theorem dX5_selector_326 : decode cX5_selector 326 = .ok (.ifCond .eq 15, 3) := by decide +kernel
theorem dX5_selector_329 : decode cX5_selector 329 = .ok (.aload_n 0, 1) := by decide +kernel
theorem dX5_selector_330 : decode cX5_selector 330 = .ok (.iload 8, 2) := by decide +kernel
theorem dX5_selector_332 : decode cX5_selector 332 = .ok (.iconst 1, 1) := by decide +kernel
theorem dX5_selector_333 : decode cX5_selector 333 = .ok (.iadd, 1) := by decide +kernel
theorem dX5_selector_334 : decode cX5_selector 334 = .ok (.iload_n 2, 1) := by decide +kernel
theorem dX5_selector_335 : decode cX5_selector 335 = .ok (.invokevirtual 281, 3) := by decide +kernel
theorem dX5_selector_338 : decode cX5_selector 338 = .ok (.goto 5, 3) := by decide +kernel
theorem dX5_selector_341 : decode cX5_selector 341 = .ok (.iload 8, 2) := by decide +kernel
theorem dX5_selector_343 : decode cX5_selector 343 = .ok (.istore 6, 2) := by decide +kernel
theorem dX5_selector_345 : decode cX5_selector 345 = .ok (.goto (-312), 3) := by decide +kernel
theorem dX5_selector_348 : decode cX5_selector 348 = .ok (.iconst 0, 1) := by decide +kernel
theorem dX5_selector_349 : decode cX5_selector 349 = .ok (.ireturn, 1) := by decide +kernel
theorem dX5_blanks_0 : decode cX5_blanks 0 = .ok (.iload_n 1, 1) := by decide +kernel
theorem dX5_blanks_1 : decode cX5_blanks 1 = .ok (.istore_n 3, 1) := by decide +kernel
theorem dX5_blanks_2 : decode cX5_blanks 2 = .ok (.iload_n 3, 1) := by decide +kernel
theorem dX5_blanks_3 : decode cX5_blanks 3 = .ok (.iload_n 2, 1) := by decide +kernel
theorem dX5_blanks_4 : decode cX5_blanks 4 = .ok (.if_icmp .ge 20, 3) := by decide +kernel
theorem dX5_blanks_7 : decode cX5_blanks 7 = .ok (.aload_n 0, 1) := by decide +kernel
theorem dX5_blanks_8 : decode cX5_blanks 8 = .ok (.getfield 13, 3) := by decide +kernel
theorem dX5_blanks_11 : decode cX5_blanks 11 = .ok (.iload_n 3, 1) := by decide +kernel
theorem dX5_blanks_12 : decode cX5_blanks 12 = .ok (.iaload, 1) := by decide +kernel
theorem dX5_blanks_13 : decode cX5_blanks 13 = .ok (.bipush 32, 2) := by decide +kernel
theorem dX5_blanks_15 : decode cX5_blanks 15 = .ok (.if_icmp .ne 9, 3) := by decide +kernel
theorem dX5_blanks_18 : decode cX5_blanks 18 = .ok (.iinc 3 1, 3) := by decide +kernel
theorem dX5_blanks_21 : decode cX5_blanks 21 = .ok (.goto (-19), 3) := by decide +kernel
theorem dX5_blanks_24 : decode cX5_blanks 24 = .ok (.iload_n 3, 1) := by decide +kernel
theorem dX5_blanks_25 : decode cX5_blanks 25 = .ok (.ireturn, 1) := by decide +kernel
theorem dX5_value_0 : decode cX5_value 0 = .ok (.iload_n 2, 1) := by decide +kernel
theorem dX5_value_1 : decode cX5_value 1 = .ok (.invokestatic 290, 3) := by decide +kernel
theorem dX5_value_4 : decode cX5_value 4 = .ok (.istore_n 3, 1) := by decide +kernel
theorem dX5_value_5 : decode cX5_value 5 = .ok (.aload_n 0, 1) := by decide +kernel
theorem dX5_value_6 : decode cX5_value 6 = .ok (.iload_n 1, 1) := by decide +kernel
theorem dX5_value_7 : decode cX5_value 7 = .ok (.invokevirtual 260, 3) := by decide +kernel
theorem dX5_value_10 : decode cX5_value 10 = .ok (.ifCond .ne 22, 3) := by decide +kernel
theorem dX5_value_13 : decode cX5_value 13 = .ok (.iload_n 3, 1) := by decide +kernel
theorem dX5_value_14 : decode cX5_value 14 = .ok (.ifCond .lt 18, 3) := by decide +kernel
theorem dX5_value_17 : decode cX5_value 17 = .ok (.aload_n 0, 1) := by decide +kernel
theorem dX5_value_18 : decode cX5_value 18 = .ok (.getfield 19, 3) := by decide +kernel
theorem dX5_value_21 : decode cX5_value 21 = .ok (.aload_n 0, 1) := by decide +kernel
theorem dX5_value_22 : decode cX5_value 22 = .ok (.getfield 16, 3) := by decide +kernel
theorem dX5_value_25 : decode cX5_value 25 = .ok (.iload_n 1, 1) := by decide +kernel
theorem dX5_value_26 : decode cX5_value 26 = .ok (.iaload, 1) := by decide +kernel
theorem dX5_value_27 : decode cX5_value 27 = .ok (.iaload, 1) := by decide +kernel
theorem dX5_value_28 : decode cX5_value 28 = .ok (.iconst 2, 1) := by decide +kernel
theorem dX5_value_29 : decode cX5_value 29 = .ok (.if_icmp .ge 5, 3) := by decide +kernel
theorem dX5_value_32 : decode cX5_value 32 = .ok (.iconst (-1), 1) := by decide +kernel
theorem dX5_value_33 : decode cX5_value 33 = .ok (.ireturn, 1) := by decide +kernel
theorem dX5_value_34 : decode cX5_value 34 = .ok (.aload_n 0, 1) := by decide +kernel
theorem dX5_value_35 : decode cX5_value 35 = .ok (.invokevirtual 307, 3) := by decide +kernel
theorem dX5_value_38 : decode cX5_value 38 = .ok (.aload_n 0, 1) := by decide +kernel
theorem dX5_value_39 : decode cX5_value 39 = .ok (.getfield 83, 3) := by decide +kernel
theorem dX5_value_42 : decode cX5_value 42 = .ok (.bipush 40, 2) := by decide +kernel
theorem dX5_value_44 : decode cX5_value 44 = .ok (.iload_n 3, 1) := by decide +kernel
theorem dX5_value_45 : decode cX5_value 45 = .ok (.imul, 1) := by decide +kernel
theorem dX5_value_46 : decode cX5_value 46 = .ok (.iload_n 1, 1) := by decide +kernel
theorem dX5_value_47 : decode cX5_value 47 = .ok (.iadd, 1) := by decide +kernel
theorem dX5_value_48 : decode cX5_value 48 = .ok (.iaload, 1) := by decide +kernel
theorem dX5_value_49 : decode cX5_value 49 = .ok (.ireturn, 1) := by decide +kernel
theorem dX5_propertyIndex_0 : decode cX5_propertyIndex 0 = .ok (.iload_n 0, 1) := by decide +kernel
theorem dX5_propertyIndex_1 : decode cX5_propertyIndex 1 = .ok (.bipush 99, 2) := by decide +kernel
theorem dX5_propertyIndex_3 : decode cX5_propertyIndex 3 = .ok (.if_icmp .ne 7, 3) := by decide +kernel
theorem dX5_propertyIndex_6 : decode cX5_propertyIndex 6 = .ok (.iconst 0, 1) := by decide +kernel
theorem dX5_propertyIndex_7 : decode cX5_propertyIndex 7 = .ok (.goto 65, 3) := by decide +kernel
theorem dX5_propertyIndex_10 : decode cX5_propertyIndex 10 = .ok (.iload_n 0, 1) := by decide +kernel
theorem dX5_propertyIndex_11 : decode cX5_propertyIndex 11 = .ok (.bipush 98, 2) := by decide +kernel
theorem dX5_propertyIndex_13 : decode cX5_propertyIndex 13 = .ok (.if_icmp .ne 7, 3) := by decide +kernel
theorem dX5_propertyIndex_16 : decode cX5_propertyIndex 16 = .ok (.iconst 1, 1) := by decide +kernel
theorem dX5_propertyIndex_17 : decode cX5_propertyIndex 17 = .ok (.goto 55, 3) := by decide +kernel
theorem dX5_propertyIndex_20 : decode cX5_propertyIndex 20 = .ok (.iload_n 0, 1) := by decide +kernel
theorem dX5_propertyIndex_21 : decode cX5_propertyIndex 21 = .ok (.bipush 115, 2) := by decide +kernel
theorem dX5_propertyIndex_23 : decode cX5_propertyIndex 23 = .ok (.if_icmp .ne 7, 3) := by decide +kernel
theorem dX5_propertyIndex_26 : decode cX5_propertyIndex 26 = .ok (.iconst 2, 1) := by decide +kernel
theorem dX5_propertyIndex_27 : decode cX5_propertyIndex 27 = .ok (.goto 45, 3) := by decide +kernel
theorem dX5_propertyIndex_30 : decode cX5_propertyIndex 30 = .ok (.iload_n 0, 1) := by decide +kernel
theorem dX5_propertyIndex_31 : decode cX5_propertyIndex 31 = .ok (.bipush 100, 2) := by decide +kernel
theorem dX5_propertyIndex_33 : decode cX5_propertyIndex 33 = .ok (.if_icmp .ne 7, 3) := by decide +kernel
theorem dX5_propertyIndex_36 : decode cX5_propertyIndex 36 = .ok (.iconst 3, 1) := by decide +kernel
theorem dX5_propertyIndex_37 : decode cX5_propertyIndex 37 = .ok (.goto 35, 3) := by decide +kernel
theorem dX5_propertyIndex_40 : decode cX5_propertyIndex 40 = .ok (.iload_n 0, 1) := by decide +kernel
theorem dX5_propertyIndex_41 : decode cX5_propertyIndex 41 = .ok (.bipush 109, 2) := by decide +kernel
theorem dX5_propertyIndex_43 : decode cX5_propertyIndex 43 = .ok (.if_icmp .ne 7, 3) := by decide +kernel
theorem dX5_propertyIndex_46 : decode cX5_propertyIndex 46 = .ok (.iconst 4, 1) := by decide +kernel
theorem dX5_propertyIndex_47 : decode cX5_propertyIndex 47 = .ok (.goto 25, 3) := by decide +kernel
theorem dX5_propertyIndex_50 : decode cX5_propertyIndex 50 = .ok (.iload_n 0, 1) := by decide +kernel
theorem dX5_propertyIndex_51 : decode cX5_propertyIndex 51 = .ok (.bipush 112, 2) := by decide +kernel
theorem dX5_propertyIndex_53 : decode cX5_propertyIndex 53 = .ok (.if_icmp .ne 7, 3) := by decide +kernel
theorem dX5_propertyIndex_56 : decode cX5_propertyIndex 56 = .ok (.iconst 5, 1) := by decide +kernel
theorem dX5_propertyIndex_57 : decode cX5_propertyIndex 57 = .ok (.goto 15, 3) := by decide +kernel
theorem dX5_propertyIndex_60 : decode cX5_propertyIndex 60 = .ok (.iload_n 0, 1) := by decide +kernel
theorem dX5_propertyIndex_61 : decode cX5_propertyIndex 61 = .ok (.bipush 119, 2) := by decide +kernel
theorem dX5_propertyIndex_63 : decode cX5_propertyIndex 63 = .ok (.if_icmp .ne 8, 3) := by decide +kernel
theorem dX5_propertyIndex_66 : decode cX5_propertyIndex 66 = .ok (.bipush 6, 2) := by decide +kernel
theorem dX5_propertyIndex_68 : decode cX5_propertyIndex 68 = .ok (.goto 4, 3) := by decide +kernel
theorem dX5_propertyIndex_71 : decode cX5_propertyIndex 71 = .ok (.iconst (-1), 1) := by decide +kernel
theorem dX5_propertyIndex_72 : decode cX5_propertyIndex 72 = .ok (.ireturn, 1) := by decide +kernel
theorem dX5_style_0 : decode cX5_style 0 = .ok (.aload_n 0, 1) := by decide +kernel
theorem dX5_style_1 : decode cX5_style 1 = .ok (.invokevirtual 269, 3) := by decide +kernel
theorem dX5_style_4 : decode cX5_style 4 = .ok (.iconst 0, 1) := by decide +kernel
theorem dX5_style_5 : decode cX5_style 5 = .ok (.istore_n 1, 1) := by decide +kernel
theorem dX5_style_6 : decode cX5_style 6 = .ok (.iload_n 1, 1) := by decide +kernel
theorem dX5_style_7 : decode cX5_style 7 = .ok (.aload_n 0, 1) := by decide +kernel
theorem dX5_style_8 : decode cX5_style 8 = .ok (.getfield 142, 3) := by decide +kernel
theorem dX5_style_11 : decode cX5_style 11 = .ok (.if_icmp .ge 20, 3) := by decide +kernel
theorem dX5_style_14 : decode cX5_style 14 = .ok (.aload_n 0, 1) := by decide +kernel
theorem dX5_style_15 : decode cX5_style 15 = .ok (.getfield 74, 3) := by decide +kernel
theorem dX5_style_18 : decode cX5_style 18 = .ok (.iload_n 1, 1) := by decide +kernel
theorem dX5_style_19 : decode cX5_style 19 = .ok (.aload_n 0, 1) := by decide +kernel
theorem dX5_style_20 : decode cX5_style 20 = .ok (.iload_n 1, 1) := by decide +kernel
theorem dX5_style_21 : decode cX5_style 21 = .ok (.invokevirtual 263, 3) := by decide +kernel
theorem dX5_style_24 : decode cX5_style 24 = .ok (.iastore, 1) := by decide +kernel
theorem dX5_style_25 : decode cX5_style 25 = .ok (.iinc 1 1, 3) := by decide +kernel
theorem dX5_style_28 : decode cX5_style 28 = .ok (.goto (-22), 3) := by decide +kernel
theorem dX5_style_31 : decode cX5_style 31 = .ok (.iconst 0, 1) := by decide +kernel
theorem dX5_style_32 : decode cX5_style 32 = .ok (.istore_n 1, 1) := by decide +kernel
theorem dX5_style_33 : decode cX5_style 33 = .ok (.iload_n 1, 1) := by decide +kernel
theorem dX5_style_34 : decode cX5_style 34 = .ok (.sipush 280, 3) := by decide +kernel
theorem dX5_style_37 : decode cX5_style 37 = .ok (.if_icmp .ge 16, 3) := by decide +kernel
theorem dX5_style_40 : decode cX5_style 40 = .ok (.aload_n 0, 1) := by decide +kernel
theorem dX5_style_41 : decode cX5_style 41 = .ok (.getfield 80, 3) := by decide +kernel
theorem dX5_style_44 : decode cX5_style 44 = .ok (.iload_n 1, 1) := by decide +kernel
theorem dX5_style_45 : decode cX5_style 45 = .ok (.iconst (-1), 1) := by decide +kernel
theorem dX5_style_46 : decode cX5_style 46 = .ok (.iastore, 1) := by decide +kernel
theorem dX5_style_47 : decode cX5_style 47 = .ok (.iinc 1 1, 3) := by decide +kernel
theorem dX5_style_50 : decode cX5_style 50 = .ok (.goto (-17), 3) := by decide +kernel
theorem dX5_style_53 : decode cX5_style 53 = .ok (.iconst 0, 1) := by decide +kernel
theorem dX5_style_54 : decode cX5_style 54 = .ok (.istore_n 1, 1) := by decide +kernel
theorem dX5_style_55 : decode cX5_style 55 = .ok (.iload_n 1, 1) := by decide +kernel
theorem dX5_style_56 : decode cX5_style 56 = .ok (.aload_n 0, 1) := by decide +kernel
theorem dX5_style_57 : decode cX5_style 57 = .ok (.getfield 272, 3) := by decide +kernel
theorem dX5_style_60 : decode cX5_style 60 = .ok (.if_icmp .ge 102, 3) := by decide +kernel
theorem dX5_style_63 : decode cX5_style 63 = .ok (.aload_n 0, 1) := by decide +kernel
theorem dX5_style_64 : decode cX5_style 64 = .ok (.iload_n 1, 1) := by decide +kernel
theorem dX5_style_65 : decode cX5_style 65 = .ok (.invokevirtual 297, 3) := by decide +kernel
theorem dX5_style_68 : decode cX5_style 68 = .ok (.aload_n 0, 1) := by decide +kernel
theorem dX5_style_69 : decode cX5_style 69 = .ok (.iconst 0, 1) := by decide +kernel
theorem dX5_style_70 : decode cX5_style 70 = .ok (.putfield 287, 3) := by decide +kernel
theorem dX5_style_73 : decode cX5_style 73 = .ok (.aload_n 0, 1) := by decide +kernel
theorem dX5_style_74 : decode cX5_style 74 = .ok (.getfield 65, 3) := by decide +kernel
theorem dX5_style_77 : decode cX5_style 77 = .ok (.iload_n 1, 1) := by decide +kernel
theorem dX5_style_78 : decode cX5_style 78 = .ok (.iaload, 1) := by decide +kernel
theorem dX5_style_79 : decode cX5_style 79 = .ok (.istore_n 2, 1) := by decide +kernel
theorem dX5_style_80 : decode cX5_style 80 = .ok (.iload_n 2, 1) := by decide +kernel
theorem dX5_style_81 : decode cX5_style 81 = .ok (.aload_n 0, 1) := by decide +kernel
theorem dX5_style_82 : decode cX5_style 82 = .ok (.getfield 68, 3) := by decide +kernel
theorem dX5_style_85 : decode cX5_style 85 = .ok (.iload_n 1, 1) := by decide +kernel
theorem dX5_style_86 : decode cX5_style 86 = .ok (.iaload, 1) := by decide +kernel
theorem dX5_style_87 : decode cX5_style 87 = .ok (.if_icmp .ge 64, 3) := by decide +kernel
theorem dX5_style_90 : decode cX5_style 90 = .ok (.aload_n 0, 1) := by decide +kernel
theorem dX5_style_91 : decode cX5_style 91 = .ok (.getfield 13, 3) := by decide +kernel
theorem dX5_style_94 : decode cX5_style 94 = .ok (.iload_n 2, 1) := by decide +kernel
theorem dX5_style_95 : decode cX5_style 95 = .ok (.iaload, 1) := by decide +kernel
theorem dX5_style_96 : decode cX5_style 96 = .ok (.bipush 59, 2) := by decide +kernel
theorem dX5_style_98 : decode cX5_style 98 = .ok (.if_icmp .ne 11, 3) := by decide +kernel
theorem dX5_style_101 : decode cX5_style 101 = .ok (.aload_n 0, 1) := by decide +kernel
theorem dX5_style_102 : decode cX5_style 102 = .ok (.iload_n 1, 1) := by decide +kernel
theorem dX5_style_103 : decode cX5_style 103 = .ok (.invokevirtual 300, 3) := by decide +kernel
theorem dX5_style_106 : decode cX5_style 106 = .ok (.goto 39, 3) := by decide +kernel
theorem dX5_style_109 : decode cX5_style 109 = .ok (.aload_n 0, 1) := by decide +kernel
theorem dX5_style_110 : decode cX5_style 110 = .ok (.getfield 13, 3) := by decide +kernel
theorem dX5_style_113 : decode cX5_style 113 = .ok (.iload_n 2, 1) := by decide +kernel
theorem dX5_style_114 : decode cX5_style 114 = .ok (.iaload, 1) := by decide +kernel
theorem dX5_style_115 : decode cX5_style 115 = .ok (.bipush 32, 2) := by decide +kernel
theorem dX5_style_117 : decode cX5_style 117 = .ok (.if_icmp .eq 28, 3) := by decide +kernel
theorem dX5_style_120 : decode cX5_style 120 = .ok (.aload_n 0, 1) := by decide +kernel
theorem dX5_style_121 : decode cX5_style 121 = .ok (.getfield 71, 3) := by decide +kernel
theorem dX5_style_124 : decode cX5_style 124 = .ok (.aload_n 0, 1) := by decide +kernel
theorem dX5_style_125 : decode cX5_style 125 = .ok (.getfield 287, 3) := by decide +kernel
theorem dX5_style_128 : decode cX5_style 128 = .ok (.aload_n 0, 1) := by decide +kernel
theorem dX5_style_129 : decode cX5_style 129 = .ok (.getfield 13, 3) := by decide +kernel
theorem dX5_style_132 : decode cX5_style 132 = .ok (.iload_n 2, 1) := by decide +kernel
theorem dX5_style_133 : decode cX5_style 133 = .ok (.iaload, 1) := by decide +kernel
theorem dX5_style_134 : decode cX5_style 134 = .ok (.iastore, 1) := by decide +kernel
theorem dX5_style_135 : decode cX5_style 135 = .ok (.aload_n 0, 1) := by decide +kernel
theorem dX5_style_136 : decode cX5_style 136 = .ok (.dup, 1) := by decide +kernel
theorem dX5_style_137 : decode cX5_style 137 = .ok (.getfield 287, 3) := by decide +kernel
theorem dX5_style_140 : decode cX5_style 140 = .ok (.iconst 1, 1) := by decide +kernel
theorem dX5_style_141 : decode cX5_style 141 = .ok (.iadd, 1) := by decide +kernel
theorem dX5_style_142 : decode cX5_style 142 = .ok (.putfield 287, 3) := by decide +kernel
theorem dX5_style_145 : decode cX5_style 145 = .ok (.iinc 2 1, 3) := by decide +kernel
theorem dX5_style_148 : decode cX5_style 148 = .ok (.goto (-68), 3) := by decide +kernel
theorem dX5_style_151 : decode cX5_style 151 = .ok (.aload_n 0, 1) := by decide +kernel
theorem dX5_style_152 : decode cX5_style 152 = .ok (.iload_n 1, 1) := by decide +kernel
theorem dX5_style_153 : decode cX5_style 153 = .ok (.invokevirtual 300, 3) := by decide +kernel
theorem dX5_style_156 : decode cX5_style 156 = .ok (.iinc 1 1, 3) := by decide +kernel
theorem dX5_style_159 : decode cX5_style 159 = .ok (.goto (-104), 3) := by decide +kernel
theorem dX5_style_162 : decode cX5_style 162 = .ok (.iconst 0, 1) := by decide +kernel
theorem dX5_style_163 : decode cX5_style 163 = .ok (.istore_n 1, 1) := by decide +kernel
theorem dX5_style_164 : decode cX5_style 164 = .ok (.iload_n 1, 1) := by decide +kernel
theorem dX5_style_165 : decode cX5_style 165 = .ok (.aload_n 0, 1) := by decide +kernel
theorem dX5_style_166 : decode cX5_style 166 = .ok (.getfield 142, 3) := by decide +kernel
theorem dX5_style_169 : decode cX5_style 169 = .ok (.if_icmp .ge 97, 3) := by decide +kernel
theorem dX5_style_172 : decode cX5_style 172 = .ok (.iconst 0, 1) := by decide +kernel
theorem dX5_style_173 : decode cX5_style 173 = .ok (.istore_n 2, 1) := by decide +kernel
theorem dX5_style_174 : decode cX5_style 174 = .ok (.iload_n 2, 1) := by decide +kernel
theorem dX5_style_175 : decode cX5_style 175 = .ok (.bipush 7, 2) := by decide +kernel
theorem dX5_style_177 : decode cX5_style 177 = .ok (.if_icmp .ge 40, 3) := by decide +kernel
theorem dX5_style_180 : decode cX5_style 180 = .ok (.aload_n 0, 1) := by decide +kernel
theorem dX5_style_181 : decode cX5_style 181 = .ok (.getfield 80, 3) := by decide +kernel
theorem dX5_style_184 : decode cX5_style 184 = .ok (.bipush 40, 2) := by decide +kernel
theorem dX5_style_186 : decode cX5_style 186 = .ok (.iload_n 2, 1) := by decide +kernel
theorem dX5_style_187 : decode cX5_style 187 = .ok (.imul, 1) := by decide +kernel
theorem dX5_style_188 : decode cX5_style 188 = .ok (.iload_n 1, 1) := by decide +kernel
theorem dX5_style_189 : decode cX5_style 189 = .ok (.iadd, 1) := by decide +kernel
theorem dX5_style_190 : decode cX5_style 190 = .ok (.iaload, 1) := by decide +kernel
theorem dX5_style_191 : decode cX5_style 191 = .ok (.ifCond .ge 20, 3) := by decide +kernel
theorem dX5_style_194 : decode cX5_style 194 = .ok (.aload_n 0, 1) := by decide +kernel
theorem dX5_style_195 : decode cX5_style 195 = .ok (.getfield 83, 3) := by decide +kernel
theorem dX5_style_198 : decode cX5_style 198 = .ok (.bipush 40, 2) := by decide +kernel
theorem dX5_style_200 : decode cX5_style 200 = .ok (.iload_n 2, 1) := by decide +kernel
theorem dX5_style_201 : decode cX5_style 201 = .ok (.imul, 1) := by decide +kernel
theorem dX5_style_202 : decode cX5_style 202 = .ok (.iload_n 1, 1) := by decide +kernel
theorem dX5_style_203 : decode cX5_style 203 = .ok (.iadd, 1) := by decide +kernel
theorem dX5_style_204 : decode cX5_style 204 = .ok (.aload_n 0, 1) := by decide +kernel
theorem dX5_style_205 : decode cX5_style 205 = .ok (.iload_n 2, 1) := by decide +kernel
theorem dX5_style_206 : decode cX5_style 206 = .ok (.iload_n 1, 1) := by decide +kernel
theorem dX5_style_207 : decode cX5_style 207 = .ok (.invokevirtual 303, 3) := by decide +kernel
theorem dX5_style_210 : decode cX5_style 210 = .ok (.iastore, 1) := by decide +kernel
theorem dX5_style_211 : decode cX5_style 211 = .ok (.iinc 2 1, 3) := by decide +kernel
theorem dX5_style_214 : decode cX5_style 214 = .ok (.goto (-40), 3) := by decide +kernel
theorem dX5_style_217 : decode cX5_style 217 = .ok (.aload_n 0, 1) := by decide +kernel
theorem dX5_style_218 : decode cX5_style 218 = .ok (.aload_n 0, 1) := by decide +kernel
theorem dX5_style_219 : decode cX5_style 219 = .ok (.getfield 16, 3) := by decide +kernel
theorem dX5_style_222 : decode cX5_style 222 = .ok (.iload_n 1, 1) := by decide +kernel
theorem dX5_style_223 : decode cX5_style 223 = .ok (.iaload, 1) := by decide +kernel
theorem dX5_style_224 : decode cX5_style 224 = .ok (.ldc_w 306, 3) := by decide +kernel
theorem dX5_style_227 : decode cX5_style 227 = .ok (.invokevirtual 192, 3) := by decide +kernel
theorem dX5_style_230 : decode cX5_style 230 = .ok (.istore_n 2, 1) := by decide +kernel
theorem dX5_style_231 : decode cX5_style 231 = .ok (.iload_n 2, 1) := by decide +kernel
theorem dX5_style_232 : decode cX5_style 232 = .ok (.ifCond .eq 28, 3) := by decide +kernel
theorem dX5_style_235 : decode cX5_style 235 = .ok (.aload_n 0, 1) := by decide +kernel
theorem dX5_style_236 : decode cX5_style 236 = .ok (.getfield 83, 3) := by decide +kernel
theorem dX5_style_239 : decode cX5_style 239 = .ok (.bipush 120, 2) := by decide +kernel
theorem dX5_style_241 : decode cX5_style 241 = .ok (.iload_n 1, 1) := by decide +kernel
theorem dX5_style_242 : decode cX5_style 242 = .ok (.iadd, 1) := by decide +kernel
theorem dX5_style_243 : decode cX5_style 243 = .ok (.iaload, 1) := by decide +kernel
theorem dX5_style_244 : decode cX5_style 244 = .ok (.bipush 105, 2) := by decide +kernel
theorem dX5_style_246 : decode cX5_style 246 = .ok (.if_icmp .ne 14, 3) := by decide +kernel
theorem dX5_style_249 : decode cX5_style 249 = .ok (.aload_n 0, 1) := by decide +kernel
theorem dX5_style_250 : decode cX5_style 250 = .ok (.getfield 83, 3) := by decide +kernel
theorem dX5_style_253 : decode cX5_style 253 = .ok (.bipush 120, 2) := by decide +kernel
theorem dX5_style_255 : decode cX5_style 255 = .ok (.iload_n 1, 1) := by decide +kernel
theorem dX5_style_256 : decode cX5_style 256 = .ok (.iadd, 1) := by decide +kernel
theorem dX5_style_257 : decode cX5_style 257 = .ok (.bipush 98, 2) := by decide +kernel
theorem dX5_style_259 : decode cX5_style 259 = .ok (.iastore, 1) := by decide +kernel
theorem dX5_style_260 : decode cX5_style 260 = .ok (.iinc 1 1, 3) := by decide +kernel
theorem dX5_style_263 : decode cX5_style 263 = .ok (.goto (-99), 3) := by decide +kernel
theorem dX5_style_266 : decode cX5_style 266 = .ok (.return_, 1) := by decide +kernel
theorem dX5_match_0 : decode cX5_match 0 = .ok (.iconst 1, 1) := by decide +kernel
theorem dX5_match_1 : decode cX5_match 1 = .ok (.istore_n 2, 1) := by decide +kernel
theorem dX5_match_2 : decode cX5_match 2 = .ok (.iload_n 2, 1) := by decide +kernel
theorem dX5_match_3 : decode cX5_match 3 = .ok (.aload_n 0, 1) := by decide +kernel
theorem dX5_match_4 : decode cX5_match 4 = .ok (.getfield 56, 3) := by decide +kernel
theorem dX5_match_7 : decode cX5_match 7 = .ok (.iload_n 1, 1) := by decide +kernel
theorem dX5_match_8 : decode cX5_match 8 = .ok (.iaload, 1) := by decide +kernel
theorem dX5_match_9 : decode cX5_match 9 = .ok (.if_icmp .gt 236, 3) := by decide +kernel
theorem dX5_match_12 : decode cX5_match 12 = .ok (.iconst 4, 1) := by decide +kernel
theorem dX5_match_13 : decode cX5_match 13 = .ok (.iload_n 1, 1) := by decide +kernel
theorem dX5_match_14 : decode cX5_match 14 = .ok (.imul, 1) := by decide +kernel
theorem dX5_match_15 : decode cX5_match 15 = .ok (.iload_n 2, 1) := by decide +kernel
theorem dX5_match_16 : decode cX5_match 16 = .ok (.iadd, 1) := by decide +kernel
theorem dX5_match_17 : decode cX5_match 17 = .ok (.iconst 1, 1) := by decide +kernel
theorem dX5_match_18 : decode cX5_match 18 = .ok (.isub, 1) := by decide +kernel
theorem dX5_match_19 : decode cX5_match 19 = .ok (.istore_n 3, 1) := by decide +kernel
theorem dX5_match_20 : decode cX5_match 20 = .ok (.iconst 0, 1) := by decide +kernel
theorem dX5_match_21 : decode cX5_match 21 = .ok (.istore 4, 2) := by decide +kernel
theorem dX5_match_23 : decode cX5_match 23 = .ok (.iload 4, 2) := by decide +kernel
theorem dX5_match_25 : decode cX5_match 25 = .ok (.aload_n 0, 1) := by decide +kernel
theorem dX5_match_26 : decode cX5_match 26 = .ok (.getfield 142, 3) := by decide +kernel
theorem dX5_match_29 : decode cX5_match 29 = .ok (.if_icmp .ge 210, 3) := by decide +kernel
theorem dX5_match_32 : decode cX5_match 32 = .ok (.aload_n 0, 1) := by decide +kernel
theorem dX5_match_33 : decode cX5_match 33 = .ok (.getfield 16, 3) := by decide +kernel
theorem dX5_match_36 : decode cX5_match 36 = .ok (.iload 4, 2) := by decide +kernel
theorem dX5_match_38 : decode cX5_match 38 = .ok (.iaload, 1) := by decide +kernel
theorem dX5_match_39 : decode cX5_match 39 = .ok (.istore 5, 2) := by decide +kernel
theorem dX5_match_41 : decode cX5_match 41 = .ok (.aload_n 0, 1) := by decide +kernel
theorem dX5_match_42 : decode cX5_match 42 = .ok (.getfield 19, 3) := by decide +kernel
theorem dX5_match_45 : decode cX5_match 45 = .ok (.iload 5, 2) := by decide +kernel
theorem dX5_match_47 : decode cX5_match 47 = .ok (.iaload, 1) := by decide +kernel
theorem dX5_match_48 : decode cX5_match 48 = .ok (.iconst 1, 1) := by decide +kernel
theorem dX5_match_49 : decode cX5_match 49 = .ok (.if_icmp .le 55, 3) := by decide +kernel
theorem dX5_match_52 : decode cX5_match 52 = .ok (.aload_n 0, 1) := by decide +kernel
theorem dX5_match_53 : decode cX5_match 53 = .ok (.getfield 46, 3) := by decide +kernel
theorem dX5_match_56 : decode cX5_match 56 = .ok (.iload_n 3, 1) := by decide +kernel
theorem dX5_match_57 : decode cX5_match 57 = .ok (.iaload, 1) := by decide +kernel
theorem dX5_match_58 : decode cX5_match 58 = .ok (.ifCond .eq 19, 3) := by decide +kernel
theorem dX5_match_61 : decode cX5_match 61 = .ok (.aload_n 0, 1) := by decide +kernel
theorem dX5_match_62 : decode cX5_match 62 = .ok (.getfield 46, 3) := by decide +kernel
theorem dX5_match_65 : decode cX5_match 65 = .ok (.iload_n 3, 1) := by decide +kernel
theorem dX5_match_66 : decode cX5_match 66 = .ok (.iaload, 1) := by decide +kernel
theorem dX5_match_67 : decode cX5_match 67 = .ok (.aload_n 0, 1) := by decide +kernel
theorem dX5_match_68 : decode cX5_match 68 = .ok (.getfield 19, 3) := by decide +kernel
theorem dX5_match_71 : decode cX5_match 71 = .ok (.iload 5, 2) := by decide +kernel
theorem dX5_match_73 : decode cX5_match 73 = .ok (.iaload, 1) := by decide +kernel
theorem dX5_match_74 : decode cX5_match 74 = .ok (.if_icmp .ne 30, 3) := by decide +kernel
theorem dX5_match_77 : decode cX5_match 77 = .ok (.aload_n 0, 1) := by decide +kernel
theorem dX5_match_78 : decode cX5_match 78 = .ok (.getfield 22, 3) := by decide +kernel
theorem dX5_match_81 : decode cX5_match 81 = .ok (.iload 5, 2) := by decide +kernel
theorem dX5_match_83 : decode cX5_match 83 = .ok (.iaload, 1) := by decide +kernel
theorem dX5_match_84 : decode cX5_match 84 = .ok (.aload_n 0, 1) := by decide +kernel
theorem dX5_match_85 : decode cX5_match 85 = .ok (.getfield 49, 3) := by decide +kernel
theorem dX5_match_88 : decode cX5_match 88 = .ok (.iload_n 3, 1) := by decide +kernel
theorem dX5_match_89 : decode cX5_match 89 = .ok (.iaload, 1) := by decide +kernel
theorem dX5_match_90 : decode cX5_match 90 = .ok (.iand, 1) := by decide +kernel
theorem dX5_match_91 : decode cX5_match 91 = .ok (.aload_n 0, 1) := by decide +kernel
theorem dX5_match_92 : decode cX5_match 92 = .ok (.getfield 49, 3) := by decide +kernel
theorem dX5_match_95 : decode cX5_match 95 = .ok (.iload_n 3, 1) := by decide +kernel
theorem dX5_match_96 : decode cX5_match 96 = .ok (.iaload, 1) := by decide +kernel
theorem dX5_match_97 : decode cX5_match 97 = .ok (.if_icmp .ne 7, 3) := by decide +kernel
theorem dX5_match_100 : decode cX5_match 100 = .ok (.iconst 1, 1) := by decide +kernel
theorem dX5_match_101 : decode cX5_match 101 = .ok (.goto 4, 3) := by decide +kernel
theorem dX5_match_104 : decode cX5_match 104 = .ok (.iconst 0, 1) := by decide +kernel
theorem dX5_match_105 : decode cX5_match 105 = .ok (.istore 6, 2) := by decide +kernel
theorem dX5_match_107 : decode cX5_match 107 = .ok (.iload_n 2, 1) := by decide +kernel
theorem dX5_match_108 : decode cX5_match 108 = .ok (.iconst 1, 1) := by decide +kernel
theorem dX5_match_109 : decode cX5_match 109 = .ok (.if_icmp .ne 7, 3) := by decide +kernel
theorem dX5_match_112 : decode cX5_match 112 = .ok (.iconst 1, 1) := by decide +kernel
theorem dX5_match_113 : decode cX5_match 113 = .ok (.goto 4, 3) := by decide +kernel
theorem dX5_match_116 : decode cX5_match 116 = .ok (.iconst 0, 1) := by decide +kernel
theorem dX5_match_117 : decode cX5_match 117 = .ok (.istore 7, 2) := by decide +kernel
theorem dX5_match_119 : decode cX5_match 119 = .ok (.aload_n 0, 1) := by decide +kernel
theorem dX5_match_120 : decode cX5_match 120 = .ok (.getfield 74, 3) := by decide +kernel
theorem dX5_match_123 : decode cX5_match 123 = .ok (.iload 4, 2) := by decide +kernel
theorem dX5_match_125 : decode cX5_match 125 = .ok (.iaload, 1) := by decide +kernel
theorem dX5_match_126 : decode cX5_match 126 = .ok (.istore 8, 2) := by decide +kernel
theorem dX5_match_128 : decode cX5_match 128 = .ok (.iconst 0, 1) := by decide +kernel
theorem dX5_match_129 : decode cX5_match 129 = .ok (.istore 9, 2) := by decide +kernel
theorem dX5_match_131 : decode cX5_match 131 = .ok (.iload 9, 2) := by decide +kernel
theorem dX5_match_133 : decode cX5_match 133 = .ok (.bipush 40, 2) := by decide +kernel
theorem dX5_match_135 : decode cX5_match 135 = .ok (.if_icmp .ge 71, 3) := by decide +kernel
theorem dX5_match_138 : decode cX5_match 138 = .ok (.iload 8, 2) := by decide +kernel
theorem dX5_match_140 : decode cX5_match 140 = .ok (.ifCond .lt 66, 3) := by decide +kernel
theorem dX5_match_143 : decode cX5_match 143 = .ok (.iload_n 2, 1) := by decide +kernel
theorem dX5_match_144 : decode cX5_match 144 = .ok (.iconst 1, 1) := by decide +kernel
theorem dX5_match_145 : decode cX5_match 145 = .ok (.if_icmp .le 61, 3) := by decide +kernel
theorem dX5_match_148 : decode cX5_match 148 = .ok (.iload 7, 2) := by decide +kernel
theorem dX5_match_150 : decode cX5_match 150 = .ok (.ifCond .ne 34, 3) := by decide +kernel
theorem dX5_match_153 : decode cX5_match 153 = .ok (.aload_n 0, 1) := by decide +kernel
theorem dX5_match_154 : decode cX5_match 154 = .ok (.getfield 77, 3) := by decide +kernel
theorem dX5_match_157 : decode cX5_match 157 = .ok (.bipush 40, 2) := by decide +kernel
theorem dX5_match_159 : decode cX5_match 159 = .ok (.iload_n 2, 1) := by decide +kernel
theorem dX5_match_160 : decode cX5_match 160 = .ok (.iconst 1, 1) := by decide +kernel
theorem dX5_match_161 : decode cX5_match 161 = .ok (.isub, 1) := by decide +kernel
theorem dX5_match_162 : decode cX5_match 162 = .ok (.imul, 1) := by decide +kernel
theorem dX5_match_163 : decode cX5_match 163 = .ok (.iload 8, 2) := by decide +kernel
theorem dX5_match_165 : decode cX5_match 165 = .ok (.iadd, 1) := by decide +kernel
theorem dX5_match_166 : decode cX5_match 166 = .ok (.baload, 1) := by decide +kernel
theorem dX5_match_167 : decode cX5_match 167 = .ok (.ifCond .eq 21, 3) := by decide +kernel
theorem dX5_match_170 : decode cX5_match 170 = .ok (.iload 9, 2) := by decide +kernel
theorem dX5_match_172 : decode cX5_match 172 = .ok (.ifCond .eq 12, 3) := by decide +kernel
theorem dX5_match_175 : decode cX5_match 175 = .ok (.aload_n 0, 1) := by decide +kernel
theorem dX5_match_176 : decode cX5_match 176 = .ok (.getfield 52, 3) := by decide +kernel
theorem dX5_match_179 : decode cX5_match 179 = .ok (.iload_n 3, 1) := by decide +kernel
theorem dX5_match_180 : decode cX5_match 180 = .ok (.baload, 1) := by decide +kernel
theorem dX5_match_181 : decode cX5_match 181 = .ok (.ifCond .ne 7, 3) := by decide +kernel
theorem dX5_match_184 : decode cX5_match 184 = .ok (.iconst 1, 1) := by decide +kernel
theorem dX5_match_185 : decode cX5_match 185 = .ok (.goto 4, 3) := by decide +kernel
theorem dX5_match_188 : decode cX5_match 188 = .ok (.iconst 0, 1) := by decide +kernel
theorem dX5_match_189 : decode cX5_match 189 = .ok (.istore 7, 2) := by decide +kernel
theorem dX5_match_191 : decode cX5_match 191 = .ok (.aload_n 0, 1) := by decide +kernel
theorem dX5_match_192 : decode cX5_match 192 = .ok (.getfield 74, 3) := by decide +kernel
theorem dX5_match_195 : decode cX5_match 195 = .ok (.iload 8, 2) := by decide +kernel
theorem dX5_match_197 : decode cX5_match 197 = .ok (.iaload, 1) := by decide +kernel
theorem dX5_match_198 : decode cX5_match 198 = .ok (.istore 8, 2) := by decide +kernel
theorem dX5_match_200 : decode cX5_match 200 = .ok (.iinc 9 1, 3) := by decide +kernel
theorem dX5_match_203 : decode cX5_match 203 = .ok (.goto (-72), 3) := by decide +kernel
theorem dX5_match_206 : decode cX5_match 206 = .ok (.aload_n 0, 1) := by decide +kernel
theorem dX5_match_207 : decode cX5_match 207 = .ok (.getfield 77, 3) := by decide +kernel
theorem dX5_match_210 : decode cX5_match 210 = .ok (.bipush 40, 2) := by decide +kernel
theorem dX5_match_212 : decode cX5_match 212 = .ok (.iload_n 2, 1) := by decide +kernel
theorem dX5_match_213 : decode cX5_match 213 = .ok (.imul, 1) := by decide +kernel
theorem dX5_match_214 : decode cX5_match 214 = .ok (.iload 4, 2) := by decide +kernel
theorem dX5_match_216 : decode cX5_match 216 = .ok (.iadd, 1) := by decide +kernel
theorem dX5_match_217 : decode cX5_match 217 = .ok (.iload 6, 2) := by decide +kernel
theorem dX5_match_219 : decode cX5_match 219 = .ok (.ifCond .eq 12, 3) := by decide +kernel
theorem dX5_match_222 : decode cX5_match 222 = .ok (.iload 7, 2) := by decide +kernel
theorem dX5_match_224 : decode cX5_match 224 = .ok (.ifCond .eq 7, 3) := by decide +kernel
theorem dX5_match_227 : decode cX5_match 227 = .ok (.iconst 1, 1) := by decide +kernel
theorem dX5_match_228 : decode cX5_match 228 = .ok (.goto 4, 3) := by decide +kernel
theorem dX5_match_231 : decode cX5_match 231 = .ok (.iconst 0, 1) := by decide +kernel
theorem dX5_match_232 : decode cX5_match 232 = .ok (.bastore, 1) := by decide +kernel
theorem dX5_match_233 : decode cX5_match 233 = .ok (.iinc 4 1, 3) := by decide +kernel
theorem dX5_match_236 : decode cX5_match 236 = .ok (.goto (-213), 3) := by decide +kernel
theorem dX5_match_239 : decode cX5_match 239 = .ok (.iinc 2 1, 3) := by decide +kernel
theorem dX5_match_242 : decode cX5_match 242 = .ok (.goto (-240), 3) := by decide +kernel
theorem dX5_match_245 : decode cX5_match 245 = .ok (.return_, 1) := by decide +kernel
theorem dX5_declare_0 : decode cX5_declare 0 = .ok (.aload_n 0, 1) := by decide +kernel
theorem dX5_declare_1 : decode cX5_declare 1 = .ok (.getfield 287, 3) := by decide +kernel
theorem dX5_declare_4 : decode cX5_declare 4 = .ok (.istore_n 2, 1) := by decide +kernel
theorem dX5_declare_5 : decode cX5_declare 5 = .ok (.iload_n 2, 1) := by decide +kernel
theorem dX5_declare_6 : decode cX5_declare 6 = .ok (.ifCond .le 20, 3) := by decide +kernel
theorem dX5_declare_9 : decode cX5_declare 9 = .ok (.aload_n 0, 1) := by decide +kernel
theorem dX5_declare_10 : decode cX5_declare 10 = .ok (.getfield 71, 3) := by decide +kernel
theorem dX5_declare_13 : decode cX5_declare 13 = .ok (.iload_n 2, 1) := by decide +kernel
theorem dX5_declare_14 : decode cX5_declare 14 = .ok (.iconst 1, 1) := by decide +kernel
theorem dX5_declare_15 : decode cX5_declare 15 = .ok (.isub, 1) := by decide +kernel
theorem dX5_declare_16 : decode cX5_declare 16 = .ok (.iaload, 1) := by decide +kernel
theorem dX5_declare_17 : decode cX5_declare 17 = .ok (.bipush 33, 2) := by decide +kernel
theorem dX5_declare_19 : decode cX5_declare 19 = .ok (.if_icmp .ne 7, 3) := by decide +kernel
theorem dX5_declare_22 : decode cX5_declare 22 = .ok (.iconst 1, 1) := by decide +kernel
theorem dX5_declare_23 : decode cX5_declare 23 = .ok (.goto 4, 3) := by decide +kernel
theorem dX5_declare_26 : decode cX5_declare 26 = .ok (.iconst 0, 1) := by decide +kernel
theorem dX5_declare_27 : decode cX5_declare 27 = .ok (.istore_n 3, 1) := by decide +kernel
theorem dX5_declare_28 : decode cX5_declare 28 = .ok (.iload_n 3, 1) := by decide +kernel
theorem dX5_declare_29 : decode cX5_declare 29 = .ok (.ifCond .eq 9, 3) := by decide +kernel
theorem dX5_declare_32 : decode cX5_declare 32 = .ok (.iload_n 2, 1) := by decide +kernel
theorem dX5_declare_33 : decode cX5_declare 33 = .ok (.iconst 1, 1) := by decide +kernel
theorem dX5_declare_34 : decode cX5_declare 34 = .ok (.isub, 1) := by decide +kernel
theorem dX5_declare_35 : decode cX5_declare 35 = .ok (.goto 4, 3) := by decide +kernel
theorem dX5_declare_38 : decode cX5_declare 38 = .ok (.iload_n 2, 1) := by decide +kernel
theorem dX5_declare_39 : decode cX5_declare 39 = .ok (.istore_n 2, 1) := by decide +kernel
theorem dX5_declare_40 : decode cX5_declare 40 = .ok (.iload_n 2, 1) := by decide +kernel
theorem dX5_declare_41 : decode cX5_declare 41 = .ok (.ifCond .le 15, 3) := by decide +kernel
theorem dX5_declare_44 : decode cX5_declare 44 = .ok (.aload_n 0, 1) := by decide +kernel
theorem dX5_declare_45 : decode cX5_declare 45 = .ok (.getfield 71, 3) := by decide +kernel
theorem dX5_declare_48 : decode cX5_declare 48 = .ok (.iconst 0, 1) := by decide +kernel
theorem dX5_declare_49 : decode cX5_declare 49 = .ok (.iaload, 1) := by decide +kernel
theorem dX5_declare_50 : decode cX5_declare 50 = .ok (.invokestatic 290, 3) := by decide +kernel
theorem dX5_declare_53 : decode cX5_declare 53 = .ok (.goto 4, 3) := by decide +kernel
theorem dX5_declare_56 : decode cX5_declare 56 = .ok (.iconst (-1), 1) := by decide +kernel
theorem dX5_declare_57 : decode cX5_declare 57 = .ok (.istore 4, 2) := by decide +kernel
theorem dX5_declare_59 : decode cX5_declare 59 = .ok (.aload_n 0, 1) := by decide +kernel
theorem dX5_declare_60 : decode cX5_declare 60 = .ok (.iload 4, 2) := by decide +kernel
theorem dX5_declare_62 : decode cX5_declare 62 = .ok (.iload_n 2, 1) := by decide +kernel
theorem dX5_declare_63 : decode cX5_declare 63 = .ok (.invokevirtual 293, 3) := by decide +kernel
theorem dX5_declare_66 : decode cX5_declare 66 = .ok (.istore 5, 2) := by decide +kernel
theorem dX5_declare_68 : decode cX5_declare 68 = .ok (.aload_n 0, 1) := by decide +kernel
theorem dX5_declare_69 : decode cX5_declare 69 = .ok (.iconst 0, 1) := by decide +kernel
theorem dX5_declare_70 : decode cX5_declare 70 = .ok (.putfield 287, 3) := by decide +kernel
theorem dX5_declare_73 : decode cX5_declare 73 = .ok (.iload 5, 2) := by decide +kernel
theorem dX5_declare_75 : decode cX5_declare 75 = .ok (.ifCond .ge 4, 3) := by decide +kernel
theorem dX5_declare_78 : decode cX5_declare 78 = .ok (.return_, 1) := by decide +kernel
theorem dX5_declare_79 : decode cX5_declare 79 = .ok (.iload_n 3, 1) := by decide +kernel
theorem dX5_declare_80 : decode cX5_declare 80 = .ok (.ifCond .eq 9, 3) := by decide +kernel
theorem dX5_declare_83 : decode cX5_declare 83 = .ok (.ldc_w 296, 3) := by decide +kernel
theorem dX5_declare_86 : decode cX5_declare 86 = .ok (.goto 4, 3) := by decide +kernel
theorem dX5_declare_89 : decode cX5_declare 89 = .ok (.iconst 0, 1) := by decide +kernel
theorem dX5_declare_90 : decode cX5_declare 90 = .ok (.bipush 10, 2) := by decide +kernel
theorem dX5_declare_92 : decode cX5_declare 92 = .ok (.aload_n 0, 1) := by decide +kernel
theorem dX5_declare_93 : decode cX5_declare 93 = .ok (.getfield 59, 3) := by decide +kernel
theorem dX5_declare_96 : decode cX5_declare 96 = .ok (.iload_n 1, 1) := by decide +kernel
theorem dX5_declare_97 : decode cX5_declare 97 = .ok (.iaload, 1) := by decide +kernel
theorem dX5_declare_98 : decode cX5_declare 98 = .ok (.imul, 1) := by decide +kernel
theorem dX5_declare_99 : decode cX5_declare 99 = .ok (.iadd, 1) := by decide +kernel
theorem dX5_declare_100 : decode cX5_declare 100 = .ok (.aload_n 0, 1) := by decide +kernel
theorem dX5_declare_101 : decode cX5_declare 101 = .ok (.getfield 62, 3) := by decide +kernel
theorem dX5_declare_104 : decode cX5_declare 104 = .ok (.iload_n 1, 1) := by decide +kernel
theorem dX5_declare_105 : decode cX5_declare 105 = .ok (.iaload, 1) := by decide +kernel
theorem dX5_declare_106 : decode cX5_declare 106 = .ok (.iadd, 1) := by decide +kernel
theorem dX5_declare_107 : decode cX5_declare 107 = .ok (.istore 6, 2) := by decide +kernel
theorem dX5_declare_109 : decode cX5_declare 109 = .ok (.iconst 0, 1) := by decide +kernel
theorem dX5_declare_110 : decode cX5_declare 110 = .ok (.istore 7, 2) := by decide +kernel
theorem dX5_declare_112 : decode cX5_declare 112 = .ok (.iload 7, 2) := by decide +kernel
theorem dX5_declare_114 : decode cX5_declare 114 = .ok (.aload_n 0, 1) := by decide +kernel
theorem dX5_declare_115 : decode cX5_declare 115 = .ok (.getfield 142, 3) := by decide +kernel
theorem dX5_declare_118 : decode cX5_declare 118 = .ok (.if_icmp .ge 77, 3) := by decide +kernel
theorem dX5_declare_121 : decode cX5_declare 121 = .ok (.aload_n 0, 1) := by decide +kernel
theorem dX5_declare_122 : decode cX5_declare 122 = .ok (.getfield 77, 3) := by decide +kernel
theorem dX5_declare_125 : decode cX5_declare 125 = .ok (.bipush 40, 2) := by decide +kernel
theorem dX5_declare_127 : decode cX5_declare 127 = .ok (.aload_n 0, 1) := by decide +kernel
theorem dX5_declare_128 : decode cX5_declare 128 = .ok (.getfield 56, 3) := by decide +kernel
theorem dX5_declare_131 : decode cX5_declare 131 = .ok (.iload_n 1, 1) := by decide +kernel
theorem dX5_declare_132 : decode cX5_declare 132 = .ok (.iaload, 1) := by decide +kernel
theorem dX5_declare_133 : decode cX5_declare 133 = .ok (.imul, 1) := by decide +kernel
theorem dX5_declare_134 : decode cX5_declare 134 = .ok (.iload 7, 2) := by decide +kernel
theorem dX5_declare_136 : decode cX5_declare 136 = .ok (.iadd, 1) := by decide +kernel
theorem dX5_declare_137 : decode cX5_declare 137 = .ok (.baload, 1) := by decide +kernel
theorem dX5_declare_138 : decode cX5_declare 138 = .ok (.ifCond .eq 51, 3) := by decide +kernel
theorem dX5_declare_141 : decode cX5_declare 141 = .ok (.iload 6, 2) := by decide +kernel
theorem dX5_declare_143 : decode cX5_declare 143 = .ok (.aload_n 0, 1) := by decide +kernel
theorem dX5_declare_144 : decode cX5_declare 144 = .ok (.getfield 80, 3) := by decide +kernel
theorem dX5_declare_147 : decode cX5_declare 147 = .ok (.bipush 40, 2) := by decide +kernel
theorem dX5_declare_149 : decode cX5_declare 149 = .ok (.iload 4, 2) := by decide +kernel
theorem dX5_declare_151 : decode cX5_declare 151 = .ok (.imul, 1) := by decide +kernel
theorem dX5_declare_152 : decode cX5_declare 152 = .ok (.iload 7, 2) := by decide +kernel
theorem dX5_declare_154 : decode cX5_declare 154 = .ok (.iadd, 1) := by decide +kernel
theorem dX5_declare_155 : decode cX5_declare 155 = .ok (.iaload, 1) := by decide +kernel
theorem dX5_declare_156 : decode cX5_declare 156 = .ok (.if_icmp .lt 33, 3) := by decide +kernel
theorem dX5_declare_159 : decode cX5_declare 159 = .ok (.aload_n 0, 1) := by decide +kernel
theorem dX5_declare_160 : decode cX5_declare 160 = .ok (.getfield 80, 3) := by decide +kernel
theorem dX5_declare_163 : decode cX5_declare 163 = .ok (.bipush 40, 2) := by decide +kernel
theorem dX5_declare_165 : decode cX5_declare 165 = .ok (.iload 4, 2) := by decide +kernel
theorem dX5_declare_167 : decode cX5_declare 167 = .ok (.imul, 1) := by decide +kernel
theorem dX5_declare_168 : decode cX5_declare 168 = .ok (.iload 7, 2) := by decide +kernel
theorem dX5_declare_170 : decode cX5_declare 170 = .ok (.iadd, 1) := by decide +kernel
theorem dX5_declare_171 : decode cX5_declare 171 = .ok (.iload 6, 2) := by decide +kernel
theorem dX5_declare_173 : decode cX5_declare 173 = .ok (.iastore, 1) := by decide +kernel
theorem dX5_declare_174 : decode cX5_declare 174 = .ok (.aload_n 0, 1) := by decide +kernel
theorem dX5_declare_175 : decode cX5_declare 175 = .ok (.getfield 83, 3) := by decide +kernel
theorem dX5_declare_178 : decode cX5_declare 178 = .ok (.bipush 40, 2) := by decide +kernel
theorem dX5_declare_180 : decode cX5_declare 180 = .ok (.iload 4, 2) := by decide +kernel
theorem dX5_declare_182 : decode cX5_declare 182 = .ok (.imul, 1) := by decide +kernel
theorem dX5_declare_183 : decode cX5_declare 183 = .ok (.iload 7, 2) := by decide +kernel
theorem dX5_declare_185 : decode cX5_declare 185 = .ok (.iadd, 1) := by decide +kernel
theorem dX5_declare_186 : decode cX5_declare 186 = .ok (.iload 5, 2) := by decide +kernel
theorem dX5_declare_188 : decode cX5_declare 188 = .ok (.iastore, 1) := by decide +kernel
theorem dX5_declare_189 : decode cX5_declare 189 = .ok (.iinc 7 1, 3) := by decide +kernel
theorem dX5_declare_192 : decode cX5_declare 192 = .ok (.goto (-80), 3) := by decide +kernel
theorem dX5_declare_195 : decode cX5_declare 195 = .ok (.return_, 1) := by decide +kernel
theorem dX5_declared_0 : decode cX5_declared 0 = .ok (.aload_n 0, 1) := by decide +kernel
theorem dX5_declared_1 : decode cX5_declared 1 = .ok (.getfield 71, 3) := by decide +kernel
theorem dX5_declared_4 : decode cX5_declared 4 = .ok (.iconst 2, 1) := by decide +kernel
theorem dX5_declared_5 : decode cX5_declared 5 = .ok (.iaload, 1) := by decide +kernel
theorem dX5_declared_6 : decode cX5_declared 6 = .ok (.istore_n 3, 1) := by decide +kernel
theorem dX5_declared_7 : decode cX5_declared 7 = .ok (.iload_n 1, 1) := by decide +kernel
theorem dX5_declared_8 : decode cX5_declared 8 = .ok (.ifCond .lt 24, 3) := by decide +kernel
theorem dX5_declared_11 : decode cX5_declared 11 = .ok (.iload_n 2, 1) := by decide +kernel
theorem dX5_declared_12 : decode cX5_declared 12 = .ok (.iconst 3, 1) := by decide +kernel
theorem dX5_declared_13 : decode cX5_declared 13 = .ok (.if_icmp .lt 19, 3) := by decide +kernel
theorem dX5_declared_16 : decode cX5_declared 16 = .ok (.iload_n 2, 1) := by decide +kernel
theorem dX5_declared_17 : decode cX5_declared 17 = .ok (.iconst 4, 1) := by decide +kernel
theorem dX5_declared_18 : decode cX5_declared 18 = .ok (.if_icmp .gt 14, 3) := by decide +kernel
theorem dX5_declared_21 : decode cX5_declared 21 = .ok (.aload_n 0, 1) := by decide +kernel
theorem dX5_declared_22 : decode cX5_declared 22 = .ok (.getfield 71, 3) := by decide +kernel
theorem dX5_declared_25 : decode cX5_declared 25 = .ok (.iconst 1, 1) := by decide +kernel
theorem dX5_declared_26 : decode cX5_declared 26 = .ok (.iaload, 1) := by decide +kernel
theorem dX5_declared_27 : decode cX5_declared 27 = .ok (.bipush 58, 2) := by decide +kernel
theorem dX5_declared_29 : decode cX5_declared 29 = .ok (.if_icmp .eq 5, 3) := by decide +kernel
theorem dX5_declared_32 : decode cX5_declared 32 = .ok (.iconst (-1), 1) := by decide +kernel
theorem dX5_declared_33 : decode cX5_declared 33 = .ok (.ireturn, 1) := by decide +kernel
theorem dX5_declared_34 : decode cX5_declared 34 = .ok (.iload_n 1, 1) := by decide +kernel
theorem dX5_declared_35 : decode cX5_declared 35 = .ok (.iconst 3, 1) := by decide +kernel
theorem dX5_declared_36 : decode cX5_declared 36 = .ok (.if_icmp .ne 32, 3) := by decide +kernel
theorem dX5_declared_39 : decode cX5_declared 39 = .ok (.iload_n 2, 1) := by decide +kernel
theorem dX5_declared_40 : decode cX5_declared 40 = .ok (.iconst 3, 1) := by decide +kernel
theorem dX5_declared_41 : decode cX5_declared 41 = .ok (.if_icmp .ne 25, 3) := by decide +kernel
theorem dX5_declared_44 : decode cX5_declared 44 = .ok (.iload_n 3, 1) := by decide +kernel
theorem dX5_declared_45 : decode cX5_declared 45 = .ok (.bipush 98, 2) := by decide +kernel
theorem dX5_declared_47 : decode cX5_declared 47 = .ok (.if_icmp .eq 15, 3) := by decide +kernel
theorem dX5_declared_50 : decode cX5_declared 50 = .ok (.iload_n 3, 1) := by decide +kernel
theorem dX5_declared_51 : decode cX5_declared 51 = .ok (.bipush 105, 2) := by decide +kernel
theorem dX5_declared_53 : decode cX5_declared 53 = .ok (.if_icmp .eq 9, 3) := by decide +kernel
theorem dX5_declared_56 : decode cX5_declared 56 = .ok (.iload_n 3, 1) := by decide +kernel
theorem dX5_declared_57 : decode cX5_declared 57 = .ok (.bipush 110, 2) := by decide +kernel
theorem dX5_declared_59 : decode cX5_declared 59 = .ok (.if_icmp .ne 7, 3) := by decide +kernel
theorem dX5_declared_62 : decode cX5_declared 62 = .ok (.iload_n 3, 1) := by decide +kernel
theorem dX5_declared_63 : decode cX5_declared 63 = .ok (.goto 4, 3) := by decide +kernel
theorem dX5_declared_66 : decode cX5_declared 66 = .ok (.iconst (-1), 1) := by decide +kernel
theorem dX5_declared_67 : decode cX5_declared 67 = .ok (.ireturn, 1) := by decide +kernel
theorem dX5_declared_68 : decode cX5_declared 68 = .ok (.iload_n 3, 1) := by decide +kernel
theorem dX5_declared_69 : decode cX5_declared 69 = .ok (.invokestatic 284, 3) := by decide +kernel
theorem dX5_declared_72 : decode cX5_declared 72 = .ok (.ifCond .eq 14, 3) := by decide +kernel
theorem dX5_declared_75 : decode cX5_declared 75 = .ok (.iload_n 1, 1) := by decide +kernel
theorem dX5_declared_76 : decode cX5_declared 76 = .ok (.iconst 2, 1) := by decide +kernel
theorem dX5_declared_77 : decode cX5_declared 77 = .ok (.if_icmp .ne 11, 3) := by decide +kernel
theorem dX5_declared_80 : decode cX5_declared 80 = .ok (.iload_n 3, 1) := by decide +kernel
theorem dX5_declared_81 : decode cX5_declared 81 = .ok (.bipush 48, 2) := by decide +kernel
theorem dX5_declared_83 : decode cX5_declared 83 = .ok (.if_icmp .ne 5, 3) := by decide +kernel
theorem dX5_declared_86 : decode cX5_declared 86 = .ok (.iconst (-1), 1) := by decide +kernel
theorem dX5_declared_87 : decode cX5_declared 87 = .ok (.ireturn, 1) := by decide +kernel
theorem dX5_declared_88 : decode cX5_declared 88 = .ok (.iload_n 2, 1) := by decide +kernel
theorem dX5_declared_89 : decode cX5_declared 89 = .ok (.iconst 3, 1) := by decide +kernel
theorem dX5_declared_90 : decode cX5_declared 90 = .ok (.if_icmp .ne 8, 3) := by decide +kernel
theorem dX5_declared_93 : decode cX5_declared 93 = .ok (.iload_n 3, 1) := by decide +kernel
theorem dX5_declared_94 : decode cX5_declared 94 = .ok (.bipush 48, 2) := by decide +kernel
theorem dX5_declared_96 : decode cX5_declared 96 = .ok (.isub, 1) := by decide +kernel
theorem dX5_declared_97 : decode cX5_declared 97 = .ok (.ireturn, 1) := by decide +kernel
theorem dX5_declared_98 : decode cX5_declared 98 = .ok (.iload_n 1, 1) := by decide +kernel
theorem dX5_declared_99 : decode cX5_declared 99 = .ok (.iconst 4, 1) := by decide +kernel
theorem dX5_declared_100 : decode cX5_declared 100 = .ok (.if_icmp .lt 35, 3) := by decide +kernel
theorem dX5_declared_103 : decode cX5_declared 103 = .ok (.aload_n 0, 1) := by decide +kernel
theorem dX5_declared_104 : decode cX5_declared 104 = .ok (.getfield 71, 3) := by decide +kernel
theorem dX5_declared_107 : decode cX5_declared 107 = .ok (.iconst 3, 1) := by decide +kernel
theorem dX5_declared_108 : decode cX5_declared 108 = .ok (.iaload, 1) := by decide +kernel
theorem dX5_declared_109 : decode cX5_declared 109 = .ok (.invokestatic 284, 3) := by decide +kernel
theorem dX5_declared_112 : decode cX5_declared 112 = .ok (.ifCond .eq 23, 3) := by decide +kernel
theorem dX5_declared_115 : decode cX5_declared 115 = .ok (.bipush 10, 2) := by decide +kernel
theorem dX5_declared_117 : decode cX5_declared 117 = .ok (.iload_n 3, 1) := by decide +kernel
theorem dX5_declared_118 : decode cX5_declared 118 = .ok (.bipush 48, 2) := by decide +kernel
theorem dX5_declared_120 : decode cX5_declared 120 = .ok (.isub, 1) := by decide +kernel
theorem dX5_declared_121 : decode cX5_declared 121 = .ok (.imul, 1) := by decide +kernel
theorem dX5_declared_122 : decode cX5_declared 122 = .ok (.aload_n 0, 1) := by decide +kernel
theorem dX5_declared_123 : decode cX5_declared 123 = .ok (.getfield 71, 3) := by decide +kernel
theorem dX5_declared_126 : decode cX5_declared 126 = .ok (.iconst 3, 1) := by decide +kernel
theorem dX5_declared_127 : decode cX5_declared 127 = .ok (.iaload, 1) := by decide +kernel
theorem dX5_declared_128 : decode cX5_declared 128 = .ok (.iadd, 1) := by decide +kernel
theorem dX5_declared_129 : decode cX5_declared 129 = .ok (.bipush 48, 2) := by decide +kernel
theorem dX5_declared_131 : decode cX5_declared 131 = .ok (.isub, 1) := by decide +kernel
theorem dX5_declared_132 : decode cX5_declared 132 = .ok (.goto 4, 3) := by decide +kernel
theorem dX5_declared_135 : decode cX5_declared 135 = .ok (.iconst (-1), 1) := by decide +kernel
theorem dX5_declared_136 : decode cX5_declared 136 = .ok (.ireturn, 1) := by decide +kernel
theorem dX5_digit_0 : decode cX5_digit 0 = .ok (.iload_n 0, 1) := by decide +kernel
theorem dX5_digit_1 : decode cX5_digit 1 = .ok (.bipush 48, 2) := by decide +kernel
theorem dX5_digit_3 : decode cX5_digit 3 = .ok (.if_icmp .lt 13, 3) := by decide +kernel
theorem dX5_digit_6 : decode cX5_digit 6 = .ok (.iload_n 0, 1) := by decide +kernel
theorem dX5_digit_7 : decode cX5_digit 7 = .ok (.bipush 57, 2) := by decide +kernel
theorem dX5_digit_9 : decode cX5_digit 9 = .ok (.if_icmp .gt 7, 3) := by decide +kernel
theorem dX5_digit_12 : decode cX5_digit 12 = .ok (.iconst 1, 1) := by decide +kernel
theorem dX5_digit_13 : decode cX5_digit 13 = .ok (.goto 4, 3) := by decide +kernel
theorem dX5_digit_16 : decode cX5_digit 16 = .ok (.iconst 0, 1) := by decide +kernel
theorem dX5_digit_17 : decode cX5_digit 17 = .ok (.ireturn, 1) := by decide +kernel
theorem dX5_initial_0 : decode cX5_initial 0 = .ok (.iload_n 1, 1) := by decide +kernel
theorem dX5_initial_1 : decode cX5_initial 1 = .ok (.ifCond .eq 8, 3) := by decide +kernel
theorem dX5_initial_4 : decode cX5_initial 4 = .ok (.iload_n 1, 1) := by decide +kernel
theorem dX5_initial_5 : decode cX5_initial 5 = .ok (.iconst 2, 1) := by decide +kernel
theorem dX5_initial_6 : decode cX5_initial 6 = .ok (.if_icmp .ne 28, 3) := by decide +kernel
theorem dX5_initial_9 : decode cX5_initial 9 = .ok (.iload_n 2, 1) := by decide +kernel
theorem dX5_initial_10 : decode cX5_initial 10 = .ok (.ifCond .ne 7, 3) := by decide +kernel
theorem dX5_initial_13 : decode cX5_initial 13 = .ok (.iconst 1, 1) := by decide +kernel
theorem dX5_initial_14 : decode cX5_initial 14 = .ok (.goto 19, 3) := by decide +kernel
theorem dX5_initial_17 : decode cX5_initial 17 = .ok (.aload_n 0, 1) := by decide +kernel
theorem dX5_initial_18 : decode cX5_initial 18 = .ok (.getfield 83, 3) := by decide +kernel
theorem dX5_initial_21 : decode cX5_initial 21 = .ok (.bipush 40, 2) := by decide +kernel
theorem dX5_initial_23 : decode cX5_initial 23 = .ok (.iload_n 1, 1) := by decide +kernel
theorem dX5_initial_24 : decode cX5_initial 24 = .ok (.imul, 1) := by decide +kernel
theorem dX5_initial_25 : decode cX5_initial 25 = .ok (.aload_n 0, 1) := by decide +kernel
theorem dX5_initial_26 : decode cX5_initial 26 = .ok (.getfield 74, 3) := by decide +kernel
theorem dX5_initial_29 : decode cX5_initial 29 = .ok (.iload_n 2, 1) := by decide +kernel
theorem dX5_initial_30 : decode cX5_initial 30 = .ok (.iaload, 1) := by decide +kernel
theorem dX5_initial_31 : decode cX5_initial 31 = .ok (.iadd, 1) := by decide +kernel
theorem dX5_initial_32 : decode cX5_initial 32 = .ok (.iaload, 1) := by decide +kernel
theorem dX5_initial_33 : decode cX5_initial 33 = .ok (.ireturn, 1) := by decide +kernel
theorem dX5_initial_34 : decode cX5_initial 34 = .ok (.iload_n 1, 1) := by decide +kernel
theorem dX5_initial_35 : decode cX5_initial 35 = .ok (.iconst 3, 1) := by decide +kernel
theorem dX5_initial_36 : decode cX5_initial 36 = .ok (.if_icmp .ne 31, 3) := by decide +kernel
theorem dX5_initial_39 : decode cX5_initial 39 = .ok (.iload_n 2, 1) := by decide +kernel
theorem dX5_initial_40 : decode cX5_initial 40 = .ok (.ifCond .eq 19, 3) := by decide +kernel
theorem dX5_initial_43 : decode cX5_initial 43 = .ok (.aload_n 0, 1) := by decide +kernel
theorem dX5_initial_44 : decode cX5_initial 44 = .ok (.aload_n 0, 1) := by decide +kernel
theorem dX5_initial_45 : decode cX5_initial 45 = .ok (.getfield 16, 3) := by decide +kernel
theorem dX5_initial_48 : decode cX5_initial 48 = .ok (.iload_n 2, 1) := by decide +kernel
theorem dX5_initial_49 : decode cX5_initial 49 = .ok (.iaload, 1) := by decide +kernel
theorem dX5_initial_50 : decode cX5_initial 50 = .ok (.ldc_w 256, 3) := by decide +kernel
theorem dX5_initial_53 : decode cX5_initial 53 = .ok (.invokevirtual 192, 3) := by decide +kernel
theorem dX5_initial_56 : decode cX5_initial 56 = .ok (.ifCond .eq 8, 3) := by decide +kernel
theorem dX5_initial_59 : decode cX5_initial 59 = .ok (.bipush 98, 2) := by decide +kernel
theorem dX5_initial_61 : decode cX5_initial 61 = .ok (.goto 5, 3) := by decide +kernel
theorem dX5_initial_64 : decode cX5_initial 64 = .ok (.bipush 105, 2) := by decide +kernel
theorem dX5_initial_66 : decode cX5_initial 66 = .ok (.ireturn, 1) := by decide +kernel
theorem dX5_initial_67 : decode cX5_initial 67 = .ok (.iload_n 1, 1) := by decide +kernel
theorem dX5_initial_68 : decode cX5_initial 68 = .ok (.bipush 6, 2) := by decide +kernel
theorem dX5_initial_70 : decode cX5_initial 70 = .ok (.if_icmp .ne 7, 3) := by decide +kernel
theorem dX5_initial_73 : decode cX5_initial 73 = .ok (.iconst (-1), 1) := by decide +kernel
theorem dX5_initial_74 : decode cX5_initial 74 = .ok (.goto 4, 3) := by decide +kernel
theorem dX5_initial_77 : decode cX5_initial 77 = .ok (.iconst 0, 1) := by decide +kernel
theorem dX5_initial_78 : decode cX5_initial 78 = .ok (.ireturn, 1) := by decide +kernel
theorem dX5_layout_0 : decode cX5_layout 0 = .ok (.iload_n 1, 1) := by decide +kernel
theorem dX5_layout_1 : decode cX5_layout 1 = .ok (.iconst 1, 1) := by decide +kernel
theorem dX5_layout_2 : decode cX5_layout 2 = .ok (.if_icmp .lt 16, 3) := by decide +kernel
theorem dX5_layout_5 : decode cX5_layout 5 = .ok (.iload_n 1, 1) := by decide +kernel
theorem dX5_layout_6 : decode cX5_layout 6 = .ok (.bipush 64, 2) := by decide +kernel
theorem dX5_layout_8 : decode cX5_layout 8 = .ok (.if_icmp .gt 10, 3) := by decide +kernel
theorem dX5_layout_11 : decode cX5_layout 11 = .ok (.aload_n 0, 1) := by decide +kernel
theorem dX5_layout_12 : decode cX5_layout 12 = .ok (.getfield 129, 3) := by decide +kernel
theorem dX5_layout_15 : decode cX5_layout 15 = .ok (.ifCond .eq 5, 3) := by decide +kernel
theorem dX5_layout_18 : decode cX5_layout 18 = .ok (.iconst (-1), 1) := by decide +kernel
theorem dX5_layout_19 : decode cX5_layout 19 = .ok (.ireturn, 1) := by decide +kernel
theorem dX5_layout_20 : decode cX5_layout 20 = .ok (.aload_n 0, 1) := by decide +kernel
theorem dX5_layout_21 : decode cX5_layout 21 = .ok (.invokevirtual 307, 3) := by decide +kernel
theorem dX5_layout_24 : decode cX5_layout 24 = .ok (.aload_n 0, 1) := by decide +kernel
theorem dX5_layout_25 : decode cX5_layout 25 = .ok (.iconst 1, 1) := by decide +kernel
theorem dX5_layout_26 : decode cX5_layout 26 = .ok (.putfield 133, 3) := by decide +kernel
theorem dX5_layout_29 : decode cX5_layout 29 = .ok (.aload_n 0, 1) := by decide +kernel
theorem dX5_layout_30 : decode cX5_layout 30 = .ok (.iload_n 1, 1) := by decide +kernel
theorem dX5_layout_31 : decode cX5_layout 31 = .ok (.putfield 310, 3) := by decide +kernel
theorem dX5_layout_34 : decode cX5_layout 34 = .ok (.aload_n 0, 1) := by decide +kernel
theorem dX5_layout_35 : decode cX5_layout 35 = .ok (.iconst 0, 1) := by decide +kernel
theorem dX5_layout_36 : decode cX5_layout 36 = .ok (.putfield 313, 3) := by decide +kernel
theorem dX5_layout_39 : decode cX5_layout 39 = .ok (.iconst 0, 1) := by decide +kernel
theorem dX5_layout_40 : decode cX5_layout 40 = .ok (.istore_n 2, 1) := by decide +kernel
theorem dX5_layout_41 : decode cX5_layout 41 = .ok (.iload_n 2, 1) := by decide +kernel
theorem dX5_layout_42 : decode cX5_layout 42 = .ok (.aload_n 0, 1) := by decide +kernel
theorem dX5_layout_43 : decode cX5_layout 43 = .ok (.getfield 154, 3) := by decide +kernel
theorem dX5_layout_46 : decode cX5_layout 46 = .ok (.if_icmp .ge 16, 3) := by decide +kernel
theorem dX5_layout_49 : decode cX5_layout 49 = .ok (.aload_n 0, 1) := by decide +kernel
theorem dX5_layout_50 : decode cX5_layout 50 = .ok (.getfield 107, 3) := by decide +kernel
theorem dX5_layout_53 : decode cX5_layout 53 = .ok (.iload_n 2, 1) := by decide +kernel
theorem dX5_layout_54 : decode cX5_layout 54 = .ok (.iconst 0, 1) := by decide +kernel
theorem dX5_layout_55 : decode cX5_layout 55 = .ok (.bastore, 1) := by decide +kernel
theorem dX5_layout_56 : decode cX5_layout 56 = .ok (.iinc 2 1, 3) := by decide +kernel
theorem dX5_layout_59 : decode cX5_layout 59 = .ok (.goto (-18), 3) := by decide +kernel
theorem dX5_layout_62 : decode cX5_layout 62 = .ok (.iconst 0, 1) := by decide +kernel
theorem dX5_layout_63 : decode cX5_layout 63 = .ok (.istore_n 2, 1) := by decide +kernel
theorem dX5_layout_64 : decode cX5_layout 64 = .ok (.iload_n 2, 1) := by decide +kernel
theorem dX5_layout_65 : decode cX5_layout 65 = .ok (.aload_n 0, 1) := by decide +kernel
theorem dX5_layout_66 : decode cX5_layout 66 = .ok (.getfield 142, 3) := by decide +kernel
theorem dX5_layout_69 : decode cX5_layout 69 = .ok (.if_icmp .ge 15, 3) := by decide +kernel
theorem dX5_layout_72 : decode cX5_layout 72 = .ok (.aload_n 0, 1) := by decide +kernel
theorem dX5_layout_73 : decode cX5_layout 73 = .ok (.iload_n 2, 1) := by decide +kernel
