set_option maxRecDepth 100000
theorem dX0_html_230 : decode cX0_html 230 = .ok (.if_icmp .ne 8, 3) := by decide +kernel
theorem dX0_html_233 : decode cX0_html 233 = .ok (.bipush 62, 2) := by decide +kernel
theorem dX0_html_235 : decode cX0_html 235 = .ok (.goto 5, 3) := by decide +kernel
theorem dX0_html_238 : decode cX0_html 238 = .ok (.bipush 38, 2) := by decide +kernel
theorem dX0_html_240 : decode cX0_html 240 = .ok (.invokevirtual 133, 3) := by decide +kernel
theorem dX0_html_243 : decode cX0_html 243 = .ok (.goto 22, 3) := by decide +kernel
theorem dX0_html_246 : decode cX0_html 246 = .ok (.aload_n 0, 1) := by decide +kernel
theorem dX0_html_247 : decode cX0_html 247 = .ok (.bipush 38, 2) := by decide +kernel
theorem dX0_html_249 : decode cX0_html 249 = .ok (.invokevirtual 133, 3) := by decide +kernel
theorem dX0_html_252 : decode cX0_html 252 = .ok (.aload_n 0, 1) := by decide +kernel
theorem dX0_html_253 : decode cX0_html 253 = .ok (.aload_n 0, 1) := by decide +kernel
theorem dX0_html_254 : decode cX0_html 254 = .ok (.getfield 110, 3) := by decide +kernel
theorem dX0_html_257 : decode cX0_html 257 = .ok (.invokevirtual 133, 3) := by decide +kernel
theorem dX0_html_260 : decode cX0_html 260 = .ok (.aload_n 0, 1) := by decide +kernel
theorem dX0_html_261 : decode cX0_html 261 = .ok (.iload_n 1, 1) := by decide +kernel
theorem dX0_html_262 : decode cX0_html 262 = .ok (.invokevirtual 103, 3) := by decide +kernel
theorem dX0_html_265 : decode cX0_html 265 = .ok (.aload_n 0, 1) := by decide +kernel
theorem dX0_html_266 : decode cX0_html 266 = .ok (.getfield 82, 3) := by decide +kernel
theorem dX0_html_269 : decode cX0_html 269 = .ok (.ifCond .ne 7, 3) := by decide +kernel
theorem dX0_html_272 : decode cX0_html 272 = .ok (.iconst 1, 1) := by decide +kernel
theorem dX0_html_273 : decode cX0_html 273 = .ok (.goto 4, 3) := by decide +kernel
theorem dX0_html_276 : decode cX0_html 276 = .ok (.iconst 0, 1) := by decide +kernel
theorem dX0_html_277 : decode cX0_html 277 = .ok (.ireturn, 1) := by decide +kernel
theorem dX0_plain_0 : decode cX0_plain 0 = .ok (.aload_n 0, 1) := by decide +kernel
theorem dX0_plain_1 : decode cX0_plain 1 = .ok (.iload_n 1, 1) := by decide +kernel
theorem dX0_plain_2 : decode cX0_plain 2 = .ok (.bipush 60, 2) := by decide +kernel
theorem dX0_plain_4 : decode cX0_plain 4 = .ok (.if_icmp .ne 9, 3) := by decide +kernel
theorem dX0_plain_7 : decode cX0_plain 7 = .ok (.getstatic 136, 3) := by decide +kernel
theorem dX0_plain_10 : decode cX0_plain 10 = .ok (.goto 18, 3) := by decide +kernel
theorem dX0_plain_13 : decode cX0_plain 13 = .ok (.iload_n 1, 1) := by decide +kernel
theorem dX0_plain_14 : decode cX0_plain 14 = .ok (.bipush 38, 2) := by decide +kernel
theorem dX0_plain_16 : decode cX0_plain 16 = .ok (.if_icmp .ne 9, 3) := by decide +kernel
theorem dX0_plain_19 : decode cX0_plain 19 = .ok (.getstatic 139, 3) := by decide +kernel
theorem dX0_plain_22 : decode cX0_plain 22 = .ok (.goto 6, 3) := by decide +kernel
theorem dX0_plain_25 : decode cX0_plain 25 = .ok (.getstatic 32, 3) := by decide +kernel
theorem dX0_plain_28 : decode cX0_plain 28 = .ok (.putfield 38, 3) := by decide +kernel
theorem dX0_plain_31 : decode cX0_plain 31 = .ok (.aload_n 0, 1) := by decide +kernel
theorem dX0_plain_32 : decode cX0_plain 32 = .ok (.getfield 38, 3) := by decide +kernel
theorem dX0_plain_35 : decode cX0_plain 35 = .ok (.getstatic 32, 3) := by decide +kernel
theorem dX0_plain_38 : decode cX0_plain 38 = .ok (.if_acmp .ne 8, 3) := by decide +kernel
theorem dX0_plain_41 : decode cX0_plain 41 = .ok (.aload_n 0, 1) := by decide +kernel
theorem dX0_plain_42 : decode cX0_plain 42 = .ok (.iload_n 1, 1) := by decide +kernel
theorem dX0_plain_43 : decode cX0_plain 43 = .ok (.invokevirtual 133, 3) := by decide +kernel
theorem dX0_plain_46 : decode cX0_plain 46 = .ok (.return_, 1) := by decide +kernel
theorem dX0_character_0 : decode cX0_character 0 = .ok (.aload_n 0, 1) := by decide +kernel
theorem dX0_character_1 : decode cX0_character 1 = .ok (.invokevirtual 195, 3) := by decide +kernel
theorem dX0_character_4 : decode cX0_character 4 = .ok (.astore_n 2, 1) := by decide +kernel
theorem dX0_character_5 : decode cX0_character 5 = .ok (.aload_n 0, 1) := by decide +kernel
theorem dX0_character_6 : decode cX0_character 6 = .ok (.getfield 82, 3) := by decide +kernel
theorem dX0_character_9 : decode cX0_character 9 = .ok (.ifCond .ne 27, 3) := by decide +kernel
theorem dX0_character_12 : decode cX0_character 12 = .ok (.iload_n 1, 1) := by decide +kernel
theorem dX0_character_13 : decode cX0_character 13 = .ok (.bipush 32, 2) := by decide +kernel
theorem dX0_character_15 : decode cX0_character 15 = .ok (.if_icmp .ne 22, 3) := by decide +kernel
theorem dX0_character_18 : decode cX0_character 18 = .ok (.aload_n 2, 1) := by decide +kernel
theorem dX0_character_19 : decode cX0_character 19 = .ok (.bipush 116, 2) := by decide +kernel
theorem dX0_character_21 : decode cX0_character 21 = .ok (.invokevirtual 167, 3) := by decide +kernel
theorem dX0_character_24 : decode cX0_character 24 = .ok (.ifCond .ne 12, 3) := by decide +kernel
theorem dX0_character_27 : decode cX0_character 27 = .ok (.aload_n 2, 1) := by decide +kernel
theorem dX0_character_28 : decode cX0_character 28 = .ok (.bipush 114, 2) := by decide +kernel
theorem dX0_character_30 : decode cX0_character 30 = .ok (.invokevirtual 167, 3) := by decide +kernel
theorem dX0_character_33 : decode cX0_character 33 = .ok (.ifCond .eq 4, 3) := by decide +kernel
theorem dX0_character_36 : decode cX0_character 36 = .ok (.return_, 1) := by decide +kernel
theorem dX0_character_37 : decode cX0_character 37 = .ok (.aload_n 0, 1) := by decide +kernel
theorem dX0_character_38 : decode cX0_character 38 = .ok (.invokevirtual 249, 3) := by decide +kernel
theorem dX0_character_41 : decode cX0_character 41 = .ok (.aload_n 0, 1) := by decide +kernel
theorem dX0_character_42 : decode cX0_character 42 = .ok (.getfield 82, 3) := by decide +kernel
theorem dX0_character_45 : decode cX0_character 45 = .ok (.ifCond .eq 4, 3) := by decide +kernel
theorem dX0_character_48 : decode cX0_character 48 = .ok (.return_, 1) := by decide +kernel
theorem dX0_character_49 : decode cX0_character 49 = .ok (.aload_n 0, 1) := by decide +kernel
theorem dX0_character_50 : decode cX0_character 50 = .ok (.invokevirtual 221, 3) := by decide +kernel
theorem dX0_character_53 : decode cX0_character 53 = .ok (.aload_n 0, 1) := by decide +kernel
theorem dX0_character_54 : decode cX0_character 54 = .ok (.getfield 215, 3) := by decide +kernel
theorem dX0_character_57 : decode cX0_character 57 = .ok (.ifCond .le 25, 3) := by decide +kernel
theorem dX0_character_60 : decode cX0_character 60 = .ok (.aload_n 0, 1) := by decide +kernel
theorem dX0_character_61 : decode cX0_character 61 = .ok (.getfield 208, 3) := by decide +kernel
theorem dX0_character_64 : decode cX0_character 64 = .ok (.getfield 218, 3) := by decide +kernel
theorem dX0_character_67 : decode cX0_character 67 = .ok (.aload_n 0, 1) := by decide +kernel
theorem dX0_character_68 : decode cX0_character 68 = .ok (.getfield 215, 3) := by decide +kernel
theorem dX0_character_71 : decode cX0_character 71 = .ok (.iconst 1, 1) := by decide +kernel
theorem dX0_character_72 : decode cX0_character 72 = .ok (.isub, 1) := by decide +kernel
theorem dX0_character_73 : decode cX0_character 73 = .ok (.invokevirtual 163, 3) := by decide +kernel
theorem dX0_character_76 : decode cX0_character 76 = .ok (.checkcast 252, 3) := by decide +kernel
theorem dX0_character_79 : decode cX0_character 79 = .ok (.goto 4, 3) := by decide +kernel
theorem dX0_character_82 : decode cX0_character 82 = .ok (.aconst_null, 1) := by decide +kernel
theorem dX0_character_83 : decode cX0_character 83 = .ok (.astore_n 3, 1) := by decide +kernel
theorem dX0_character_84 : decode cX0_character 84 = .ok (.aload_n 3, 1) := by decide +kernel
theorem dX0_character_85 : decode cX0_character 85 = .ok (.instanceof 254, 3) := by decide +kernel
theorem dX0_character_88 : decode cX0_character 88 = .ok (.ifCond .eq 14, 3) := by decide +kernel
theorem dX0_character_91 : decode cX0_character 91 = .ok (.aload_n 3, 1) := by decide +kernel
theorem dX0_character_92 : decode cX0_character 92 = .ok (.checkcast 254, 3) := by decide +kernel
theorem dX0_character_95 : decode cX0_character 95 = .ok (.iload_n 1, 1) := by decide +kernel
theorem dX0_character_96 : decode cX0_character 96 = .ok (.invokevirtual 256, 3) := by decide +kernel
theorem dX0_character_99 : decode cX0_character 99 = .ok (.goto 101, 3) := by decide +kernel
theorem dX0_character_102 : decode cX0_character 102 = .ok (.aload_n 0, 1) := by decide +kernel
theorem dX0_character_103 : decode cX0_character 103 = .ok (.invokevirtual 191, 3) := by decide +kernel
theorem dX0_character_106 : decode cX0_character 106 = .ok (.ifCond .eq 11, 3) := by decide +kernel
theorem dX0_character_109 : decode cX0_character 109 = .ok (.aload_n 0, 1) := by decide +kernel
theorem dX0_character_110 : decode cX0_character 110 = .ok (.iconst 1, 1) := by decide +kernel
theorem dX0_character_111 : decode cX0_character 111 = .ok (.putfield 82, 3) := by decide +kernel
theorem dX0_character_114 : decode cX0_character 114 = .ok (.goto 86, 3) := by decide +kernel
theorem dX0_character_117 : decode cX0_character 117 = .ok (.aload_n 0, 1) := by decide +kernel
theorem dX0_character_118 : decode cX0_character 118 = .ok (.getfield 75, 3) := by decide +kernel
theorem dX0_character_121 : decode cX0_character 121 = .ok (.aload_n 0, 1) := by decide +kernel
theorem dX0_character_122 : decode cX0_character 122 = .ok (.getfield 19, 3) := by decide +kernel
theorem dX0_character_125 : decode cX0_character 125 = .ok (.invokevirtual 160, 3) := by decide +kernel
theorem dX0_character_128 : decode cX0_character 128 = .ok (.if_icmp .ne 18, 3) := by decide +kernel
theorem dX0_character_131 : decode cX0_character 131 = .ok (.aload_n 0, 1) := by decide +kernel
theorem dX0_character_132 : decode cX0_character 132 = .ok (.getfield 19, 3) := by decide +kernel
theorem dX0_character_135 : decode cX0_character 135 = .ok (.new 254, 3) := by decide +kernel
theorem dX0_character_138 : decode cX0_character 138 = .ok (.dup, 1) := by decide +kernel
theorem dX0_character_139 : decode cX0_character 139 = .ok (.invokespecial 258, 3) := by decide +kernel
theorem dX0_character_142 : decode cX0_character 142 = .ok (.invokevirtual 185, 3) := by decide +kernel
theorem dX0_character_145 : decode cX0_character 145 = .ok (.pop, 1) := by decide +kernel
theorem dX0_character_146 : decode cX0_character 146 = .ok (.aload_n 0, 1) := by decide +kernel
theorem dX0_character_147 : decode cX0_character 147 = .ok (.getfield 19, 3) := by decide +kernel
theorem dX0_character_150 : decode cX0_character 150 = .ok (.aload_n 0, 1) := by decide +kernel
theorem dX0_character_151 : decode cX0_character 151 = .ok (.getfield 75, 3) := by decide +kernel
theorem dX0_character_154 : decode cX0_character 154 = .ok (.invokevirtual 163, 3) := by decide +kernel
theorem dX0_character_157 : decode cX0_character 157 = .ok (.checkcast 254, 3) := by decide +kernel
theorem dX0_character_160 : decode cX0_character 160 = .ok (.astore 4, 2) := by decide +kernel
theorem dX0_character_162 : decode cX0_character 162 = .ok (.aload_n 0, 1) := by decide +kernel
theorem dX0_character_163 : decode cX0_character 163 = .ok (.dup, 1) := by decide +kernel
theorem dX0_character_164 : decode cX0_character 164 = .ok (.getfield 75, 3) := by decide +kernel
theorem dX0_character_167 : decode cX0_character 167 = .ok (.iconst 1, 1) := by decide +kernel
theorem dX0_character_168 : decode cX0_character 168 = .ok (.iadd, 1) := by decide +kernel
theorem dX0_character_169 : decode cX0_character 169 = .ok (.putfield 75, 3) := by decide +kernel
theorem dX0_character_172 : decode cX0_character 172 = .ok (.aload 4, 2) := by decide +kernel
theorem dX0_character_174 : decode cX0_character 174 = .ok (.getfield 259, 3) := by decide +kernel
theorem dX0_character_177 : decode cX0_character 177 = .ok (.iconst 0, 1) := by decide +kernel
theorem dX0_character_178 : decode cX0_character 178 = .ok (.invokevirtual 263, 3) := by decide +kernel
theorem dX0_character_181 : decode cX0_character 181 = .ok (.aload 4, 2) := by decide +kernel
theorem dX0_character_183 : decode cX0_character 183 = .ok (.iload_n 1, 1) := by decide +kernel
theorem dX0_character_184 : decode cX0_character 184 = .ok (.invokevirtual 256, 3) := by decide +kernel
theorem dX0_character_187 : decode cX0_character 187 = .ok (.aload_n 0, 1) := by decide +kernel
theorem dX0_character_188 : decode cX0_character 188 = .ok (.getfield 208, 3) := by decide +kernel
theorem dX0_character_191 : decode cX0_character 191 = .ok (.aload_n 0, 1) := by decide +kernel
theorem dX0_character_192 : decode cX0_character 192 = .ok (.getfield 215, 3) := by decide +kernel
theorem dX0_character_195 : decode cX0_character 195 = .ok (.aload 4, 2) := by decide +kernel
theorem dX0_character_197 : decode cX0_character 197 = .ok (.invokevirtual 224, 3) := by decide +kernel
theorem dX0_character_200 : decode cX0_character 200 = .ok (.return_, 1) := by decide +kernel
theorem dX0_top_0 : decode cX0_top 0 = .ok (.aload_n 0, 1) := by decide +kernel
theorem dX0_top_1 : decode cX0_top 1 = .ok (.getfield 26, 3) := by decide +kernel
theorem dX0_top_4 : decode cX0_top 4 = .ok (.aload_n 0, 1) := by decide +kernel
theorem dX0_top_5 : decode cX0_top 5 = .ok (.getfield 26, 3) := by decide +kernel
theorem dX0_top_8 : decode cX0_top 8 = .ok (.invokevirtual 160, 3) := by decide +kernel
theorem dX0_top_11 : decode cX0_top 11 = .ok (.iconst 1, 1) := by decide +kernel
theorem dX0_top_12 : decode cX0_top 12 = .ok (.isub, 1) := by decide +kernel
theorem dX0_top_13 : decode cX0_top 13 = .ok (.invokevirtual 163, 3) := by decide +kernel
theorem dX0_top_16 : decode cX0_top 16 = .ok (.checkcast 7, 3) := by decide +kernel
theorem dX0_top_19 : decode cX0_top 19 = .ok (.areturn, 1) := by decide +kernel
theorem dX0_renew_0 : decode cX0_renew 0 = .ok (.aload_n 0, 1) := by decide +kernel
theorem dX0_renew_1 : decode cX0_renew 1 = .ok (.invokevirtual 231, 3) := by decide +kernel
theorem dX0_renew_4 : decode cX0_renew 4 = .ok (.astore_n 1, 1) := by decide +kernel
theorem dX0_renew_5 : decode cX0_renew 5 = .ok (.aload_n 1, 1) := by decide +kernel
theorem dX0_renew_6 : decode cX0_renew 6 = .ok (.invokevirtual 160, 3) := by decide +kernel
theorem dX0_renew_9 : decode cX0_renew 9 = .ok (.istore_n 2, 1) := by decide +kernel
theorem dX0_renew_10 : decode cX0_renew 10 = .ok (.iload_n 2, 1) := by decide +kernel
theorem dX0_renew_11 : decode cX0_renew 11 = .ok (.ifCond .le 25, 3) := by decide +kernel
theorem dX0_renew_14 : decode cX0_renew 14 = .ok (.aload_n 1, 1) := by decide +kernel
theorem dX0_renew_15 : decode cX0_renew 15 = .ok (.iload_n 2, 1) := by decide +kernel
theorem dX0_renew_16 : decode cX0_renew 16 = .ok (.iconst 1, 1) := by decide +kernel
theorem dX0_renew_17 : decode cX0_renew 17 = .ok (.isub, 1) := by decide +kernel
theorem dX0_renew_18 : decode cX0_renew 18 = .ok (.invokevirtual 163, 3) := by decide +kernel
theorem dX0_renew_21 : decode cX0_renew 21 = .ok (.checkcast 7, 3) := by decide +kernel
theorem dX0_renew_24 : decode cX0_renew 24 = .ok (.getfield 182, 3) := by decide +kernel
theorem dX0_renew_27 : decode cX0_renew 27 = .ok (.ifCond .ne 9, 3) := by decide +kernel
theorem dX0_renew_30 : decode cX0_renew 30 = .ok (.iinc 2 (-1), 3) := by decide +kernel
theorem dX0_renew_33 : decode cX0_renew 33 = .ok (.goto (-23), 3) := by decide +kernel
theorem dX0_renew_36 : decode cX0_renew 36 = .ok (.iload_n 2, 1) := by decide +kernel
theorem dX0_renew_37 : decode cX0_renew 37 = .ok (.istore_n 3, 1) := by decide +kernel
theorem dX0_renew_38 : decode cX0_renew 38 = .ok (.iload_n 3, 1) := by decide +kernel
theorem dX0_renew_39 : decode cX0_renew 39 = .ok (.aload_n 1, 1) := by decide +kernel
theorem dX0_renew_40 : decode cX0_renew 40 = .ok (.invokevirtual 160, 3) := by decide +kernel
theorem dX0_renew_43 : decode cX0_renew 43 = .ok (.if_icmp .ge 67, 3) := by decide +kernel
theorem dX0_renew_46 : decode cX0_renew 46 = .ok (.aload_n 0, 1) := by decide +kernel
theorem dX0_renew_47 : decode cX0_renew 47 = .ok (.getfield 82, 3) := by decide +kernel
theorem dX0_renew_50 : decode cX0_renew 50 = .ok (.ifCond .ne 60, 3) := by decide +kernel
theorem dX0_renew_53 : decode cX0_renew 53 = .ok (.aload_n 1, 1) := by decide +kernel
theorem dX0_renew_54 : decode cX0_renew 54 = .ok (.iload_n 3, 1) := by decide +kernel
theorem dX0_renew_55 : decode cX0_renew 55 = .ok (.invokevirtual 163, 3) := by decide +kernel
theorem dX0_renew_58 : decode cX0_renew 58 = .ok (.checkcast 7, 3) := by decide +kernel
theorem dX0_renew_61 : decode cX0_renew 61 = .ok (.astore 4, 2) := by decide +kernel
theorem dX0_renew_63 : decode cX0_renew 63 = .ok (.aload_n 0, 1) := by decide +kernel
theorem dX0_renew_64 : decode cX0_renew 64 = .ok (.aload 4, 2) := by decide +kernel
theorem dX0_renew_66 : decode cX0_renew 66 = .ok (.getfield 170, 3) := by decide +kernel
theorem dX0_renew_69 : decode cX0_renew 69 = .ok (.aload 4, 2) := by decide +kernel
theorem dX0_renew_71 : decode cX0_renew 71 = .ok (.getfield 234, 3) := by decide +kernel
theorem dX0_renew_74 : decode cX0_renew 74 = .ok (.invokevirtual 237, 3) := by decide +kernel
theorem dX0_renew_77 : decode cX0_renew 77 = .ok (.astore 5, 2) := by decide +kernel
theorem dX0_renew_79 : decode cX0_renew 79 = .ok (.aload 5, 2) := by decide +kernel
theorem dX0_renew_81 : decode cX0_renew 81 = .ok (.ifnull 23, 3) := by decide +kernel
theorem dX0_renew_84 : decode cX0_renew 84 = .ok (.aload_n 0, 1) := by decide +kernel
theorem dX0_renew_85 : decode cX0_renew 85 = .ok (.aload 5, 2) := by decide +kernel
theorem dX0_renew_87 : decode cX0_renew 87 = .ok (.invokevirtual 241, 3) := by decide +kernel
theorem dX0_renew_90 : decode cX0_renew 90 = .ok (.aload_n 0, 1) := by decide +kernel
theorem dX0_renew_91 : decode cX0_renew 91 = .ok (.aload 5, 2) := by decide +kernel
theorem dX0_renew_93 : decode cX0_renew 93 = .ok (.invokevirtual 71, 3) := by decide +kernel
theorem dX0_renew_96 : decode cX0_renew 96 = .ok (.aload_n 1, 1) := by decide +kernel
theorem dX0_renew_97 : decode cX0_renew 97 = .ok (.iload_n 3, 1) := by decide +kernel
theorem dX0_renew_98 : decode cX0_renew 98 = .ok (.aload 5, 2) := by decide +kernel
theorem dX0_renew_100 : decode cX0_renew 100 = .ok (.invokevirtual 245, 3) := by decide +kernel
theorem dX0_renew_103 : decode cX0_renew 103 = .ok (.pop, 1) := by decide +kernel
theorem dX0_renew_104 : decode cX0_renew 104 = .ok (.iinc 3 1, 3) := by decide +kernel
theorem dX0_renew_107 : decode cX0_renew 107 = .ok (.goto (-69), 3) := by decide +kernel
theorem dX0_renew_110 : decode cX0_renew 110 = .ok (.return_, 1) := by decide +kernel
theorem dX0_list_0 : decode cX0_list 0 = .ok (.aload_n 0, 1) := by decide +kernel
theorem dX0_list_1 : decode cX0_list 1 = .ok (.getfield 26, 3) := by decide +kernel
theorem dX0_list_4 : decode cX0_list 4 = .ok (.aload_n 0, 1) := by decide +kernel
theorem dX0_list_5 : decode cX0_list 5 = .ok (.bipush 99, 2) := by decide +kernel
theorem dX0_list_7 : decode cX0_list 7 = .ok (.ldc 199, 2) := by decide +kernel
theorem dX0_list_9 : decode cX0_list 9 = .ok (.invokevirtual 201, 3) := by decide +kernel
theorem dX0_list_12 : decode cX0_list 12 = .ok (.invokevirtual 163, 3) := by decide +kernel
theorem dX0_list_15 : decode cX0_list 15 = .ok (.checkcast 7, 3) := by decide +kernel
theorem dX0_list_18 : decode cX0_list 18 = .ok (.getfield 228, 3) := by decide +kernel
theorem dX0_list_21 : decode cX0_list 21 = .ok (.areturn, 1) := by decide +kernel
theorem dX0_reach_0 : decode cX0_reach 0 = .ok (.aload_n 0, 1) := by decide +kernel
theorem dX0_reach_1 : decode cX0_reach 1 = .ok (.getfield 26, 3) := by decide +kernel
theorem dX0_reach_4 : decode cX0_reach 4 = .ok (.invokevirtual 160, 3) := by decide +kernel
theorem dX0_reach_7 : decode cX0_reach 7 = .ok (.iconst 1, 1) := by decide +kernel
theorem dX0_reach_8 : decode cX0_reach 8 = .ok (.isub, 1) := by decide +kernel
theorem dX0_reach_9 : decode cX0_reach 9 = .ok (.istore_n 3, 1) := by decide +kernel
theorem dX0_reach_10 : decode cX0_reach 10 = .ok (.iload_n 3, 1) := by decide +kernel
theorem dX0_reach_11 : decode cX0_reach 11 = .ok (.ifCond .le 47, 3) := by decide +kernel
theorem dX0_reach_14 : decode cX0_reach 14 = .ok (.aload_n 0, 1) := by decide +kernel
theorem dX0_reach_15 : decode cX0_reach 15 = .ok (.getfield 26, 3) := by decide +kernel
theorem dX0_reach_18 : decode cX0_reach 18 = .ok (.iload_n 3, 1) := by decide +kernel
theorem dX0_reach_19 : decode cX0_reach 19 = .ok (.invokevirtual 163, 3) := by decide +kernel
theorem dX0_reach_22 : decode cX0_reach 22 = .ok (.checkcast 7, 3) := by decide +kernel
theorem dX0_reach_25 : decode cX0_reach 25 = .ok (.astore 4, 2) := by decide +kernel
theorem dX0_reach_27 : decode cX0_reach 27 = .ok (.aload 4, 2) := by decide +kernel
theorem dX0_reach_29 : decode cX0_reach 29 = .ok (.iload_n 1, 1) := by decide +kernel
theorem dX0_reach_30 : decode cX0_reach 30 = .ok (.invokevirtual 167, 3) := by decide +kernel
theorem dX0_reach_33 : decode cX0_reach 33 = .ok (.ifCond .eq 5, 3) := by decide +kernel
theorem dX0_reach_36 : decode cX0_reach 36 = .ok (.iload_n 3, 1) := by decide +kernel
theorem dX0_reach_37 : decode cX0_reach 37 = .ok (.ireturn, 1) := by decide +kernel
theorem dX0_reach_38 : decode cX0_reach 38 = .ok (.aload_n 2, 1) := by decide +kernel
theorem dX0_reach_39 : decode cX0_reach 39 = .ok (.aload 4, 2) := by decide +kernel
theorem dX0_reach_41 : decode cX0_reach 41 = .ok (.getfield 170, 3) := by decide +kernel
theorem dX0_reach_44 : decode cX0_reach 44 = .ok (.invokevirtual 173, 3) := by decide +kernel
theorem dX0_reach_47 : decode cX0_reach 47 = .ok (.ifCond .lt 5, 3) := by decide +kernel
theorem dX0_reach_50 : decode cX0_reach 50 = .ok (.iconst 0, 1) := by decide +kernel
theorem dX0_reach_51 : decode cX0_reach 51 = .ok (.ireturn, 1) := by decide +kernel
theorem dX0_reach_52 : decode cX0_reach 52 = .ok (.iinc 3 (-1), 3) := by decide +kernel
theorem dX0_reach_55 : decode cX0_reach 55 = .ok (.goto (-45), 3) := by decide +kernel
theorem dX0_reach_58 : decode cX0_reach 58 = .ok (.iconst 0, 1) := by decide +kernel
theorem dX0_reach_59 : decode cX0_reach 59 = .ok (.ireturn, 1) := by decide +kernel
theorem dX0_element_0 : decode cX0_element 0 = .ok (.aload_n 0, 1) := by decide +kernel
theorem dX0_element_1 : decode cX0_element 1 = .ok (.aload_n 0, 1) := by decide +kernel
theorem dX0_element_2 : decode cX0_element 2 = .ok (.invokevirtual 191, 3) := by decide +kernel
theorem dX0_element_5 : decode cX0_element 5 = .ok (.putfield 82, 3) := by decide +kernel
theorem dX0_element_8 : decode cX0_element 8 = .ok (.aload_n 0, 1) := by decide +kernel
theorem dX0_element_9 : decode cX0_element 9 = .ok (.getfield 82, 3) := by decide +kernel
theorem dX0_element_12 : decode cX0_element 12 = .ok (.ifCond .eq 5, 3) := by decide +kernel
theorem dX0_element_15 : decode cX0_element 15 = .ok (.aconst_null, 1) := by decide +kernel
theorem dX0_element_16 : decode cX0_element 16 = .ok (.areturn, 1) := by decide +kernel
theorem dX0_element_17 : decode cX0_element 17 = .ok (.aload_n 0, 1) := by decide +kernel
theorem dX0_element_18 : decode cX0_element 18 = .ok (.getfield 79, 3) := by decide +kernel
theorem dX0_element_21 : decode cX0_element 21 = .ok (.aload_n 0, 1) := by decide +kernel
theorem dX0_element_22 : decode cX0_element 22 = .ok (.getfield 23, 3) := by decide +kernel
theorem dX0_element_25 : decode cX0_element 25 = .ok (.invokevirtual 160, 3) := by decide +kernel
theorem dX0_element_28 : decode cX0_element 28 = .ok (.if_icmp .ne 18, 3) := by decide +kernel
theorem dX0_element_31 : decode cX0_element 31 = .ok (.aload_n 0, 1) := by decide +kernel
theorem dX0_element_32 : decode cX0_element 32 = .ok (.getfield 23, 3) := by decide +kernel
theorem dX0_element_35 : decode cX0_element 35 = .ok (.new 7, 3) := by decide +kernel
theorem dX0_element_38 : decode cX0_element 38 = .ok (.dup, 1) := by decide +kernel
theorem dX0_element_39 : decode cX0_element 39 = .ok (.invokespecial 9, 3) := by decide +kernel
theorem dX0_element_42 : decode cX0_element 42 = .ok (.invokevirtual 185, 3) := by decide +kernel
theorem dX0_element_45 : decode cX0_element 45 = .ok (.pop, 1) := by decide +kernel
theorem dX0_element_46 : decode cX0_element 46 = .ok (.aload_n 0, 1) := by decide +kernel
theorem dX0_element_47 : decode cX0_element 47 = .ok (.getfield 23, 3) := by decide +kernel
theorem dX0_element_50 : decode cX0_element 50 = .ok (.aload_n 0, 1) := by decide +kernel
theorem dX0_element_51 : decode cX0_element 51 = .ok (.getfield 79, 3) := by decide +kernel
theorem dX0_element_54 : decode cX0_element 54 = .ok (.invokevirtual 163, 3) := by decide +kernel
theorem dX0_element_57 : decode cX0_element 57 = .ok (.checkcast 7, 3) := by decide +kernel
theorem dX0_element_60 : decode cX0_element 60 = .ok (.astore_n 3, 1) := by decide +kernel
theorem dX0_element_61 : decode cX0_element 61 = .ok (.aload_n 0, 1) := by decide +kernel
theorem dX0_element_62 : decode cX0_element 62 = .ok (.dup, 1) := by decide +kernel
theorem dX0_element_63 : decode cX0_element 63 = .ok (.getfield 79, 3) := by decide +kernel
theorem dX0_element_66 : decode cX0_element 66 = .ok (.iconst 1, 1) := by decide +kernel
theorem dX0_element_67 : decode cX0_element 67 = .ok (.iadd, 1) := by decide +kernel
theorem dX0_element_68 : decode cX0_element 68 = .ok (.putfield 79, 3) := by decide +kernel
theorem dX0_element_71 : decode cX0_element 71 = .ok (.aload_n 3, 1) := by decide +kernel
theorem dX0_element_72 : decode cX0_element 72 = .ok (.iload_n 1, 1) := by decide +kernel
theorem dX0_element_73 : decode cX0_element 73 = .ok (.iload_n 2, 1) := by decide +kernel
theorem dX0_element_74 : decode cX0_element 74 = .ok (.invokevirtual 65, 3) := by decide +kernel
theorem dX0_element_77 : decode cX0_element 77 = .ok (.aload_n 3, 1) := by decide +kernel
theorem dX0_element_78 : decode cX0_element 78 = .ok (.areturn, 1) := by decide +kernel
theorem dX0_full_0 : decode cX0_full 0 = .ok (.iconst 1, 1) := by decide +kernel
theorem dX0_full_1 : decode cX0_full 1 = .ok (.aload_n 0, 1) := by decide +kernel
theorem dX0_full_2 : decode cX0_full 2 = .ok (.getfield 75, 3) := by decide +kernel
theorem dX0_full_5 : decode cX0_full 5 = .ok (.iadd, 1) := by decide +kernel
theorem dX0_full_6 : decode cX0_full 6 = .ok (.aload_n 0, 1) := by decide +kernel
theorem dX0_full_7 : decode cX0_full 7 = .ok (.getfield 79, 3) := by decide +kernel
theorem dX0_full_10 : decode cX0_full 10 = .ok (.iadd, 1) := by decide +kernel
theorem dX0_full_11 : decode cX0_full 11 = .ok (.bipush 24, 2) := by decide +kernel
theorem dX0_full_13 : decode cX0_full 13 = .ok (.if_icmp .ne 7, 3) := by decide +kernel
theorem dX0_full_16 : decode cX0_full 16 = .ok (.iconst 1, 1) := by decide +kernel
theorem dX0_full_17 : decode cX0_full 17 = .ok (.goto 4, 3) := by decide +kernel
theorem dX0_full_20 : decode cX0_full 20 = .ok (.iconst 0, 1) := by decide +kernel
theorem dX0_full_21 : decode cX0_full 21 = .ok (.ireturn, 1) := by decide +kernel
theorem dX0_insert_0 : decode cX0_insert 0 = .ok (.aload_n 0, 1) := by decide +kernel
theorem dX0_insert_1 : decode cX0_insert 1 = .ok (.invokevirtual 221, 3) := by decide +kernel
theorem dX0_insert_4 : decode cX0_insert 4 = .ok (.aload_n 0, 1) := by decide +kernel
theorem dX0_insert_5 : decode cX0_insert 5 = .ok (.getfield 208, 3) := by decide +kernel
theorem dX0_insert_8 : decode cX0_insert 8 = .ok (.aload_n 0, 1) := by decide +kernel
theorem dX0_insert_9 : decode cX0_insert 9 = .ok (.getfield 215, 3) := by decide +kernel
theorem dX0_insert_12 : decode cX0_insert 12 = .ok (.aload_n 1, 1) := by decide +kernel
theorem dX0_insert_13 : decode cX0_insert 13 = .ok (.invokevirtual 224, 3) := by decide +kernel
theorem dX0_insert_16 : decode cX0_insert 16 = .ok (.return_, 1) := by decide +kernel
theorem dX0_locate_0 : decode cX0_locate 0 = .ok (.aload_n 0, 1) := by decide +kernel
theorem dX0_locate_1 : decode cX0_locate 1 = .ok (.invokevirtual 195, 3) := by decide +kernel
theorem dX0_locate_4 : decode cX0_locate 4 = .ok (.astore_n 1, 1) := by decide +kernel
theorem dX0_locate_5 : decode cX0_locate 5 = .ok (.aload_n 1, 1) := by decide +kernel
theorem dX0_locate_6 : decode cX0_locate 6 = .ok (.bipush 116, 2) := by decide +kernel
theorem dX0_locate_8 : decode cX0_locate 8 = .ok (.invokevirtual 167, 3) := by decide +kernel
theorem dX0_locate_11 : decode cX0_locate 11 = .ok (.ifCond .ne 12, 3) := by decide +kernel
theorem dX0_locate_14 : decode cX0_locate 14 = .ok (.aload_n 1, 1) := by decide +kernel
theorem dX0_locate_15 : decode cX0_locate 15 = .ok (.bipush 114, 2) := by decide +kernel
theorem dX0_locate_17 : decode cX0_locate 17 = .ok (.invokevirtual 167, 3) := by decide +kernel
theorem dX0_locate_20 : decode cX0_locate 20 = .ok (.ifCond .eq 45, 3) := by decide +kernel
theorem dX0_locate_23 : decode cX0_locate 23 = .ok (.aload_n 0, 1) := by decide +kernel
theorem dX0_locate_24 : decode cX0_locate 24 = .ok (.getfield 26, 3) := by decide +kernel
theorem dX0_locate_27 : decode cX0_locate 27 = .ok (.aload_n 0, 1) := by decide +kernel
theorem dX0_locate_28 : decode cX0_locate 28 = .ok (.bipush 116, 2) := by decide +kernel
theorem dX0_locate_30 : decode cX0_locate 30 = .ok (.ldc 199, 2) := by decide +kernel
theorem dX0_locate_32 : decode cX0_locate 32 = .ok (.invokevirtual 201, 3) := by decide +kernel
theorem dX0_locate_35 : decode cX0_locate 35 = .ok (.invokevirtual 163, 3) := by decide +kernel
theorem dX0_locate_38 : decode cX0_locate 38 = .ok (.checkcast 7, 3) := by decide +kernel
theorem dX0_locate_41 : decode cX0_locate 41 = .ok (.astore_n 2, 1) := by decide +kernel
theorem dX0_locate_42 : decode cX0_locate 42 = .ok (.aload_n 0, 1) := by decide +kernel
theorem dX0_locate_43 : decode cX0_locate 43 = .ok (.aload_n 2, 1) := by decide +kernel
theorem dX0_locate_44 : decode cX0_locate 44 = .ok (.getfield 205, 3) := by decide +kernel
theorem dX0_locate_47 : decode cX0_locate 47 = .ok (.putfield 208, 3) := by decide +kernel
theorem dX0_locate_50 : decode cX0_locate 50 = .ok (.aload_n 0, 1) := by decide +kernel
theorem dX0_locate_51 : decode cX0_locate 51 = .ok (.aload_n 0, 1) := by decide +kernel
theorem dX0_locate_52 : decode cX0_locate 52 = .ok (.getfield 208, 3) := by decide +kernel
theorem dX0_locate_55 : decode cX0_locate 55 = .ok (.aload_n 2, 1) := by decide +kernel
theorem dX0_locate_56 : decode cX0_locate 56 = .ok (.invokevirtual 211, 3) := by decide +kernel
theorem dX0_locate_59 : decode cX0_locate 59 = .ok (.putfield 215, 3) := by decide +kernel
theorem dX0_locate_62 : decode cX0_locate 62 = .ok (.goto 19, 3) := by decide +kernel
theorem dX0_locate_65 : decode cX0_locate 65 = .ok (.aload_n 0, 1) := by decide +kernel
theorem dX0_locate_66 : decode cX0_locate 66 = .ok (.aload_n 1, 1) := by decide +kernel
theorem dX0_locate_67 : decode cX0_locate 67 = .ok (.putfield 208, 3) := by decide +kernel
theorem dX0_locate_70 : decode cX0_locate 70 = .ok (.aload_n 0, 1) := by decide +kernel
theorem dX0_locate_71 : decode cX0_locate 71 = .ok (.aload_n 1, 1) := by decide +kernel
theorem dX0_locate_72 : decode cX0_locate 72 = .ok (.getfield 218, 3) := by decide +kernel
theorem dX0_locate_75 : decode cX0_locate 75 = .ok (.invokevirtual 160, 3) := by decide +kernel
theorem dX0_locate_78 : decode cX0_locate 78 = .ok (.putfield 215, 3) := by decide +kernel
theorem dX0_locate_81 : decode cX0_locate 81 = .ok (.return_, 1) := by decide +kernel
theorem dX0_less_0 : decode cX0_less 0 = .ok (.aload_n 0, 1) := by decide +kernel
theorem dX0_less_1 : decode cX0_less 1 = .ok (.iload_n 1, 1) := by decide +kernel
theorem dX0_less_2 : decode cX0_less 2 = .ok (.putfield 110, 3) := by decide +kernel
theorem dX0_less_5 : decode cX0_less 5 = .ok (.aload_n 0, 1) := by decide +kernel
theorem dX0_less_6 : decode cX0_less 6 = .ok (.iconst 0, 1) := by decide +kernel
theorem dX0_less_7 : decode cX0_less 7 = .ok (.putfield 114, 3) := by decide +kernel
theorem dX0_less_10 : decode cX0_less 10 = .ok (.iload_n 1, 1) := by decide +kernel
theorem dX0_less_11 : decode cX0_less 11 = .ok (.invokestatic 117, 3) := by decide +kernel
theorem dX0_less_14 : decode cX0_less 14 = .ok (.ifCond .eq 13, 3) := by decide +kernel
theorem dX0_less_17 : decode cX0_less 17 = .ok (.aload_n 0, 1) := by decide +kernel
theorem dX0_less_18 : decode cX0_less 18 = .ok (.getstatic 142, 3) := by decide +kernel
theorem dX0_less_21 : decode cX0_less 21 = .ok (.putfield 38, 3) := by decide +kernel
theorem dX0_less_24 : decode cX0_less 24 = .ok (.goto 48, 3) := by decide +kernel
theorem dX0_less_27 : decode cX0_less 27 = .ok (.iload_n 1, 1) := by decide +kernel
theorem dX0_less_28 : decode cX0_less 28 = .ok (.bipush 33, 2) := by decide +kernel
theorem dX0_less_30 : decode cX0_less 30 = .ok (.if_icmp .eq 9, 3) := by decide +kernel
theorem dX0_less_33 : decode cX0_less 33 = .ok (.iload_n 1, 1) := by decide +kernel
theorem dX0_less_34 : decode cX0_less 34 = .ok (.bipush 47, 2) := by decide +kernel
theorem dX0_less_36 : decode cX0_less 36 = .ok (.if_icmp .ne 25, 3) := by decide +kernel
theorem dX0_less_39 : decode cX0_less 39 = .ok (.aload_n 0, 1) := by decide +kernel
theorem dX0_less_40 : decode cX0_less 40 = .ok (.iload_n 1, 1) := by decide +kernel
theorem dX0_less_41 : decode cX0_less 41 = .ok (.bipush 33, 2) := by decide +kernel
theorem dX0_less_43 : decode cX0_less 43 = .ok (.if_icmp .ne 9, 3) := by decide +kernel
theorem dX0_less_46 : decode cX0_less 46 = .ok (.getstatic 124, 3) := by decide +kernel
theorem dX0_less_49 : decode cX0_less 49 = .ok (.goto 6, 3) := by decide +kernel
theorem dX0_less_52 : decode cX0_less 52 = .ok (.getstatic 145, 3) := by decide +kernel
theorem dX0_less_55 : decode cX0_less 55 = .ok (.putfield 38, 3) := by decide +kernel
theorem dX0_less_58 : decode cX0_less 58 = .ok (.goto 14, 3) := by decide +kernel
theorem dX0_less_61 : decode cX0_less 61 = .ok (.aload_n 0, 1) := by decide +kernel
theorem dX0_less_62 : decode cX0_less 62 = .ok (.bipush 60, 2) := by decide +kernel
theorem dX0_less_64 : decode cX0_less 64 = .ok (.invokevirtual 133, 3) := by decide +kernel
theorem dX0_less_67 : decode cX0_less 67 = .ok (.aload_n 0, 1) := by decide +kernel
theorem dX0_less_68 : decode cX0_less 68 = .ok (.iload_n 1, 1) := by decide +kernel
theorem dX0_less_69 : decode cX0_less 69 = .ok (.invokevirtual 103, 3) := by decide +kernel
theorem dX0_less_72 : decode cX0_less 72 = .ok (.return_, 1) := by decide +kernel
theorem dX0_small_0 : decode cX0_small 0 = .ok (.iload_n 0, 1) := by decide +kernel
theorem dX0_small_1 : decode cX0_small 1 = .ok (.bipush 97, 2) := by decide +kernel
theorem dX0_small_3 : decode cX0_small 3 = .ok (.if_icmp .lt 13, 3) := by decide +kernel
theorem dX0_small_6 : decode cX0_small 6 = .ok (.iload_n 0, 1) := by decide +kernel
theorem dX0_small_7 : decode cX0_small 7 = .ok (.bipush 122, 2) := by decide +kernel
theorem dX0_small_9 : decode cX0_small 9 = .ok (.if_icmp .gt 7, 3) := by decide +kernel
theorem dX0_small_12 : decode cX0_small 12 = .ok (.iconst 1, 1) := by decide +kernel
theorem dX0_small_13 : decode cX0_small 13 = .ok (.goto 4, 3) := by decide +kernel
theorem dX0_small_16 : decode cX0_small 16 = .ok (.iconst 0, 1) := by decide +kernel
theorem dX0_small_17 : decode cX0_small 17 = .ok (.ireturn, 1) := by decide +kernel
theorem dX0_inTag_0 : decode cX0_inTag 0 = .ok (.iload_n 1, 1) := by decide +kernel
theorem dX0_inTag_1 : decode cX0_inTag 1 = .ok (.invokestatic 148, 3) := by decide +kernel
theorem dX0_inTag_4 : decode cX0_inTag 4 = .ok (.ifCond .eq 18, 3) := by decide +kernel
theorem dX0_inTag_7 : decode cX0_inTag 7 = .ok (.aload_n 0, 1) := by decide +kernel
theorem dX0_inTag_8 : decode cX0_inTag 8 = .ok (.dup, 1) := by decide +kernel
theorem dX0_inTag_9 : decode cX0_inTag 9 = .ok (.getfield 114, 3) := by decide +kernel
theorem dX0_inTag_12 : decode cX0_inTag 12 = .ok (.iconst 1, 1) := by decide +kernel
theorem dX0_inTag_13 : decode cX0_inTag 13 = .ok (.iload_n 1, 1) := by decide +kernel
theorem dX0_inTag_14 : decode cX0_inTag 14 = .ok (.bipush 65, 2) := by decide +kernel
theorem dX0_inTag_16 : decode cX0_inTag 16 = .ok (.isub, 1) := by decide +kernel
theorem dX0_inTag_17 : decode cX0_inTag 17 = .ok (.ishl, 1) := by decide +kernel
theorem dX0_inTag_18 : decode cX0_inTag 18 = .ok (.ior, 1) := by decide +kernel
theorem dX0_inTag_19 : decode cX0_inTag 19 = .ok (.putfield 114, 3) := by decide +kernel
theorem dX0_inTag_22 : decode cX0_inTag 22 = .ok (.iload_n 1, 1) := by decide +kernel
theorem dX0_inTag_23 : decode cX0_inTag 23 = .ok (.bipush 62, 2) := by decide +kernel
theorem dX0_inTag_25 : decode cX0_inTag 25 = .ok (.if_icmp .eq 4, 3) := by decide +kernel
theorem dX0_inTag_28 : decode cX0_inTag 28 = .ok (.return_, 1) := by decide +kernel
theorem dX0_inTag_29 : decode cX0_inTag 29 = .ok (.aload_n 0, 1) := by decide +kernel
theorem dX0_inTag_30 : decode cX0_inTag 30 = .ok (.getfield 38, 3) := by decide +kernel
theorem dX0_inTag_33 : decode cX0_inTag 33 = .ok (.getstatic 121, 3) := by decide +kernel
theorem dX0_inTag_36 : decode cX0_inTag 36 = .ok (.if_acmp .ne 7, 3) := by decide +kernel
theorem dX0_inTag_39 : decode cX0_inTag 39 = .ok (.iconst 1, 1) := by decide +kernel
theorem dX0_inTag_40 : decode cX0_inTag 40 = .ok (.goto 4, 3) := by decide +kernel
theorem dX0_inTag_43 : decode cX0_inTag 43 = .ok (.iconst 0, 1) := by decide +kernel
theorem dX0_inTag_44 : decode cX0_inTag 44 = .ok (.istore_n 2, 1) := by decide +kernel
theorem dX0_inTag_45 : decode cX0_inTag 45 = .ok (.aload_n 0, 1) := by decide +kernel
theorem dX0_inTag_46 : decode cX0_inTag 46 = .ok (.getstatic 32, 3) := by decide +kernel
theorem dX0_inTag_49 : decode cX0_inTag 49 = .ok (.putfield 38, 3) := by decide +kernel
theorem dX0_inTag_52 : decode cX0_inTag 52 = .ok (.iload_n 2, 1) := by decide +kernel
theorem dX0_inTag_53 : decode cX0_inTag 53 = .ok (.ifCond .eq 14, 3) := by decide +kernel
theorem dX0_inTag_56 : decode cX0_inTag 56 = .ok (.aload_n 0, 1) := by decide +kernel
theorem dX0_inTag_57 : decode cX0_inTag 57 = .ok (.aload_n 0, 1) := by decide +kernel
theorem dX0_inTag_58 : decode cX0_inTag 58 = .ok (.getfield 110, 3) := by decide +kernel
theorem dX0_inTag_61 : decode cX0_inTag 61 = .ok (.invokevirtual 151, 3) := by decide +kernel
theorem dX0_inTag_64 : decode cX0_inTag 64 = .ok (.goto 11, 3) := by decide +kernel
theorem dX0_inTag_67 : decode cX0_inTag 67 = .ok (.aload_n 0, 1) := by decide +kernel
theorem dX0_inTag_68 : decode cX0_inTag 68 = .ok (.aload_n 0, 1) := by decide +kernel
theorem dX0_inTag_69 : decode cX0_inTag 69 = .ok (.getfield 110, 3) := by decide +kernel
theorem dX0_inTag_72 : decode cX0_inTag 72 = .ok (.invokevirtual 154, 3) := by decide +kernel
theorem dX0_inTag_75 : decode cX0_inTag 75 = .ok (.return_, 1) := by decide +kernel
theorem dX0_capital_0 : decode cX0_capital 0 = .ok (.iload_n 0, 1) := by decide +kernel
theorem dX0_capital_1 : decode cX0_capital 1 = .ok (.bipush 65, 2) := by decide +kernel
theorem dX0_capital_3 : decode cX0_capital 3 = .ok (.if_icmp .lt 13, 3) := by decide +kernel
theorem dX0_capital_6 : decode cX0_capital 6 = .ok (.iload_n 0, 1) := by decide +kernel
theorem dX0_capital_7 : decode cX0_capital 7 = .ok (.bipush 90, 2) := by decide +kernel
theorem dX0_capital_9 : decode cX0_capital 9 = .ok (.if_icmp .gt 7, 3) := by decide +kernel
theorem dX0_capital_12 : decode cX0_capital 12 = .ok (.iconst 1, 1) := by decide +kernel
theorem dX0_capital_13 : decode cX0_capital 13 = .ok (.goto 4, 3) := by decide +kernel
theorem dX0_capital_16 : decode cX0_capital 16 = .ok (.iconst 0, 1) := by decide +kernel
theorem dX0_capital_17 : decode cX0_capital 17 = .ok (.ireturn, 1) := by decide +kernel
theorem dX0_end_0 : decode cX0_end 0 = .ok (.iload_n 1, 1) := by decide +kernel
theorem dX0_end_1 : decode cX0_end 1 = .ok (.tableswitch 215 99 117 #[196, 134, 215, 215, 215, 212, 215, 215, 212, 149, 215, 215, 215, 91, 215, 180, 215, 165, 134], 91) := by decide +kernel
theorem dX0_end_92 : decode cX0_end 92 = .ok (.aload_n 0, 1) := by decide +kernel
theorem dX0_end_93 : decode cX0_end 93 = .ok (.bipush 112, 2) := by decide +kernel
theorem dX0_end_95 : decode cX0_end 95 = .ok (.ldc_w 271, 3) := by decide +kernel
theorem dX0_end_98 : decode cX0_end 98 = .ok (.invokevirtual 201, 3) := by decide +kernel
theorem dX0_end_101 : decode cX0_end 101 = .ok (.istore_n 2, 1) := by decide +kernel
theorem dX0_end_102 : decode cX0_end 102 = .ok (.aload_n 0, 1) := by decide +kernel
theorem dX0_end_103 : decode cX0_end 103 = .ok (.iload_n 2, 1) := by decide +kernel
theorem dX0_end_104 : decode cX0_end 104 = .ok (.invokevirtual 273, 3) := by decide +kernel
theorem dX0_end_107 : decode cX0_end 107 = .ok (.iload_n 2, 1) := by decide +kernel
theorem dX0_end_108 : decode cX0_end 108 = .ok (.ifCond .le 7, 3) := by decide +kernel
theorem dX0_end_111 : decode cX0_end 111 = .ok (.aconst_null, 1) := by decide +kernel
theorem dX0_end_112 : decode cX0_end 112 = .ok (.goto 10, 3) := by decide +kernel
theorem dX0_end_115 : decode cX0_end 115 = .ok (.aload_n 0, 1) := by decide +kernel
theorem dX0_end_116 : decode cX0_end 116 = .ok (.bipush 112, 2) := by decide +kernel
theorem dX0_end_118 : decode cX0_end 118 = .ok (.iconst 0, 1) := by decide +kernel
theorem dX0_end_119 : decode cX0_end 119 = .ok (.invokevirtual 237, 3) := by decide +kernel
theorem dX0_end_122 : decode cX0_end 122 = .ok (.astore_n 3, 1) := by decide +kernel
theorem dX0_end_123 : decode cX0_end 123 = .ok (.aload_n 3, 1) := by decide +kernel
theorem dX0_end_124 : decode cX0_end 124 = .ok (.ifnull 122, 3) := by decide +kernel
theorem dX0_end_127 : decode cX0_end 127 = .ok (.aload_n 0, 1) := by decide +kernel
theorem dX0_end_128 : decode cX0_end 128 = .ok (.aload_n 3, 1) := by decide +kernel
theorem dX0_end_129 : decode cX0_end 129 = .ok (.invokevirtual 241, 3) := by decide +kernel
theorem dX0_end_132 : decode cX0_end 132 = .ok (.goto 114, 3) := by decide +kernel
theorem dX0_end_135 : decode cX0_end 135 = .ok (.aload_n 0, 1) := by decide +kernel
theorem dX0_end_136 : decode cX0_end 136 = .ok (.aload_n 0, 1) := by decide +kernel
theorem dX0_end_137 : decode cX0_end 137 = .ok (.iload_n 1, 1) := by decide +kernel
theorem dX0_end_138 : decode cX0_end 138 = .ok (.ldc_w 271, 3) := by decide +kernel
theorem dX0_end_141 : decode cX0_end 141 = .ok (.invokevirtual 201, 3) := by decide +kernel
theorem dX0_end_144 : decode cX0_end 144 = .ok (.invokevirtual 273, 3) := by decide +kernel
theorem dX0_end_147 : decode cX0_end 147 = .ok (.goto 99, 3) := by decide +kernel
theorem dX0_end_150 : decode cX0_end 150 = .ok (.aload_n 0, 1) := by decide +kernel
theorem dX0_end_151 : decode cX0_end 151 = .ok (.aload_n 0, 1) := by decide +kernel
theorem dX0_end_152 : decode cX0_end 152 = .ok (.bipush 108, 2) := by decide +kernel
theorem dX0_end_154 : decode cX0_end 154 = .ok (.ldc_w 276, 3) := by decide +kernel
theorem dX0_end_157 : decode cX0_end 157 = .ok (.invokevirtual 201, 3) := by decide +kernel
theorem dX0_end_160 : decode cX0_end 160 = .ok (.invokevirtual 273, 3) := by decide +kernel
theorem dX0_end_163 : decode cX0_end 163 = .ok (.goto 83, 3) := by decide +kernel
theorem dX0_end_166 : decode cX0_end 166 = .ok (.aload_n 0, 1) := by decide +kernel
theorem dX0_end_167 : decode cX0_end 167 = .ok (.aload_n 0, 1) := by decide +kernel
theorem dX0_end_168 : decode cX0_end 168 = .ok (.bipush 116, 2) := by decide +kernel
theorem dX0_end_170 : decode cX0_end 170 = .ok (.ldc 199, 2) := by decide +kernel
theorem dX0_end_172 : decode cX0_end 172 = .ok (.invokevirtual 201, 3) := by decide +kernel
theorem dX0_end_175 : decode cX0_end 175 = .ok (.invokevirtual 273, 3) := by decide +kernel
theorem dX0_end_178 : decode cX0_end 178 = .ok (.goto 68, 3) := by decide +kernel
theorem dX0_end_181 : decode cX0_end 181 = .ok (.aload_n 0, 1) := by decide +kernel
theorem dX0_end_182 : decode cX0_end 182 = .ok (.aload_n 0, 1) := by decide +kernel
theorem dX0_end_183 : decode cX0_end 183 = .ok (.bipush 114, 2) := by decide +kernel
theorem dX0_end_185 : decode cX0_end 185 = .ok (.ldc_w 284, 3) := by decide +kernel
theorem dX0_end_188 : decode cX0_end 188 = .ok (.invokevirtual 201, 3) := by decide +kernel
theorem dX0_end_191 : decode cX0_end 191 = .ok (.invokevirtual 273, 3) := by decide +kernel
theorem dX0_end_194 : decode cX0_end 194 = .ok (.goto 52, 3) := by decide +kernel
theorem dX0_end_197 : decode cX0_end 197 = .ok (.aload_n 0, 1) := by decide +kernel
theorem dX0_end_198 : decode cX0_end 198 = .ok (.aload_n 0, 1) := by decide +kernel
theorem dX0_end_199 : decode cX0_end 199 = .ok (.bipush 99, 2) := by decide +kernel
theorem dX0_end_201 : decode cX0_end 201 = .ok (.ldc_w 284, 3) := by decide +kernel
theorem dX0_end_204 : decode cX0_end 204 = .ok (.invokevirtual 201, 3) := by decide +kernel
theorem dX0_end_207 : decode cX0_end 207 = .ok (.invokevirtual 273, 3) := by decide +kernel
theorem dX0_end_210 : decode cX0_end 210 = .ok (.goto 36, 3) := by decide +kernel
theorem dX0_end_213 : decode cX0_end 213 = .ok (.goto 33, 3) := by decide +kernel
theorem dX0_end_216 : decode cX0_end 216 = .ok (.ldc_w 286, 3) := by decide +kernel
theorem dX0_end_219 : decode cX0_end 219 = .ok (.iload_n 1, 1) := by decide +kernel
theorem dX0_end_220 : decode cX0_end 220 = .ok (.invokevirtual 173, 3) := by decide +kernel
theorem dX0_end_223 : decode cX0_end 223 = .ok (.ifCond .lt 11, 3) := by decide +kernel
theorem dX0_end_226 : decode cX0_end 226 = .ok (.aload_n 0, 1) := by decide +kernel
theorem dX0_end_227 : decode cX0_end 227 = .ok (.iload_n 1, 1) := by decide +kernel
theorem dX0_end_228 : decode cX0_end 228 = .ok (.invokevirtual 288, 3) := by decide +kernel
theorem dX0_end_231 : decode cX0_end 231 = .ok (.ifCond .ne 15, 3) := by decide +kernel
theorem dX0_end_234 : decode cX0_end 234 = .ok (.aload_n 0, 1) := by decide +kernel
theorem dX0_end_235 : decode cX0_end 235 = .ok (.aload_n 0, 1) := by decide +kernel
theorem dX0_end_236 : decode cX0_end 236 = .ok (.iload_n 1, 1) := by decide +kernel
theorem dX0_end_237 : decode cX0_end 237 = .ok (.ldc_w 291, 3) := by decide +kernel
theorem dX0_end_240 : decode cX0_end 240 = .ok (.invokevirtual 201, 3) := by decide +kernel
theorem dX0_end_243 : decode cX0_end 243 = .ok (.invokevirtual 273, 3) := by decide +kernel
theorem dX0_end_246 : decode cX0_end 246 = .ok (.return_, 1) := by decide +kernel
theorem dX0_closeTo_0 : decode cX0_closeTo 0 = .ok (.iload_n 1, 1) := by decide +kernel
theorem dX0_closeTo_1 : decode cX0_closeTo 1 = .ok (.ifCond .le 42, 3) := by decide +kernel
theorem dX0_closeTo_4 : decode cX0_closeTo 4 = .ok (.aload_n 0, 1) := by decide +kernel
theorem dX0_closeTo_5 : decode cX0_closeTo 5 = .ok (.getfield 26, 3) := by decide +kernel
theorem dX0_closeTo_8 : decode cX0_closeTo 8 = .ok (.invokevirtual 160, 3) := by decide +kernel
theorem dX0_closeTo_11 : decode cX0_closeTo 11 = .ok (.iload_n 1, 1) := by decide +kernel
theorem dX0_closeTo_12 : decode cX0_closeTo 12 = .ok (.if_icmp .le 31, 3) := by decide +kernel
theorem dX0_closeTo_15 : decode cX0_closeTo 15 = .ok (.aload_n 0, 1) := by decide +kernel
theorem dX0_closeTo_16 : decode cX0_closeTo 16 = .ok (.getfield 26, 3) := by decide +kernel
theorem dX0_closeTo_19 : decode cX0_closeTo 19 = .ok (.aload_n 0, 1) := by decide +kernel
theorem dX0_closeTo_20 : decode cX0_closeTo 20 = .ok (.getfield 26, 3) := by decide +kernel
theorem dX0_closeTo_23 : decode cX0_closeTo 23 = .ok (.invokevirtual 160, 3) := by decide +kernel
theorem dX0_closeTo_26 : decode cX0_closeTo 26 = .ok (.iconst 1, 1) := by decide +kernel
theorem dX0_closeTo_27 : decode cX0_closeTo 27 = .ok (.isub, 1) := by decide +kernel
theorem dX0_closeTo_28 : decode cX0_closeTo 28 = .ok (.invokevirtual 179, 3) := by decide +kernel
theorem dX0_closeTo_31 : decode cX0_closeTo 31 = .ok (.checkcast 7, 3) := by decide +kernel
theorem dX0_closeTo_34 : decode cX0_closeTo 34 = .ok (.astore_n 2, 1) := by decide +kernel
theorem dX0_closeTo_35 : decode cX0_closeTo 35 = .ok (.aload_n 2, 1) := by decide +kernel
theorem dX0_closeTo_36 : decode cX0_closeTo 36 = .ok (.iconst 0, 1) := by decide +kernel
theorem dX0_closeTo_37 : decode cX0_closeTo 37 = .ok (.putfield 182, 3) := by decide +kernel
theorem dX0_closeTo_40 : decode cX0_closeTo 40 = .ok (.goto (-40), 3) := by decide +kernel
theorem dX0_closeTo_43 : decode cX0_closeTo 43 = .ok (.return_, 1) := by decide +kernel
theorem dX0_adopt_0 : decode cX0_adopt 0 = .ok (.aload_n 0, 1) := by decide +kernel
theorem dX0_adopt_1 : decode cX0_adopt 1 = .ok (.invokevirtual 231, 3) := by decide +kernel
theorem dX0_adopt_4 : decode cX0_adopt 4 = .ok (.astore_n 2, 1) := by decide +kernel
theorem dX0_adopt_5 : decode cX0_adopt 5 = .ok (.aload_n 2, 1) := by decide +kernel
theorem dX0_adopt_6 : decode cX0_adopt 6 = .ok (.invokevirtual 160, 3) := by decide +kernel
theorem dX0_adopt_9 : decode cX0_adopt 9 = .ok (.iconst 1, 1) := by decide +kernel
theorem dX0_adopt_10 : decode cX0_adopt 10 = .ok (.isub, 1) := by decide +kernel
theorem dX0_adopt_11 : decode cX0_adopt 11 = .ok (.istore_n 3, 1) := by decide +kernel
theorem dX0_adopt_12 : decode cX0_adopt 12 = .ok (.iload_n 3, 1) := by decide +kernel
theorem dX0_adopt_13 : decode cX0_adopt 13 = .ok (.ifCond .lt 24, 3) := by decide +kernel
theorem dX0_adopt_16 : decode cX0_adopt 16 = .ok (.aload_n 2, 1) := by decide +kernel
theorem dX0_adopt_17 : decode cX0_adopt 17 = .ok (.iload_n 3, 1) := by decide +kernel
theorem dX0_adopt_18 : decode cX0_adopt 18 = .ok (.invokevirtual 163, 3) := by decide +kernel
theorem dX0_adopt_21 : decode cX0_adopt 21 = .ok (.checkcast 7, 3) := by decide +kernel
theorem dX0_adopt_24 : decode cX0_adopt 24 = .ok (.iload_n 1, 1) := by decide +kernel
theorem dX0_adopt_25 : decode cX0_adopt 25 = .ok (.invokevirtual 167, 3) := by decide +kernel
theorem dX0_adopt_28 : decode cX0_adopt 28 = .ok (.ifCond .ne 9, 3) := by decide +kernel
theorem dX0_adopt_31 : decode cX0_adopt 31 = .ok (.iinc 3 (-1), 3) := by decide +kernel
theorem dX0_adopt_34 : decode cX0_adopt 34 = .ok (.goto (-22), 3) := by decide +kernel
theorem dX0_adopt_37 : decode cX0_adopt 37 = .ok (.iload_n 3, 1) := by decide +kernel
theorem dX0_adopt_38 : decode cX0_adopt 38 = .ok (.ifCond .ge 5, 3) := by decide +kernel
theorem dX0_adopt_41 : decode cX0_adopt 41 = .ok (.iconst 0, 1) := by decide +kernel
theorem dX0_adopt_42 : decode cX0_adopt 42 = .ok (.ireturn, 1) := by decide +kernel
theorem dX0_adopt_43 : decode cX0_adopt 43 = .ok (.aload_n 2, 1) := by decide +kernel
theorem dX0_adopt_44 : decode cX0_adopt 44 = .ok (.iload_n 3, 1) := by decide +kernel
theorem dX0_adopt_45 : decode cX0_adopt 45 = .ok (.invokevirtual 163, 3) := by decide +kernel
theorem dX0_adopt_48 : decode cX0_adopt 48 = .ok (.checkcast 7, 3) := by decide +kernel
theorem dX0_adopt_51 : decode cX0_adopt 51 = .ok (.astore 4, 2) := by decide +kernel
theorem dX0_adopt_53 : decode cX0_adopt 53 = .ok (.iconst 0, 1) := by decide +kernel
theorem dX0_adopt_54 : decode cX0_adopt 54 = .ok (.istore 5, 2) := by decide +kernel
theorem dX0_adopt_56 : decode cX0_adopt 56 = .ok (.iconst 0, 1) := by decide +kernel
theorem dX0_adopt_57 : decode cX0_adopt 57 = .ok (.istore 6, 2) := by decide +kernel
theorem dX0_adopt_59 : decode cX0_adopt 59 = .ok (.iconst 0, 1) := by decide +kernel
theorem dX0_adopt_60 : decode cX0_adopt 60 = .ok (.istore 7, 2) := by decide +kernel
theorem dX0_adopt_62 : decode cX0_adopt 62 = .ok (.iconst 1, 1) := by decide +kernel
theorem dX0_adopt_63 : decode cX0_adopt 63 = .ok (.istore 8, 2) := by decide +kernel
theorem dX0_adopt_65 : decode cX0_adopt 65 = .ok (.iload 8, 2) := by decide +kernel
theorem dX0_adopt_67 : decode cX0_adopt 67 = .ok (.aload_n 0, 1) := by decide +kernel
theorem dX0_adopt_68 : decode cX0_adopt 68 = .ok (.getfield 26, 3) := by decide +kernel
theorem dX0_adopt_71 : decode cX0_adopt 71 = .ok (.invokevirtual 160, 3) := by decide +kernel
theorem dX0_adopt_74 : decode cX0_adopt 74 = .ok (.if_icmp .ge 94, 3) := by decide +kernel
theorem dX0_adopt_77 : decode cX0_adopt 77 = .ok (.aload 4, 2) := by decide +kernel
theorem dX0_adopt_79 : decode cX0_adopt 79 = .ok (.getfield 182, 3) := by decide +kernel
theorem dX0_adopt_82 : decode cX0_adopt 82 = .ok (.ifCond .eq 86, 3) := by decide +kernel
theorem dX0_adopt_85 : decode cX0_adopt 85 = .ok (.aload_n 0, 1) := by decide +kernel
theorem dX0_adopt_86 : decode cX0_adopt 86 = .ok (.getfield 26, 3) := by decide +kernel
theorem dX0_adopt_89 : decode cX0_adopt 89 = .ok (.iload 8, 2) := by decide +kernel
theorem dX0_adopt_91 : decode cX0_adopt 91 = .ok (.invokevirtual 163, 3) := by decide +kernel
theorem dX0_adopt_94 : decode cX0_adopt 94 = .ok (.checkcast 7, 3) := by decide +kernel
theorem dX0_adopt_97 : decode cX0_adopt 97 = .ok (.astore 9, 2) := by decide +kernel
theorem dX0_adopt_99 : decode cX0_adopt 99 = .ok (.aload 9, 2) := by decide +kernel
theorem dX0_adopt_101 : decode cX0_adopt 101 = .ok (.aload 4, 2) := by decide +kernel
theorem dX0_adopt_103 : decode cX0_adopt 103 = .ok (.if_acmp .ne 10, 3) := by decide +kernel
theorem dX0_adopt_106 : decode cX0_adopt 106 = .ok (.iload 8, 2) := by decide +kernel
theorem dX0_adopt_108 : decode cX0_adopt 108 = .ok (.istore 5, 2) := by decide +kernel
theorem dX0_adopt_110 : decode cX0_adopt 110 = .ok (.goto 25, 3) := by decide +kernel
theorem dX0_adopt_113 : decode cX0_adopt 113 = .ok (.iload 5, 2) := by decide +kernel
theorem dX0_adopt_115 : decode cX0_adopt 115 = .ok (.ifCond .le 20, 3) := by decide +kernel
theorem dX0_adopt_118 : decode cX0_adopt 118 = .ok (.iload 6, 2) := by decide +kernel
theorem dX0_adopt_120 : decode cX0_adopt 120 = .ok (.ifCond .ne 15, 3) := by decide +kernel
theorem dX0_adopt_123 : decode cX0_adopt 123 = .ok (.aload 9, 2) := by decide +kernel
theorem dX0_adopt_125 : decode cX0_adopt 125 = .ok (.invokevirtual 293, 3) := by decide +kernel
theorem dX0_adopt_128 : decode cX0_adopt 128 = .ok (.ifCond .eq 7, 3) := by decide +kernel
theorem dX0_adopt_131 : decode cX0_adopt 131 = .ok (.iload 8, 2) := by decide +kernel
theorem dX0_adopt_133 : decode cX0_adopt 133 = .ok (.istore 6, 2) := by decide +kernel
theorem dX0_adopt_135 : decode cX0_adopt 135 = .ok (.iload 7, 2) := by decide +kernel
theorem dX0_adopt_137 : decode cX0_adopt 137 = .ok (.ifCond .ne 18, 3) := by decide +kernel
theorem dX0_adopt_140 : decode cX0_adopt 140 = .ok (.iload 5, 2) := by decide +kernel
theorem dX0_adopt_142 : decode cX0_adopt 142 = .ok (.ifCond .le 17, 3) := by decide +kernel
theorem dX0_adopt_145 : decode cX0_adopt 145 = .ok (.aload 9, 2) := by decide +kernel
theorem dX0_adopt_147 : decode cX0_adopt 147 = .ok (.bipush 116, 2) := by decide +kernel
theorem dX0_adopt_149 : decode cX0_adopt 149 = .ok (.invokevirtual 167, 3) := by decide +kernel
theorem dX0_adopt_152 : decode cX0_adopt 152 = .ok (.ifCond .eq 7, 3) := by decide +kernel
theorem dX0_adopt_155 : decode cX0_adopt 155 = .ok (.iconst 1, 1) := by decide +kernel
theorem dX0_adopt_156 : decode cX0_adopt 156 = .ok (.goto 4, 3) := by decide +kernel
theorem dX0_adopt_159 : decode cX0_adopt 159 = .ok (.iconst 0, 1) := by decide +kernel
theorem dX0_adopt_160 : decode cX0_adopt 160 = .ok (.istore 7, 2) := by decide +kernel
theorem dX0_adopt_162 : decode cX0_adopt 162 = .ok (.iinc 8 1, 3) := by decide +kernel
theorem dX0_adopt_165 : decode cX0_adopt 165 = .ok (.goto (-100), 3) := by decide +kernel
theorem dX0_adopt_168 : decode cX0_adopt 168 = .ok (.iload 7, 2) := by decide +kernel
theorem dX0_adopt_170 : decode cX0_adopt 170 = .ok (.ifCond .eq 5, 3) := by decide +kernel
theorem dX0_adopt_173 : decode cX0_adopt 173 = .ok (.iconst 1, 1) := by decide +kernel
theorem dX0_adopt_174 : decode cX0_adopt 174 = .ok (.ireturn, 1) := by decide +kernel
theorem dX0_adopt_175 : decode cX0_adopt 175 = .ok (.aload_n 2, 1) := by decide +kernel
theorem dX0_adopt_176 : decode cX0_adopt 176 = .ok (.iload_n 3, 1) := by decide +kernel
theorem dX0_adopt_177 : decode cX0_adopt 177 = .ok (.invokevirtual 179, 3) := by decide +kernel
theorem dX0_adopt_180 : decode cX0_adopt 180 = .ok (.pop, 1) := by decide +kernel
theorem dX0_adopt_181 : decode cX0_adopt 181 = .ok (.iload 6, 2) := by decide +kernel
theorem dX0_adopt_183 : decode cX0_adopt 183 = .ok (.ifCond .ne 12, 3) := by decide +kernel
theorem dX0_adopt_186 : decode cX0_adopt 186 = .ok (.aload_n 0, 1) := by decide +kernel
theorem dX0_adopt_187 : decode cX0_adopt 187 = .ok (.iload 5, 2) := by decide +kernel
theorem dX0_adopt_189 : decode cX0_adopt 189 = .ok (.invokevirtual 273, 3) := by decide +kernel
theorem dX0_adopt_192 : decode cX0_adopt 192 = .ok (.goto 13, 3) := by decide +kernel
theorem dX0_adopt_195 : decode cX0_adopt 195 = .ok (.aload_n 0, 1) := by decide +kernel
theorem dX0_adopt_196 : decode cX0_adopt 196 = .ok (.aload 4, 2) := by decide +kernel
theorem dX0_adopt_198 : decode cX0_adopt 198 = .ok (.iload 5, 2) := by decide +kernel
theorem dX0_adopt_200 : decode cX0_adopt 200 = .ok (.iload 6, 2) := by decide +kernel
theorem dX0_adopt_202 : decode cX0_adopt 202 = .ok (.invokevirtual 296, 3) := by decide +kernel
theorem dX0_adopt_205 : decode cX0_adopt 205 = .ok (.iconst 1, 1) := by decide +kernel
theorem dX0_adopt_206 : decode cX0_adopt 206 = .ok (.ireturn, 1) := by decide +kernel
theorem dX0_move_0 : decode cX0_move 0 = .ok (.aload_n 0, 1) := by decide +kernel
theorem dX0_move_1 : decode cX0_move 1 = .ok (.aload_n 1, 1) := by decide +kernel
theorem dX0_move_2 : decode cX0_move 2 = .ok (.getfield 170, 3) := by decide +kernel
theorem dX0_move_5 : decode cX0_move 5 = .ok (.aload_n 1, 1) := by decide +kernel
theorem dX0_move_6 : decode cX0_move 6 = .ok (.getfield 234, 3) := by decide +kernel
theorem dX0_move_9 : decode cX0_move 9 = .ok (.invokevirtual 237, 3) := by decide +kernel
theorem dX0_move_12 : decode cX0_move 12 = .ok (.astore 4, 2) := by decide +kernel
theorem dX0_move_14 : decode cX0_move 14 = .ok (.aload 4, 2) := by decide +kernel
theorem dX0_move_16 : decode cX0_move 16 = .ok (.ifnonnull 4, 3) := by decide +kernel
theorem dX0_move_19 : decode cX0_move 19 = .ok (.return_, 1) := by decide +kernel
theorem dX0_move_20 : decode cX0_move 20 = .ok (.aload_n 0, 1) := by decide +kernel
theorem dX0_move_21 : decode cX0_move 21 = .ok (.getfield 26, 3) := by decide +kernel
theorem dX0_move_24 : decode cX0_move 24 = .ok (.iload_n 3, 1) := by decide +kernel
theorem dX0_move_25 : decode cX0_move 25 = .ok (.invokevirtual 163, 3) := by decide +kernel
theorem dX0_move_28 : decode cX0_move 28 = .ok (.checkcast 7, 3) := by decide +kernel
theorem dX0_move_31 : decode cX0_move 31 = .ok (.astore 5, 2) := by decide +kernel
theorem dX0_move_33 : decode cX0_move 33 = .ok (.aload_n 0, 1) := by decide +kernel
theorem dX0_move_34 : decode cX0_move 34 = .ok (.getfield 29, 3) := by decide +kernel
theorem dX0_move_37 : decode cX0_move 37 = .ok (.invokevirtual 68, 3) := by decide +kernel
theorem dX0_move_40 : decode cX0_move 40 = .ok (.iload_n 3, 1) := by decide +kernel
theorem dX0_move_41 : decode cX0_move 41 = .ok (.istore 6, 2) := by decide +kernel
theorem dX0_move_43 : decode cX0_move 43 = .ok (.iload 6, 2) := by decide +kernel
theorem dX0_move_45 : decode cX0_move 45 = .ok (.aload_n 0, 1) := by decide +kernel
theorem dX0_move_46 : decode cX0_move 46 = .ok (.getfield 26, 3) := by decide +kernel
theorem dX0_move_49 : decode cX0_move 49 = .ok (.invokevirtual 160, 3) := by decide +kernel
theorem dX0_move_52 : decode cX0_move 52 = .ok (.if_icmp .ge 29, 3) := by decide +kernel
theorem dX0_move_55 : decode cX0_move 55 = .ok (.aload_n 0, 1) := by decide +kernel
theorem dX0_move_56 : decode cX0_move 56 = .ok (.getfield 29, 3) := by decide +kernel
theorem dX0_move_59 : decode cX0_move 59 = .ok (.aload_n 0, 1) := by decide +kernel
theorem dX0_move_60 : decode cX0_move 60 = .ok (.getfield 26, 3) := by decide +kernel
theorem dX0_move_63 : decode cX0_move 63 = .ok (.iload 6, 2) := by decide +kernel
theorem dX0_move_65 : decode cX0_move 65 = .ok (.invokevirtual 163, 3) := by decide +kernel
theorem dX0_move_68 : decode cX0_move 68 = .ok (.checkcast 7, 3) := by decide +kernel
theorem dX0_move_71 : decode cX0_move 71 = .ok (.invokevirtual 185, 3) := by decide +kernel
theorem dX0_move_74 : decode cX0_move 74 = .ok (.pop, 1) := by decide +kernel
theorem dX0_move_75 : decode cX0_move 75 = .ok (.iinc 6 1, 3) := by decide +kernel
theorem dX0_move_78 : decode cX0_move 78 = .ok (.goto (-35), 3) := by decide +kernel
theorem dX0_move_81 : decode cX0_move 81 = .ok (.aload_n 0, 1) := by decide +kernel
theorem dX0_move_82 : decode cX0_move 82 = .ok (.iload_n 2, 1) := by decide +kernel
theorem dX0_move_83 : decode cX0_move 83 = .ok (.invokevirtual 273, 3) := by decide +kernel
theorem dX0_move_86 : decode cX0_move 86 = .ok (.aload 5, 2) := by decide +kernel
theorem dX0_move_88 : decode cX0_move 88 = .ok (.getfield 205, 3) := by decide +kernel
theorem dX0_move_91 : decode cX0_move 91 = .ok (.getfield 218, 3) := by decide +kernel
theorem dX0_move_94 : decode cX0_move 94 = .ok (.aload 5, 2) := by decide +kernel
theorem dX0_move_96 : decode cX0_move 96 = .ok (.getfield 205, 3) := by decide +kernel
theorem dX0_move_99 : decode cX0_move 99 = .ok (.aload 5, 2) := by decide +kernel
theorem dX0_move_101 : decode cX0_move 101 = .ok (.invokevirtual 211, 3) := by decide +kernel
theorem dX0_move_104 : decode cX0_move 104 = .ok (.invokevirtual 179, 3) := by decide +kernel
theorem dX0_move_107 : decode cX0_move 107 = .ok (.pop, 1) := by decide +kernel
theorem dX0_move_108 : decode cX0_move 108 = .ok (.aload_n 0, 1) := by decide +kernel
theorem dX0_move_109 : decode cX0_move 109 = .ok (.aload 5, 2) := by decide +kernel
theorem dX0_move_111 : decode cX0_move 111 = .ok (.invokevirtual 241, 3) := by decide +kernel
theorem dX0_move_114 : decode cX0_move 114 = .ok (.iconst 0, 1) := by decide +kernel
theorem dX0_move_115 : decode cX0_move 115 = .ok (.istore 6, 2) := by decide +kernel
theorem dX0_move_117 : decode cX0_move 117 = .ok (.iload 6, 2) := by decide +kernel
theorem dX0_move_119 : decode cX0_move 119 = .ok (.aload_n 0, 1) := by decide +kernel
theorem dX0_move_120 : decode cX0_move 120 = .ok (.getfield 29, 3) := by decide +kernel
theorem dX0_move_123 : decode cX0_move 123 = .ok (.invokevirtual 160, 3) := by decide +kernel
