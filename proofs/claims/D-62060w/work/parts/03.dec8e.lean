set_option maxRecDepth 100000
theorem dX0_given_74 : decode cX0_given 74 = .ok (.if_icmp .eq 17, 3) := by decide +kernel
theorem dX0_given_77 : decode cX0_given 77 = .ok (.aload 8, 2) := by decide +kernel
theorem dX0_given_79 : decode cX0_given 79 = .ok (.getfield 345, 3) := by decide +kernel
theorem dX0_given_82 : decode cX0_given 82 = .ok (.iload 6, 2) := by decide +kernel
theorem dX0_given_84 : decode cX0_given 84 = .ok (.if_icmp .lt 7, 3) := by decide +kernel
theorem dX0_given_87 : decode cX0_given 87 = .ok (.iconst 1, 1) := by decide +kernel
theorem dX0_given_88 : decode cX0_given 88 = .ok (.goto 4, 3) := by decide +kernel
theorem dX0_given_91 : decode cX0_given 91 = .ok (.iconst 0, 1) := by decide +kernel
theorem dX0_given_92 : decode cX0_given 92 = .ok (.istore 10, 2) := by decide +kernel
theorem dX0_given_94 : decode cX0_given 94 = .ok (.iload 9, 2) := by decide +kernel
theorem dX0_given_96 : decode cX0_given 96 = .ok (.ifCond .ne 8, 3) := by decide +kernel
theorem dX0_given_99 : decode cX0_given 99 = .ok (.iload 10, 2) := by decide +kernel
theorem dX0_given_101 : decode cX0_given 101 = .ok (.ifCond .eq 85, 3) := by decide +kernel
theorem dX0_given_104 : decode cX0_given 104 = .ok (.aload 8, 2) := by decide +kernel
theorem dX0_given_106 : decode cX0_given 106 = .ok (.getfield 351, 3) := by decide +kernel
theorem dX0_given_109 : decode cX0_given 109 = .ok (.aload_n 0, 1) := by decide +kernel
theorem dX0_given_110 : decode cX0_given 110 = .ok (.invokestatic 336, 3) := by decide +kernel
theorem dX0_given_113 : decode cX0_given 113 = .ok (.ifCond .eq 73, 3) := by decide +kernel
theorem dX0_given_116 : decode cX0_given 116 = .ok (.iload 9, 2) := by decide +kernel
theorem dX0_given_118 : decode cX0_given 118 = .ok (.ifCond .eq 13, 3) := by decide +kernel
theorem dX0_given_121 : decode cX0_given 121 = .ok (.aload 8, 2) := by decide +kernel
theorem dX0_given_123 : decode cX0_given 123 = .ok (.getfield 342, 3) := by decide +kernel
theorem dX0_given_126 : decode cX0_given 126 = .ok (.iload_n 1, 1) := by decide +kernel
theorem dX0_given_127 : decode cX0_given 127 = .ok (.iaload, 1) := by decide +kernel
theorem dX0_given_128 : decode cX0_given 128 = .ok (.goto 4, 3) := by decide +kernel
theorem dX0_given_131 : decode cX0_given 131 = .ok (.iload_n 3, 1) := by decide +kernel
theorem dX0_given_132 : decode cX0_given 132 = .ok (.istore_n 3, 1) := by decide +kernel
theorem dX0_given_133 : decode cX0_given 133 = .ok (.iload 9, 2) := by decide +kernel
theorem dX0_given_135 : decode cX0_given 135 = .ok (.ifCond .eq 11, 3) := by decide +kernel
theorem dX0_given_138 : decode cX0_given 138 = .ok (.aload 8, 2) := by decide +kernel
theorem dX0_given_140 : decode cX0_given 140 = .ok (.getfield 345, 3) := by decide +kernel
theorem dX0_given_143 : decode cX0_given 143 = .ok (.goto 5, 3) := by decide +kernel
theorem dX0_given_146 : decode cX0_given 146 = .ok (.iload 5, 2) := by decide +kernel
theorem dX0_given_148 : decode cX0_given 148 = .ok (.istore 5, 2) := by decide +kernel
theorem dX0_given_150 : decode cX0_given 150 = .ok (.iload 10, 2) := by decide +kernel
theorem dX0_given_152 : decode cX0_given 152 = .ok (.ifCond .eq 13, 3) := by decide +kernel
theorem dX0_given_155 : decode cX0_given 155 = .ok (.aload 8, 2) := by decide +kernel
theorem dX0_given_157 : decode cX0_given 157 = .ok (.getfield 348, 3) := by decide +kernel
theorem dX0_given_160 : decode cX0_given 160 = .ok (.iload_n 1, 1) := by decide +kernel
theorem dX0_given_161 : decode cX0_given 161 = .ok (.iaload, 1) := by decide +kernel
theorem dX0_given_162 : decode cX0_given 162 = .ok (.goto 5, 3) := by decide +kernel
theorem dX0_given_165 : decode cX0_given 165 = .ok (.iload 4, 2) := by decide +kernel
theorem dX0_given_167 : decode cX0_given 167 = .ok (.istore 4, 2) := by decide +kernel
theorem dX0_given_169 : decode cX0_given 169 = .ok (.iload 10, 2) := by decide +kernel
theorem dX0_given_171 : decode cX0_given 171 = .ok (.ifCond .eq 11, 3) := by decide +kernel
theorem dX0_given_174 : decode cX0_given 174 = .ok (.aload 8, 2) := by decide +kernel
theorem dX0_given_176 : decode cX0_given 176 = .ok (.getfield 345, 3) := by decide +kernel
theorem dX0_given_179 : decode cX0_given 179 = .ok (.goto 5, 3) := by decide +kernel
theorem dX0_given_182 : decode cX0_given 182 = .ok (.iload 6, 2) := by decide +kernel
theorem dX0_given_184 : decode cX0_given 184 = .ok (.istore 6, 2) := by decide +kernel
theorem dX0_given_186 : decode cX0_given 186 = .ok (.iinc 7 1, 3) := by decide +kernel
theorem dX0_given_189 : decode cX0_given 189 = .ok (.goto (-173), 3) := by decide +kernel
theorem dX0_given_192 : decode cX0_given 192 = .ok (.iload 4, 2) := by decide +kernel
theorem dX0_given_194 : decode cX0_given 194 = .ok (.bipush (-2), 2) := by decide +kernel
theorem dX0_given_196 : decode cX0_given 196 = .ok (.if_icmp .eq 8, 3) := by decide +kernel
theorem dX0_given_199 : decode cX0_given 199 = .ok (.iload 4, 2) := by decide +kernel
theorem dX0_given_201 : decode cX0_given 201 = .ok (.goto 4, 3) := by decide +kernel
theorem dX0_given_204 : decode cX0_given 204 = .ok (.iload_n 3, 1) := by decide +kernel
theorem dX0_given_205 : decode cX0_given 205 = .ok (.ireturn, 1) := by decide +kernel
theorem dX0_fits_0 : decode cX0_fits 0 = .ok (.aload_n 0, 1) := by decide +kernel
theorem dX0_fits_1 : decode cX0_fits 1 = .ok (.aload_n 1, 1) := by decide +kernel
theorem dX0_fits_2 : decode cX0_fits 2 = .ok (.invokevirtual 328, 3) := by decide +kernel
theorem dX0_fits_5 : decode cX0_fits 5 = .ok (.ifCond .ne 5, 3) := by decide +kernel
theorem dX0_fits_8 : decode cX0_fits 8 = .ok (.iconst 0, 1) := by decide +kernel
theorem dX0_fits_9 : decode cX0_fits 9 = .ok (.ireturn, 1) := by decide +kernel
theorem dX0_fits_10 : decode cX0_fits 10 = .ok (.aload_n 0, 1) := by decide +kernel
theorem dX0_fits_11 : decode cX0_fits 11 = .ok (.getfield 332, 3) := by decide +kernel
theorem dX0_fits_14 : decode cX0_fits 14 = .ok (.ifnonnull 5, 3) := by decide +kernel
theorem dX0_fits_17 : decode cX0_fits 17 = .ok (.iconst 1, 1) := by decide +kernel
theorem dX0_fits_18 : decode cX0_fits 18 = .ok (.ireturn, 1) := by decide +kernel
theorem dX0_fits_19 : decode cX0_fits 19 = .ok (.aload_n 1, 1) := by decide +kernel
theorem dX0_fits_20 : decode cX0_fits 20 = .ok (.getfield 205, 3) := by decide +kernel
theorem dX0_fits_23 : decode cX0_fits 23 = .ok (.astore_n 2, 1) := by decide +kernel
theorem dX0_fits_24 : decode cX0_fits 24 = .ok (.aload_n 2, 1) := by decide +kernel
theorem dX0_fits_25 : decode cX0_fits 25 = .ok (.ifnull 35, 3) := by decide +kernel
theorem dX0_fits_28 : decode cX0_fits 28 = .ok (.aload_n 0, 1) := by decide +kernel
theorem dX0_fits_29 : decode cX0_fits 29 = .ok (.getfield 332, 3) := by decide +kernel
theorem dX0_fits_32 : decode cX0_fits 32 = .ok (.aload_n 2, 1) := by decide +kernel
theorem dX0_fits_33 : decode cX0_fits 33 = .ok (.invokestatic 336, 3) := by decide +kernel
theorem dX0_fits_36 : decode cX0_fits 36 = .ok (.ifCond .eq 5, 3) := by decide +kernel
theorem dX0_fits_39 : decode cX0_fits 39 = .ok (.iconst 1, 1) := by decide +kernel
theorem dX0_fits_40 : decode cX0_fits 40 = .ok (.ireturn, 1) := by decide +kernel
theorem dX0_fits_41 : decode cX0_fits 41 = .ok (.aload_n 0, 1) := by decide +kernel
theorem dX0_fits_42 : decode cX0_fits 42 = .ok (.getfield 339, 3) := by decide +kernel
theorem dX0_fits_45 : decode cX0_fits 45 = .ok (.ifCond .eq 7, 3) := by decide +kernel
theorem dX0_fits_48 : decode cX0_fits 48 = .ok (.aconst_null, 1) := by decide +kernel
theorem dX0_fits_49 : decode cX0_fits 49 = .ok (.goto 7, 3) := by decide +kernel
theorem dX0_fits_52 : decode cX0_fits 52 = .ok (.aload_n 2, 1) := by decide +kernel
theorem dX0_fits_53 : decode cX0_fits 53 = .ok (.getfield 205, 3) := by decide +kernel
theorem dX0_fits_56 : decode cX0_fits 56 = .ok (.astore_n 2, 1) := by decide +kernel
theorem dX0_fits_57 : decode cX0_fits 57 = .ok (.goto (-33), 3) := by decide +kernel
theorem dX0_fits_60 : decode cX0_fits 60 = .ok (.iconst 0, 1) := by decide +kernel
theorem dX0_fits_61 : decode cX0_fits 61 = .ok (.ireturn, 1) := by decide +kernel
theorem dX0_initial_0 : decode cX0_initial 0 = .ok (.aload_n 0, 1) := by decide +kernel
theorem dX0_initial_1 : decode cX0_initial 1 = .ok (.bipush 116, 2) := by decide +kernel
theorem dX0_initial_3 : decode cX0_initial 3 = .ok (.invokevirtual 167, 3) := by decide +kernel
theorem dX0_initial_6 : decode cX0_initial 6 = .ok (.ifCond .ne 21, 3) := by decide +kernel
theorem dX0_initial_9 : decode cX0_initial 9 = .ok (.aload_n 0, 1) := by decide +kernel
theorem dX0_initial_10 : decode cX0_initial 10 = .ok (.bipush 114, 2) := by decide +kernel
theorem dX0_initial_12 : decode cX0_initial 12 = .ok (.invokevirtual 167, 3) := by decide +kernel
theorem dX0_initial_15 : decode cX0_initial 15 = .ok (.ifCond .ne 12, 3) := by decide +kernel
theorem dX0_initial_18 : decode cX0_initial 18 = .ok (.aload_n 0, 1) := by decide +kernel
theorem dX0_initial_19 : decode cX0_initial 19 = .ok (.bipush 99, 2) := by decide +kernel
theorem dX0_initial_21 : decode cX0_initial 21 = .ok (.invokevirtual 167, 3) := by decide +kernel
theorem dX0_initial_24 : decode cX0_initial 24 = .ok (.ifCond .eq 7, 3) := by decide +kernel
theorem dX0_initial_27 : decode cX0_initial 27 = .ok (.iconst 1, 1) := by decide +kernel
theorem dX0_initial_28 : decode cX0_initial 28 = .ok (.goto 4, 3) := by decide +kernel
theorem dX0_initial_31 : decode cX0_initial 31 = .ok (.iconst 0, 1) := by decide +kernel
theorem dX0_initial_32 : decode cX0_initial 32 = .ok (.istore_n 2, 1) := by decide +kernel
theorem dX0_initial_33 : decode cX0_initial 33 = .ok (.iload_n 1, 1) := by decide +kernel
theorem dX0_initial_34 : decode cX0_initial 34 = .ok (.tableswitch 91 0 6 #[42, 91, 42, 63, 91, 91, 89], 42) := by decide +kernel
theorem dX0_initial_76 : decode cX0_initial 76 = .ok (.aload_n 0, 1) := by decide +kernel
theorem dX0_initial_77 : decode cX0_initial 77 = .ok (.getfield 205, 3) := by decide +kernel
theorem dX0_initial_80 : decode cX0_initial 80 = .ok (.ifnonnull 7, 3) := by decide +kernel
theorem dX0_initial_83 : decode cX0_initial 83 = .ok (.iconst 1, 1) := by decide +kernel
theorem dX0_initial_84 : decode cX0_initial 84 = .ok (.goto 12, 3) := by decide +kernel
theorem dX0_initial_87 : decode cX0_initial 87 = .ok (.aload_n 0, 1) := by decide +kernel
theorem dX0_initial_88 : decode cX0_initial 88 = .ok (.getfield 205, 3) := by decide +kernel
theorem dX0_initial_91 : decode cX0_initial 91 = .ok (.getfield 354, 3) := by decide +kernel
theorem dX0_initial_94 : decode cX0_initial 94 = .ok (.iload_n 1, 1) := by decide +kernel
theorem dX0_initial_95 : decode cX0_initial 95 = .ok (.iaload, 1) := by decide +kernel
theorem dX0_initial_96 : decode cX0_initial 96 = .ok (.ireturn, 1) := by decide +kernel
theorem dX0_initial_97 : decode cX0_initial 97 = .ok (.aload_n 0, 1) := by decide +kernel
theorem dX0_initial_98 : decode cX0_initial 98 = .ok (.getfield 205, 3) := by decide +kernel
theorem dX0_initial_101 : decode cX0_initial 101 = .ok (.ifnull 14, 3) := by decide +kernel
theorem dX0_initial_104 : decode cX0_initial 104 = .ok (.iload_n 2, 1) := by decide +kernel
theorem dX0_initial_105 : decode cX0_initial 105 = .ok (.ifCond .ne 10, 3) := by decide +kernel
theorem dX0_initial_108 : decode cX0_initial 108 = .ok (.aload_n 0, 1) := by decide +kernel
theorem dX0_initial_109 : decode cX0_initial 109 = .ok (.invokevirtual 293, 3) := by decide +kernel
theorem dX0_initial_112 : decode cX0_initial 112 = .ok (.ifCond .eq 8, 3) := by decide +kernel
theorem dX0_initial_115 : decode cX0_initial 115 = .ok (.bipush 98, 2) := by decide +kernel
theorem dX0_initial_117 : decode cX0_initial 117 = .ok (.goto 5, 3) := by decide +kernel
theorem dX0_initial_120 : decode cX0_initial 120 = .ok (.bipush 105, 2) := by decide +kernel
theorem dX0_initial_122 : decode cX0_initial 122 = .ok (.ireturn, 1) := by decide +kernel
theorem dX0_initial_123 : decode cX0_initial 123 = .ok (.iconst (-1), 1) := by decide +kernel
theorem dX0_initial_124 : decode cX0_initial 124 = .ok (.ireturn, 1) := by decide +kernel
theorem dX0_initial_125 : decode cX0_initial 125 = .ok (.iconst 0, 1) := by decide +kernel
theorem dX0_initial_126 : decode cX0_initial 126 = .ok (.ireturn, 1) := by decide +kernel
theorem dX0_lay_0 : decode cX0_lay 0 = .ok (.aload_n 0, 1) := by decide +kernel
theorem dX0_lay_1 : decode cX0_lay 1 = .ok (.getfield 354, 3) := by decide +kernel
theorem dX0_lay_4 : decode cX0_lay 4 = .ok (.iconst 4, 1) := by decide +kernel
theorem dX0_lay_5 : decode cX0_lay 5 = .ok (.iaload, 1) := by decide +kernel
theorem dX0_lay_6 : decode cX0_lay 6 = .ok (.istore 5, 2) := by decide +kernel
theorem dX0_lay_8 : decode cX0_lay 8 = .ok (.aload_n 0, 1) := by decide +kernel
theorem dX0_lay_9 : decode cX0_lay 9 = .ok (.getfield 354, 3) := by decide +kernel
theorem dX0_lay_12 : decode cX0_lay 12 = .ok (.iconst 5, 1) := by decide +kernel
theorem dX0_lay_13 : decode cX0_lay 13 = .ok (.iaload, 1) := by decide +kernel
theorem dX0_lay_14 : decode cX0_lay 14 = .ok (.istore 6, 2) := by decide +kernel
theorem dX0_lay_16 : decode cX0_lay 16 = .ok (.aload_n 0, 1) := by decide +kernel
theorem dX0_lay_17 : decode cX0_lay 17 = .ok (.getfield 354, 3) := by decide +kernel
theorem dX0_lay_20 : decode cX0_lay 20 = .ok (.bipush 6, 2) := by decide +kernel
theorem dX0_lay_22 : decode cX0_lay 22 = .ok (.iaload, 1) := by decide +kernel
theorem dX0_lay_23 : decode cX0_lay 23 = .ok (.istore 7, 2) := by decide +kernel
theorem dX0_lay_25 : decode cX0_lay 25 = .ok (.aload_n 0, 1) := by decide +kernel
theorem dX0_lay_26 : decode cX0_lay 26 = .ok (.iload 7, 2) := by decide +kernel
theorem dX0_lay_28 : decode cX0_lay 28 = .ok (.iconst (-1), 1) := by decide +kernel
theorem dX0_lay_29 : decode cX0_lay 29 = .ok (.if_icmp .eq 8, 3) := by decide +kernel
theorem dX0_lay_32 : decode cX0_lay 32 = .ok (.iload 7, 2) := by decide +kernel
theorem dX0_lay_34 : decode cX0_lay 34 = .ok (.goto 18, 3) := by decide +kernel
theorem dX0_lay_37 : decode cX0_lay 37 = .ok (.iconst 0, 1) := by decide +kernel
theorem dX0_lay_38 : decode cX0_lay 38 = .ok (.iload_n 3, 1) := by decide +kernel
theorem dX0_lay_39 : decode cX0_lay 39 = .ok (.iconst 2, 1) := by decide +kernel
theorem dX0_lay_40 : decode cX0_lay 40 = .ok (.iload 5, 2) := by decide +kernel
theorem dX0_lay_42 : decode cX0_lay 42 = .ok (.imul, 1) := by decide +kernel
theorem dX0_lay_43 : decode cX0_lay 43 = .ok (.isub, 1) := by decide +kernel
theorem dX0_lay_44 : decode cX0_lay 44 = .ok (.iconst 2, 1) := by decide +kernel
theorem dX0_lay_45 : decode cX0_lay 45 = .ok (.iload 6, 2) := by decide +kernel
theorem dX0_lay_47 : decode cX0_lay 47 = .ok (.imul, 1) := by decide +kernel
theorem dX0_lay_48 : decode cX0_lay 48 = .ok (.isub, 1) := by decide +kernel
theorem dX0_lay_49 : decode cX0_lay 49 = .ok (.invokestatic 382, 3) := by decide +kernel
theorem dX0_lay_52 : decode cX0_lay 52 = .ok (.putfield 388, 3) := by decide +kernel
theorem dX0_lay_55 : decode cX0_lay 55 = .ok (.aload_n 0, 1) := by decide +kernel
theorem dX0_lay_56 : decode cX0_lay 56 = .ok (.iload_n 1, 1) := by decide +kernel
theorem dX0_lay_57 : decode cX0_lay 57 = .ok (.iload 5, 2) := by decide +kernel
theorem dX0_lay_59 : decode cX0_lay 59 = .ok (.iadd, 1) := by decide +kernel
theorem dX0_lay_60 : decode cX0_lay 60 = .ok (.putfield 391, 3) := by decide +kernel
theorem dX0_lay_63 : decode cX0_lay 63 = .ok (.aload_n 0, 1) := by decide +kernel
theorem dX0_lay_64 : decode cX0_lay 64 = .ok (.iload_n 2, 1) := by decide +kernel
theorem dX0_lay_65 : decode cX0_lay 65 = .ok (.putfield 394, 3) := by decide +kernel
theorem dX0_lay_68 : decode cX0_lay 68 = .ok (.aload_n 0, 1) := by decide +kernel
theorem dX0_lay_69 : decode cX0_lay 69 = .ok (.aload_n 0, 1) := by decide +kernel
theorem dX0_lay_70 : decode cX0_lay 70 = .ok (.getfield 391, 3) := by decide +kernel
theorem dX0_lay_73 : decode cX0_lay 73 = .ok (.iload 6, 2) := by decide +kernel
theorem dX0_lay_75 : decode cX0_lay 75 = .ok (.iadd, 1) := by decide +kernel
theorem dX0_lay_76 : decode cX0_lay 76 = .ok (.putfield 397, 3) := by decide +kernel
theorem dX0_lay_79 : decode cX0_lay 79 = .ok (.aload_n 0, 1) := by decide +kernel
theorem dX0_lay_80 : decode cX0_lay 80 = .ok (.aload_n 0, 1) := by decide +kernel
theorem dX0_lay_81 : decode cX0_lay 81 = .ok (.getfield 388, 3) := by decide +kernel
theorem dX0_lay_84 : decode cX0_lay 84 = .ok (.iconst 2, 1) := by decide +kernel
theorem dX0_lay_85 : decode cX0_lay 85 = .ok (.iload 6, 2) := by decide +kernel
theorem dX0_lay_87 : decode cX0_lay 87 = .ok (.imul, 1) := by decide +kernel
theorem dX0_lay_88 : decode cX0_lay 88 = .ok (.iadd, 1) := by decide +kernel
theorem dX0_lay_89 : decode cX0_lay 89 = .ok (.putfield 400, 3) := by decide +kernel
theorem dX0_lay_92 : decode cX0_lay 92 = .ok (.aload_n 0, 1) := by decide +kernel
theorem dX0_lay_93 : decode cX0_lay 93 = .ok (.iload_n 2, 1) := by decide +kernel
theorem dX0_lay_94 : decode cX0_lay 94 = .ok (.iload 6, 2) := by decide +kernel
theorem dX0_lay_96 : decode cX0_lay 96 = .ok (.iadd, 1) := by decide +kernel
theorem dX0_lay_97 : decode cX0_lay 97 = .ok (.putfield 403, 3) := by decide +kernel
theorem dX0_lay_100 : decode cX0_lay 100 = .ok (.aload_n 0, 1) := by decide +kernel
theorem dX0_lay_101 : decode cX0_lay 101 = .ok (.iconst 0, 1) := by decide +kernel
theorem dX0_lay_102 : decode cX0_lay 102 = .ok (.putfield 405, 3) := by decide +kernel
theorem dX0_lay_105 : decode cX0_lay 105 = .ok (.aload_n 0, 1) := by decide +kernel
theorem dX0_lay_106 : decode cX0_lay 106 = .ok (.bipush 104, 2) := by decide +kernel
theorem dX0_lay_108 : decode cX0_lay 108 = .ok (.invokevirtual 167, 3) := by decide +kernel
theorem dX0_lay_111 : decode cX0_lay 111 = .ok (.ifCond .eq 16, 3) := by decide +kernel
theorem dX0_lay_114 : decode cX0_lay 114 = .ok (.aload_n 0, 1) := by decide +kernel
theorem dX0_lay_115 : decode cX0_lay 115 = .ok (.dup, 1) := by decide +kernel
theorem dX0_lay_116 : decode cX0_lay 116 = .ok (.getfield 403, 3) := by decide +kernel
theorem dX0_lay_119 : decode cX0_lay 119 = .ok (.iconst 1, 1) := by decide +kernel
theorem dX0_lay_120 : decode cX0_lay 120 = .ok (.iadd, 1) := by decide +kernel
theorem dX0_lay_121 : decode cX0_lay 121 = .ok (.putfield 403, 3) := by decide +kernel
theorem dX0_lay_124 : decode cX0_lay 124 = .ok (.goto 140, 3) := by decide +kernel
theorem dX0_lay_127 : decode cX0_lay 127 = .ok (.aload_n 0, 1) := by decide +kernel
theorem dX0_lay_128 : decode cX0_lay 128 = .ok (.bipush 114, 2) := by decide +kernel
theorem dX0_lay_130 : decode cX0_lay 130 = .ok (.invokevirtual 167, 3) := by decide +kernel
theorem dX0_lay_133 : decode cX0_lay 133 = .ok (.ifCond .eq 12, 3) := by decide +kernel
theorem dX0_lay_136 : decode cX0_lay 136 = .ok (.aload_n 0, 1) := by decide +kernel
theorem dX0_lay_137 : decode cX0_lay 137 = .ok (.aload 4, 2) := by decide +kernel
theorem dX0_lay_139 : decode cX0_lay 139 = .ok (.invokestatic 407, 3) := by decide +kernel
theorem dX0_lay_142 : decode cX0_lay 142 = .ok (.goto 122, 3) := by decide +kernel
theorem dX0_lay_145 : decode cX0_lay 145 = .ok (.iconst 0, 1) := by decide +kernel
theorem dX0_lay_146 : decode cX0_lay 146 = .ok (.istore 8, 2) := by decide +kernel
theorem dX0_lay_148 : decode cX0_lay 148 = .ok (.iload 8, 2) := by decide +kernel
theorem dX0_lay_150 : decode cX0_lay 150 = .ok (.aload_n 0, 1) := by decide +kernel
theorem dX0_lay_151 : decode cX0_lay 151 = .ok (.getfield 218, 3) := by decide +kernel
theorem dX0_lay_154 : decode cX0_lay 154 = .ok (.invokevirtual 160, 3) := by decide +kernel
theorem dX0_lay_157 : decode cX0_lay 157 = .ok (.if_icmp .ge 101, 3) := by decide +kernel
theorem dX0_lay_160 : decode cX0_lay 160 = .ok (.aload_n 0, 1) := by decide +kernel
theorem dX0_lay_161 : decode cX0_lay 161 = .ok (.getfield 218, 3) := by decide +kernel
theorem dX0_lay_164 : decode cX0_lay 164 = .ok (.iload 8, 2) := by decide +kernel
theorem dX0_lay_166 : decode cX0_lay 166 = .ok (.invokevirtual 163, 3) := by decide +kernel
theorem dX0_lay_169 : decode cX0_lay 169 = .ok (.checkcast 252, 3) := by decide +kernel
theorem dX0_lay_172 : decode cX0_lay 172 = .ok (.aload 4, 2) := by decide +kernel
theorem dX0_lay_174 : decode cX0_lay 174 = .ok (.invokestatic 411, 3) := by decide +kernel
theorem dX0_lay_177 : decode cX0_lay 177 = .ok (.astore 9, 2) := by decide +kernel
theorem dX0_lay_179 : decode cX0_lay 179 = .ok (.aload 9, 2) := by decide +kernel
theorem dX0_lay_181 : decode cX0_lay 181 = .ok (.ifnonnull 6, 3) := by decide +kernel
theorem dX0_lay_184 : decode cX0_lay 184 = .ok (.goto 68, 3) := by decide +kernel
theorem dX0_lay_187 : decode cX0_lay 187 = .ok (.aload 9, 2) := by decide +kernel
theorem dX0_lay_189 : decode cX0_lay 189 = .ok (.invokevirtual 415, 3) := by decide +kernel
theorem dX0_lay_192 : decode cX0_lay 192 = .ok (.ifCond .eq 52, 3) := by decide +kernel
theorem dX0_lay_195 : decode cX0_lay 195 = .ok (.aload_n 0, 1) := by decide +kernel
theorem dX0_lay_196 : decode cX0_lay 196 = .ok (.aload 4, 2) := by decide +kernel
theorem dX0_lay_198 : decode cX0_lay 198 = .ok (.invokestatic 418, 3) := by decide +kernel
theorem dX0_lay_201 : decode cX0_lay 201 = .ok (.aload 9, 2) := by decide +kernel
theorem dX0_lay_203 : decode cX0_lay 203 = .ok (.aload_n 0, 1) := by decide +kernel
theorem dX0_lay_204 : decode cX0_lay 204 = .ok (.getfield 397, 3) := by decide +kernel
theorem dX0_lay_207 : decode cX0_lay 207 = .ok (.aload_n 0, 1) := by decide +kernel
theorem dX0_lay_208 : decode cX0_lay 208 = .ok (.getfield 403, 3) := by decide +kernel
theorem dX0_lay_211 : decode cX0_lay 211 = .ok (.aload_n 0, 1) := by decide +kernel
theorem dX0_lay_212 : decode cX0_lay 212 = .ok (.getfield 405, 3) := by decide +kernel
theorem dX0_lay_215 : decode cX0_lay 215 = .ok (.aload 9, 2) := by decide +kernel
theorem dX0_lay_217 : decode cX0_lay 217 = .ok (.getfield 354, 3) := by decide +kernel
theorem dX0_lay_220 : decode cX0_lay 220 = .ok (.iconst 4, 1) := by decide +kernel
theorem dX0_lay_221 : decode cX0_lay 221 = .ok (.iaload, 1) := by decide +kernel
theorem dX0_lay_222 : decode cX0_lay 222 = .ok (.invokestatic 382, 3) := by decide +kernel
theorem dX0_lay_225 : decode cX0_lay 225 = .ok (.iadd, 1) := by decide +kernel
theorem dX0_lay_226 : decode cX0_lay 226 = .ok (.aload_n 0, 1) := by decide +kernel
theorem dX0_lay_227 : decode cX0_lay 227 = .ok (.getfield 388, 3) := by decide +kernel
theorem dX0_lay_230 : decode cX0_lay 230 = .ok (.aload 4, 2) := by decide +kernel
theorem dX0_lay_232 : decode cX0_lay 232 = .ok (.invokestatic 421, 3) := by decide +kernel
theorem dX0_lay_235 : decode cX0_lay 235 = .ok (.aload_n 0, 1) := by decide +kernel
theorem dX0_lay_236 : decode cX0_lay 236 = .ok (.aload 9, 2) := by decide +kernel
theorem dX0_lay_238 : decode cX0_lay 238 = .ok (.invokevirtual 425, 3) := by decide +kernel
theorem dX0_lay_241 : decode cX0_lay 241 = .ok (.goto 11, 3) := by decide +kernel
theorem dX0_lay_244 : decode cX0_lay 244 = .ok (.aload_n 0, 1) := by decide +kernel
theorem dX0_lay_245 : decode cX0_lay 245 = .ok (.aload 9, 2) := by decide +kernel
theorem dX0_lay_247 : decode cX0_lay 247 = .ok (.aload 4, 2) := by decide +kernel
theorem dX0_lay_249 : decode cX0_lay 249 = .ok (.invokestatic 428, 3) := by decide +kernel
theorem dX0_lay_252 : decode cX0_lay 252 = .ok (.iinc 8 1, 3) := by decide +kernel
theorem dX0_lay_255 : decode cX0_lay 255 = .ok (.goto (-107), 3) := by decide +kernel
theorem dX0_lay_258 : decode cX0_lay 258 = .ok (.aload_n 0, 1) := by decide +kernel
theorem dX0_lay_259 : decode cX0_lay 259 = .ok (.aload 4, 2) := by decide +kernel
theorem dX0_lay_261 : decode cX0_lay 261 = .ok (.invokestatic 418, 3) := by decide +kernel
theorem dX0_lay_264 : decode cX0_lay 264 = .ok (.aload_n 0, 1) := by decide +kernel
theorem dX0_lay_265 : decode cX0_lay 265 = .ok (.aload_n 0, 1) := by decide +kernel
theorem dX0_lay_266 : decode cX0_lay 266 = .ok (.getfield 403, 3) := by decide +kernel
theorem dX0_lay_269 : decode cX0_lay 269 = .ok (.aload_n 0, 1) := by decide +kernel
theorem dX0_lay_270 : decode cX0_lay 270 = .ok (.getfield 405, 3) := by decide +kernel
theorem dX0_lay_273 : decode cX0_lay 273 = .ok (.iadd, 1) := by decide +kernel
theorem dX0_lay_274 : decode cX0_lay 274 = .ok (.iload 6, 2) := by decide +kernel
theorem dX0_lay_276 : decode cX0_lay 276 = .ok (.iadd, 1) := by decide +kernel
theorem dX0_lay_277 : decode cX0_lay 277 = .ok (.iload_n 2, 1) := by decide +kernel
theorem dX0_lay_278 : decode cX0_lay 278 = .ok (.isub, 1) := by decide +kernel
theorem dX0_lay_279 : decode cX0_lay 279 = .ok (.putfield 432, 3) := by decide +kernel
theorem dX0_lay_282 : decode cX0_lay 282 = .ok (.return_, 1) := by decide +kernel
theorem dX0_side_0 : decode cX0_side 0 = .ok (.iconst 0, 1) := by decide +kernel
theorem dX0_side_1 : decode cX0_side 1 = .ok (.istore_n 2, 1) := by decide +kernel
theorem dX0_side_2 : decode cX0_side 2 = .ok (.iconst 0, 1) := by decide +kernel
theorem dX0_side_3 : decode cX0_side 3 = .ok (.istore_n 3, 1) := by decide +kernel
theorem dX0_side_4 : decode cX0_side 4 = .ok (.iload_n 3, 1) := by decide +kernel
theorem dX0_side_5 : decode cX0_side 5 = .ok (.aload_n 0, 1) := by decide +kernel
theorem dX0_side_6 : decode cX0_side 6 = .ok (.getfield 218, 3) := by decide +kernel
theorem dX0_side_9 : decode cX0_side 9 = .ok (.invokevirtual 160, 3) := by decide +kernel
theorem dX0_side_12 : decode cX0_side 12 = .ok (.if_icmp .ge 49, 3) := by decide +kernel
theorem dX0_side_15 : decode cX0_side 15 = .ok (.aload_n 0, 1) := by decide +kernel
theorem dX0_side_16 : decode cX0_side 16 = .ok (.getfield 218, 3) := by decide +kernel
theorem dX0_side_19 : decode cX0_side 19 = .ok (.iload_n 3, 1) := by decide +kernel
theorem dX0_side_20 : decode cX0_side 20 = .ok (.invokevirtual 163, 3) := by decide +kernel
theorem dX0_side_23 : decode cX0_side 23 = .ok (.checkcast 252, 3) := by decide +kernel
theorem dX0_side_26 : decode cX0_side 26 = .ok (.astore 4, 2) := by decide +kernel
theorem dX0_side_28 : decode cX0_side 28 = .ok (.iload_n 2, 1) := by decide +kernel
theorem dX0_side_29 : decode cX0_side 29 = .ok (.aload 4, 2) := by decide +kernel
theorem dX0_side_31 : decode cX0_side 31 = .ok (.instanceof 7, 3) := by decide +kernel
theorem dX0_side_34 : decode cX0_side 34 = .ok (.ifCond .eq 18, 3) := by decide +kernel
theorem dX0_side_37 : decode cX0_side 37 = .ok (.aload 4, 2) := by decide +kernel
theorem dX0_side_39 : decode cX0_side 39 = .ok (.checkcast 7, 3) := by decide +kernel
theorem dX0_side_42 : decode cX0_side 42 = .ok (.invokevirtual 415, 3) := by decide +kernel
theorem dX0_side_45 : decode cX0_side 45 = .ok (.ifCond .eq 7, 3) := by decide +kernel
theorem dX0_side_48 : decode cX0_side 48 = .ok (.iconst 1, 1) := by decide +kernel
theorem dX0_side_49 : decode cX0_side 49 = .ok (.goto 4, 3) := by decide +kernel
theorem dX0_side_52 : decode cX0_side 52 = .ok (.iconst 0, 1) := by decide +kernel
theorem dX0_side_53 : decode cX0_side 53 = .ok (.iadd, 1) := by decide +kernel
theorem dX0_side_54 : decode cX0_side 54 = .ok (.istore_n 2, 1) := by decide +kernel
theorem dX0_side_55 : decode cX0_side 55 = .ok (.iinc 3 1, 3) := by decide +kernel
theorem dX0_side_58 : decode cX0_side 58 = .ok (.goto (-54), 3) := by decide +kernel
theorem dX0_side_61 : decode cX0_side 61 = .ok (.iconst 0, 1) := by decide +kernel
theorem dX0_side_62 : decode cX0_side 62 = .ok (.istore_n 3, 1) := by decide +kernel
theorem dX0_side_63 : decode cX0_side 63 = .ok (.aload_n 0, 1) := by decide +kernel
theorem dX0_side_64 : decode cX0_side 64 = .ok (.getfield 403, 3) := by decide +kernel
theorem dX0_side_67 : decode cX0_side 67 = .ok (.istore 4, 2) := by decide +kernel
theorem dX0_side_69 : decode cX0_side 69 = .ok (.iconst 0, 1) := by decide +kernel
theorem dX0_side_70 : decode cX0_side 70 = .ok (.istore 5, 2) := by decide +kernel
theorem dX0_side_72 : decode cX0_side 72 = .ok (.iload 5, 2) := by decide +kernel
theorem dX0_side_74 : decode cX0_side 74 = .ok (.aload_n 0, 1) := by decide +kernel
theorem dX0_side_75 : decode cX0_side 75 = .ok (.getfield 218, 3) := by decide +kernel
theorem dX0_side_78 : decode cX0_side 78 = .ok (.invokevirtual 160, 3) := by decide +kernel
theorem dX0_side_81 : decode cX0_side 81 = .ok (.if_icmp .ge 116, 3) := by decide +kernel
theorem dX0_side_84 : decode cX0_side 84 = .ok (.aload_n 0, 1) := by decide +kernel
theorem dX0_side_85 : decode cX0_side 85 = .ok (.getfield 218, 3) := by decide +kernel
theorem dX0_side_88 : decode cX0_side 88 = .ok (.iload 5, 2) := by decide +kernel
theorem dX0_side_90 : decode cX0_side 90 = .ok (.invokevirtual 163, 3) := by decide +kernel
theorem dX0_side_93 : decode cX0_side 93 = .ok (.checkcast 252, 3) := by decide +kernel
theorem dX0_side_96 : decode cX0_side 96 = .ok (.astore 6, 2) := by decide +kernel
theorem dX0_side_98 : decode cX0_side 98 = .ok (.aload 6, 2) := by decide +kernel
theorem dX0_side_100 : decode cX0_side 100 = .ok (.instanceof 7, 3) := by decide +kernel
theorem dX0_side_103 : decode cX0_side 103 = .ok (.ifCond .eq 88, 3) := by decide +kernel
theorem dX0_side_106 : decode cX0_side 106 = .ok (.aload 6, 2) := by decide +kernel
theorem dX0_side_108 : decode cX0_side 108 = .ok (.checkcast 7, 3) := by decide +kernel
theorem dX0_side_111 : decode cX0_side 111 = .ok (.invokevirtual 415, 3) := by decide +kernel
theorem dX0_side_114 : decode cX0_side 114 = .ok (.ifCond .eq 77, 3) := by decide +kernel
theorem dX0_side_117 : decode cX0_side 117 = .ok (.aload 6, 2) := by decide +kernel
theorem dX0_side_119 : decode cX0_side 119 = .ok (.checkcast 7, 3) := by decide +kernel
theorem dX0_side_122 : decode cX0_side 122 = .ok (.astore 7, 2) := by decide +kernel
theorem dX0_side_124 : decode cX0_side 124 = .ok (.aload 7, 2) := by decide +kernel
theorem dX0_side_126 : decode cX0_side 126 = .ok (.getfield 354, 3) := by decide +kernel
theorem dX0_side_129 : decode cX0_side 129 = .ok (.iconst 4, 1) := by decide +kernel
theorem dX0_side_130 : decode cX0_side 130 = .ok (.iaload, 1) := by decide +kernel
theorem dX0_side_131 : decode cX0_side 131 = .ok (.istore 8, 2) := by decide +kernel
theorem dX0_side_133 : decode cX0_side 133 = .ok (.aload 7, 2) := by decide +kernel
theorem dX0_side_135 : decode cX0_side 135 = .ok (.aload_n 0, 1) := by decide +kernel
theorem dX0_side_136 : decode cX0_side 136 = .ok (.getfield 397, 3) := by decide +kernel
theorem dX0_side_139 : decode cX0_side 139 = .ok (.iload_n 3, 1) := by decide +kernel
theorem dX0_side_140 : decode cX0_side 140 = .ok (.aload_n 0, 1) := by decide +kernel
theorem dX0_side_141 : decode cX0_side 141 = .ok (.getfield 388, 3) := by decide +kernel
theorem dX0_side_144 : decode cX0_side 144 = .ok (.iload_n 2, 1) := by decide +kernel
theorem dX0_side_145 : decode cX0_side 145 = .ok (.idiv, 1) := by decide +kernel
theorem dX0_side_146 : decode cX0_side 146 = .ok (.imul, 1) := by decide +kernel
theorem dX0_side_147 : decode cX0_side 147 = .ok (.iadd, 1) := by decide +kernel
theorem dX0_side_148 : decode cX0_side 148 = .ok (.iload 4, 2) := by decide +kernel
theorem dX0_side_150 : decode cX0_side 150 = .ok (.iload 8, 2) := by decide +kernel
theorem dX0_side_152 : decode cX0_side 152 = .ok (.iadd, 1) := by decide +kernel
theorem dX0_side_153 : decode cX0_side 153 = .ok (.aload_n 0, 1) := by decide +kernel
theorem dX0_side_154 : decode cX0_side 154 = .ok (.getfield 388, 3) := by decide +kernel
theorem dX0_side_157 : decode cX0_side 157 = .ok (.iload_n 2, 1) := by decide +kernel
theorem dX0_side_158 : decode cX0_side 158 = .ok (.idiv, 1) := by decide +kernel
theorem dX0_side_159 : decode cX0_side 159 = .ok (.aload_n 1, 1) := by decide +kernel
theorem dX0_side_160 : decode cX0_side 160 = .ok (.invokestatic 421, 3) := by decide +kernel
theorem dX0_side_163 : decode cX0_side 163 = .ok (.aload_n 0, 1) := by decide +kernel
theorem dX0_side_164 : decode cX0_side 164 = .ok (.aload_n 0, 1) := by decide +kernel
theorem dX0_side_165 : decode cX0_side 165 = .ok (.getfield 403, 3) := by decide +kernel
theorem dX0_side_168 : decode cX0_side 168 = .ok (.aload 7, 2) := by decide +kernel
theorem dX0_side_170 : decode cX0_side 170 = .ok (.getfield 394, 3) := by decide +kernel
theorem dX0_side_173 : decode cX0_side 173 = .ok (.aload 7, 2) := by decide +kernel
theorem dX0_side_175 : decode cX0_side 175 = .ok (.getfield 432, 3) := by decide +kernel
theorem dX0_side_178 : decode cX0_side 178 = .ok (.iadd, 1) := by decide +kernel
theorem dX0_side_179 : decode cX0_side 179 = .ok (.iload 8, 2) := by decide +kernel
theorem dX0_side_181 : decode cX0_side 181 = .ok (.iadd, 1) := by decide +kernel
theorem dX0_side_182 : decode cX0_side 182 = .ok (.invokestatic 382, 3) := by decide +kernel
theorem dX0_side_185 : decode cX0_side 185 = .ok (.putfield 403, 3) := by decide +kernel
theorem dX0_side_188 : decode cX0_side 188 = .ok (.iinc 3 1, 3) := by decide +kernel
theorem dX0_side_191 : decode cX0_side 191 = .ok (.iinc 5 1, 3) := by decide +kernel
theorem dX0_side_194 : decode cX0_side 194 = .ok (.goto (-122), 3) := by decide +kernel
theorem dX0_side_197 : decode cX0_side 197 = .ok (.return_, 1) := by decide +kernel
theorem dX0_inside_0 : decode cX0_inside 0 = .ok (.aload_n 0, 1) := by decide +kernel
theorem dX0_inside_1 : decode cX0_inside 1 = .ok (.instanceof 254, 3) := by decide +kernel
theorem dX0_inside_4 : decode cX0_inside 4 = .ok (.ifCond .eq 35, 3) := by decide +kernel
theorem dX0_inside_7 : decode cX0_inside 7 = .ok (.aload_n 0, 1) := by decide +kernel
theorem dX0_inside_8 : decode cX0_inside 8 = .ok (.checkcast 254, 3) := by decide +kernel
theorem dX0_inside_11 : decode cX0_inside 11 = .ok (.astore_n 2, 1) := by decide +kernel
theorem dX0_inside_12 : decode cX0_inside 12 = .ok (.iconst 0, 1) := by decide +kernel
theorem dX0_inside_13 : decode cX0_inside 13 = .ok (.istore_n 3, 1) := by decide +kernel
theorem dX0_inside_14 : decode cX0_inside 14 = .ok (.iload_n 3, 1) := by decide +kernel
theorem dX0_inside_15 : decode cX0_inside 15 = .ok (.aload_n 2, 1) := by decide +kernel
theorem dX0_inside_16 : decode cX0_inside 16 = .ok (.getfield 259, 3) := by decide +kernel
theorem dX0_inside_19 : decode cX0_inside 19 = .ok (.invokevirtual 303, 3) := by decide +kernel
theorem dX0_inside_22 : decode cX0_inside 22 = .ok (.if_icmp .ge 15, 3) := by decide +kernel
theorem dX0_inside_25 : decode cX0_inside 25 = .ok (.aload_n 1, 1) := by decide +kernel
theorem dX0_inside_26 : decode cX0_inside 26 = .ok (.aload_n 2, 1) := by decide +kernel
theorem dX0_inside_27 : decode cX0_inside 27 = .ok (.iload_n 3, 1) := by decide +kernel
theorem dX0_inside_28 : decode cX0_inside 28 = .ok (.invokevirtual 435, 3) := by decide +kernel
theorem dX0_inside_31 : decode cX0_inside 31 = .ok (.iinc 3 1, 3) := by decide +kernel
theorem dX0_inside_34 : decode cX0_inside 34 = .ok (.goto (-20), 3) := by decide +kernel
theorem dX0_inside_37 : decode cX0_inside 37 = .ok (.aconst_null, 1) := by decide +kernel
theorem dX0_inside_38 : decode cX0_inside 38 = .ok (.areturn, 1) := by decide +kernel
theorem dX0_inside_39 : decode cX0_inside 39 = .ok (.aload_n 0, 1) := by decide +kernel
theorem dX0_inside_40 : decode cX0_inside 40 = .ok (.checkcast 7, 3) := by decide +kernel
theorem dX0_inside_43 : decode cX0_inside 43 = .ok (.astore_n 2, 1) := by decide +kernel
theorem dX0_inside_44 : decode cX0_inside 44 = .ok (.aload_n 2, 1) := by decide +kernel
theorem dX0_inside_45 : decode cX0_inside 45 = .ok (.getfield 365, 3) := by decide +kernel
theorem dX0_inside_48 : decode cX0_inside 48 = .ok (.ifCond .ne 5, 3) := by decide +kernel
theorem dX0_inside_51 : decode cX0_inside 51 = .ok (.aconst_null, 1) := by decide +kernel
theorem dX0_inside_52 : decode cX0_inside 52 = .ok (.areturn, 1) := by decide +kernel
theorem dX0_inside_53 : decode cX0_inside 53 = .ok (.aload_n 2, 1) := by decide +kernel
theorem dX0_inside_54 : decode cX0_inside 54 = .ok (.invokevirtual 415, 3) := by decide +kernel
theorem dX0_inside_57 : decode cX0_inside 57 = .ok (.ifCond .ne 12, 3) := by decide +kernel
theorem dX0_inside_60 : decode cX0_inside 60 = .ok (.aload_n 2, 1) := by decide +kernel
theorem dX0_inside_61 : decode cX0_inside 61 = .ok (.bipush 107, 2) := by decide +kernel
theorem dX0_inside_63 : decode cX0_inside 63 = .ok (.invokevirtual 167, 3) := by decide +kernel
theorem dX0_inside_66 : decode cX0_inside 66 = .ok (.ifCond .ne 5, 3) := by decide +kernel
theorem dX0_inside_69 : decode cX0_inside 69 = .ok (.aload_n 2, 1) := by decide +kernel
theorem dX0_inside_70 : decode cX0_inside 70 = .ok (.areturn, 1) := by decide +kernel
theorem dX0_inside_71 : decode cX0_inside 71 = .ok (.aload_n 1, 1) := by decide +kernel
theorem dX0_inside_72 : decode cX0_inside 72 = .ok (.aconst_null, 1) := by decide +kernel
theorem dX0_inside_73 : decode cX0_inside 73 = .ok (.aload_n 2, 1) := by decide +kernel
theorem dX0_inside_74 : decode cX0_inside 74 = .ok (.getfield 354, 3) := by decide +kernel
theorem dX0_inside_77 : decode cX0_inside 77 = .ok (.iconst 2, 1) := by decide +kernel
theorem dX0_inside_78 : decode cX0_inside 78 = .ok (.iaload, 1) := by decide +kernel
theorem dX0_inside_79 : decode cX0_inside 79 = .ok (.invokevirtual 435, 3) := by decide +kernel
theorem dX0_inside_82 : decode cX0_inside 82 = .ok (.aconst_null, 1) := by decide +kernel
theorem dX0_inside_83 : decode cX0_inside 83 = .ok (.areturn, 1) := by decide +kernel
theorem dX0_flush_0 : decode cX0_flush 0 = .ok (.iconst 0, 1) := by decide +kernel
theorem dX0_flush_1 : decode cX0_flush 1 = .ok (.istore_n 2, 1) := by decide +kernel
theorem dX0_flush_2 : decode cX0_flush 2 = .ok (.iconst (-1), 1) := by decide +kernel
theorem dX0_flush_3 : decode cX0_flush 3 = .ok (.istore_n 3, 1) := by decide +kernel
theorem dX0_flush_4 : decode cX0_flush 4 = .ok (.iconst (-1), 1) := by decide +kernel
theorem dX0_flush_5 : decode cX0_flush 5 = .ok (.istore 4, 2) := by decide +kernel
theorem dX0_flush_7 : decode cX0_flush 7 = .ok (.iconst 0, 1) := by decide +kernel
theorem dX0_flush_8 : decode cX0_flush 8 = .ok (.istore 5, 2) := by decide +kernel
theorem dX0_flush_10 : decode cX0_flush 10 = .ok (.iload 5, 2) := by decide +kernel
theorem dX0_flush_12 : decode cX0_flush 12 = .ok (.aload_n 1, 1) := by decide +kernel
theorem dX0_flush_13 : decode cX0_flush 13 = .ok (.getfield 438, 3) := by decide +kernel
theorem dX0_flush_16 : decode cX0_flush 16 = .ok (.if_icmp .ge 238, 3) := by decide +kernel
theorem dX0_flush_19 : decode cX0_flush 19 = .ok (.aload_n 1, 1) := by decide +kernel
theorem dX0_flush_20 : decode cX0_flush 20 = .ok (.getfield 441, 3) := by decide +kernel
theorem dX0_flush_23 : decode cX0_flush 23 = .ok (.iload 5, 2) := by decide +kernel
theorem dX0_flush_25 : decode cX0_flush 25 = .ok (.aaload, 1) := by decide +kernel
theorem dX0_flush_26 : decode cX0_flush 26 = .ok (.ifnonnull 41, 3) := by decide +kernel
theorem dX0_flush_29 : decode cX0_flush 29 = .ok (.aload_n 0, 1) := by decide +kernel
theorem dX0_flush_30 : decode cX0_flush 30 = .ok (.aload_n 1, 1) := by decide +kernel
theorem dX0_flush_31 : decode cX0_flush 31 = .ok (.iload_n 2, 1) := by decide +kernel
theorem dX0_flush_32 : decode cX0_flush 32 = .ok (.iload 5, 2) := by decide +kernel
theorem dX0_flush_34 : decode cX0_flush 34 = .ok (.iload_n 3, 1) := by decide +kernel
theorem dX0_flush_35 : decode cX0_flush 35 = .ok (.ifCond .lt 7, 3) := by decide +kernel
theorem dX0_flush_38 : decode cX0_flush 38 = .ok (.iconst 0, 1) := by decide +kernel
theorem dX0_flush_39 : decode cX0_flush 39 = .ok (.goto 9, 3) := by decide +kernel
theorem dX0_flush_42 : decode cX0_flush 42 = .ok (.aload_n 1, 1) := by decide +kernel
theorem dX0_flush_43 : decode cX0_flush 43 = .ok (.iload 5, 2) := by decide +kernel
theorem dX0_flush_45 : decode cX0_flush 45 = .ok (.invokevirtual 445, 3) := by decide +kernel
theorem dX0_flush_48 : decode cX0_flush 48 = .ok (.invokestatic 447, 3) := by decide +kernel
theorem dX0_flush_51 : decode cX0_flush 51 = .ok (.iload 5, 2) := by decide +kernel
theorem dX0_flush_53 : decode cX0_flush 53 = .ok (.iconst 1, 1) := by decide +kernel
theorem dX0_flush_54 : decode cX0_flush 54 = .ok (.iadd, 1) := by decide +kernel
theorem dX0_flush_55 : decode cX0_flush 55 = .ok (.istore_n 2, 1) := by decide +kernel
theorem dX0_flush_56 : decode cX0_flush 56 = .ok (.iconst (-1), 1) := by decide +kernel
theorem dX0_flush_57 : decode cX0_flush 57 = .ok (.istore_n 3, 1) := by decide +kernel
theorem dX0_flush_58 : decode cX0_flush 58 = .ok (.iconst (-1), 1) := by decide +kernel
theorem dX0_flush_59 : decode cX0_flush 59 = .ok (.istore 4, 2) := by decide +kernel
theorem dX0_flush_61 : decode cX0_flush 61 = .ok (.iinc 5 1, 3) := by decide +kernel
theorem dX0_flush_64 : decode cX0_flush 64 = .ok (.goto (-54), 3) := by decide +kernel
theorem dX0_flush_67 : decode cX0_flush 67 = .ok (.aload_n 1, 1) := by decide +kernel
theorem dX0_flush_68 : decode cX0_flush 68 = .ok (.iload 5, 2) := by decide +kernel
theorem dX0_flush_70 : decode cX0_flush 70 = .ok (.invokevirtual 451, 3) := by decide +kernel
theorem dX0_flush_73 : decode cX0_flush 73 = .ok (.ifCond .eq 34, 3) := by decide +kernel
theorem dX0_flush_76 : decode cX0_flush 76 = .ok (.iload 4, 2) := by decide +kernel
theorem dX0_flush_78 : decode cX0_flush 78 = .ok (.ifCond .ge 12, 3) := by decide +kernel
theorem dX0_flush_81 : decode cX0_flush 81 = .ok (.aload_n 1, 1) := by decide +kernel
theorem dX0_flush_82 : decode cX0_flush 82 = .ok (.iload 5, 2) := by decide +kernel
theorem dX0_flush_84 : decode cX0_flush 84 = .ok (.invokevirtual 445, 3) := by decide +kernel
theorem dX0_flush_87 : decode cX0_flush 87 = .ok (.goto 5, 3) := by decide +kernel
theorem dX0_flush_90 : decode cX0_flush 90 = .ok (.iload 4, 2) := by decide +kernel
theorem dX0_flush_92 : decode cX0_flush 92 = .ok (.istore 4, 2) := by decide +kernel
theorem dX0_flush_94 : decode cX0_flush 94 = .ok (.aload_n 1, 1) := by decide +kernel
theorem dX0_flush_95 : decode cX0_flush 95 = .ok (.iload 5, 2) := by decide +kernel
theorem dX0_flush_97 : decode cX0_flush 97 = .ok (.iconst (-1), 1) := by decide +kernel
theorem dX0_flush_98 : decode cX0_flush 98 = .ok (.invokevirtual 455, 3) := by decide +kernel
theorem dX0_flush_101 : decode cX0_flush 101 = .ok (.iinc 5 1, 3) := by decide +kernel
theorem dX0_flush_104 : decode cX0_flush 104 = .ok (.goto (-94), 3) := by decide +kernel
theorem dX0_flush_107 : decode cX0_flush 107 = .ok (.iconst 0, 1) := by decide +kernel
theorem dX0_flush_108 : decode cX0_flush 108 = .ok (.istore 6, 2) := by decide +kernel
theorem dX0_flush_110 : decode cX0_flush 110 = .ok (.iload 5, 2) := by decide +kernel
theorem dX0_flush_112 : decode cX0_flush 112 = .ok (.istore 7, 2) := by decide +kernel
theorem dX0_flush_114 : decode cX0_flush 114 = .ok (.iload 7, 2) := by decide +kernel
theorem dX0_flush_116 : decode cX0_flush 116 = .ok (.aload_n 1, 1) := by decide +kernel
theorem dX0_flush_117 : decode cX0_flush 117 = .ok (.getfield 438, 3) := by decide +kernel
theorem dX0_flush_120 : decode cX0_flush 120 = .ok (.if_icmp .ge 39, 3) := by decide +kernel
theorem dX0_flush_123 : decode cX0_flush 123 = .ok (.aload_n 1, 1) := by decide +kernel
theorem dX0_flush_124 : decode cX0_flush 124 = .ok (.getfield 441, 3) := by decide +kernel
theorem dX0_flush_127 : decode cX0_flush 127 = .ok (.iload 7, 2) := by decide +kernel
theorem dX0_flush_129 : decode cX0_flush 129 = .ok (.aaload, 1) := by decide +kernel
theorem dX0_flush_130 : decode cX0_flush 130 = .ok (.ifnull 29, 3) := by decide +kernel
theorem dX0_flush_133 : decode cX0_flush 133 = .ok (.aload_n 1, 1) := by decide +kernel
theorem dX0_flush_134 : decode cX0_flush 134 = .ok (.iload 7, 2) := by decide +kernel
theorem dX0_flush_136 : decode cX0_flush 136 = .ok (.invokevirtual 451, 3) := by decide +kernel
theorem dX0_flush_139 : decode cX0_flush 139 = .ok (.ifCond .ne 20, 3) := by decide +kernel
theorem dX0_flush_142 : decode cX0_flush 142 = .ok (.iload 6, 2) := by decide +kernel
theorem dX0_flush_144 : decode cX0_flush 144 = .ok (.aload_n 1, 1) := by decide +kernel
theorem dX0_flush_145 : decode cX0_flush 145 = .ok (.iload 7, 2) := by decide +kernel
theorem dX0_flush_147 : decode cX0_flush 147 = .ok (.iinc 7 1, 3) := by decide +kernel
theorem dX0_flush_150 : decode cX0_flush 150 = .ok (.invokevirtual 445, 3) := by decide +kernel
theorem dX0_flush_153 : decode cX0_flush 153 = .ok (.iadd, 1) := by decide +kernel
theorem dX0_flush_154 : decode cX0_flush 154 = .ok (.istore 6, 2) := by decide +kernel
theorem dX0_flush_156 : decode cX0_flush 156 = .ok (.goto (-42), 3) := by decide +kernel
theorem dX0_flush_159 : decode cX0_flush 159 = .ok (.iload_n 3, 1) := by decide +kernel
theorem dX0_flush_160 : decode cX0_flush 160 = .ok (.ifCond .lt 21, 3) := by decide +kernel
theorem dX0_flush_163 : decode cX0_flush 163 = .ok (.iload_n 3, 1) := by decide +kernel
theorem dX0_flush_164 : decode cX0_flush 164 = .ok (.iload 4, 2) := by decide +kernel
theorem dX0_flush_166 : decode cX0_flush 166 = .ok (.iadd, 1) := by decide +kernel
theorem dX0_flush_167 : decode cX0_flush 167 = .ok (.iload 6, 2) := by decide +kernel
theorem dX0_flush_169 : decode cX0_flush 169 = .ok (.iadd, 1) := by decide +kernel
theorem dX0_flush_170 : decode cX0_flush 170 = .ok (.aload_n 0, 1) := by decide +kernel
theorem dX0_flush_171 : decode cX0_flush 171 = .ok (.getfield 388, 3) := by decide +kernel
theorem dX0_flush_174 : decode cX0_flush 174 = .ok (.if_icmp .le 7, 3) := by decide +kernel
theorem dX0_flush_177 : decode cX0_flush 177 = .ok (.iconst 1, 1) := by decide +kernel
theorem dX0_flush_178 : decode cX0_flush 178 = .ok (.goto 4, 3) := by decide +kernel
theorem dX0_flush_181 : decode cX0_flush 181 = .ok (.iconst 0, 1) := by decide +kernel
theorem dX0_flush_182 : decode cX0_flush 182 = .ok (.istore 8, 2) := by decide +kernel
theorem dX0_flush_184 : decode cX0_flush 184 = .ok (.iload 8, 2) := by decide +kernel
theorem dX0_flush_186 : decode cX0_flush 186 = .ok (.ifCond .eq 15, 3) := by decide +kernel
theorem dX0_flush_189 : decode cX0_flush 189 = .ok (.aload_n 0, 1) := by decide +kernel
theorem dX0_flush_190 : decode cX0_flush 190 = .ok (.aload_n 1, 1) := by decide +kernel
theorem dX0_flush_191 : decode cX0_flush 191 = .ok (.iload_n 2, 1) := by decide +kernel
theorem dX0_flush_192 : decode cX0_flush 192 = .ok (.iload 5, 2) := by decide +kernel
theorem dX0_flush_194 : decode cX0_flush 194 = .ok (.iconst 0, 1) := by decide +kernel
theorem dX0_flush_195 : decode cX0_flush 195 = .ok (.invokestatic 447, 3) := by decide +kernel
theorem dX0_flush_198 : decode cX0_flush 198 = .ok (.iload 5, 2) := by decide +kernel
theorem dX0_flush_200 : decode cX0_flush 200 = .ok (.istore_n 2, 1) := by decide +kernel
theorem dX0_flush_201 : decode cX0_flush 201 = .ok (.iload_n 3, 1) := by decide +kernel
theorem dX0_flush_202 : decode cX0_flush 202 = .ok (.ifCond .lt 8, 3) := by decide +kernel
theorem dX0_flush_205 : decode cX0_flush 205 = .ok (.iload 8, 2) := by decide +kernel
theorem dX0_flush_207 : decode cX0_flush 207 = .ok (.ifCond .eq 7, 3) := by decide +kernel
theorem dX0_flush_210 : decode cX0_flush 210 = .ok (.iconst 0, 1) := by decide +kernel
theorem dX0_flush_211 : decode cX0_flush 211 = .ok (.goto 7, 3) := by decide +kernel
theorem dX0_flush_214 : decode cX0_flush 214 = .ok (.iload_n 3, 1) := by decide +kernel
theorem dX0_flush_215 : decode cX0_flush 215 = .ok (.iload 4, 2) := by decide +kernel
theorem dX0_flush_217 : decode cX0_flush 217 = .ok (.iadd, 1) := by decide +kernel
theorem dX0_flush_218 : decode cX0_flush 218 = .ok (.istore_n 3, 1) := by decide +kernel
theorem dX0_flush_219 : decode cX0_flush 219 = .ok (.iload 5, 2) := by decide +kernel
theorem dX0_flush_221 : decode cX0_flush 221 = .ok (.iload 7, 2) := by decide +kernel
theorem dX0_flush_223 : decode cX0_flush 223 = .ok (.if_icmp .ge 25, 3) := by decide +kernel
theorem dX0_flush_226 : decode cX0_flush 226 = .ok (.aload_n 1, 1) := by decide +kernel
theorem dX0_flush_227 : decode cX0_flush 227 = .ok (.iload 5, 2) := by decide +kernel
theorem dX0_flush_229 : decode cX0_flush 229 = .ok (.iload_n 3, 1) := by decide +kernel
theorem dX0_flush_230 : decode cX0_flush 230 = .ok (.invokevirtual 455, 3) := by decide +kernel
theorem dX0_flush_233 : decode cX0_flush 233 = .ok (.iload_n 3, 1) := by decide +kernel
theorem dX0_flush_234 : decode cX0_flush 234 = .ok (.aload_n 1, 1) := by decide +kernel
theorem dX0_flush_235 : decode cX0_flush 235 = .ok (.iload 5, 2) := by decide +kernel
theorem dX0_flush_237 : decode cX0_flush 237 = .ok (.iinc 5 1, 3) := by decide +kernel
theorem dX0_flush_240 : decode cX0_flush 240 = .ok (.invokevirtual 445, 3) := by decide +kernel
theorem dX0_flush_243 : decode cX0_flush 243 = .ok (.iadd, 1) := by decide +kernel
theorem dX0_flush_244 : decode cX0_flush 244 = .ok (.istore_n 3, 1) := by decide +kernel
theorem dX0_flush_245 : decode cX0_flush 245 = .ok (.goto (-26), 3) := by decide +kernel
theorem dX0_flush_248 : decode cX0_flush 248 = .ok (.iconst (-1), 1) := by decide +kernel
theorem dX0_flush_249 : decode cX0_flush 249 = .ok (.istore 4, 2) := by decide +kernel
theorem dX0_flush_251 : decode cX0_flush 251 = .ok (.goto (-241), 3) := by decide +kernel
theorem dX0_flush_254 : decode cX0_flush 254 = .ok (.iload_n 3, 1) := by decide +kernel
theorem dX0_flush_255 : decode cX0_flush 255 = .ok (.ifCond .lt 14, 3) := by decide +kernel
theorem dX0_flush_258 : decode cX0_flush 258 = .ok (.aload_n 0, 1) := by decide +kernel
theorem dX0_flush_259 : decode cX0_flush 259 = .ok (.aload_n 1, 1) := by decide +kernel
theorem dX0_flush_260 : decode cX0_flush 260 = .ok (.iload_n 2, 1) := by decide +kernel
theorem dX0_flush_261 : decode cX0_flush 261 = .ok (.aload_n 1, 1) := by decide +kernel
theorem dX0_flush_262 : decode cX0_flush 262 = .ok (.getfield 438, 3) := by decide +kernel
theorem dX0_flush_265 : decode cX0_flush 265 = .ok (.iconst 0, 1) := by decide +kernel
theorem dX0_flush_266 : decode cX0_flush 266 = .ok (.invokestatic 447, 3) := by decide +kernel
theorem dX0_flush_269 : decode cX0_flush 269 = .ok (.aload_n 1, 1) := by decide +kernel
theorem dX0_flush_270 : decode cX0_flush 270 = .ok (.iconst 0, 1) := by decide +kernel
theorem dX0_flush_271 : decode cX0_flush 271 = .ok (.putfield 438, 3) := by decide +kernel
theorem dX0_flush_274 : decode cX0_flush 274 = .ok (.return_, 1) := by decide +kernel
theorem dX0_line_0 : decode cX0_line 0 = .ok (.iload 4, 2) := by decide +kernel
theorem dX0_line_2 : decode cX0_line 2 = .ok (.istore 5, 2) := by decide +kernel
theorem dX0_line_4 : decode cX0_line 4 = .ok (.iload_n 2, 1) := by decide +kernel
theorem dX0_line_5 : decode cX0_line 5 = .ok (.istore 6, 2) := by decide +kernel
theorem dX0_line_7 : decode cX0_line 7 = .ok (.iload 6, 2) := by decide +kernel
theorem dX0_line_9 : decode cX0_line 9 = .ok (.iload_n 3, 1) := by decide +kernel
theorem dX0_line_10 : decode cX0_line 10 = .ok (.if_icmp .ge 31, 3) := by decide +kernel
theorem dX0_line_13 : decode cX0_line 13 = .ok (.aload_n 1, 1) := by decide +kernel
theorem dX0_line_14 : decode cX0_line 14 = .ok (.iload 6, 2) := by decide +kernel
theorem dX0_line_16 : decode cX0_line 16 = .ok (.invokevirtual 451, 3) := by decide +kernel
theorem dX0_line_19 : decode cX0_line 19 = .ok (.ifCond .ne 16, 3) := by decide +kernel
theorem dX0_line_22 : decode cX0_line 22 = .ok (.iload 5, 2) := by decide +kernel
theorem dX0_line_24 : decode cX0_line 24 = .ok (.aload_n 1, 1) := by decide +kernel
theorem dX0_line_25 : decode cX0_line 25 = .ok (.iload 6, 2) := by decide +kernel
theorem dX0_line_27 : decode cX0_line 27 = .ok (.invokevirtual 445, 3) := by decide +kernel
theorem dX0_line_30 : decode cX0_line 30 = .ok (.invokestatic 382, 3) := by decide +kernel
theorem dX0_line_33 : decode cX0_line 33 = .ok (.istore 5, 2) := by decide +kernel
theorem dX0_line_35 : decode cX0_line 35 = .ok (.iinc 6 1, 3) := by decide +kernel
theorem dX0_line_38 : decode cX0_line 38 = .ok (.goto (-31), 3) := by decide +kernel
theorem dX0_line_41 : decode cX0_line 41 = .ok (.aload_n 0, 1) := by decide +kernel
theorem dX0_line_42 : decode cX0_line 42 = .ok (.dup, 1) := by decide +kernel
theorem dX0_line_43 : decode cX0_line 43 = .ok (.getfield 403, 3) := by decide +kernel
theorem dX0_line_46 : decode cX0_line 46 = .ok (.aload_n 0, 1) := by decide +kernel
theorem dX0_line_47 : decode cX0_line 47 = .ok (.getfield 405, 3) := by decide +kernel
theorem dX0_line_50 : decode cX0_line 50 = .ok (.iadd, 1) := by decide +kernel
theorem dX0_line_51 : decode cX0_line 51 = .ok (.putfield 403, 3) := by decide +kernel
theorem dX0_line_54 : decode cX0_line 54 = .ok (.aload_n 0, 1) := by decide +kernel
theorem dX0_line_55 : decode cX0_line 55 = .ok (.iconst 0, 1) := by decide +kernel
theorem dX0_line_56 : decode cX0_line 56 = .ok (.putfield 405, 3) := by decide +kernel
theorem dX0_line_59 : decode cX0_line 59 = .ok (.iload_n 2, 1) := by decide +kernel
theorem dX0_line_60 : decode cX0_line 60 = .ok (.istore 6, 2) := by decide +kernel
theorem dX0_line_62 : decode cX0_line 62 = .ok (.iload 6, 2) := by decide +kernel
theorem dX0_line_64 : decode cX0_line 64 = .ok (.iload_n 3, 1) := by decide +kernel
theorem dX0_line_65 : decode cX0_line 65 = .ok (.if_icmp .ge 54, 3) := by decide +kernel
theorem dX0_line_68 : decode cX0_line 68 = .ok (.aload_n 1, 1) := by decide +kernel
theorem dX0_line_69 : decode cX0_line 69 = .ok (.iload 6, 2) := by decide +kernel
theorem dX0_line_71 : decode cX0_line 71 = .ok (.invokevirtual 451, 3) := by decide +kernel
theorem dX0_line_74 : decode cX0_line 74 = .ok (.ifCond .ne 39, 3) := by decide +kernel
theorem dX0_line_77 : decode cX0_line 77 = .ok (.aload_n 1, 1) := by decide +kernel
theorem dX0_line_78 : decode cX0_line 78 = .ok (.iload 6, 2) := by decide +kernel
theorem dX0_line_80 : decode cX0_line 80 = .ok (.aload_n 0, 1) := by decide +kernel
theorem dX0_line_81 : decode cX0_line 81 = .ok (.getfield 397, 3) := by decide +kernel
theorem dX0_line_84 : decode cX0_line 84 = .ok (.aload_n 1, 1) := by decide +kernel
theorem dX0_line_85 : decode cX0_line 85 = .ok (.iload 6, 2) := by decide +kernel
theorem dX0_line_87 : decode cX0_line 87 = .ok (.invokevirtual 458, 3) := by decide +kernel
theorem dX0_line_90 : decode cX0_line 90 = .ok (.iadd, 1) := by decide +kernel
theorem dX0_line_91 : decode cX0_line 91 = .ok (.ldc_w 461, 3) := by decide +kernel
theorem dX0_line_94 : decode cX0_line 94 = .ok (.aload_n 0, 1) := by decide +kernel
theorem dX0_line_95 : decode cX0_line 95 = .ok (.getfield 403, 3) := by decide +kernel
theorem dX0_line_98 : decode cX0_line 98 = .ok (.iload 5, 2) := by decide +kernel
theorem dX0_line_100 : decode cX0_line 100 = .ok (.iadd, 1) := by decide +kernel
theorem dX0_line_101 : decode cX0_line 101 = .ok (.aload_n 1, 1) := by decide +kernel
theorem dX0_line_102 : decode cX0_line 102 = .ok (.iload 6, 2) := by decide +kernel
theorem dX0_line_104 : decode cX0_line 104 = .ok (.invokevirtual 445, 3) := by decide +kernel
theorem dX0_line_107 : decode cX0_line 107 = .ok (.isub, 1) := by decide +kernel
theorem dX0_line_108 : decode cX0_line 108 = .ok (.imul, 1) := by decide +kernel
theorem dX0_line_109 : decode cX0_line 109 = .ok (.iadd, 1) := by decide +kernel
theorem dX0_line_110 : decode cX0_line 110 = .ok (.invokevirtual 455, 3) := by decide +kernel
theorem dX0_line_113 : decode cX0_line 113 = .ok (.iinc 6 1, 3) := by decide +kernel
theorem dX0_line_116 : decode cX0_line 116 = .ok (.goto (-54), 3) := by decide +kernel
theorem dX0_line_119 : decode cX0_line 119 = .ok (.aload_n 0, 1) := by decide +kernel
theorem dX0_line_120 : decode cX0_line 120 = .ok (.dup, 1) := by decide +kernel
theorem dX0_line_121 : decode cX0_line 121 = .ok (.getfield 403, 3) := by decide +kernel
theorem dX0_line_124 : decode cX0_line 124 = .ok (.iload 5, 2) := by decide +kernel
theorem dX0_line_126 : decode cX0_line 126 = .ok (.iadd, 1) := by decide +kernel
theorem dX0_line_127 : decode cX0_line 127 = .ok (.putfield 403, 3) := by decide +kernel
theorem dX0_line_130 : decode cX0_line 130 = .ok (.aload_n 1, 1) := by decide +kernel
theorem dX0_line_131 : decode cX0_line 131 = .ok (.dup, 1) := by decide +kernel
theorem dX0_line_132 : decode cX0_line 132 = .ok (.getfield 462, 3) := by decide +kernel
theorem dX0_line_135 : decode cX0_line 135 = .ok (.iconst 1, 1) := by decide +kernel
theorem dX0_line_136 : decode cX0_line 136 = .ok (.iadd, 1) := by decide +kernel
theorem dX0_line_137 : decode cX0_line 137 = .ok (.putfield 462, 3) := by decide +kernel
theorem dX0_line_140 : decode cX0_line 140 = .ok (.return_, 1) := by decide +kernel
theorem dX0_gather_0 : decode cX0_gather 0 = .ok (.iconst 0, 1) := by decide +kernel
theorem dX0_gather_1 : decode cX0_gather 1 = .ok (.istore_n 3, 1) := by decide +kernel
theorem dX0_gather_2 : decode cX0_gather 2 = .ok (.iload_n 3, 1) := by decide +kernel
theorem dX0_gather_3 : decode cX0_gather 3 = .ok (.aload_n 1, 1) := by decide +kernel
theorem dX0_gather_4 : decode cX0_gather 4 = .ok (.getfield 218, 3) := by decide +kernel
theorem dX0_gather_7 : decode cX0_gather 7 = .ok (.invokevirtual 160, 3) := by decide +kernel
theorem dX0_gather_10 : decode cX0_gather 10 = .ok (.if_icmp .ge 96, 3) := by decide +kernel
theorem dX0_gather_13 : decode cX0_gather 13 = .ok (.aload_n 1, 1) := by decide +kernel
theorem dX0_gather_14 : decode cX0_gather 14 = .ok (.getfield 218, 3) := by decide +kernel
theorem dX0_gather_17 : decode cX0_gather 17 = .ok (.iload_n 3, 1) := by decide +kernel
theorem dX0_gather_18 : decode cX0_gather 18 = .ok (.invokevirtual 163, 3) := by decide +kernel
theorem dX0_gather_21 : decode cX0_gather 21 = .ok (.checkcast 252, 3) := by decide +kernel
theorem dX0_gather_24 : decode cX0_gather 24 = .ok (.aload_n 2, 1) := by decide +kernel
theorem dX0_gather_25 : decode cX0_gather 25 = .ok (.invokestatic 411, 3) := by decide +kernel
theorem dX0_gather_28 : decode cX0_gather 28 = .ok (.astore 4, 2) := by decide +kernel
theorem dX0_gather_30 : decode cX0_gather 30 = .ok (.aload 4, 2) := by decide +kernel
theorem dX0_gather_32 : decode cX0_gather 32 = .ok (.ifnonnull 6, 3) := by decide +kernel
theorem dX0_gather_35 : decode cX0_gather 35 = .ok (.goto 65, 3) := by decide +kernel
theorem dX0_gather_38 : decode cX0_gather 38 = .ok (.aload 4, 2) := by decide +kernel
theorem dX0_gather_40 : decode cX0_gather 40 = .ok (.invokevirtual 415, 3) := by decide +kernel
theorem dX0_gather_43 : decode cX0_gather 43 = .ok (.ifCond .eq 50, 3) := by decide +kernel
theorem dX0_gather_46 : decode cX0_gather 46 = .ok (.aload_n 0, 1) := by decide +kernel
theorem dX0_gather_47 : decode cX0_gather 47 = .ok (.aload_n 2, 1) := by decide +kernel
theorem dX0_gather_48 : decode cX0_gather 48 = .ok (.invokestatic 418, 3) := by decide +kernel
theorem dX0_gather_51 : decode cX0_gather 51 = .ok (.aload 4, 2) := by decide +kernel
theorem dX0_gather_53 : decode cX0_gather 53 = .ok (.aload_n 0, 1) := by decide +kernel
theorem dX0_gather_54 : decode cX0_gather 54 = .ok (.getfield 397, 3) := by decide +kernel
theorem dX0_gather_57 : decode cX0_gather 57 = .ok (.aload_n 0, 1) := by decide +kernel
theorem dX0_gather_58 : decode cX0_gather 58 = .ok (.getfield 403, 3) := by decide +kernel
theorem dX0_gather_61 : decode cX0_gather 61 = .ok (.aload_n 0, 1) := by decide +kernel
theorem dX0_gather_62 : decode cX0_gather 62 = .ok (.getfield 405, 3) := by decide +kernel
theorem dX0_gather_65 : decode cX0_gather 65 = .ok (.aload 4, 2) := by decide +kernel
theorem dX0_gather_67 : decode cX0_gather 67 = .ok (.getfield 354, 3) := by decide +kernel
theorem dX0_gather_70 : decode cX0_gather 70 = .ok (.iconst 4, 1) := by decide +kernel
theorem dX0_gather_71 : decode cX0_gather 71 = .ok (.iaload, 1) := by decide +kernel
theorem dX0_gather_72 : decode cX0_gather 72 = .ok (.invokestatic 382, 3) := by decide +kernel
theorem dX0_gather_75 : decode cX0_gather 75 = .ok (.iadd, 1) := by decide +kernel
theorem dX0_gather_76 : decode cX0_gather 76 = .ok (.aload_n 0, 1) := by decide +kernel
theorem dX0_gather_77 : decode cX0_gather 77 = .ok (.getfield 388, 3) := by decide +kernel
theorem dX0_gather_80 : decode cX0_gather 80 = .ok (.aload_n 2, 1) := by decide +kernel
theorem dX0_gather_81 : decode cX0_gather 81 = .ok (.invokestatic 421, 3) := by decide +kernel
theorem dX0_gather_84 : decode cX0_gather 84 = .ok (.aload_n 0, 1) := by decide +kernel
theorem dX0_gather_85 : decode cX0_gather 85 = .ok (.aload 4, 2) := by decide +kernel
theorem dX0_gather_87 : decode cX0_gather 87 = .ok (.invokevirtual 425, 3) := by decide +kernel
theorem dX0_gather_90 : decode cX0_gather 90 = .ok (.goto 10, 3) := by decide +kernel
theorem dX0_gather_93 : decode cX0_gather 93 = .ok (.aload_n 0, 1) := by decide +kernel
theorem dX0_gather_94 : decode cX0_gather 94 = .ok (.aload 4, 2) := by decide +kernel
theorem dX0_gather_96 : decode cX0_gather 96 = .ok (.aload_n 2, 1) := by decide +kernel
theorem dX0_gather_97 : decode cX0_gather 97 = .ok (.invokestatic 428, 3) := by decide +kernel
