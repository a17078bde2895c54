set_option maxRecDepth 100000
theorem dX5_putWord_96 : decode cX5_putWord 96 = .ok (.iadd, 1) := by decide +kernel
theorem dX5_putWord_97 : decode cX5_putWord 97 = .ok (.goto 4, 3) := by decide +kernel
theorem dX5_putWord_100 : decode cX5_putWord 100 = .ok (.iconst 0, 1) := by decide +kernel
theorem dX5_putWord_101 : decode cX5_putWord 101 = .ok (.istore 7, 2) := by decide +kernel
theorem dX5_putWord_103 : decode cX5_putWord 103 = .ok (.iload_n 2, 1) := by decide +kernel
theorem dX5_putWord_104 : decode cX5_putWord 104 = .ok (.istore 8, 2) := by decide +kernel
theorem dX5_putWord_106 : decode cX5_putWord 106 = .ok (.iload 8, 2) := by decide +kernel
theorem dX5_putWord_108 : decode cX5_putWord 108 = .ok (.iload_n 3, 1) := by decide +kernel
theorem dX5_putWord_109 : decode cX5_putWord 109 = .ok (.if_icmp .ge 74, 3) := by decide +kernel
theorem dX5_putWord_112 : decode cX5_putWord 112 = .ok (.aload_n 0, 1) := by decide +kernel
theorem dX5_putWord_113 : decode cX5_putWord 113 = .ok (.getfield 107, 3) := by decide +kernel
theorem dX5_putWord_116 : decode cX5_putWord 116 = .ok (.aload_n 0, 1) := by decide +kernel
theorem dX5_putWord_117 : decode cX5_putWord 117 = .ok (.getfield 119, 3) := by decide +kernel
theorem dX5_putWord_120 : decode cX5_putWord 120 = .ok (.iload 8, 2) := by decide +kernel
theorem dX5_putWord_122 : decode cX5_putWord 122 = .ok (.iaload, 1) := by decide +kernel
theorem dX5_putWord_123 : decode cX5_putWord 123 = .ok (.iconst 1, 1) := by decide +kernel
theorem dX5_putWord_124 : decode cX5_putWord 124 = .ok (.bastore, 1) := by decide +kernel
theorem dX5_putWord_125 : decode cX5_putWord 125 = .ok (.aload_n 0, 1) := by decide +kernel
theorem dX5_putWord_126 : decode cX5_putWord 126 = .ok (.getfield 116, 3) := by decide +kernel
theorem dX5_putWord_129 : decode cX5_putWord 129 = .ok (.aload_n 0, 1) := by decide +kernel
theorem dX5_putWord_130 : decode cX5_putWord 130 = .ok (.getfield 119, 3) := by decide +kernel
theorem dX5_putWord_133 : decode cX5_putWord 133 = .ok (.iload 8, 2) := by decide +kernel
theorem dX5_putWord_135 : decode cX5_putWord 135 = .ok (.iaload, 1) := by decide +kernel
theorem dX5_putWord_136 : decode cX5_putWord 136 = .ok (.iload_n 1, 1) := by decide +kernel
theorem dX5_putWord_137 : decode cX5_putWord 137 = .ok (.iastore, 1) := by decide +kernel
theorem dX5_putWord_138 : decode cX5_putWord 138 = .ok (.aload_n 0, 1) := by decide +kernel
theorem dX5_putWord_139 : decode cX5_putWord 139 = .ok (.getfield 110, 3) := by decide +kernel
theorem dX5_putWord_142 : decode cX5_putWord 142 = .ok (.aload_n 0, 1) := by decide +kernel
theorem dX5_putWord_143 : decode cX5_putWord 143 = .ok (.getfield 119, 3) := by decide +kernel
theorem dX5_putWord_146 : decode cX5_putWord 146 = .ok (.iload 8, 2) := by decide +kernel
theorem dX5_putWord_148 : decode cX5_putWord 148 = .ok (.iaload, 1) := by decide +kernel
theorem dX5_putWord_149 : decode cX5_putWord 149 = .ok (.aload_n 0, 1) := by decide +kernel
theorem dX5_putWord_150 : decode cX5_putWord 150 = .ok (.getfield 95, 3) := by decide +kernel
theorem dX5_putWord_153 : decode cX5_putWord 153 = .ok (.iload_n 1, 1) := by decide +kernel
theorem dX5_putWord_154 : decode cX5_putWord 154 = .ok (.iaload, 1) := by decide +kernel
theorem dX5_putWord_155 : decode cX5_putWord 155 = .ok (.aload_n 0, 1) := by decide +kernel
theorem dX5_putWord_156 : decode cX5_putWord 156 = .ok (.iload_n 1, 1) := by decide +kernel
theorem dX5_putWord_157 : decode cX5_putWord 157 = .ok (.iconst 5, 1) := by decide +kernel
theorem dX5_putWord_158 : decode cX5_putWord 158 = .ok (.invokevirtual 325, 3) := by decide +kernel
theorem dX5_putWord_161 : decode cX5_putWord 161 = .ok (.iadd, 1) := by decide +kernel
theorem dX5_putWord_162 : decode cX5_putWord 162 = .ok (.iload 7, 2) := by decide +kernel
theorem dX5_putWord_164 : decode cX5_putWord 164 = .ok (.iadd, 1) := by decide +kernel
theorem dX5_putWord_165 : decode cX5_putWord 165 = .ok (.iastore, 1) := by decide +kernel
theorem dX5_putWord_166 : decode cX5_putWord 166 = .ok (.iload 7, 2) := by decide +kernel
theorem dX5_putWord_168 : decode cX5_putWord 168 = .ok (.aload_n 0, 1) := by decide +kernel
theorem dX5_putWord_169 : decode cX5_putWord 169 = .ok (.iload 8, 2) := by decide +kernel
theorem dX5_putWord_171 : decode cX5_putWord 171 = .ok (.invokevirtual 354, 3) := by decide +kernel
theorem dX5_putWord_174 : decode cX5_putWord 174 = .ok (.iadd, 1) := by decide +kernel
theorem dX5_putWord_175 : decode cX5_putWord 175 = .ok (.istore 7, 2) := by decide +kernel
theorem dX5_putWord_177 : decode cX5_putWord 177 = .ok (.iinc 8 1, 3) := by decide +kernel
theorem dX5_putWord_180 : decode cX5_putWord 180 = .ok (.goto (-74), 3) := by decide +kernel
theorem dX5_putWord_183 : decode cX5_putWord 183 = .ok (.aload_n 0, 1) := by decide +kernel
theorem dX5_putWord_184 : decode cX5_putWord 184 = .ok (.iload 7, 2) := by decide +kernel
theorem dX5_putWord_186 : decode cX5_putWord 186 = .ok (.putfield 369, 3) := by decide +kernel
theorem dX5_putWord_189 : decode cX5_putWord 189 = .ok (.aload_n 0, 1) := by decide +kernel
theorem dX5_putWord_190 : decode cX5_putWord 190 = .ok (.iload 6, 2) := by decide +kernel
theorem dX5_putWord_192 : decode cX5_putWord 192 = .ok (.aload_n 0, 1) := by decide +kernel
theorem dX5_putWord_193 : decode cX5_putWord 193 = .ok (.getfield 360, 3) := by decide +kernel
theorem dX5_putWord_196 : decode cX5_putWord 196 = .ok (.if_icmp .le 8, 3) := by decide +kernel
theorem dX5_putWord_199 : decode cX5_putWord 199 = .ok (.iload 6, 2) := by decide +kernel
theorem dX5_putWord_201 : decode cX5_putWord 201 = .ok (.goto 7, 3) := by decide +kernel
theorem dX5_putWord_204 : decode cX5_putWord 204 = .ok (.aload_n 0, 1) := by decide +kernel
theorem dX5_putWord_205 : decode cX5_putWord 205 = .ok (.getfield 360, 3) := by decide +kernel
theorem dX5_putWord_208 : decode cX5_putWord 208 = .ok (.putfield 360, 3) := by decide +kernel
theorem dX5_putWord_211 : decode cX5_putWord 211 = .ok (.aload_n 0, 1) := by decide +kernel
theorem dX5_putWord_212 : decode cX5_putWord 212 = .ok (.iconst 1, 1) := by decide +kernel
theorem dX5_putWord_213 : decode cX5_putWord 213 = .ok (.putfield 357, 3) := by decide +kernel
theorem dX5_putWord_216 : decode cX5_putWord 216 = .ok (.return_, 1) := by decide +kernel
theorem dX5_size_0 : decode cX5_size 0 = .ok (.aload_n 0, 1) := by decide +kernel
theorem dX5_size_1 : decode cX5_size 1 = .ok (.getfield 119, 3) := by decide +kernel
theorem dX5_size_4 : decode cX5_size 4 = .ok (.iload_n 1, 1) := by decide +kernel
theorem dX5_size_5 : decode cX5_size 5 = .ok (.iaload, 1) := by decide +kernel
theorem dX5_size_6 : decode cX5_size 6 = .ok (.ifCond .ge 18, 3) := by decide +kernel
theorem dX5_size_9 : decode cX5_size 9 = .ok (.aload_n 0, 1) := by decide +kernel
theorem dX5_size_10 : decode cX5_size 10 = .ok (.getfield 83, 3) := by decide +kernel
theorem dX5_size_13 : decode cX5_size 13 = .ok (.bipush 79, 2) := by decide +kernel
theorem dX5_size_15 : decode cX5_size 15 = .ok (.aload_n 0, 1) := by decide +kernel
theorem dX5_size_16 : decode cX5_size 16 = .ok (.getfield 119, 3) := by decide +kernel
theorem dX5_size_19 : decode cX5_size 19 = .ok (.iload_n 1, 1) := by decide +kernel
theorem dX5_size_20 : decode cX5_size 20 = .ok (.iaload, 1) := by decide +kernel
theorem dX5_size_21 : decode cX5_size 21 = .ok (.isub, 1) := by decide +kernel
theorem dX5_size_22 : decode cX5_size 22 = .ok (.iaload, 1) := by decide +kernel
theorem dX5_size_23 : decode cX5_size 23 = .ok (.ireturn, 1) := by decide +kernel
theorem dX5_size_24 : decode cX5_size 24 = .ok (.aload_n 0, 1) := by decide +kernel
theorem dX5_size_25 : decode cX5_size 25 = .ok (.aload_n 0, 1) := by decide +kernel
theorem dX5_size_26 : decode cX5_size 26 = .ok (.getfield 43, 3) := by decide +kernel
theorem dX5_size_29 : decode cX5_size 29 = .ok (.aload_n 0, 1) := by decide +kernel
theorem dX5_size_30 : decode cX5_size 30 = .ok (.getfield 119, 3) := by decide +kernel
theorem dX5_size_33 : decode cX5_size 33 = .ok (.iload_n 1, 1) := by decide +kernel
theorem dX5_size_34 : decode cX5_size 34 = .ok (.iaload, 1) := by decide +kernel
theorem dX5_size_35 : decode cX5_size 35 = .ok (.iaload, 1) := by decide +kernel
theorem dX5_size_36 : decode cX5_size 36 = .ok (.invokevirtual 202, 3) := by decide +kernel
theorem dX5_size_39 : decode cX5_size 39 = .ok (.istore_n 2, 1) := by decide +kernel
theorem dX5_size_40 : decode cX5_size 40 = .ok (.aload_n 0, 1) := by decide +kernel
theorem dX5_size_41 : decode cX5_size 41 = .ok (.getfield 83, 3) := by decide +kernel
theorem dX5_size_44 : decode cX5_size 44 = .ok (.bipush 80, 2) := by decide +kernel
theorem dX5_size_46 : decode cX5_size 46 = .ok (.aload_n 0, 1) := by decide +kernel
theorem dX5_size_47 : decode cX5_size 47 = .ok (.getfield 74, 3) := by decide +kernel
theorem dX5_size_50 : decode cX5_size 50 = .ok (.iload_n 2, 1) := by decide +kernel
theorem dX5_size_51 : decode cX5_size 51 = .ok (.iaload, 1) := by decide +kernel
theorem dX5_size_52 : decode cX5_size 52 = .ok (.iadd, 1) := by decide +kernel
theorem dX5_size_53 : decode cX5_size 53 = .ok (.iaload, 1) := by decide +kernel
theorem dX5_size_54 : decode cX5_size 54 = .ok (.ireturn, 1) := by decide +kernel
theorem dX5_endLine_0 : decode cX5_endLine 0 = .ok (.aload_n 0, 1) := by decide +kernel
theorem dX5_endLine_1 : decode cX5_endLine 1 = .ok (.getfield 366, 3) := by decide +kernel
theorem dX5_endLine_4 : decode cX5_endLine 4 = .ok (.istore_n 2, 1) := by decide +kernel
theorem dX5_endLine_5 : decode cX5_endLine 5 = .ok (.iload_n 2, 1) := by decide +kernel
theorem dX5_endLine_6 : decode cX5_endLine 6 = .ok (.iload_n 1, 1) := by decide +kernel
theorem dX5_endLine_7 : decode cX5_endLine 7 = .ok (.if_icmp .ge 60, 3) := by decide +kernel
theorem dX5_endLine_10 : decode cX5_endLine 10 = .ok (.aload_n 0, 1) := by decide +kernel
theorem dX5_endLine_11 : decode cX5_endLine 11 = .ok (.getfield 119, 3) := by decide +kernel
theorem dX5_endLine_14 : decode cX5_endLine 14 = .ok (.iload_n 2, 1) := by decide +kernel
theorem dX5_endLine_15 : decode cX5_endLine 15 = .ok (.iaload, 1) := by decide +kernel
theorem dX5_endLine_16 : decode cX5_endLine 16 = .ok (.ifCond .lt 45, 3) := by decide +kernel
theorem dX5_endLine_19 : decode cX5_endLine 19 = .ok (.aload_n 0, 1) := by decide +kernel
theorem dX5_endLine_20 : decode cX5_endLine 20 = .ok (.getfield 40, 3) := by decide +kernel
theorem dX5_endLine_23 : decode cX5_endLine 23 = .ok (.aload_n 0, 1) := by decide +kernel
theorem dX5_endLine_24 : decode cX5_endLine 24 = .ok (.getfield 119, 3) := by decide +kernel
theorem dX5_endLine_27 : decode cX5_endLine 27 = .ok (.iload_n 2, 1) := by decide +kernel
theorem dX5_endLine_28 : decode cX5_endLine 28 = .ok (.iaload, 1) := by decide +kernel
theorem dX5_endLine_29 : decode cX5_endLine 29 = .ok (.iaload, 1) := by decide +kernel
theorem dX5_endLine_30 : decode cX5_endLine 30 = .ok (.bipush 32, 2) := by decide +kernel
theorem dX5_endLine_32 : decode cX5_endLine 32 = .ok (.if_icmp .eq 29, 3) := by decide +kernel
theorem dX5_endLine_35 : decode cX5_endLine 35 = .ok (.aload_n 0, 1) := by decide +kernel
theorem dX5_endLine_36 : decode cX5_endLine 36 = .ok (.getfield 113, 3) := by decide +kernel
theorem dX5_endLine_39 : decode cX5_endLine 39 = .ok (.aload_n 0, 1) := by decide +kernel
theorem dX5_endLine_40 : decode cX5_endLine 40 = .ok (.getfield 119, 3) := by decide +kernel
theorem dX5_endLine_43 : decode cX5_endLine 43 = .ok (.iload_n 2, 1) := by decide +kernel
theorem dX5_endLine_44 : decode cX5_endLine 44 = .ok (.iaload, 1) := by decide +kernel
theorem dX5_endLine_45 : decode cX5_endLine 45 = .ok (.aload_n 0, 1) := by decide +kernel
theorem dX5_endLine_46 : decode cX5_endLine 46 = .ok (.getfield 344, 3) := by decide +kernel
theorem dX5_endLine_49 : decode cX5_endLine 49 = .ok (.aload_n 0, 1) := by decide +kernel
theorem dX5_endLine_50 : decode cX5_endLine 50 = .ok (.getfield 360, 3) := by decide +kernel
theorem dX5_endLine_53 : decode cX5_endLine 53 = .ok (.iadd, 1) := by decide +kernel
theorem dX5_endLine_54 : decode cX5_endLine 54 = .ok (.aload_n 0, 1) := by decide +kernel
theorem dX5_endLine_55 : decode cX5_endLine 55 = .ok (.iload_n 2, 1) := by decide +kernel
theorem dX5_endLine_56 : decode cX5_endLine 56 = .ok (.invokevirtual 354, 3) := by decide +kernel
theorem dX5_endLine_59 : decode cX5_endLine 59 = .ok (.isub, 1) := by decide +kernel
theorem dX5_endLine_60 : decode cX5_endLine 60 = .ok (.iastore, 1) := by decide +kernel
theorem dX5_endLine_61 : decode cX5_endLine 61 = .ok (.iinc 2 1, 3) := by decide +kernel
theorem dX5_endLine_64 : decode cX5_endLine 64 = .ok (.goto (-59), 3) := by decide +kernel
theorem dX5_endLine_67 : decode cX5_endLine 67 = .ok (.aload_n 0, 1) := by decide +kernel
theorem dX5_endLine_68 : decode cX5_endLine 68 = .ok (.dup, 1) := by decide +kernel
theorem dX5_endLine_69 : decode cX5_endLine 69 = .ok (.getfield 344, 3) := by decide +kernel
theorem dX5_endLine_72 : decode cX5_endLine 72 = .ok (.aload_n 0, 1) := by decide +kernel
theorem dX5_endLine_73 : decode cX5_endLine 73 = .ok (.getfield 360, 3) := by decide +kernel
theorem dX5_endLine_76 : decode cX5_endLine 76 = .ok (.iadd, 1) := by decide +kernel
theorem dX5_endLine_77 : decode cX5_endLine 77 = .ok (.putfield 344, 3) := by decide +kernel
theorem dX5_endLine_80 : decode cX5_endLine 80 = .ok (.aload_n 0, 1) := by decide +kernel
theorem dX5_endLine_81 : decode cX5_endLine 81 = .ok (.dup, 1) := by decide +kernel
theorem dX5_endLine_82 : decode cX5_endLine 82 = .ok (.getfield 313, 3) := by decide +kernel
theorem dX5_endLine_85 : decode cX5_endLine 85 = .ok (.iconst 1, 1) := by decide +kernel
theorem dX5_endLine_86 : decode cX5_endLine 86 = .ok (.iadd, 1) := by decide +kernel
theorem dX5_endLine_87 : decode cX5_endLine 87 = .ok (.putfield 313, 3) := by decide +kernel
theorem dX5_endLine_90 : decode cX5_endLine 90 = .ok (.aload_n 0, 1) := by decide +kernel
theorem dX5_endLine_91 : decode cX5_endLine 91 = .ok (.iload_n 1, 1) := by decide +kernel
theorem dX5_endLine_92 : decode cX5_endLine 92 = .ok (.invokevirtual 347, 3) := by decide +kernel
theorem dX5_endLine_95 : decode cX5_endLine 95 = .ok (.return_, 1) := by decide +kernel
theorem dX5_gather_0 : decode cX5_gather 0 = .ok (.aload_n 0, 1) := by decide +kernel
theorem dX5_gather_1 : decode cX5_gather 1 = .ok (.getfield 16, 3) := by decide +kernel
theorem dX5_gather_4 : decode cX5_gather 4 = .ok (.iload_n 1, 1) := by decide +kernel
theorem dX5_gather_5 : decode cX5_gather 5 = .ok (.iaload, 1) := by decide +kernel
theorem dX5_gather_6 : decode cX5_gather 6 = .ok (.istore_n 2, 1) := by decide +kernel
theorem dX5_gather_7 : decode cX5_gather 7 = .ok (.aload_n 0, 1) := by decide +kernel
theorem dX5_gather_8 : decode cX5_gather 8 = .ok (.getfield 19, 3) := by decide +kernel
theorem dX5_gather_11 : decode cX5_gather 11 = .ok (.iload_n 2, 1) := by decide +kernel
theorem dX5_gather_12 : decode cX5_gather 12 = .ok (.iaload, 1) := by decide +kernel
theorem dX5_gather_13 : decode cX5_gather 13 = .ok (.bipush 107, 2) := by decide +kernel
theorem dX5_gather_15 : decode cX5_gather 15 = .ok (.if_icmp .ne 25, 3) := by decide +kernel
theorem dX5_gather_18 : decode cX5_gather 18 = .ok (.aload_n 0, 1) := by decide +kernel
theorem dX5_gather_19 : decode cX5_gather 19 = .ok (.getfield 119, 3) := by decide +kernel
theorem dX5_gather_22 : decode cX5_gather 22 = .ok (.aload_n 0, 1) := by decide +kernel
theorem dX5_gather_23 : decode cX5_gather 23 = .ok (.getfield 331, 3) := by decide +kernel
theorem dX5_gather_26 : decode cX5_gather 26 = .ok (.iconst (-1), 1) := by decide +kernel
theorem dX5_gather_27 : decode cX5_gather 27 = .ok (.iload_n 1, 1) := by decide +kernel
theorem dX5_gather_28 : decode cX5_gather 28 = .ok (.isub, 1) := by decide +kernel
theorem dX5_gather_29 : decode cX5_gather 29 = .ok (.iastore, 1) := by decide +kernel
theorem dX5_gather_30 : decode cX5_gather 30 = .ok (.aload_n 0, 1) := by decide +kernel
theorem dX5_gather_31 : decode cX5_gather 31 = .ok (.dup, 1) := by decide +kernel
theorem dX5_gather_32 : decode cX5_gather 32 = .ok (.getfield 331, 3) := by decide +kernel
theorem dX5_gather_35 : decode cX5_gather 35 = .ok (.iconst 1, 1) := by decide +kernel
theorem dX5_gather_36 : decode cX5_gather 36 = .ok (.iadd, 1) := by decide +kernel
theorem dX5_gather_37 : decode cX5_gather 37 = .ok (.putfield 331, 3) := by decide +kernel
theorem dX5_gather_40 : decode cX5_gather 40 = .ok (.iconst 0, 1) := by decide +kernel
theorem dX5_gather_41 : decode cX5_gather 41 = .ok (.istore_n 3, 1) := by decide +kernel
theorem dX5_gather_42 : decode cX5_gather 42 = .ok (.iload_n 3, 1) := by decide +kernel
theorem dX5_gather_43 : decode cX5_gather 43 = .ok (.aload_n 0, 1) := by decide +kernel
theorem dX5_gather_44 : decode cX5_gather 44 = .ok (.getfield 154, 3) := by decide +kernel
theorem dX5_gather_47 : decode cX5_gather 47 = .ok (.if_icmp .ge 49, 3) := by decide +kernel
theorem dX5_gather_50 : decode cX5_gather 50 = .ok (.aload_n 0, 1) := by decide +kernel
theorem dX5_gather_51 : decode cX5_gather 51 = .ok (.getfield 19, 3) := by decide +kernel
theorem dX5_gather_54 : decode cX5_gather 54 = .ok (.iload_n 2, 1) := by decide +kernel
theorem dX5_gather_55 : decode cX5_gather 55 = .ok (.iaload, 1) := by decide +kernel
theorem dX5_gather_56 : decode cX5_gather 56 = .ok (.iconst 1, 1) := by decide +kernel
theorem dX5_gather_57 : decode cX5_gather 57 = .ok (.if_icmp .ne 39, 3) := by decide +kernel
theorem dX5_gather_60 : decode cX5_gather 60 = .ok (.aload_n 0, 1) := by decide +kernel
theorem dX5_gather_61 : decode cX5_gather 61 = .ok (.getfield 43, 3) := by decide +kernel
theorem dX5_gather_64 : decode cX5_gather 64 = .ok (.iload_n 3, 1) := by decide +kernel
theorem dX5_gather_65 : decode cX5_gather 65 = .ok (.iaload, 1) := by decide +kernel
theorem dX5_gather_66 : decode cX5_gather 66 = .ok (.iload_n 2, 1) := by decide +kernel
theorem dX5_gather_67 : decode cX5_gather 67 = .ok (.if_icmp .ne 23, 3) := by decide +kernel
theorem dX5_gather_70 : decode cX5_gather 70 = .ok (.aload_n 0, 1) := by decide +kernel
theorem dX5_gather_71 : decode cX5_gather 71 = .ok (.getfield 119, 3) := by decide +kernel
theorem dX5_gather_74 : decode cX5_gather 74 = .ok (.aload_n 0, 1) := by decide +kernel
theorem dX5_gather_75 : decode cX5_gather 75 = .ok (.getfield 331, 3) := by decide +kernel
theorem dX5_gather_78 : decode cX5_gather 78 = .ok (.iload_n 3, 1) := by decide +kernel
theorem dX5_gather_79 : decode cX5_gather 79 = .ok (.iastore, 1) := by decide +kernel
theorem dX5_gather_80 : decode cX5_gather 80 = .ok (.aload_n 0, 1) := by decide +kernel
theorem dX5_gather_81 : decode cX5_gather 81 = .ok (.dup, 1) := by decide +kernel
theorem dX5_gather_82 : decode cX5_gather 82 = .ok (.getfield 331, 3) := by decide +kernel
theorem dX5_gather_85 : decode cX5_gather 85 = .ok (.iconst 1, 1) := by decide +kernel
theorem dX5_gather_86 : decode cX5_gather 86 = .ok (.iadd, 1) := by decide +kernel
theorem dX5_gather_87 : decode cX5_gather 87 = .ok (.putfield 331, 3) := by decide +kernel
theorem dX5_gather_90 : decode cX5_gather 90 = .ok (.iinc 3 1, 3) := by decide +kernel
theorem dX5_gather_93 : decode cX5_gather 93 = .ok (.goto (-51), 3) := by decide +kernel
theorem dX5_gather_96 : decode cX5_gather 96 = .ok (.return_, 1) := by decide +kernel
theorem dX5_places_0 : decode cX5_places 0 = .ok (.aload_n 0, 1) := by decide +kernel
theorem dX5_places_1 : decode cX5_places 1 = .ok (.getfield 104, 3) := by decide +kernel
theorem dX5_places_4 : decode cX5_places 4 = .ok (.iconst 0, 1) := by decide +kernel
theorem dX5_places_5 : decode cX5_places 5 = .ok (.iconst 0, 1) := by decide +kernel
theorem dX5_places_6 : decode cX5_places 6 = .ok (.iastore, 1) := by decide +kernel
theorem dX5_places_7 : decode cX5_places 7 = .ok (.iconst 1, 1) := by decide +kernel
theorem dX5_places_8 : decode cX5_places 8 = .ok (.istore_n 1, 1) := by decide +kernel
theorem dX5_places_9 : decode cX5_places 9 = .ok (.iload_n 1, 1) := by decide +kernel
theorem dX5_places_10 : decode cX5_places 10 = .ok (.aload_n 0, 1) := by decide +kernel
theorem dX5_places_11 : decode cX5_places 11 = .ok (.getfield 142, 3) := by decide +kernel
theorem dX5_places_14 : decode cX5_places 14 = .ok (.if_icmp .ge 50, 3) := by decide +kernel
theorem dX5_places_17 : decode cX5_places 17 = .ok (.aload_n 0, 1) := by decide +kernel
theorem dX5_places_18 : decode cX5_places 18 = .ok (.getfield 89, 3) := by decide +kernel
theorem dX5_places_21 : decode cX5_places 21 = .ok (.iload_n 1, 1) := by decide +kernel
theorem dX5_places_22 : decode cX5_places 22 = .ok (.baload, 1) := by decide +kernel
theorem dX5_places_23 : decode cX5_places 23 = .ok (.ifCond .eq 35, 3) := by decide +kernel
theorem dX5_places_26 : decode cX5_places 26 = .ok (.aload_n 0, 1) := by decide +kernel
theorem dX5_places_27 : decode cX5_places 27 = .ok (.getfield 104, 3) := by decide +kernel
theorem dX5_places_30 : decode cX5_places 30 = .ok (.iload_n 1, 1) := by decide +kernel
theorem dX5_places_31 : decode cX5_places 31 = .ok (.dup2, 1) := by decide +kernel
theorem dX5_places_32 : decode cX5_places 32 = .ok (.iaload, 1) := by decide +kernel
theorem dX5_places_33 : decode cX5_places 33 = .ok (.aload_n 0, 1) := by decide +kernel
theorem dX5_places_34 : decode cX5_places 34 = .ok (.getfield 104, 3) := by decide +kernel
theorem dX5_places_37 : decode cX5_places 37 = .ok (.aload_n 0, 1) := by decide +kernel
theorem dX5_places_38 : decode cX5_places 38 = .ok (.getfield 92, 3) := by decide +kernel
theorem dX5_places_41 : decode cX5_places 41 = .ok (.iload_n 1, 1) := by decide +kernel
theorem dX5_places_42 : decode cX5_places 42 = .ok (.iaload, 1) := by decide +kernel
theorem dX5_places_43 : decode cX5_places 43 = .ok (.iaload, 1) := by decide +kernel
theorem dX5_places_44 : decode cX5_places 44 = .ok (.aload_n 0, 1) := by decide +kernel
theorem dX5_places_45 : decode cX5_places 45 = .ok (.aload_n 0, 1) := by decide +kernel
theorem dX5_places_46 : decode cX5_places 46 = .ok (.getfield 92, 3) := by decide +kernel
theorem dX5_places_49 : decode cX5_places 49 = .ok (.iload_n 1, 1) := by decide +kernel
theorem dX5_places_50 : decode cX5_places 50 = .ok (.iaload, 1) := by decide +kernel
theorem dX5_places_51 : decode cX5_places 51 = .ok (.iconst 5, 1) := by decide +kernel
theorem dX5_places_52 : decode cX5_places 52 = .ok (.invokevirtual 325, 3) := by decide +kernel
theorem dX5_places_55 : decode cX5_places 55 = .ok (.iadd, 1) := by decide +kernel
theorem dX5_places_56 : decode cX5_places 56 = .ok (.iadd, 1) := by decide +kernel
theorem dX5_places_57 : decode cX5_places 57 = .ok (.iastore, 1) := by decide +kernel
theorem dX5_places_58 : decode cX5_places 58 = .ok (.iinc 1 1, 3) := by decide +kernel
theorem dX5_places_61 : decode cX5_places 61 = .ok (.goto (-52), 3) := by decide +kernel
theorem dX5_places_64 : decode cX5_places 64 = .ok (.iconst 0, 1) := by decide +kernel
theorem dX5_places_65 : decode cX5_places 65 = .ok (.istore_n 1, 1) := by decide +kernel
theorem dX5_places_66 : decode cX5_places 66 = .ok (.iload_n 1, 1) := by decide +kernel
theorem dX5_places_67 : decode cX5_places 67 = .ok (.aload_n 0, 1) := by decide +kernel
theorem dX5_places_68 : decode cX5_places 68 = .ok (.getfield 154, 3) := by decide +kernel
theorem dX5_places_71 : decode cX5_places 71 = .ok (.if_icmp .ge 50, 3) := by decide +kernel
theorem dX5_places_74 : decode cX5_places 74 = .ok (.aload_n 0, 1) := by decide +kernel
theorem dX5_places_75 : decode cX5_places 75 = .ok (.getfield 107, 3) := by decide +kernel
theorem dX5_places_78 : decode cX5_places 78 = .ok (.iload_n 1, 1) := by decide +kernel
theorem dX5_places_79 : decode cX5_places 79 = .ok (.baload, 1) := by decide +kernel
theorem dX5_places_80 : decode cX5_places 80 = .ok (.ifCond .eq 35, 3) := by decide +kernel
theorem dX5_places_83 : decode cX5_places 83 = .ok (.aload_n 0, 1) := by decide +kernel
theorem dX5_places_84 : decode cX5_places 84 = .ok (.getfield 113, 3) := by decide +kernel
theorem dX5_places_87 : decode cX5_places 87 = .ok (.iload_n 1, 1) := by decide +kernel
theorem dX5_places_88 : decode cX5_places 88 = .ok (.dup2, 1) := by decide +kernel
theorem dX5_places_89 : decode cX5_places 89 = .ok (.iaload, 1) := by decide +kernel
theorem dX5_places_90 : decode cX5_places 90 = .ok (.aload_n 0, 1) := by decide +kernel
theorem dX5_places_91 : decode cX5_places 91 = .ok (.getfield 104, 3) := by decide +kernel
theorem dX5_places_94 : decode cX5_places 94 = .ok (.aload_n 0, 1) := by decide +kernel
theorem dX5_places_95 : decode cX5_places 95 = .ok (.getfield 116, 3) := by decide +kernel
theorem dX5_places_98 : decode cX5_places 98 = .ok (.iload_n 1, 1) := by decide +kernel
theorem dX5_places_99 : decode cX5_places 99 = .ok (.iaload, 1) := by decide +kernel
theorem dX5_places_100 : decode cX5_places 100 = .ok (.iaload, 1) := by decide +kernel
theorem dX5_places_101 : decode cX5_places 101 = .ok (.aload_n 0, 1) := by decide +kernel
theorem dX5_places_102 : decode cX5_places 102 = .ok (.aload_n 0, 1) := by decide +kernel
theorem dX5_places_103 : decode cX5_places 103 = .ok (.getfield 116, 3) := by decide +kernel
theorem dX5_places_106 : decode cX5_places 106 = .ok (.iload_n 1, 1) := by decide +kernel
theorem dX5_places_107 : decode cX5_places 107 = .ok (.iaload, 1) := by decide +kernel
theorem dX5_places_108 : decode cX5_places 108 = .ok (.iconst 5, 1) := by decide +kernel
theorem dX5_places_109 : decode cX5_places 109 = .ok (.invokevirtual 325, 3) := by decide +kernel
theorem dX5_places_112 : decode cX5_places 112 = .ok (.iadd, 1) := by decide +kernel
theorem dX5_places_113 : decode cX5_places 113 = .ok (.iadd, 1) := by decide +kernel
theorem dX5_places_114 : decode cX5_places 114 = .ok (.iastore, 1) := by decide +kernel
theorem dX5_places_115 : decode cX5_places 115 = .ok (.iinc 1 1, 3) := by decide +kernel
theorem dX5_places_118 : decode cX5_places 118 = .ok (.goto (-52), 3) := by decide +kernel
theorem dX5_places_121 : decode cX5_places 121 = .ok (.return_, 1) := by decide +kernel
theorem dX5_box_0 : decode cX5_box 0 = .ok (.aload_n 0, 1) := by decide +kernel
theorem dX5_box_1 : decode cX5_box 1 = .ok (.getfield 133, 3) := by decide +kernel
theorem dX5_box_4 : decode cX5_box 4 = .ok (.ifCond .eq 29, 3) := by decide +kernel
theorem dX5_box_7 : decode cX5_box 7 = .ok (.aload_n 0, 1) := by decide +kernel
theorem dX5_box_8 : decode cX5_box 8 = .ok (.iload_n 1, 1) := by decide +kernel
theorem dX5_box_9 : decode cX5_box 9 = .ok (.invokevirtual 260, 3) := by decide +kernel
theorem dX5_box_12 : decode cX5_box 12 = .ok (.ifCond .ne 21, 3) := by decide +kernel
theorem dX5_box_15 : decode cX5_box 15 = .ok (.aload_n 0, 1) := by decide +kernel
theorem dX5_box_16 : decode cX5_box 16 = .ok (.getfield 89, 3) := by decide +kernel
theorem dX5_box_19 : decode cX5_box 19 = .ok (.iload_n 1, 1) := by decide +kernel
theorem dX5_box_20 : decode cX5_box 20 = .ok (.baload, 1) := by decide +kernel
theorem dX5_box_21 : decode cX5_box 21 = .ok (.ifCond .eq 12, 3) := by decide +kernel
theorem dX5_box_24 : decode cX5_box 24 = .ok (.iload_n 2, 1) := by decide +kernel
theorem dX5_box_25 : decode cX5_box 25 = .ok (.ifCond .lt 8, 3) := by decide +kernel
theorem dX5_box_28 : decode cX5_box 28 = .ok (.iload_n 2, 1) := by decide +kernel
theorem dX5_box_29 : decode cX5_box 29 = .ok (.iconst 3, 1) := by decide +kernel
theorem dX5_box_30 : decode cX5_box 30 = .ok (.if_icmp .le 5, 3) := by decide +kernel
theorem dX5_box_33 : decode cX5_box 33 = .ok (.iconst (-1), 1) := by decide +kernel
theorem dX5_box_34 : decode cX5_box 34 = .ok (.ireturn, 1) := by decide +kernel
theorem dX5_box_35 : decode cX5_box 35 = .ok (.iload_n 2, 1) := by decide +kernel
theorem dX5_box_36 : decode cX5_box 36 = .ok (.ifCond .ne 12, 3) := by decide +kernel
theorem dX5_box_39 : decode cX5_box 39 = .ok (.aload_n 0, 1) := by decide +kernel
theorem dX5_box_40 : decode cX5_box 40 = .ok (.getfield 95, 3) := by decide +kernel
theorem dX5_box_43 : decode cX5_box 43 = .ok (.iload_n 1, 1) := by decide +kernel
theorem dX5_box_44 : decode cX5_box 44 = .ok (.iaload, 1) := by decide +kernel
theorem dX5_box_45 : decode cX5_box 45 = .ok (.goto 46, 3) := by decide +kernel
theorem dX5_box_48 : decode cX5_box 48 = .ok (.iload_n 2, 1) := by decide +kernel
theorem dX5_box_49 : decode cX5_box 49 = .ok (.iconst 1, 1) := by decide +kernel
theorem dX5_box_50 : decode cX5_box 50 = .ok (.if_icmp .ne 12, 3) := by decide +kernel
theorem dX5_box_53 : decode cX5_box 53 = .ok (.aload_n 0, 1) := by decide +kernel
theorem dX5_box_54 : decode cX5_box 54 = .ok (.getfield 104, 3) := by decide +kernel
theorem dX5_box_57 : decode cX5_box 57 = .ok (.iload_n 1, 1) := by decide +kernel
theorem dX5_box_58 : decode cX5_box 58 = .ok (.iaload, 1) := by decide +kernel
theorem dX5_box_59 : decode cX5_box 59 = .ok (.goto 32, 3) := by decide +kernel
theorem dX5_box_62 : decode cX5_box 62 = .ok (.iload_n 2, 1) := by decide +kernel
theorem dX5_box_63 : decode cX5_box 63 = .ok (.iconst 2, 1) := by decide +kernel
theorem dX5_box_64 : decode cX5_box 64 = .ok (.if_icmp .ne 21, 3) := by decide +kernel
theorem dX5_box_67 : decode cX5_box 67 = .ok (.aload_n 0, 1) := by decide +kernel
theorem dX5_box_68 : decode cX5_box 68 = .ok (.getfield 98, 3) := by decide +kernel
theorem dX5_box_71 : decode cX5_box 71 = .ok (.iload_n 1, 1) := by decide +kernel
theorem dX5_box_72 : decode cX5_box 72 = .ok (.iaload, 1) := by decide +kernel
theorem dX5_box_73 : decode cX5_box 73 = .ok (.iconst 2, 1) := by decide +kernel
theorem dX5_box_74 : decode cX5_box 74 = .ok (.aload_n 0, 1) := by decide +kernel
theorem dX5_box_75 : decode cX5_box 75 = .ok (.iload_n 1, 1) := by decide +kernel
theorem dX5_box_76 : decode cX5_box 76 = .ok (.iconst 5, 1) := by decide +kernel
theorem dX5_box_77 : decode cX5_box 77 = .ok (.invokevirtual 325, 3) := by decide +kernel
theorem dX5_box_80 : decode cX5_box 80 = .ok (.imul, 1) := by decide +kernel
theorem dX5_box_81 : decode cX5_box 81 = .ok (.iadd, 1) := by decide +kernel
theorem dX5_box_82 : decode cX5_box 82 = .ok (.goto 9, 3) := by decide +kernel
theorem dX5_box_85 : decode cX5_box 85 = .ok (.aload_n 0, 1) := by decide +kernel
theorem dX5_box_86 : decode cX5_box 86 = .ok (.getfield 101, 3) := by decide +kernel
theorem dX5_box_89 : decode cX5_box 89 = .ok (.iload_n 1, 1) := by decide +kernel
theorem dX5_box_90 : decode cX5_box 90 = .ok (.iaload, 1) := by decide +kernel
theorem dX5_box_91 : decode cX5_box 91 = .ok (.ireturn, 1) := by decide +kernel
theorem dX5_place_0 : decode cX5_place 0 = .ok (.aload_n 0, 1) := by decide +kernel
theorem dX5_place_1 : decode cX5_place 1 = .ok (.iload_n 1, 1) := by decide +kernel
theorem dX5_place_2 : decode cX5_place 2 = .ok (.iload_n 2, 1) := by decide +kernel
theorem dX5_place_3 : decode cX5_place 3 = .ok (.invokevirtual 266, 3) := by decide +kernel
theorem dX5_place_6 : decode cX5_place 6 = .ok (.istore_n 3, 1) := by decide +kernel
theorem dX5_place_7 : decode cX5_place 7 = .ok (.aload_n 0, 1) := by decide +kernel
theorem dX5_place_8 : decode cX5_place 8 = .ok (.getfield 133, 3) := by decide +kernel
theorem dX5_place_11 : decode cX5_place 11 = .ok (.ifCond .eq 16, 3) := by decide +kernel
theorem dX5_place_14 : decode cX5_place 14 = .ok (.iload_n 3, 1) := by decide +kernel
theorem dX5_place_15 : decode cX5_place 15 = .ok (.ifCond .lt 12, 3) := by decide +kernel
theorem dX5_place_18 : decode cX5_place 18 = .ok (.aload_n 0, 1) := by decide +kernel
theorem dX5_place_19 : decode cX5_place 19 = .ok (.getfield 107, 3) := by decide +kernel
theorem dX5_place_22 : decode cX5_place 22 = .ok (.iload_n 3, 1) := by decide +kernel
theorem dX5_place_23 : decode cX5_place 23 = .ok (.baload, 1) := by decide +kernel
theorem dX5_place_24 : decode cX5_place 24 = .ok (.ifCond .ne 7, 3) := by decide +kernel
theorem dX5_place_27 : decode cX5_place 27 = .ok (.iconst (-1), 1) := by decide +kernel
theorem dX5_place_28 : decode cX5_place 28 = .ok (.goto 20, 3) := by decide +kernel
theorem dX5_place_31 : decode cX5_place 31 = .ok (.aload_n 0, 1) := by decide +kernel
theorem dX5_place_32 : decode cX5_place 32 = .ok (.getfield 110, 3) := by decide +kernel
theorem dX5_place_35 : decode cX5_place 35 = .ok (.iload_n 3, 1) := by decide +kernel
theorem dX5_place_36 : decode cX5_place 36 = .ok (.iaload, 1) := by decide +kernel
theorem dX5_place_37 : decode cX5_place 37 = .ok (.ldc_w 372, 3) := by decide +kernel
theorem dX5_place_40 : decode cX5_place 40 = .ok (.aload_n 0, 1) := by decide +kernel
theorem dX5_place_41 : decode cX5_place 41 = .ok (.getfield 113, 3) := by decide +kernel
theorem dX5_place_44 : decode cX5_place 44 = .ok (.iload_n 3, 1) := by decide +kernel
theorem dX5_place_45 : decode cX5_place 45 = .ok (.iaload, 1) := by decide +kernel
theorem dX5_place_46 : decode cX5_place 46 = .ok (.imul, 1) := by decide +kernel
theorem dX5_place_47 : decode cX5_place 47 = .ok (.iadd, 1) := by decide +kernel
theorem dX5_place_48 : decode cX5_place 48 = .ok (.ireturn, 1) := by decide +kernel
theorem dX5_lines_0 : decode cX5_lines 0 = .ok (.aload_n 0, 1) := by decide +kernel
theorem dX5_lines_1 : decode cX5_lines 1 = .ok (.getfield 133, 3) := by decide +kernel
theorem dX5_lines_4 : decode cX5_lines 4 = .ok (.ifCond .eq 10, 3) := by decide +kernel
theorem dX5_lines_7 : decode cX5_lines 7 = .ok (.aload_n 0, 1) := by decide +kernel
theorem dX5_lines_8 : decode cX5_lines 8 = .ok (.getfield 313, 3) := by decide +kernel
theorem dX5_lines_11 : decode cX5_lines 11 = .ok (.goto 4, 3) := by decide +kernel
theorem dX5_lines_14 : decode cX5_lines 14 = .ok (.iconst (-1), 1) := by decide +kernel
theorem dX5_lines_15 : decode cX5_lines 15 = .ok (.ireturn, 1) := by decide +kernel
theorem dX5_pixel_0 : decode cX5_pixel 0 = .ok (.aload_n 0, 1) := by decide +kernel
theorem dX5_pixel_1 : decode cX5_pixel 1 = .ok (.getfield 133, 3) := by decide +kernel
theorem dX5_pixel_4 : decode cX5_pixel 4 = .ok (.ifCond .eq 25, 3) := by decide +kernel
theorem dX5_pixel_7 : decode cX5_pixel 7 = .ok (.iload_n 1, 1) := by decide +kernel
theorem dX5_pixel_8 : decode cX5_pixel 8 = .ok (.ifCond .lt 21, 3) := by decide +kernel
theorem dX5_pixel_11 : decode cX5_pixel 11 = .ok (.iload_n 1, 1) := by decide +kernel
theorem dX5_pixel_12 : decode cX5_pixel 12 = .ok (.aload_n 0, 1) := by decide +kernel
theorem dX5_pixel_13 : decode cX5_pixel 13 = .ok (.getfield 310, 3) := by decide +kernel
theorem dX5_pixel_16 : decode cX5_pixel 16 = .ok (.if_icmp .ge 13, 3) := by decide +kernel
theorem dX5_pixel_19 : decode cX5_pixel 19 = .ok (.iload_n 2, 1) := by decide +kernel
theorem dX5_pixel_20 : decode cX5_pixel 20 = .ok (.ifCond .lt 9, 3) := by decide +kernel
theorem dX5_pixel_23 : decode cX5_pixel 23 = .ok (.iload_n 2, 1) := by decide +kernel
theorem dX5_pixel_24 : decode cX5_pixel 24 = .ok (.bipush 63, 2) := by decide +kernel
theorem dX5_pixel_26 : decode cX5_pixel 26 = .ok (.if_icmp .le 5, 3) := by decide +kernel
theorem dX5_pixel_29 : decode cX5_pixel 29 = .ok (.iconst (-1), 1) := by decide +kernel
theorem dX5_pixel_30 : decode cX5_pixel 30 = .ok (.ireturn, 1) := by decide +kernel
theorem dX5_pixel_31 : decode cX5_pixel 31 = .ok (.iconst 0, 1) := by decide +kernel
theorem dX5_pixel_32 : decode cX5_pixel 32 = .ok (.istore_n 3, 1) := by decide +kernel
theorem dX5_pixel_33 : decode cX5_pixel 33 = .ok (.iconst 1, 1) := by decide +kernel
theorem dX5_pixel_34 : decode cX5_pixel 34 = .ok (.istore 4, 2) := by decide +kernel
theorem dX5_pixel_36 : decode cX5_pixel 36 = .ok (.iload 4, 2) := by decide +kernel
theorem dX5_pixel_38 : decode cX5_pixel 38 = .ok (.aload_n 0, 1) := by decide +kernel
theorem dX5_pixel_39 : decode cX5_pixel 39 = .ok (.getfield 142, 3) := by decide +kernel
theorem dX5_pixel_42 : decode cX5_pixel 42 = .ok (.if_icmp .ge 129, 3) := by decide +kernel
theorem dX5_pixel_45 : decode cX5_pixel 45 = .ok (.aload_n 0, 1) := by decide +kernel
theorem dX5_pixel_46 : decode cX5_pixel 46 = .ok (.getfield 89, 3) := by decide +kernel
theorem dX5_pixel_49 : decode cX5_pixel 49 = .ok (.iload 4, 2) := by decide +kernel
theorem dX5_pixel_51 : decode cX5_pixel 51 = .ok (.baload, 1) := by decide +kernel
theorem dX5_pixel_52 : decode cX5_pixel 52 = .ok (.ifCond .eq 81, 3) := by decide +kernel
theorem dX5_pixel_55 : decode cX5_pixel 55 = .ok (.iload_n 1, 1) := by decide +kernel
theorem dX5_pixel_56 : decode cX5_pixel 56 = .ok (.aload_n 0, 1) := by decide +kernel
theorem dX5_pixel_57 : decode cX5_pixel 57 = .ok (.getfield 95, 3) := by decide +kernel
theorem dX5_pixel_60 : decode cX5_pixel 60 = .ok (.iload 4, 2) := by decide +kernel
theorem dX5_pixel_62 : decode cX5_pixel 62 = .ok (.iaload, 1) := by decide +kernel
theorem dX5_pixel_63 : decode cX5_pixel 63 = .ok (.if_icmp .lt 70, 3) := by decide +kernel
theorem dX5_pixel_66 : decode cX5_pixel 66 = .ok (.iload_n 1, 1) := by decide +kernel
theorem dX5_pixel_67 : decode cX5_pixel 67 = .ok (.aload_n 0, 1) := by decide +kernel
theorem dX5_pixel_68 : decode cX5_pixel 68 = .ok (.getfield 95, 3) := by decide +kernel
theorem dX5_pixel_71 : decode cX5_pixel 71 = .ok (.iload 4, 2) := by decide +kernel
theorem dX5_pixel_73 : decode cX5_pixel 73 = .ok (.iaload, 1) := by decide +kernel
theorem dX5_pixel_74 : decode cX5_pixel 74 = .ok (.aload_n 0, 1) := by decide +kernel
theorem dX5_pixel_75 : decode cX5_pixel 75 = .ok (.getfield 98, 3) := by decide +kernel
theorem dX5_pixel_78 : decode cX5_pixel 78 = .ok (.iload 4, 2) := by decide +kernel
theorem dX5_pixel_80 : decode cX5_pixel 80 = .ok (.iaload, 1) := by decide +kernel
theorem dX5_pixel_81 : decode cX5_pixel 81 = .ok (.iadd, 1) := by decide +kernel
theorem dX5_pixel_82 : decode cX5_pixel 82 = .ok (.iconst 2, 1) := by decide +kernel
theorem dX5_pixel_83 : decode cX5_pixel 83 = .ok (.aload_n 0, 1) := by decide +kernel
theorem dX5_pixel_84 : decode cX5_pixel 84 = .ok (.getfield 83, 3) := by decide +kernel
theorem dX5_pixel_87 : decode cX5_pixel 87 = .ok (.sipush 200, 3) := by decide +kernel
theorem dX5_pixel_90 : decode cX5_pixel 90 = .ok (.iload 4, 2) := by decide +kernel
theorem dX5_pixel_92 : decode cX5_pixel 92 = .ok (.iadd, 1) := by decide +kernel
theorem dX5_pixel_93 : decode cX5_pixel 93 = .ok (.iaload, 1) := by decide +kernel
theorem dX5_pixel_94 : decode cX5_pixel 94 = .ok (.imul, 1) := by decide +kernel
theorem dX5_pixel_95 : decode cX5_pixel 95 = .ok (.iadd, 1) := by decide +kernel
theorem dX5_pixel_96 : decode cX5_pixel 96 = .ok (.if_icmp .ge 37, 3) := by decide +kernel
theorem dX5_pixel_99 : decode cX5_pixel 99 = .ok (.iload_n 2, 1) := by decide +kernel
theorem dX5_pixel_100 : decode cX5_pixel 100 = .ok (.aload_n 0, 1) := by decide +kernel
theorem dX5_pixel_101 : decode cX5_pixel 101 = .ok (.getfield 104, 3) := by decide +kernel
theorem dX5_pixel_104 : decode cX5_pixel 104 = .ok (.iload 4, 2) := by decide +kernel
theorem dX5_pixel_106 : decode cX5_pixel 106 = .ok (.iaload, 1) := by decide +kernel
theorem dX5_pixel_107 : decode cX5_pixel 107 = .ok (.if_icmp .lt 26, 3) := by decide +kernel
theorem dX5_pixel_110 : decode cX5_pixel 110 = .ok (.iload_n 2, 1) := by decide +kernel
theorem dX5_pixel_111 : decode cX5_pixel 111 = .ok (.aload_n 0, 1) := by decide +kernel
theorem dX5_pixel_112 : decode cX5_pixel 112 = .ok (.getfield 104, 3) := by decide +kernel
theorem dX5_pixel_115 : decode cX5_pixel 115 = .ok (.iload 4, 2) := by decide +kernel
theorem dX5_pixel_117 : decode cX5_pixel 117 = .ok (.iaload, 1) := by decide +kernel
theorem dX5_pixel_118 : decode cX5_pixel 118 = .ok (.aload_n 0, 1) := by decide +kernel
theorem dX5_pixel_119 : decode cX5_pixel 119 = .ok (.getfield 101, 3) := by decide +kernel
theorem dX5_pixel_122 : decode cX5_pixel 122 = .ok (.iload 4, 2) := by decide +kernel
theorem dX5_pixel_124 : decode cX5_pixel 124 = .ok (.iaload, 1) := by decide +kernel
theorem dX5_pixel_125 : decode cX5_pixel 125 = .ok (.iadd, 1) := by decide +kernel
theorem dX5_pixel_126 : decode cX5_pixel 126 = .ok (.if_icmp .ge 7, 3) := by decide +kernel
theorem dX5_pixel_129 : decode cX5_pixel 129 = .ok (.iconst 1, 1) := by decide +kernel
theorem dX5_pixel_130 : decode cX5_pixel 130 = .ok (.goto 4, 3) := by decide +kernel
theorem dX5_pixel_133 : decode cX5_pixel 133 = .ok (.iconst 0, 1) := by decide +kernel
theorem dX5_pixel_134 : decode cX5_pixel 134 = .ok (.istore 5, 2) := by decide +kernel
theorem dX5_pixel_136 : decode cX5_pixel 136 = .ok (.iload 5, 2) := by decide +kernel
theorem dX5_pixel_138 : decode cX5_pixel 138 = .ok (.ifCond .eq 27, 3) := by decide +kernel
theorem dX5_pixel_141 : decode cX5_pixel 141 = .ok (.aload_n 0, 1) := by decide +kernel
theorem dX5_pixel_142 : decode cX5_pixel 142 = .ok (.getfield 83, 3) := by decide +kernel
theorem dX5_pixel_145 : decode cX5_pixel 145 = .ok (.bipush 40, 2) := by decide +kernel
theorem dX5_pixel_147 : decode cX5_pixel 147 = .ok (.iload 4, 2) := by decide +kernel
theorem dX5_pixel_149 : decode cX5_pixel 149 = .ok (.iadd, 1) := by decide +kernel
theorem dX5_pixel_150 : decode cX5_pixel 150 = .ok (.iaload, 1) := by decide +kernel
theorem dX5_pixel_151 : decode cX5_pixel 151 = .ok (.ifCond .eq 14, 3) := by decide +kernel
theorem dX5_pixel_154 : decode cX5_pixel 154 = .ok (.aload_n 0, 1) := by decide +kernel
theorem dX5_pixel_155 : decode cX5_pixel 155 = .ok (.getfield 83, 3) := by decide +kernel
theorem dX5_pixel_158 : decode cX5_pixel 158 = .ok (.bipush 40, 2) := by decide +kernel
theorem dX5_pixel_160 : decode cX5_pixel 160 = .ok (.iload 4, 2) := by decide +kernel
theorem dX5_pixel_162 : decode cX5_pixel 162 = .ok (.iadd, 1) := by decide +kernel
theorem dX5_pixel_163 : decode cX5_pixel 163 = .ok (.iaload, 1) := by decide +kernel
theorem dX5_pixel_164 : decode cX5_pixel 164 = .ok (.istore_n 3, 1) := by decide +kernel
theorem dX5_pixel_165 : decode cX5_pixel 165 = .ok (.iinc 4 1, 3) := by decide +kernel
theorem dX5_pixel_168 : decode cX5_pixel 168 = .ok (.goto (-132), 3) := by decide +kernel
theorem dX5_pixel_171 : decode cX5_pixel 171 = .ok (.iconst 1, 1) := by decide +kernel
theorem dX5_pixel_172 : decode cX5_pixel 172 = .ok (.istore 4, 2) := by decide +kernel
theorem dX5_pixel_174 : decode cX5_pixel 174 = .ok (.iload 4, 2) := by decide +kernel
theorem dX5_pixel_176 : decode cX5_pixel 176 = .ok (.aload_n 0, 1) := by decide +kernel
theorem dX5_pixel_177 : decode cX5_pixel 177 = .ok (.getfield 142, 3) := by decide +kernel
theorem dX5_pixel_180 : decode cX5_pixel 180 = .ok (.if_icmp .ge 109, 3) := by decide +kernel
theorem dX5_pixel_183 : decode cX5_pixel 183 = .ok (.iconst 0, 1) := by decide +kernel
theorem dX5_pixel_184 : decode cX5_pixel 184 = .ok (.istore 5, 2) := by decide +kernel
theorem dX5_pixel_186 : decode cX5_pixel 186 = .ok (.iload 5, 2) := by decide +kernel
theorem dX5_pixel_188 : decode cX5_pixel 188 = .ok (.aload_n 0, 1) := by decide +kernel
theorem dX5_pixel_189 : decode cX5_pixel 189 = .ok (.getfield 154, 3) := by decide +kernel
theorem dX5_pixel_192 : decode cX5_pixel 192 = .ok (.if_icmp .ge 91, 3) := by decide +kernel
theorem dX5_pixel_195 : decode cX5_pixel 195 = .ok (.aload_n 0, 1) := by decide +kernel
theorem dX5_pixel_196 : decode cX5_pixel 196 = .ok (.getfield 19, 3) := by decide +kernel
theorem dX5_pixel_199 : decode cX5_pixel 199 = .ok (.aload_n 0, 1) := by decide +kernel
theorem dX5_pixel_200 : decode cX5_pixel 200 = .ok (.getfield 16, 3) := by decide +kernel
theorem dX5_pixel_203 : decode cX5_pixel 203 = .ok (.iload 4, 2) := by decide +kernel
theorem dX5_pixel_205 : decode cX5_pixel 205 = .ok (.iaload, 1) := by decide +kernel
theorem dX5_pixel_206 : decode cX5_pixel 206 = .ok (.iaload, 1) := by decide +kernel
theorem dX5_pixel_207 : decode cX5_pixel 207 = .ok (.iconst 1, 1) := by decide +kernel
theorem dX5_pixel_208 : decode cX5_pixel 208 = .ok (.if_icmp .ne 75, 3) := by decide +kernel
theorem dX5_pixel_211 : decode cX5_pixel 211 = .ok (.aload_n 0, 1) := by decide +kernel
theorem dX5_pixel_212 : decode cX5_pixel 212 = .ok (.getfield 43, 3) := by decide +kernel
theorem dX5_pixel_215 : decode cX5_pixel 215 = .ok (.iload 5, 2) := by decide +kernel
theorem dX5_pixel_217 : decode cX5_pixel 217 = .ok (.iaload, 1) := by decide +kernel
theorem dX5_pixel_218 : decode cX5_pixel 218 = .ok (.aload_n 0, 1) := by decide +kernel
theorem dX5_pixel_219 : decode cX5_pixel 219 = .ok (.getfield 16, 3) := by decide +kernel
theorem dX5_pixel_222 : decode cX5_pixel 222 = .ok (.iload 4, 2) := by decide +kernel
theorem dX5_pixel_224 : decode cX5_pixel 224 = .ok (.iaload, 1) := by decide +kernel
theorem dX5_pixel_225 : decode cX5_pixel 225 = .ok (.if_icmp .ne 52, 3) := by decide +kernel
theorem dX5_pixel_228 : decode cX5_pixel 228 = .ok (.aload_n 0, 1) := by decide +kernel
theorem dX5_pixel_229 : decode cX5_pixel 229 = .ok (.getfield 107, 3) := by decide +kernel
theorem dX5_pixel_232 : decode cX5_pixel 232 = .ok (.iload 5, 2) := by decide +kernel
theorem dX5_pixel_234 : decode cX5_pixel 234 = .ok (.baload, 1) := by decide +kernel
theorem dX5_pixel_235 : decode cX5_pixel 235 = .ok (.ifCond .eq 42, 3) := by decide +kernel
theorem dX5_pixel_238 : decode cX5_pixel 238 = .ok (.aload_n 0, 1) := by decide +kernel
theorem dX5_pixel_239 : decode cX5_pixel 239 = .ok (.iload 5, 2) := by decide +kernel
theorem dX5_pixel_241 : decode cX5_pixel 241 = .ok (.iload_n 1, 1) := by decide +kernel
theorem dX5_pixel_242 : decode cX5_pixel 242 = .ok (.iload_n 2, 1) := by decide +kernel
theorem dX5_pixel_243 : decode cX5_pixel 243 = .ok (.aload_n 0, 1) := by decide +kernel
theorem dX5_pixel_244 : decode cX5_pixel 244 = .ok (.getfield 83, 3) := by decide +kernel
theorem dX5_pixel_247 : decode cX5_pixel 247 = .ok (.bipush 80, 2) := by decide +kernel
theorem dX5_pixel_249 : decode cX5_pixel 249 = .ok (.aload_n 0, 1) := by decide +kernel
theorem dX5_pixel_250 : decode cX5_pixel 250 = .ok (.getfield 74, 3) := by decide +kernel
theorem dX5_pixel_253 : decode cX5_pixel 253 = .ok (.iload 4, 2) := by decide +kernel
theorem dX5_pixel_255 : decode cX5_pixel 255 = .ok (.iaload, 1) := by decide +kernel
theorem dX5_pixel_256 : decode cX5_pixel 256 = .ok (.iadd, 1) := by decide +kernel
theorem dX5_pixel_257 : decode cX5_pixel 257 = .ok (.iaload, 1) := by decide +kernel
theorem dX5_pixel_258 : decode cX5_pixel 258 = .ok (.invokevirtual 373, 3) := by decide +kernel
theorem dX5_pixel_261 : decode cX5_pixel 261 = .ok (.ifCond .eq 16, 3) := by decide +kernel
theorem dX5_pixel_264 : decode cX5_pixel 264 = .ok (.aload_n 0, 1) := by decide +kernel
theorem dX5_pixel_265 : decode cX5_pixel 265 = .ok (.getfield 83, 3) := by decide +kernel
theorem dX5_pixel_268 : decode cX5_pixel 268 = .ok (.aload_n 0, 1) := by decide +kernel
theorem dX5_pixel_269 : decode cX5_pixel 269 = .ok (.getfield 74, 3) := by decide +kernel
theorem dX5_pixel_272 : decode cX5_pixel 272 = .ok (.iload 4, 2) := by decide +kernel
theorem dX5_pixel_274 : decode cX5_pixel 274 = .ok (.iaload, 1) := by decide +kernel
theorem dX5_pixel_275 : decode cX5_pixel 275 = .ok (.iaload, 1) := by decide +kernel
theorem dX5_pixel_276 : decode cX5_pixel 276 = .ok (.istore_n 3, 1) := by decide +kernel
theorem dX5_pixel_277 : decode cX5_pixel 277 = .ok (.iinc 5 1, 3) := by decide +kernel
theorem dX5_pixel_280 : decode cX5_pixel 280 = .ok (.goto (-94), 3) := by decide +kernel
theorem dX5_pixel_283 : decode cX5_pixel 283 = .ok (.iinc 4 1, 3) := by decide +kernel
theorem dX5_pixel_286 : decode cX5_pixel 286 = .ok (.goto (-112), 3) := by decide +kernel
theorem dX5_pixel_289 : decode cX5_pixel 289 = .ok (.iload_n 3, 1) := by decide +kernel
theorem dX5_pixel_290 : decode cX5_pixel 290 = .ok (.ireturn, 1) := by decide +kernel
theorem dX5_inked_0 : decode cX5_inked 0 = .ok (.iload_n 2, 1) := by decide +kernel
theorem dX5_inked_1 : decode cX5_inked 1 = .ok (.aload_n 0, 1) := by decide +kernel
theorem dX5_inked_2 : decode cX5_inked 2 = .ok (.getfield 110, 3) := by decide +kernel
theorem dX5_inked_5 : decode cX5_inked 5 = .ok (.iload_n 1, 1) := by decide +kernel
theorem dX5_inked_6 : decode cX5_inked 6 = .ok (.iaload, 1) := by decide +kernel
theorem dX5_inked_7 : decode cX5_inked 7 = .ok (.isub, 1) := by decide +kernel
theorem dX5_inked_8 : decode cX5_inked 8 = .ok (.istore 5, 2) := by decide +kernel
theorem dX5_inked_10 : decode cX5_inked 10 = .ok (.iload_n 3, 1) := by decide +kernel
theorem dX5_inked_11 : decode cX5_inked 11 = .ok (.aload_n 0, 1) := by decide +kernel
theorem dX5_inked_12 : decode cX5_inked 12 = .ok (.getfield 113, 3) := by decide +kernel
theorem dX5_inked_15 : decode cX5_inked 15 = .ok (.iload_n 1, 1) := by decide +kernel
theorem dX5_inked_16 : decode cX5_inked 16 = .ok (.iaload, 1) := by decide +kernel
theorem dX5_inked_17 : decode cX5_inked 17 = .ok (.isub, 1) := by decide +kernel
theorem dX5_inked_18 : decode cX5_inked 18 = .ok (.istore 6, 2) := by decide +kernel
theorem dX5_inked_20 : decode cX5_inked 20 = .ok (.iload 5, 2) := by decide +kernel
theorem dX5_inked_22 : decode cX5_inked 22 = .ok (.ifCond .lt 22, 3) := by decide +kernel
theorem dX5_inked_25 : decode cX5_inked 25 = .ok (.iload 5, 2) := by decide +kernel
theorem dX5_inked_27 : decode cX5_inked 27 = .ok (.iload 4, 2) := by decide +kernel
theorem dX5_inked_29 : decode cX5_inked 29 = .ok (.if_icmp .ge 15, 3) := by decide +kernel
theorem dX5_inked_32 : decode cX5_inked 32 = .ok (.iload 6, 2) := by decide +kernel
theorem dX5_inked_34 : decode cX5_inked 34 = .ok (.ifCond .lt 10, 3) := by decide +kernel
theorem dX5_inked_37 : decode cX5_inked 37 = .ok (.iload 6, 2) := by decide +kernel
theorem dX5_inked_39 : decode cX5_inked 39 = .ok (.iload 4, 2) := by decide +kernel
theorem dX5_inked_41 : decode cX5_inked 41 = .ok (.if_icmp .lt 5, 3) := by decide +kernel
theorem dX5_inked_44 : decode cX5_inked 44 = .ok (.iconst 0, 1) := by decide +kernel
theorem dX5_inked_45 : decode cX5_inked 45 = .ok (.ireturn, 1) := by decide +kernel
theorem dX5_inked_46 : decode cX5_inked 46 = .ok (.aload_n 0, 1) := by decide +kernel
theorem dX5_inked_47 : decode cX5_inked 47 = .ok (.getfield 40, 3) := by decide +kernel
theorem dX5_inked_50 : decode cX5_inked 50 = .ok (.iload_n 1, 1) := by decide +kernel
theorem dX5_inked_51 : decode cX5_inked 51 = .ok (.iaload, 1) := by decide +kernel
theorem dX5_inked_52 : decode cX5_inked 52 = .ok (.iconst 2, 1) := by decide +kernel
theorem dX5_inked_53 : decode cX5_inked 53 = .ok (.iconst 2, 1) := by decide +kernel
theorem dX5_inked_54 : decode cX5_inked 54 = .ok (.iload 6, 2) := by decide +kernel
theorem dX5_inked_56 : decode cX5_inked 56 = .ok (.imul, 1) := by decide +kernel
theorem dX5_inked_57 : decode cX5_inked 57 = .ok (.iload 4, 2) := by decide +kernel
theorem dX5_inked_59 : decode cX5_inked 59 = .ok (.idiv, 1) := by decide +kernel
theorem dX5_inked_60 : decode cX5_inked 60 = .ok (.imul, 1) := by decide +kernel
theorem dX5_inked_61 : decode cX5_inked 61 = .ok (.iconst 2, 1) := by decide +kernel
theorem dX5_inked_62 : decode cX5_inked 62 = .ok (.iload 5, 2) := by decide +kernel
theorem dX5_inked_64 : decode cX5_inked 64 = .ok (.imul, 1) := by decide +kernel
theorem dX5_inked_65 : decode cX5_inked 65 = .ok (.iload 4, 2) := by decide +kernel
theorem dX5_inked_67 : decode cX5_inked 67 = .ok (.idiv, 1) := by decide +kernel
theorem dX5_inked_68 : decode cX5_inked 68 = .ok (.iadd, 1) := by decide +kernel
theorem dX5_inked_69 : decode cX5_inked 69 = .ok (.ishr, 1) := by decide +kernel
theorem dX5_inked_70 : decode cX5_inked 70 = .ok (.iconst 1, 1) := by decide +kernel
theorem dX5_inked_71 : decode cX5_inked 71 = .ok (.iand, 1) := by decide +kernel
theorem dX5_inked_72 : decode cX5_inked 72 = .ok (.iconst 1, 1) := by decide +kernel
theorem dX5_inked_73 : decode cX5_inked 73 = .ok (.if_icmp .ne 7, 3) := by decide +kernel
theorem dX5_inked_76 : decode cX5_inked 76 = .ok (.iconst 1, 1) := by decide +kernel
theorem dX5_inked_77 : decode cX5_inked 77 = .ok (.goto 4, 3) := by decide +kernel
theorem dX5_inked_80 : decode cX5_inked 80 = .ok (.iconst 0, 1) := by decide +kernel
theorem dX5_inked_81 : decode cX5_inked 81 = .ok (.ireturn, 1) := by decide +kernel
