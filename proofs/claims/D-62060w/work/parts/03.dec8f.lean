set_option maxRecDepth 100000
theorem dX0_gather_100 : decode cX0_gather 100 = .ok (.iinc 3 1, 3) := by decide +kernel
theorem dX0_gather_103 : decode cX0_gather 103 = .ok (.goto (-101), 3) := by decide +kernel
theorem dX0_gather_106 : decode cX0_gather 106 = .ok (.return_, 1) := by decide +kernel
theorem dX0_paint_0 : decode cX0_paint 0 = .ok (.aload_n 0, 1) := by decide +kernel
theorem dX0_paint_1 : decode cX0_paint 1 = .ok (.getfield 58, 3) := by decide +kernel
theorem dX0_paint_4 : decode cX0_paint 4 = .ok (.iconst 0, 1) := by decide +kernel
theorem dX0_paint_5 : decode cX0_paint 5 = .ok (.invokestatic 480, 3) := by decide +kernel
theorem dX0_paint_8 : decode cX0_paint 8 = .ok (.iconst 0, 1) := by decide +kernel
theorem dX0_paint_9 : decode cX0_paint 9 = .ok (.istore_n 1, 1) := by decide +kernel
theorem dX0_paint_10 : decode cX0_paint 10 = .ok (.iload_n 1, 1) := by decide +kernel
theorem dX0_paint_11 : decode cX0_paint 11 = .ok (.aload_n 0, 1) := by decide +kernel
theorem dX0_paint_12 : decode cX0_paint 12 = .ok (.getfield 48, 3) := by decide +kernel
theorem dX0_paint_15 : decode cX0_paint 15 = .ok (.invokevirtual 160, 3) := by decide +kernel
theorem dX0_paint_18 : decode cX0_paint 18 = .ok (.if_icmp .ge 46, 3) := by decide +kernel
theorem dX0_paint_21 : decode cX0_paint 21 = .ok (.aload_n 0, 1) := by decide +kernel
theorem dX0_paint_22 : decode cX0_paint 22 = .ok (.getfield 48, 3) := by decide +kernel
theorem dX0_paint_25 : decode cX0_paint 25 = .ok (.iload_n 1, 1) := by decide +kernel
theorem dX0_paint_26 : decode cX0_paint 26 = .ok (.invokevirtual 163, 3) := by decide +kernel
theorem dX0_paint_29 : decode cX0_paint 29 = .ok (.checkcast 252, 3) := by decide +kernel
theorem dX0_paint_32 : decode cX0_paint 32 = .ok (.astore_n 2, 1) := by decide +kernel
theorem dX0_paint_33 : decode cX0_paint 33 = .ok (.aload_n 2, 1) := by decide +kernel
theorem dX0_paint_34 : decode cX0_paint 34 = .ok (.instanceof 7, 3) := by decide +kernel
theorem dX0_paint_37 : decode cX0_paint 37 = .ok (.ifCond .eq 21, 3) := by decide +kernel
theorem dX0_paint_40 : decode cX0_paint 40 = .ok (.aload_n 2, 1) := by decide +kernel
theorem dX0_paint_41 : decode cX0_paint 41 = .ok (.checkcast 7, 3) := by decide +kernel
theorem dX0_paint_44 : decode cX0_paint 44 = .ok (.invokevirtual 415, 3) := by decide +kernel
theorem dX0_paint_47 : decode cX0_paint 47 = .ok (.ifCond .eq 11, 3) := by decide +kernel
theorem dX0_paint_50 : decode cX0_paint 50 = .ok (.aload_n 0, 1) := by decide +kernel
theorem dX0_paint_51 : decode cX0_paint 51 = .ok (.aload_n 2, 1) := by decide +kernel
theorem dX0_paint_52 : decode cX0_paint 52 = .ok (.checkcast 7, 3) := by decide +kernel
theorem dX0_paint_55 : decode cX0_paint 55 = .ok (.invokevirtual 483, 3) := by decide +kernel
theorem dX0_paint_58 : decode cX0_paint 58 = .ok (.iinc 1 1, 3) := by decide +kernel
theorem dX0_paint_61 : decode cX0_paint 61 = .ok (.goto (-51), 3) := by decide +kernel
theorem dX0_paint_64 : decode cX0_paint 64 = .ok (.iconst 0, 1) := by decide +kernel
theorem dX0_paint_65 : decode cX0_paint 65 = .ok (.istore_n 1, 1) := by decide +kernel
theorem dX0_paint_66 : decode cX0_paint 66 = .ok (.iload_n 1, 1) := by decide +kernel
theorem dX0_paint_67 : decode cX0_paint 67 = .ok (.aload_n 0, 1) := by decide +kernel
theorem dX0_paint_68 : decode cX0_paint 68 = .ok (.getfield 48, 3) := by decide +kernel
theorem dX0_paint_71 : decode cX0_paint 71 = .ok (.invokevirtual 160, 3) := by decide +kernel
theorem dX0_paint_74 : decode cX0_paint 74 = .ok (.if_icmp .ge 103, 3) := by decide +kernel
theorem dX0_paint_77 : decode cX0_paint 77 = .ok (.aload_n 0, 1) := by decide +kernel
theorem dX0_paint_78 : decode cX0_paint 78 = .ok (.getfield 48, 3) := by decide +kernel
theorem dX0_paint_81 : decode cX0_paint 81 = .ok (.iload_n 1, 1) := by decide +kernel
theorem dX0_paint_82 : decode cX0_paint 82 = .ok (.invokevirtual 163, 3) := by decide +kernel
theorem dX0_paint_85 : decode cX0_paint 85 = .ok (.checkcast 252, 3) := by decide +kernel
theorem dX0_paint_88 : decode cX0_paint 88 = .ok (.astore_n 2, 1) := by decide +kernel
theorem dX0_paint_89 : decode cX0_paint 89 = .ok (.aload_n 2, 1) := by decide +kernel
theorem dX0_paint_90 : decode cX0_paint 90 = .ok (.instanceof 254, 3) := by decide +kernel
theorem dX0_paint_93 : decode cX0_paint 93 = .ok (.ifCond .eq 78, 3) := by decide +kernel
theorem dX0_paint_96 : decode cX0_paint 96 = .ok (.aload_n 2, 1) := by decide +kernel
theorem dX0_paint_97 : decode cX0_paint 97 = .ok (.checkcast 254, 3) := by decide +kernel
theorem dX0_paint_100 : decode cX0_paint 100 = .ok (.astore_n 3, 1) := by decide +kernel
theorem dX0_paint_101 : decode cX0_paint 101 = .ok (.iconst 0, 1) := by decide +kernel
theorem dX0_paint_102 : decode cX0_paint 102 = .ok (.istore 4, 2) := by decide +kernel
theorem dX0_paint_104 : decode cX0_paint 104 = .ok (.iload 4, 2) := by decide +kernel
theorem dX0_paint_106 : decode cX0_paint 106 = .ok (.aload_n 3, 1) := by decide +kernel
theorem dX0_paint_107 : decode cX0_paint 107 = .ok (.getfield 259, 3) := by decide +kernel
theorem dX0_paint_110 : decode cX0_paint 110 = .ok (.invokevirtual 303, 3) := by decide +kernel
theorem dX0_paint_113 : decode cX0_paint 113 = .ok (.if_icmp .ge 58, 3) := by decide +kernel
theorem dX0_paint_116 : decode cX0_paint 116 = .ok (.aload_n 3, 1) := by decide +kernel
theorem dX0_paint_117 : decode cX0_paint 117 = .ok (.getfield 468, 3) := by decide +kernel
theorem dX0_paint_120 : decode cX0_paint 120 = .ok (.iload 4, 2) := by decide +kernel
theorem dX0_paint_122 : decode cX0_paint 122 = .ok (.iaload, 1) := by decide +kernel
theorem dX0_paint_123 : decode cX0_paint 123 = .ok (.iconst (-1), 1) := by decide +kernel
theorem dX0_paint_124 : decode cX0_paint 124 = .ok (.if_icmp .eq 41, 3) := by decide +kernel
theorem dX0_paint_127 : decode cX0_paint 127 = .ok (.aload_n 0, 1) := by decide +kernel
theorem dX0_paint_128 : decode cX0_paint 128 = .ok (.aload_n 3, 1) := by decide +kernel
theorem dX0_paint_129 : decode cX0_paint 129 = .ok (.getfield 259, 3) := by decide +kernel
theorem dX0_paint_132 : decode cX0_paint 132 = .ok (.iload 4, 2) := by decide +kernel
theorem dX0_paint_134 : decode cX0_paint 134 = .ok (.invokevirtual 306, 3) := by decide +kernel
theorem dX0_paint_137 : decode cX0_paint 137 = .ok (.aload_n 3, 1) := by decide +kernel
theorem dX0_paint_138 : decode cX0_paint 138 = .ok (.getfield 468, 3) := by decide +kernel
theorem dX0_paint_141 : decode cX0_paint 141 = .ok (.iload 4, 2) := by decide +kernel
theorem dX0_paint_143 : decode cX0_paint 143 = .ok (.iaload, 1) := by decide +kernel
theorem dX0_paint_144 : decode cX0_paint 144 = .ok (.ldc_w 486, 3) := by decide +kernel
theorem dX0_paint_147 : decode cX0_paint 147 = .ok (.iand, 1) := by decide +kernel
theorem dX0_paint_148 : decode cX0_paint 148 = .ok (.aload_n 3, 1) := by decide +kernel
theorem dX0_paint_149 : decode cX0_paint 149 = .ok (.getfield 468, 3) := by decide +kernel
theorem dX0_paint_152 : decode cX0_paint 152 = .ok (.iload 4, 2) := by decide +kernel
theorem dX0_paint_154 : decode cX0_paint 154 = .ok (.iaload, 1) := by decide +kernel
theorem dX0_paint_155 : decode cX0_paint 155 = .ok (.bipush 16, 2) := by decide +kernel
theorem dX0_paint_157 : decode cX0_paint 157 = .ok (.ishr, 1) := by decide +kernel
theorem dX0_paint_158 : decode cX0_paint 158 = .ok (.aload_n 3, 1) := by decide +kernel
theorem dX0_paint_159 : decode cX0_paint 159 = .ok (.getfield 487, 3) := by decide +kernel
theorem dX0_paint_162 : decode cX0_paint 162 = .ok (.invokevirtual 488, 3) := by decide +kernel
theorem dX0_paint_165 : decode cX0_paint 165 = .ok (.iinc 4 1, 3) := by decide +kernel
theorem dX0_paint_168 : decode cX0_paint 168 = .ok (.goto (-64), 3) := by decide +kernel
theorem dX0_paint_171 : decode cX0_paint 171 = .ok (.iinc 1 1, 3) := by decide +kernel
theorem dX0_paint_174 : decode cX0_paint 174 = .ok (.goto (-108), 3) := by decide +kernel
theorem dX0_paint_177 : decode cX0_paint 177 = .ok (.return_, 1) := by decide +kernel
theorem dX0_ground_0 : decode cX0_ground 0 = .ok (.aload_n 1, 1) := by decide +kernel
theorem dX0_ground_1 : decode cX0_ground 1 = .ok (.getfield 354, 3) := by decide +kernel
theorem dX0_ground_4 : decode cX0_ground 4 = .ok (.iconst 1, 1) := by decide +kernel
theorem dX0_ground_5 : decode cX0_ground 5 = .ok (.iaload, 1) := by decide +kernel
theorem dX0_ground_6 : decode cX0_ground 6 = .ok (.ifCond .ne 4, 3) := by decide +kernel
theorem dX0_ground_9 : decode cX0_ground 9 = .ok (.return_, 1) := by decide +kernel
theorem dX0_ground_10 : decode cX0_ground 10 = .ok (.aload_n 1, 1) := by decide +kernel
theorem dX0_ground_11 : decode cX0_ground 11 = .ok (.getfield 394, 3) := by decide +kernel
theorem dX0_ground_14 : decode cX0_ground 14 = .ok (.istore_n 2, 1) := by decide +kernel
theorem dX0_ground_15 : decode cX0_ground 15 = .ok (.iload_n 2, 1) := by decide +kernel
theorem dX0_ground_16 : decode cX0_ground 16 = .ok (.aload_n 1, 1) := by decide +kernel
theorem dX0_ground_17 : decode cX0_ground 17 = .ok (.getfield 394, 3) := by decide +kernel
theorem dX0_ground_20 : decode cX0_ground 20 = .ok (.aload_n 1, 1) := by decide +kernel
theorem dX0_ground_21 : decode cX0_ground 21 = .ok (.getfield 432, 3) := by decide +kernel
theorem dX0_ground_24 : decode cX0_ground 24 = .ok (.iadd, 1) := by decide +kernel
theorem dX0_ground_25 : decode cX0_ground 25 = .ok (.if_icmp .ge 65, 3) := by decide +kernel
theorem dX0_ground_28 : decode cX0_ground 28 = .ok (.iload_n 2, 1) := by decide +kernel
theorem dX0_ground_29 : decode cX0_ground 29 = .ok (.bipush 64, 2) := by decide +kernel
theorem dX0_ground_31 : decode cX0_ground 31 = .ok (.if_icmp .ge 59, 3) := by decide +kernel
theorem dX0_ground_34 : decode cX0_ground 34 = .ok (.aload_n 1, 1) := by decide +kernel
theorem dX0_ground_35 : decode cX0_ground 35 = .ok (.getfield 391, 3) := by decide +kernel
theorem dX0_ground_38 : decode cX0_ground 38 = .ok (.istore_n 3, 1) := by decide +kernel
theorem dX0_ground_39 : decode cX0_ground 39 = .ok (.iload_n 3, 1) := by decide +kernel
theorem dX0_ground_40 : decode cX0_ground 40 = .ok (.aload_n 1, 1) := by decide +kernel
theorem dX0_ground_41 : decode cX0_ground 41 = .ok (.getfield 391, 3) := by decide +kernel
theorem dX0_ground_44 : decode cX0_ground 44 = .ok (.aload_n 1, 1) := by decide +kernel
theorem dX0_ground_45 : decode cX0_ground 45 = .ok (.getfield 400, 3) := by decide +kernel
theorem dX0_ground_48 : decode cX0_ground 48 = .ok (.iadd, 1) := by decide +kernel
theorem dX0_ground_49 : decode cX0_ground 49 = .ok (.if_icmp .ge 35, 3) := by decide +kernel
theorem dX0_ground_52 : decode cX0_ground 52 = .ok (.iload_n 3, 1) := by decide +kernel
theorem dX0_ground_53 : decode cX0_ground 53 = .ok (.aload_n 0, 1) := by decide +kernel
theorem dX0_ground_54 : decode cX0_ground 54 = .ok (.getfield 96, 3) := by decide +kernel
theorem dX0_ground_57 : decode cX0_ground 57 = .ok (.if_icmp .ge 27, 3) := by decide +kernel
theorem dX0_ground_60 : decode cX0_ground 60 = .ok (.aload_n 0, 1) := by decide +kernel
theorem dX0_ground_61 : decode cX0_ground 61 = .ok (.getfield 58, 3) := by decide +kernel
theorem dX0_ground_64 : decode cX0_ground 64 = .ok (.bipush 64, 2) := by decide +kernel
theorem dX0_ground_66 : decode cX0_ground 66 = .ok (.iload_n 2, 1) := by decide +kernel
theorem dX0_ground_67 : decode cX0_ground 67 = .ok (.imul, 1) := by decide +kernel
theorem dX0_ground_68 : decode cX0_ground 68 = .ok (.iload_n 3, 1) := by decide +kernel
theorem dX0_ground_69 : decode cX0_ground 69 = .ok (.iadd, 1) := by decide +kernel
theorem dX0_ground_70 : decode cX0_ground 70 = .ok (.aload_n 1, 1) := by decide +kernel
theorem dX0_ground_71 : decode cX0_ground 71 = .ok (.getfield 354, 3) := by decide +kernel
theorem dX0_ground_74 : decode cX0_ground 74 = .ok (.iconst 1, 1) := by decide +kernel
theorem dX0_ground_75 : decode cX0_ground 75 = .ok (.iaload, 1) := by decide +kernel
theorem dX0_ground_76 : decode cX0_ground 76 = .ok (.i2b, 1) := by decide +kernel
theorem dX0_ground_77 : decode cX0_ground 77 = .ok (.bastore, 1) := by decide +kernel
theorem dX0_ground_78 : decode cX0_ground 78 = .ok (.iinc 3 1, 3) := by decide +kernel
theorem dX0_ground_81 : decode cX0_ground 81 = .ok (.goto (-42), 3) := by decide +kernel
theorem dX0_ground_84 : decode cX0_ground 84 = .ok (.iinc 2 1, 3) := by decide +kernel
theorem dX0_ground_87 : decode cX0_ground 87 = .ok (.goto (-72), 3) := by decide +kernel
theorem dX0_ground_90 : decode cX0_ground 90 = .ok (.return_, 1) := by decide +kernel
theorem dX0_glyph_0 : decode cX0_glyph 0 = .ok (.aload 4, 2) := by decide +kernel
theorem dX0_glyph_2 : decode cX0_glyph 2 = .ok (.getfield 354, 3) := by decide +kernel
theorem dX0_glyph_5 : decode cX0_glyph 5 = .ok (.iconst 2, 1) := by decide +kernel
theorem dX0_glyph_6 : decode cX0_glyph 6 = .ok (.iaload, 1) := by decide +kernel
theorem dX0_glyph_7 : decode cX0_glyph 7 = .ok (.istore 5, 2) := by decide +kernel
theorem dX0_glyph_9 : decode cX0_glyph 9 = .ok (.iconst 0, 1) := by decide +kernel
theorem dX0_glyph_10 : decode cX0_glyph 10 = .ok (.istore 6, 2) := by decide +kernel
theorem dX0_glyph_12 : decode cX0_glyph 12 = .ok (.iload 6, 2) := by decide +kernel
theorem dX0_glyph_14 : decode cX0_glyph 14 = .ok (.iload 5, 2) := by decide +kernel
theorem dX0_glyph_16 : decode cX0_glyph 16 = .ok (.if_icmp .ge 95, 3) := by decide +kernel
theorem dX0_glyph_19 : decode cX0_glyph 19 = .ok (.iload_n 3, 1) := by decide +kernel
theorem dX0_glyph_20 : decode cX0_glyph 20 = .ok (.iload 6, 2) := by decide +kernel
theorem dX0_glyph_22 : decode cX0_glyph 22 = .ok (.iadd, 1) := by decide +kernel
theorem dX0_glyph_23 : decode cX0_glyph 23 = .ok (.bipush 64, 2) := by decide +kernel
theorem dX0_glyph_25 : decode cX0_glyph 25 = .ok (.if_icmp .ge 86, 3) := by decide +kernel
theorem dX0_glyph_28 : decode cX0_glyph 28 = .ok (.iconst 0, 1) := by decide +kernel
theorem dX0_glyph_29 : decode cX0_glyph 29 = .ok (.istore 7, 2) := by decide +kernel
theorem dX0_glyph_31 : decode cX0_glyph 31 = .ok (.iload 7, 2) := by decide +kernel
theorem dX0_glyph_33 : decode cX0_glyph 33 = .ok (.iload 5, 2) := by decide +kernel
theorem dX0_glyph_35 : decode cX0_glyph 35 = .ok (.if_icmp .ge 70, 3) := by decide +kernel
theorem dX0_glyph_38 : decode cX0_glyph 38 = .ok (.iload_n 2, 1) := by decide +kernel
theorem dX0_glyph_39 : decode cX0_glyph 39 = .ok (.iload 7, 2) := by decide +kernel
theorem dX0_glyph_41 : decode cX0_glyph 41 = .ok (.iadd, 1) := by decide +kernel
theorem dX0_glyph_42 : decode cX0_glyph 42 = .ok (.aload_n 0, 1) := by decide +kernel
theorem dX0_glyph_43 : decode cX0_glyph 43 = .ok (.getfield 96, 3) := by decide +kernel
theorem dX0_glyph_46 : decode cX0_glyph 46 = .ok (.if_icmp .ge 59, 3) := by decide +kernel
theorem dX0_glyph_49 : decode cX0_glyph 49 = .ok (.iload_n 1, 1) := by decide +kernel
theorem dX0_glyph_50 : decode cX0_glyph 50 = .ok (.iconst 2, 1) := by decide +kernel
theorem dX0_glyph_51 : decode cX0_glyph 51 = .ok (.iconst 2, 1) := by decide +kernel
theorem dX0_glyph_52 : decode cX0_glyph 52 = .ok (.iload 6, 2) := by decide +kernel
theorem dX0_glyph_54 : decode cX0_glyph 54 = .ok (.imul, 1) := by decide +kernel
theorem dX0_glyph_55 : decode cX0_glyph 55 = .ok (.iload 5, 2) := by decide +kernel
theorem dX0_glyph_57 : decode cX0_glyph 57 = .ok (.idiv, 1) := by decide +kernel
theorem dX0_glyph_58 : decode cX0_glyph 58 = .ok (.imul, 1) := by decide +kernel
theorem dX0_glyph_59 : decode cX0_glyph 59 = .ok (.iconst 2, 1) := by decide +kernel
theorem dX0_glyph_60 : decode cX0_glyph 60 = .ok (.iload 7, 2) := by decide +kernel
theorem dX0_glyph_62 : decode cX0_glyph 62 = .ok (.imul, 1) := by decide +kernel
theorem dX0_glyph_63 : decode cX0_glyph 63 = .ok (.iload 5, 2) := by decide +kernel
theorem dX0_glyph_65 : decode cX0_glyph 65 = .ok (.idiv, 1) := by decide +kernel
theorem dX0_glyph_66 : decode cX0_glyph 66 = .ok (.iadd, 1) := by decide +kernel
theorem dX0_glyph_67 : decode cX0_glyph 67 = .ok (.ishr, 1) := by decide +kernel
theorem dX0_glyph_68 : decode cX0_glyph 68 = .ok (.iconst 1, 1) := by decide +kernel
theorem dX0_glyph_69 : decode cX0_glyph 69 = .ok (.iand, 1) := by decide +kernel
theorem dX0_glyph_70 : decode cX0_glyph 70 = .ok (.iconst 1, 1) := by decide +kernel
theorem dX0_glyph_71 : decode cX0_glyph 71 = .ok (.if_icmp .ne 28, 3) := by decide +kernel
theorem dX0_glyph_74 : decode cX0_glyph 74 = .ok (.aload_n 0, 1) := by decide +kernel
theorem dX0_glyph_75 : decode cX0_glyph 75 = .ok (.getfield 58, 3) := by decide +kernel
theorem dX0_glyph_78 : decode cX0_glyph 78 = .ok (.bipush 64, 2) := by decide +kernel
theorem dX0_glyph_80 : decode cX0_glyph 80 = .ok (.iload_n 3, 1) := by decide +kernel
theorem dX0_glyph_81 : decode cX0_glyph 81 = .ok (.iload 6, 2) := by decide +kernel
theorem dX0_glyph_83 : decode cX0_glyph 83 = .ok (.iadd, 1) := by decide +kernel
theorem dX0_glyph_84 : decode cX0_glyph 84 = .ok (.imul, 1) := by decide +kernel
theorem dX0_glyph_85 : decode cX0_glyph 85 = .ok (.iload_n 2, 1) := by decide +kernel
theorem dX0_glyph_86 : decode cX0_glyph 86 = .ok (.iadd, 1) := by decide +kernel
theorem dX0_glyph_87 : decode cX0_glyph 87 = .ok (.iload 7, 2) := by decide +kernel
theorem dX0_glyph_89 : decode cX0_glyph 89 = .ok (.iadd, 1) := by decide +kernel
theorem dX0_glyph_90 : decode cX0_glyph 90 = .ok (.aload 4, 2) := by decide +kernel
theorem dX0_glyph_92 : decode cX0_glyph 92 = .ok (.getfield 354, 3) := by decide +kernel
theorem dX0_glyph_95 : decode cX0_glyph 95 = .ok (.iconst 0, 1) := by decide +kernel
theorem dX0_glyph_96 : decode cX0_glyph 96 = .ok (.iaload, 1) := by decide +kernel
theorem dX0_glyph_97 : decode cX0_glyph 97 = .ok (.i2b, 1) := by decide +kernel
theorem dX0_glyph_98 : decode cX0_glyph 98 = .ok (.bastore, 1) := by decide +kernel
theorem dX0_glyph_99 : decode cX0_glyph 99 = .ok (.iinc 7 1, 3) := by decide +kernel
theorem dX0_glyph_102 : decode cX0_glyph 102 = .ok (.goto (-71), 3) := by decide +kernel
theorem dX0_glyph_105 : decode cX0_glyph 105 = .ok (.iinc 6 1, 3) := by decide +kernel
theorem dX0_glyph_108 : decode cX0_glyph 108 = .ok (.goto (-96), 3) := by decide +kernel
theorem dX0_glyph_111 : decode cX0_glyph 111 = .ok (.return_, 1) := by decide +kernel
theorem dX0_nodes_0 : decode cX0_nodes 0 = .ok (.aload_n 0, 1) := by decide +kernel
theorem dX0_nodes_1 : decode cX0_nodes 1 = .ok (.getfield 82, 3) := by decide +kernel
theorem dX0_nodes_4 : decode cX0_nodes 4 = .ok (.ifCond .eq 7, 3) := by decide +kernel
theorem dX0_nodes_7 : decode cX0_nodes 7 = .ok (.iconst (-1), 1) := by decide +kernel
theorem dX0_nodes_8 : decode cX0_nodes 8 = .ok (.goto 14, 3) := by decide +kernel
theorem dX0_nodes_11 : decode cX0_nodes 11 = .ok (.iconst 1, 1) := by decide +kernel
theorem dX0_nodes_12 : decode cX0_nodes 12 = .ok (.aload_n 0, 1) := by decide +kernel
theorem dX0_nodes_13 : decode cX0_nodes 13 = .ok (.getfield 75, 3) := by decide +kernel
theorem dX0_nodes_16 : decode cX0_nodes 16 = .ok (.iadd, 1) := by decide +kernel
theorem dX0_nodes_17 : decode cX0_nodes 17 = .ok (.aload_n 0, 1) := by decide +kernel
theorem dX0_nodes_18 : decode cX0_nodes 18 = .ok (.getfield 79, 3) := by decide +kernel
theorem dX0_nodes_21 : decode cX0_nodes 21 = .ok (.iadd, 1) := by decide +kernel
theorem dX0_nodes_22 : decode cX0_nodes 22 = .ok (.ireturn, 1) := by decide +kernel
theorem dX0_name_0 : decode cX0_name 0 = .ok (.aload_n 0, 1) := by decide +kernel
theorem dX0_name_1 : decode cX0_name 1 = .ok (.iload_n 1, 1) := by decide +kernel
theorem dX0_name_2 : decode cX0_name 2 = .ok (.invokevirtual 492, 3) := by decide +kernel
theorem dX0_name_5 : decode cX0_name 5 = .ok (.astore_n 2, 1) := by decide +kernel
theorem dX0_name_6 : decode cX0_name 6 = .ok (.aload_n 2, 1) := by decide +kernel
theorem dX0_name_7 : decode cX0_name 7 = .ok (.ifnonnull 7, 3) := by decide +kernel
theorem dX0_name_10 : decode cX0_name 10 = .ok (.iconst (-1), 1) := by decide +kernel
theorem dX0_name_11 : decode cX0_name 11 = .ok (.goto 7, 3) := by decide +kernel
theorem dX0_name_14 : decode cX0_name 14 = .ok (.aload_n 2, 1) := by decide +kernel
theorem dX0_name_15 : decode cX0_name 15 = .ok (.invokevirtual 496, 3) := by decide +kernel
theorem dX0_name_18 : decode cX0_name 18 = .ok (.ireturn, 1) := by decide +kernel
theorem dX0_node_0 : decode cX0_node 0 = .ok (.aload_n 0, 1) := by decide +kernel
theorem dX0_node_1 : decode cX0_node 1 = .ok (.invokevirtual 465, 3) := by decide +kernel
theorem dX0_node_4 : decode cX0_node 4 = .ok (.iload_n 1, 1) := by decide +kernel
theorem dX0_node_5 : decode cX0_node 5 = .ok (.ifCond .lt 14, 3) := by decide +kernel
theorem dX0_node_8 : decode cX0_node 8 = .ok (.iload_n 1, 1) := by decide +kernel
theorem dX0_node_9 : decode cX0_node 9 = .ok (.aload_n 0, 1) := by decide +kernel
theorem dX0_node_10 : decode cX0_node 10 = .ok (.getfield 48, 3) := by decide +kernel
theorem dX0_node_13 : decode cX0_node 13 = .ok (.invokevirtual 160, 3) := by decide +kernel
theorem dX0_node_16 : decode cX0_node 16 = .ok (.if_icmp .lt 7, 3) := by decide +kernel
theorem dX0_node_19 : decode cX0_node 19 = .ok (.aconst_null, 1) := by decide +kernel
theorem dX0_node_20 : decode cX0_node 20 = .ok (.goto 14, 3) := by decide +kernel
theorem dX0_node_23 : decode cX0_node 23 = .ok (.aload_n 0, 1) := by decide +kernel
theorem dX0_node_24 : decode cX0_node 24 = .ok (.getfield 48, 3) := by decide +kernel
theorem dX0_node_27 : decode cX0_node 27 = .ok (.iload_n 1, 1) := by decide +kernel
theorem dX0_node_28 : decode cX0_node 28 = .ok (.invokevirtual 163, 3) := by decide +kernel
theorem dX0_node_31 : decode cX0_node 31 = .ok (.checkcast 252, 3) := by decide +kernel
theorem dX0_node_34 : decode cX0_node 34 = .ok (.areturn, 1) := by decide +kernel
theorem dX0_parent_0 : decode cX0_parent 0 = .ok (.aload_n 0, 1) := by decide +kernel
theorem dX0_parent_1 : decode cX0_parent 1 = .ok (.iload_n 1, 1) := by decide +kernel
theorem dX0_parent_2 : decode cX0_parent 2 = .ok (.invokevirtual 492, 3) := by decide +kernel
theorem dX0_parent_5 : decode cX0_parent 5 = .ok (.astore_n 2, 1) := by decide +kernel
theorem dX0_parent_6 : decode cX0_parent 6 = .ok (.aload_n 2, 1) := by decide +kernel
theorem dX0_parent_7 : decode cX0_parent 7 = .ok (.ifnull 10, 3) := by decide +kernel
theorem dX0_parent_10 : decode cX0_parent 10 = .ok (.aload_n 2, 1) := by decide +kernel
theorem dX0_parent_11 : decode cX0_parent 11 = .ok (.getfield 499, 3) := by decide +kernel
theorem dX0_parent_14 : decode cX0_parent 14 = .ok (.ifnonnull 7, 3) := by decide +kernel
theorem dX0_parent_17 : decode cX0_parent 17 = .ok (.iconst (-1), 1) := by decide +kernel
theorem dX0_parent_18 : decode cX0_parent 18 = .ok (.goto 10, 3) := by decide +kernel
theorem dX0_parent_21 : decode cX0_parent 21 = .ok (.aload_n 2, 1) := by decide +kernel
theorem dX0_parent_22 : decode cX0_parent 22 = .ok (.getfield 499, 3) := by decide +kernel
theorem dX0_parent_25 : decode cX0_parent 25 = .ok (.getfield 500, 3) := by decide +kernel
theorem dX0_parent_28 : decode cX0_parent 28 = .ok (.ireturn, 1) := by decide +kernel
theorem dX0_classes_0 : decode cX0_classes 0 = .ok (.aload_n 0, 1) := by decide +kernel
theorem dX0_classes_1 : decode cX0_classes 1 = .ok (.iload_n 1, 1) := by decide +kernel
theorem dX0_classes_2 : decode cX0_classes 2 = .ok (.invokevirtual 492, 3) := by decide +kernel
theorem dX0_classes_5 : decode cX0_classes 5 = .ok (.astore_n 2, 1) := by decide +kernel
theorem dX0_classes_6 : decode cX0_classes 6 = .ok (.aload_n 2, 1) := by decide +kernel
theorem dX0_classes_7 : decode cX0_classes 7 = .ok (.ifnonnull 7, 3) := by decide +kernel
theorem dX0_classes_10 : decode cX0_classes 10 = .ok (.iconst (-1), 1) := by decide +kernel
theorem dX0_classes_11 : decode cX0_classes 11 = .ok (.goto 7, 3) := by decide +kernel
theorem dX0_classes_14 : decode cX0_classes 14 = .ok (.aload_n 2, 1) := by decide +kernel
theorem dX0_classes_15 : decode cX0_classes 15 = .ok (.invokevirtual 501, 3) := by decide +kernel
theorem dX0_classes_18 : decode cX0_classes 18 = .ok (.ireturn, 1) := by decide +kernel
theorem dX0_letter_0 : decode cX0_letter 0 = .ok (.aload_n 0, 1) := by decide +kernel
theorem dX0_letter_1 : decode cX0_letter 1 = .ok (.iload_n 1, 1) := by decide +kernel
theorem dX0_letter_2 : decode cX0_letter 2 = .ok (.invokevirtual 503, 3) := by decide +kernel
theorem dX0_letter_5 : decode cX0_letter 5 = .ok (.astore_n 3, 1) := by decide +kernel
theorem dX0_letter_6 : decode cX0_letter 6 = .ok (.aload_n 3, 1) := by decide +kernel
theorem dX0_letter_7 : decode cX0_letter 7 = .ok (.ifnull 18, 3) := by decide +kernel
theorem dX0_letter_10 : decode cX0_letter 10 = .ok (.iload_n 2, 1) := by decide +kernel
theorem dX0_letter_11 : decode cX0_letter 11 = .ok (.ifCond .lt 14, 3) := by decide +kernel
theorem dX0_letter_14 : decode cX0_letter 14 = .ok (.iload_n 2, 1) := by decide +kernel
theorem dX0_letter_15 : decode cX0_letter 15 = .ok (.aload_n 3, 1) := by decide +kernel
theorem dX0_letter_16 : decode cX0_letter 16 = .ok (.getfield 259, 3) := by decide +kernel
theorem dX0_letter_19 : decode cX0_letter 19 = .ok (.invokevirtual 303, 3) := by decide +kernel
theorem dX0_letter_22 : decode cX0_letter 22 = .ok (.if_icmp .lt 7, 3) := by decide +kernel
theorem dX0_letter_25 : decode cX0_letter 25 = .ok (.iconst (-1), 1) := by decide +kernel
theorem dX0_letter_26 : decode cX0_letter 26 = .ok (.goto 11, 3) := by decide +kernel
theorem dX0_letter_29 : decode cX0_letter 29 = .ok (.aload_n 3, 1) := by decide +kernel
theorem dX0_letter_30 : decode cX0_letter 30 = .ok (.getfield 259, 3) := by decide +kernel
theorem dX0_letter_33 : decode cX0_letter 33 = .ok (.iload_n 2, 1) := by decide +kernel
theorem dX0_letter_34 : decode cX0_letter 34 = .ok (.invokevirtual 306, 3) := by decide +kernel
theorem dX0_letter_37 : decode cX0_letter 37 = .ok (.ireturn, 1) := by decide +kernel
theorem dX0_text_0 : decode cX0_text 0 = .ok (.aload_n 0, 1) := by decide +kernel
theorem dX0_text_1 : decode cX0_text 1 = .ok (.iload_n 1, 1) := by decide +kernel
theorem dX0_text_2 : decode cX0_text 2 = .ok (.invokevirtual 492, 3) := by decide +kernel
theorem dX0_text_5 : decode cX0_text 5 = .ok (.astore_n 2, 1) := by decide +kernel
theorem dX0_text_6 : decode cX0_text 6 = .ok (.aload_n 2, 1) := by decide +kernel
theorem dX0_text_7 : decode cX0_text 7 = .ok (.instanceof 254, 3) := by decide +kernel
theorem dX0_text_10 : decode cX0_text 10 = .ok (.ifCond .eq 10, 3) := by decide +kernel
theorem dX0_text_13 : decode cX0_text 13 = .ok (.aload_n 2, 1) := by decide +kernel
theorem dX0_text_14 : decode cX0_text 14 = .ok (.checkcast 254, 3) := by decide +kernel
theorem dX0_text_17 : decode cX0_text 17 = .ok (.goto 4, 3) := by decide +kernel
theorem dX0_text_20 : decode cX0_text 20 = .ok (.aconst_null, 1) := by decide +kernel
theorem dX0_text_21 : decode cX0_text 21 = .ok (.areturn, 1) := by decide +kernel
theorem dX0_open_0 : decode cX0_open 0 = .ok (.aload_n 0, 1) := by decide +kernel
theorem dX0_open_1 : decode cX0_open 1 = .ok (.getfield 82, 3) := by decide +kernel
theorem dX0_open_4 : decode cX0_open 4 = .ok (.ifCond .eq 7, 3) := by decide +kernel
theorem dX0_open_7 : decode cX0_open 7 = .ok (.iconst (-1), 1) := by decide +kernel
theorem dX0_open_8 : decode cX0_open 8 = .ok (.goto 10, 3) := by decide +kernel
theorem dX0_open_11 : decode cX0_open 11 = .ok (.aload_n 0, 1) := by decide +kernel
theorem dX0_open_12 : decode cX0_open 12 = .ok (.getfield 26, 3) := by decide +kernel
theorem dX0_open_15 : decode cX0_open 15 = .ok (.invokevirtual 160, 3) := by decide +kernel
theorem dX0_open_18 : decode cX0_open 18 = .ok (.ireturn, 1) := by decide +kernel
theorem dX0_rules_0 : decode cX0_rules 0 = .ok (.aload_n 0, 1) := by decide +kernel
theorem dX0_rules_1 : decode cX0_rules 1 = .ok (.getfield 44, 3) := by decide +kernel
theorem dX0_rules_4 : decode cX0_rules 4 = .ok (.getfield 379, 3) := by decide +kernel
theorem dX0_rules_7 : decode cX0_rules 7 = .ok (.invokevirtual 160, 3) := by decide +kernel
theorem dX0_rules_10 : decode cX0_rules 10 = .ok (.ireturn, 1) := by decide +kernel
theorem dX0_value_0 : decode cX0_value 0 = .ok (.aload_n 0, 1) := by decide +kernel
theorem dX0_value_1 : decode cX0_value 1 = .ok (.iload_n 1, 1) := by decide +kernel
theorem dX0_value_2 : decode cX0_value 2 = .ok (.invokevirtual 507, 3) := by decide +kernel
theorem dX0_value_5 : decode cX0_value 5 = .ok (.astore_n 3, 1) := by decide +kernel
theorem dX0_value_6 : decode cX0_value 6 = .ok (.ldc_w 319, 3) := by decide +kernel
theorem dX0_value_9 : decode cX0_value 9 = .ok (.iload_n 2, 1) := by decide +kernel
theorem dX0_value_10 : decode cX0_value 10 = .ok (.invokevirtual 173, 3) := by decide +kernel
theorem dX0_value_13 : decode cX0_value 13 = .ok (.istore 4, 2) := by decide +kernel
theorem dX0_value_15 : decode cX0_value 15 = .ok (.aload_n 3, 1) := by decide +kernel
theorem dX0_value_16 : decode cX0_value 16 = .ok (.ifnull 16, 3) := by decide +kernel
theorem dX0_value_19 : decode cX0_value 19 = .ok (.aload_n 3, 1) := by decide +kernel
theorem dX0_value_20 : decode cX0_value 20 = .ok (.aload_n 0, 1) := by decide +kernel
theorem dX0_value_21 : decode cX0_value 21 = .ok (.getfield 10, 3) := by decide +kernel
theorem dX0_value_24 : decode cX0_value 24 = .ok (.if_acmp .eq 8, 3) := by decide +kernel
theorem dX0_value_27 : decode cX0_value 27 = .ok (.iload 4, 2) := by decide +kernel
theorem dX0_value_29 : decode cX0_value 29 = .ok (.ifCond .ge 7, 3) := by decide +kernel
theorem dX0_value_32 : decode cX0_value 32 = .ok (.iconst (-1), 1) := by decide +kernel
theorem dX0_value_33 : decode cX0_value 33 = .ok (.goto 10, 3) := by decide +kernel
theorem dX0_value_36 : decode cX0_value 36 = .ok (.aload_n 3, 1) := by decide +kernel
theorem dX0_value_37 : decode cX0_value 37 = .ok (.getfield 354, 3) := by decide +kernel
theorem dX0_value_40 : decode cX0_value 40 = .ok (.iload 4, 2) := by decide +kernel
theorem dX0_value_42 : decode cX0_value 42 = .ok (.iaload, 1) := by decide +kernel
theorem dX0_value_43 : decode cX0_value 43 = .ok (.ireturn, 1) := by decide +kernel
theorem dX0_inner_0 : decode cX0_inner 0 = .ok (.aload_n 0, 1) := by decide +kernel
theorem dX0_inner_1 : decode cX0_inner 1 = .ok (.iload_n 1, 1) := by decide +kernel
theorem dX0_inner_2 : decode cX0_inner 2 = .ok (.invokevirtual 492, 3) := by decide +kernel
theorem dX0_inner_5 : decode cX0_inner 5 = .ok (.astore_n 2, 1) := by decide +kernel
theorem dX0_inner_6 : decode cX0_inner 6 = .ok (.aload_n 2, 1) := by decide +kernel
theorem dX0_inner_7 : decode cX0_inner 7 = .ok (.instanceof 7, 3) := by decide +kernel
theorem dX0_inner_10 : decode cX0_inner 10 = .ok (.ifCond .eq 10, 3) := by decide +kernel
theorem dX0_inner_13 : decode cX0_inner 13 = .ok (.aload_n 2, 1) := by decide +kernel
theorem dX0_inner_14 : decode cX0_inner 14 = .ok (.checkcast 7, 3) := by decide +kernel
theorem dX0_inner_17 : decode cX0_inner 17 = .ok (.goto 4, 3) := by decide +kernel
theorem dX0_inner_20 : decode cX0_inner 20 = .ok (.aconst_null, 1) := by decide +kernel
theorem dX0_inner_21 : decode cX0_inner 21 = .ok (.areturn, 1) := by decide +kernel
theorem dX0_box_0 : decode cX0_box 0 = .ok (.aload_n 0, 1) := by decide +kernel
theorem dX0_box_1 : decode cX0_box 1 = .ok (.getfield 96, 3) := by decide +kernel
theorem dX0_box_4 : decode cX0_box 4 = .ok (.ifCond .le 11, 3) := by decide +kernel
theorem dX0_box_7 : decode cX0_box 7 = .ok (.aload_n 0, 1) := by decide +kernel
theorem dX0_box_8 : decode cX0_box 8 = .ok (.iload_n 1, 1) := by decide +kernel
theorem dX0_box_9 : decode cX0_box 9 = .ok (.invokevirtual 507, 3) := by decide +kernel
theorem dX0_box_12 : decode cX0_box 12 = .ok (.goto 4, 3) := by decide +kernel
theorem dX0_box_15 : decode cX0_box 15 = .ok (.aconst_null, 1) := by decide +kernel
theorem dX0_box_16 : decode cX0_box 16 = .ok (.astore_n 3, 1) := by decide +kernel
theorem dX0_box_17 : decode cX0_box 17 = .ok (.aload_n 3, 1) := by decide +kernel
theorem dX0_box_18 : decode cX0_box 18 = .ok (.ifnull 10, 3) := by decide +kernel
theorem dX0_box_21 : decode cX0_box 21 = .ok (.aload_n 3, 1) := by decide +kernel
theorem dX0_box_22 : decode cX0_box 22 = .ok (.invokevirtual 415, 3) := by decide +kernel
theorem dX0_box_25 : decode cX0_box 25 = .ok (.ifCond .ne 5, 3) := by decide +kernel
theorem dX0_box_28 : decode cX0_box 28 = .ok (.iconst (-1), 1) := by decide +kernel
theorem dX0_box_29 : decode cX0_box 29 = .ok (.ireturn, 1) := by decide +kernel
theorem dX0_box_30 : decode cX0_box 30 = .ok (.iload_n 2, 1) := by decide +kernel
theorem dX0_box_31 : decode cX0_box 31 = .ok (.tableswitch 49 0 3 #[29, 34, 39, 44], 29) := by decide +kernel
theorem dX0_box_60 : decode cX0_box 60 = .ok (.aload_n 3, 1) := by decide +kernel
theorem dX0_box_61 : decode cX0_box 61 = .ok (.getfield 391, 3) := by decide +kernel
theorem dX0_box_64 : decode cX0_box 64 = .ok (.ireturn, 1) := by decide +kernel
theorem dX0_box_65 : decode cX0_box 65 = .ok (.aload_n 3, 1) := by decide +kernel
theorem dX0_box_66 : decode cX0_box 66 = .ok (.getfield 394, 3) := by decide +kernel
theorem dX0_box_69 : decode cX0_box 69 = .ok (.ireturn, 1) := by decide +kernel
theorem dX0_box_70 : decode cX0_box 70 = .ok (.aload_n 3, 1) := by decide +kernel
theorem dX0_box_71 : decode cX0_box 71 = .ok (.getfield 400, 3) := by decide +kernel
theorem dX0_box_74 : decode cX0_box 74 = .ok (.ireturn, 1) := by decide +kernel
theorem dX0_box_75 : decode cX0_box 75 = .ok (.aload_n 3, 1) := by decide +kernel
theorem dX0_box_76 : decode cX0_box 76 = .ok (.getfield 432, 3) := by decide +kernel
theorem dX0_box_79 : decode cX0_box 79 = .ok (.ireturn, 1) := by decide +kernel
theorem dX0_box_80 : decode cX0_box 80 = .ok (.iconst (-1), 1) := by decide +kernel
theorem dX0_box_81 : decode cX0_box 81 = .ok (.ireturn, 1) := by decide +kernel
theorem dX0_place_0 : decode cX0_place 0 = .ok (.aload_n 0, 1) := by decide +kernel
theorem dX0_place_1 : decode cX0_place 1 = .ok (.getfield 96, 3) := by decide +kernel
theorem dX0_place_4 : decode cX0_place 4 = .ok (.ifCond .le 11, 3) := by decide +kernel
theorem dX0_place_7 : decode cX0_place 7 = .ok (.aload_n 0, 1) := by decide +kernel
theorem dX0_place_8 : decode cX0_place 8 = .ok (.iload_n 1, 1) := by decide +kernel
theorem dX0_place_9 : decode cX0_place 9 = .ok (.invokevirtual 503, 3) := by decide +kernel
theorem dX0_place_12 : decode cX0_place 12 = .ok (.goto 4, 3) := by decide +kernel
theorem dX0_place_15 : decode cX0_place 15 = .ok (.aconst_null, 1) := by decide +kernel
theorem dX0_place_16 : decode cX0_place 16 = .ok (.astore_n 3, 1) := by decide +kernel
theorem dX0_place_17 : decode cX0_place 17 = .ok (.aload_n 3, 1) := by decide +kernel
theorem dX0_place_18 : decode cX0_place 18 = .ok (.ifnull 18, 3) := by decide +kernel
theorem dX0_place_21 : decode cX0_place 21 = .ok (.iload_n 2, 1) := by decide +kernel
theorem dX0_place_22 : decode cX0_place 22 = .ok (.ifCond .lt 14, 3) := by decide +kernel
theorem dX0_place_25 : decode cX0_place 25 = .ok (.iload_n 2, 1) := by decide +kernel
theorem dX0_place_26 : decode cX0_place 26 = .ok (.aload_n 3, 1) := by decide +kernel
theorem dX0_place_27 : decode cX0_place 27 = .ok (.getfield 259, 3) := by decide +kernel
theorem dX0_place_30 : decode cX0_place 30 = .ok (.invokevirtual 303, 3) := by decide +kernel
theorem dX0_place_33 : decode cX0_place 33 = .ok (.if_icmp .lt 7, 3) := by decide +kernel
theorem dX0_place_36 : decode cX0_place 36 = .ok (.iconst (-1), 1) := by decide +kernel
theorem dX0_place_37 : decode cX0_place 37 = .ok (.goto 9, 3) := by decide +kernel
theorem dX0_place_40 : decode cX0_place 40 = .ok (.aload_n 3, 1) := by decide +kernel
theorem dX0_place_41 : decode cX0_place 41 = .ok (.getfield 468, 3) := by decide +kernel
theorem dX0_place_44 : decode cX0_place 44 = .ok (.iload_n 2, 1) := by decide +kernel
theorem dX0_place_45 : decode cX0_place 45 = .ok (.iaload, 1) := by decide +kernel
theorem dX0_place_46 : decode cX0_place 46 = .ok (.ireturn, 1) := by decide +kernel
theorem dX0_lines_0 : decode cX0_lines 0 = .ok (.aload_n 0, 1) := by decide +kernel
theorem dX0_lines_1 : decode cX0_lines 1 = .ok (.getfield 96, 3) := by decide +kernel
theorem dX0_lines_4 : decode cX0_lines 4 = .ok (.ifCond .le 13, 3) := by decide +kernel
theorem dX0_lines_7 : decode cX0_lines 7 = .ok (.aload_n 0, 1) := by decide +kernel
theorem dX0_lines_8 : decode cX0_lines 8 = .ok (.getfield 54, 3) := by decide +kernel
theorem dX0_lines_11 : decode cX0_lines 11 = .ok (.getfield 462, 3) := by decide +kernel
theorem dX0_lines_14 : decode cX0_lines 14 = .ok (.goto 4, 3) := by decide +kernel
theorem dX0_lines_17 : decode cX0_lines 17 = .ok (.iconst (-1), 1) := by decide +kernel
theorem dX0_lines_18 : decode cX0_lines 18 = .ok (.ireturn, 1) := by decide +kernel
theorem dX0_pixel_0 : decode cX0_pixel 0 = .ok (.iload_n 1, 1) := by decide +kernel
theorem dX0_pixel_1 : decode cX0_pixel 1 = .ok (.ifCond .lt 21, 3) := by decide +kernel
theorem dX0_pixel_4 : decode cX0_pixel 4 = .ok (.iload_n 1, 1) := by decide +kernel
theorem dX0_pixel_5 : decode cX0_pixel 5 = .ok (.aload_n 0, 1) := by decide +kernel
theorem dX0_pixel_6 : decode cX0_pixel 6 = .ok (.getfield 96, 3) := by decide +kernel
theorem dX0_pixel_9 : decode cX0_pixel 9 = .ok (.if_icmp .ge 13, 3) := by decide +kernel
theorem dX0_pixel_12 : decode cX0_pixel 12 = .ok (.iload_n 2, 1) := by decide +kernel
theorem dX0_pixel_13 : decode cX0_pixel 13 = .ok (.ifCond .lt 9, 3) := by decide +kernel
theorem dX0_pixel_16 : decode cX0_pixel 16 = .ok (.iload_n 2, 1) := by decide +kernel
theorem dX0_pixel_17 : decode cX0_pixel 17 = .ok (.bipush 64, 2) := by decide +kernel
theorem dX0_pixel_19 : decode cX0_pixel 19 = .ok (.if_icmp .lt 7, 3) := by decide +kernel
theorem dX0_pixel_22 : decode cX0_pixel 22 = .ok (.iconst (-1), 1) := by decide +kernel
theorem dX0_pixel_23 : decode cX0_pixel 23 = .ok (.goto 14, 3) := by decide +kernel
theorem dX0_pixel_26 : decode cX0_pixel 26 = .ok (.aload_n 0, 1) := by decide +kernel
theorem dX0_pixel_27 : decode cX0_pixel 27 = .ok (.getfield 58, 3) := by decide +kernel
theorem dX0_pixel_30 : decode cX0_pixel 30 = .ok (.bipush 64, 2) := by decide +kernel
theorem dX0_pixel_32 : decode cX0_pixel 32 = .ok (.iload_n 2, 1) := by decide +kernel
theorem dX0_pixel_33 : decode cX0_pixel 33 = .ok (.imul, 1) := by decide +kernel
theorem dX0_pixel_34 : decode cX0_pixel 34 = .ok (.iload_n 1, 1) := by decide +kernel
theorem dX0_pixel_35 : decode cX0_pixel 35 = .ok (.iadd, 1) := by decide +kernel
theorem dX0_pixel_36 : decode cX0_pixel 36 = .ok (.baload, 1) := by decide +kernel
theorem dX0_pixel_37 : decode cX0_pixel 37 = .ok (.ireturn, 1) := by decide +kernel
theorem dX1_init_0 : decode cX1_init 0 = .ok (.aload_n 0, 1) := by decide +kernel
theorem dX1_init_1 : decode cX1_init 1 = .ok (.invokespecial 1, 3) := by decide +kernel
theorem dX1_init_4 : decode cX1_init 4 = .ok (.return_, 1) := by decide +kernel
theorem dX2_init_0 : decode cX2_init 0 = .ok (.aload_n 0, 1) := by decide +kernel
theorem dX2_init_1 : decode cX2_init 1 = .ok (.invokespecial 3, 3) := by decide +kernel
theorem dX2_init_4 : decode cX2_init 4 = .ok (.aload_n 0, 1) := by decide +kernel
theorem dX2_init_5 : decode cX2_init 5 = .ok (.new 9, 3) := by decide +kernel
theorem dX2_init_8 : decode cX2_init 8 = .ok (.dup, 1) := by decide +kernel
theorem dX2_init_9 : decode cX2_init 9 = .ok (.invokespecial 11, 3) := by decide +kernel
theorem dX2_init_12 : decode cX2_init 12 = .ok (.putfield 12, 3) := by decide +kernel
theorem dX2_init_15 : decode cX2_init 15 = .ok (.aload_n 0, 1) := by decide +kernel
theorem dX2_init_16 : decode cX2_init 16 = .ok (.bipush 7, 2) := by decide +kernel
theorem dX2_init_18 : decode cX2_init 18 = .ok (.newarray .int, 2) := by decide +kernel
theorem dX2_init_20 : decode cX2_init 20 = .ok (.putfield 18, 3) := by decide +kernel
theorem dX2_init_23 : decode cX2_init 23 = .ok (.return_, 1) := by decide +kernel
theorem dX2_begin_0 : decode cX2_begin 0 = .ok (.aload_n 0, 1) := by decide +kernel
theorem dX2_begin_1 : decode cX2_begin 1 = .ok (.iload_n 1, 1) := by decide +kernel
theorem dX2_begin_2 : decode cX2_begin 2 = .ok (.putfield 22, 3) := by decide +kernel
theorem dX2_begin_5 : decode cX2_begin 5 = .ok (.aload_n 0, 1) := by decide +kernel
theorem dX2_begin_6 : decode cX2_begin 6 = .ok (.iload_n 2, 1) := by decide +kernel
theorem dX2_begin_7 : decode cX2_begin 7 = .ok (.putfield 26, 3) := by decide +kernel
theorem dX2_begin_10 : decode cX2_begin 10 = .ok (.aload_n 0, 1) := by decide +kernel
theorem dX2_begin_11 : decode cX2_begin 11 = .ok (.getfield 12, 3) := by decide +kernel
theorem dX2_begin_14 : decode cX2_begin 14 = .ok (.invokevirtual 30, 3) := by decide +kernel
theorem dX2_begin_17 : decode cX2_begin 17 = .ok (.aload_n 0, 1) := by decide +kernel
theorem dX2_begin_18 : decode cX2_begin 18 = .ok (.iconst 0, 1) := by decide +kernel
theorem dX2_begin_19 : decode cX2_begin 19 = .ok (.putfield 33, 3) := by decide +kernel
theorem dX2_begin_22 : decode cX2_begin 22 = .ok (.return_, 1) := by decide +kernel
theorem dX2_enter_0 : decode cX2_enter 0 = .ok (.aload_n 0, 1) := by decide +kernel
theorem dX2_enter_1 : decode cX2_enter 1 = .ok (.iconst 1, 1) := by decide +kernel
theorem dX2_enter_2 : decode cX2_enter 2 = .ok (.putfield 33, 3) := by decide +kernel
theorem dX2_enter_5 : decode cX2_enter 5 = .ok (.aload_n 0, 1) := by decide +kernel
theorem dX2_enter_6 : decode cX2_enter 6 = .ok (.getfield 22, 3) := by decide +kernel
theorem dX2_enter_9 : decode cX2_enter 9 = .ok (.bipush 99, 2) := by decide +kernel
theorem dX2_enter_11 : decode cX2_enter 11 = .ok (.if_icmp .eq 11, 3) := by decide +kernel
theorem dX2_enter_14 : decode cX2_enter 14 = .ok (.aload_n 0, 1) := by decide +kernel
theorem dX2_enter_15 : decode cX2_enter 15 = .ok (.getfield 22, 3) := by decide +kernel
theorem dX2_enter_18 : decode cX2_enter 18 = .ok (.ifCond .eq 4, 3) := by decide +kernel
theorem dX2_enter_21 : decode cX2_enter 21 = .ok (.return_, 1) := by decide +kernel
theorem dX2_enter_22 : decode cX2_enter 22 = .ok (.aload_n 0, 1) := by decide +kernel
theorem dX2_enter_23 : decode cX2_enter 23 = .ok (.getfield 37, 3) := by decide +kernel
theorem dX2_enter_26 : decode cX2_enter 26 = .ok (.ifnonnull 14, 3) := by decide +kernel
theorem dX2_enter_29 : decode cX2_enter 29 = .ok (.aload_n 0, 1) := by decide +kernel
theorem dX2_enter_30 : decode cX2_enter 30 = .ok (.new 9, 3) := by decide +kernel
theorem dX2_enter_33 : decode cX2_enter 33 = .ok (.dup, 1) := by decide +kernel
theorem dX2_enter_34 : decode cX2_enter 34 = .ok (.invokespecial 11, 3) := by decide +kernel
theorem dX2_enter_37 : decode cX2_enter 37 = .ok (.putfield 37, 3) := by decide +kernel
theorem dX2_enter_40 : decode cX2_enter 40 = .ok (.aload_n 0, 1) := by decide +kernel
theorem dX2_enter_41 : decode cX2_enter 41 = .ok (.getfield 37, 3) := by decide +kernel
theorem dX2_enter_44 : decode cX2_enter 44 = .ok (.invokevirtual 30, 3) := by decide +kernel
theorem dX2_enter_47 : decode cX2_enter 47 = .ok (.return_, 1) := by decide +kernel
theorem dX2_is_0 : decode cX2_is 0 = .ok (.aload_n 0, 1) := by decide +kernel
theorem dX2_is_1 : decode cX2_is 1 = .ok (.getfield 22, 3) := by decide +kernel
theorem dX2_is_4 : decode cX2_is 4 = .ok (.iload_n 1, 1) := by decide +kernel
theorem dX2_is_5 : decode cX2_is 5 = .ok (.if_icmp .ne 7, 3) := by decide +kernel
theorem dX2_is_8 : decode cX2_is 8 = .ok (.iconst 1, 1) := by decide +kernel
theorem dX2_is_9 : decode cX2_is 9 = .ok (.goto 4, 3) := by decide +kernel
theorem dX2_is_12 : decode cX2_is 12 = .ok (.iconst 0, 1) := by decide +kernel
theorem dX2_is_13 : decode cX2_is 13 = .ok (.ireturn, 1) := by decide +kernel
theorem dX2_index_0 : decode cX2_index 0 = .ok (.iconst 0, 1) := by decide +kernel
theorem dX2_index_1 : decode cX2_index 1 = .ok (.istore_n 2, 1) := by decide +kernel
theorem dX2_index_2 : decode cX2_index 2 = .ok (.iload_n 2, 1) := by decide +kernel
theorem dX2_index_3 : decode cX2_index 3 = .ok (.aload_n 0, 1) := by decide +kernel
theorem dX2_index_4 : decode cX2_index 4 = .ok (.getfield 12, 3) := by decide +kernel
theorem dX2_index_7 : decode cX2_index 7 = .ok (.invokevirtual 73, 3) := by decide +kernel
theorem dX2_index_10 : decode cX2_index 10 = .ok (.if_icmp .ge 21, 3) := by decide +kernel
theorem dX2_index_13 : decode cX2_index 13 = .ok (.aload_n 0, 1) := by decide +kernel
theorem dX2_index_14 : decode cX2_index 14 = .ok (.getfield 12, 3) := by decide +kernel
theorem dX2_index_17 : decode cX2_index 17 = .ok (.iload_n 2, 1) := by decide +kernel
theorem dX2_index_18 : decode cX2_index 18 = .ok (.invokevirtual 77, 3) := by decide +kernel
theorem dX2_index_21 : decode cX2_index 21 = .ok (.aload_n 1, 1) := by decide +kernel
theorem dX2_index_22 : decode cX2_index 22 = .ok (.if_acmp .eq 9, 3) := by decide +kernel
theorem dX2_index_25 : decode cX2_index 25 = .ok (.iinc 2 1, 3) := by decide +kernel
theorem dX2_index_28 : decode cX2_index 28 = .ok (.goto (-26), 3) := by decide +kernel
theorem dX2_index_31 : decode cX2_index 31 = .ok (.iload_n 2, 1) := by decide +kernel
theorem dX2_index_32 : decode cX2_index 32 = .ok (.ireturn, 1) := by decide +kernel
theorem dX2_put_0 : decode cX2_put 0 = .ok (.aload_n 0, 1) := by decide +kernel
theorem dX2_put_1 : decode cX2_put 1 = .ok (.getfield 12, 3) := by decide +kernel
theorem dX2_put_4 : decode cX2_put 4 = .ok (.iload_n 1, 1) := by decide +kernel
theorem dX2_put_5 : decode cX2_put 5 = .ok (.aload_n 2, 1) := by decide +kernel
theorem dX2_put_6 : decode cX2_put 6 = .ok (.invokevirtual 65, 3) := by decide +kernel
theorem dX2_put_9 : decode cX2_put 9 = .ok (.aload_n 2, 1) := by decide +kernel
theorem dX2_put_10 : decode cX2_put 10 = .ok (.aload_n 0, 1) := by decide +kernel
theorem dX2_put_11 : decode cX2_put 11 = .ok (.putfield 69, 3) := by decide +kernel
theorem dX2_put_14 : decode cX2_put 14 = .ok (.return_, 1) := by decide +kernel
theorem dX2_block_0 : decode cX2_block 0 = .ok (.ldc 40, 2) := by decide +kernel
theorem dX2_block_2 : decode cX2_block 2 = .ok (.aload_n 0, 1) := by decide +kernel
theorem dX2_block_3 : decode cX2_block 3 = .ok (.getfield 22, 3) := by decide +kernel
theorem dX2_block_6 : decode cX2_block 6 = .ok (.invokevirtual 42, 3) := by decide +kernel
theorem dX2_block_9 : decode cX2_block 9 = .ok (.ifCond .lt 7, 3) := by decide +kernel
theorem dX2_block_12 : decode cX2_block 12 = .ok (.iconst 1, 1) := by decide +kernel
theorem dX2_block_13 : decode cX2_block 13 = .ok (.goto 4, 3) := by decide +kernel
theorem dX2_block_16 : decode cX2_block 16 = .ok (.iconst 0, 1) := by decide +kernel
theorem dX2_block_17 : decode cX2_block 17 = .ok (.ireturn, 1) := by decide +kernel
theorem dX2_formatting_0 : decode cX2_formatting 0 = .ok (.ldc 48, 2) := by decide +kernel
theorem dX2_formatting_2 : decode cX2_formatting 2 = .ok (.aload_n 0, 1) := by decide +kernel
theorem dX2_formatting_3 : decode cX2_formatting 3 = .ok (.getfield 22, 3) := by decide +kernel
theorem dX2_formatting_6 : decode cX2_formatting 6 = .ok (.invokevirtual 42, 3) := by decide +kernel
theorem dX2_formatting_9 : decode cX2_formatting 9 = .ok (.ifCond .lt 7, 3) := by decide +kernel
theorem dX2_formatting_12 : decode cX2_formatting 12 = .ok (.iconst 1, 1) := by decide +kernel
theorem dX2_formatting_13 : decode cX2_formatting 13 = .ok (.goto 4, 3) := by decide +kernel
theorem dX2_formatting_16 : decode cX2_formatting 16 = .ok (.iconst 0, 1) := by decide +kernel
theorem dX2_formatting_17 : decode cX2_formatting 17 = .ok (.ireturn, 1) := by decide +kernel
theorem dX2_box_0 : decode cX2_box 0 = .ok (.aload_n 0, 1) := by decide +kernel
theorem dX2_box_1 : decode cX2_box 1 = .ok (.getfield 50, 3) := by decide +kernel
theorem dX2_box_4 : decode cX2_box 4 = .ok (.ifCond .eq 18, 3) := by decide +kernel
theorem dX2_box_7 : decode cX2_box 7 = .ok (.aload_n 0, 1) := by decide +kernel
theorem dX2_box_8 : decode cX2_box 8 = .ok (.getfield 18, 3) := by decide +kernel
theorem dX2_box_11 : decode cX2_box 11 = .ok (.iconst 3, 1) := by decide +kernel
theorem dX2_box_12 : decode cX2_box 12 = .ok (.iaload, 1) := by decide +kernel
theorem dX2_box_13 : decode cX2_box 13 = .ok (.bipush 98, 2) := by decide +kernel
theorem dX2_box_15 : decode cX2_box 15 = .ok (.if_icmp .ne 7, 3) := by decide +kernel
theorem dX2_box_18 : decode cX2_box 18 = .ok (.iconst 1, 1) := by decide +kernel
theorem dX2_box_19 : decode cX2_box 19 = .ok (.goto 4, 3) := by decide +kernel
theorem dX2_box_22 : decode cX2_box 22 = .ok (.iconst 0, 1) := by decide +kernel
theorem dX2_box_23 : decode cX2_box 23 = .ok (.ireturn, 1) := by decide +kernel
theorem dX2_goOn_0 : decode cX2_goOn 0 = .ok (.aload_n 0, 1) := by decide +kernel
theorem dX2_goOn_1 : decode cX2_goOn 1 = .ok (.aload_n 1, 1) := by decide +kernel
theorem dX2_goOn_2 : decode cX2_goOn 2 = .ok (.getfield 53, 3) := by decide +kernel
theorem dX2_goOn_5 : decode cX2_goOn 5 = .ok (.aload_n 1, 1) := by decide +kernel
theorem dX2_goOn_6 : decode cX2_goOn 6 = .ok (.getfield 56, 3) := by decide +kernel
theorem dX2_goOn_9 : decode cX2_goOn 9 = .ok (.iadd, 1) := by decide +kernel
theorem dX2_goOn_10 : decode cX2_goOn 10 = .ok (.putfield 59, 3) := by decide +kernel
theorem dX2_goOn_13 : decode cX2_goOn 13 = .ok (.aload_n 0, 1) := by decide +kernel
theorem dX2_goOn_14 : decode cX2_goOn 14 = .ok (.aload_n 1, 1) := by decide +kernel
theorem dX2_goOn_15 : decode cX2_goOn 15 = .ok (.getfield 18, 3) := by decide +kernel
theorem dX2_goOn_18 : decode cX2_goOn 18 = .ok (.iconst 4, 1) := by decide +kernel
theorem dX2_goOn_19 : decode cX2_goOn 19 = .ok (.iaload, 1) := by decide +kernel
theorem dX2_goOn_20 : decode cX2_goOn 20 = .ok (.putfield 62, 3) := by decide +kernel
theorem dX2_goOn_23 : decode cX2_goOn 23 = .ok (.return_, 1) := by decide +kernel
theorem dX2_name_0 : decode cX2_name 0 = .ok (.aload_n 0, 1) := by decide +kernel
theorem dX2_name_1 : decode cX2_name 1 = .ok (.getfield 22, 3) := by decide +kernel
theorem dX2_name_4 : decode cX2_name 4 = .ok (.ireturn, 1) := by decide +kernel
theorem dX2_classes_0 : decode cX2_classes 0 = .ok (.aload_n 0, 1) := by decide +kernel
theorem dX2_classes_1 : decode cX2_classes 1 = .ok (.getfield 26, 3) := by decide +kernel
theorem dX2_classes_4 : decode cX2_classes 4 = .ok (.ireturn, 1) := by decide +kernel
theorem dX3_init_0 : decode cX3_init 0 = .ok (.aload_n 0, 1) := by decide +kernel
theorem dX3_init_1 : decode cX3_init 1 = .ok (.invokespecial 1, 3) := by decide +kernel
theorem dX3_init_4 : decode cX3_init 4 = .ok (.aload_n 0, 1) := by decide +kernel
theorem dX3_init_5 : decode cX3_init 5 = .ok (.new 7, 3) := by decide +kernel
theorem dX3_init_8 : decode cX3_init 8 = .ok (.dup, 1) := by decide +kernel
theorem dX3_init_9 : decode cX3_init 9 = .ok (.invokespecial 9, 3) := by decide +kernel
theorem dX3_init_12 : decode cX3_init 12 = .ok (.putfield 10, 3) := by decide +kernel
theorem dX3_init_15 : decode cX3_init 15 = .ok (.aload_n 0, 1) := by decide +kernel
theorem dX3_init_16 : decode cX3_init 16 = .ok (.new 16, 3) := by decide +kernel
theorem dX3_init_19 : decode cX3_init 19 = .ok (.dup, 1) := by decide +kernel
theorem dX3_init_20 : decode cX3_init 20 = .ok (.invokespecial 18, 3) := by decide +kernel
theorem dX3_init_23 : decode cX3_init 23 = .ok (.putfield 19, 3) := by decide +kernel
theorem dX3_init_26 : decode cX3_init 26 = .ok (.aload_n 0, 1) := by decide +kernel
theorem dX3_init_27 : decode cX3_init 27 = .ok (.new 16, 3) := by decide +kernel
theorem dX3_init_30 : decode cX3_init 30 = .ok (.dup, 1) := by decide +kernel
theorem dX3_init_31 : decode cX3_init 31 = .ok (.invokespecial 18, 3) := by decide +kernel
theorem dX3_init_34 : decode cX3_init 34 = .ok (.putfield 23, 3) := by decide +kernel
theorem dX3_init_37 : decode cX3_init 37 = .ok (.aload_n 0, 1) := by decide +kernel
theorem dX3_init_38 : decode cX3_init 38 = .ok (.new 16, 3) := by decide +kernel
theorem dX3_init_41 : decode cX3_init 41 = .ok (.dup, 1) := by decide +kernel
theorem dX3_init_42 : decode cX3_init 42 = .ok (.invokespecial 18, 3) := by decide +kernel
theorem dX3_init_45 : decode cX3_init 45 = .ok (.putfield 26, 3) := by decide +kernel
theorem dX3_init_48 : decode cX3_init 48 = .ok (.return_, 1) := by decide +kernel
theorem dX3_clear_0 : decode cX3_clear 0 = .ok (.aload_n 0, 1) := by decide +kernel
theorem dX3_clear_1 : decode cX3_clear 1 = .ok (.getfield 10, 3) := by decide +kernel
theorem dX3_clear_4 : decode cX3_clear 4 = .ok (.invokevirtual 29, 3) := by decide +kernel
theorem dX3_clear_7 : decode cX3_clear 7 = .ok (.aload_n 0, 1) := by decide +kernel
theorem dX3_clear_8 : decode cX3_clear 8 = .ok (.invokevirtual 32, 3) := by decide +kernel
theorem dX3_clear_11 : decode cX3_clear 11 = .ok (.aload_n 0, 1) := by decide +kernel
theorem dX3_clear_12 : decode cX3_clear 12 = .ok (.iconst 0, 1) := by decide +kernel
theorem dX3_clear_13 : decode cX3_clear 13 = .ok (.putfield 35, 3) := by decide +kernel
theorem dX3_clear_16 : decode cX3_clear 16 = .ok (.return_, 1) := by decide +kernel
theorem dX3_next_0 : decode cX3_next 0 = .ok (.aload_n 0, 1) := by decide +kernel
theorem dX3_next_1 : decode cX3_next 1 = .ok (.getfield 19, 3) := by decide +kernel
theorem dX3_next_4 : decode cX3_next 4 = .ok (.iconst 0, 1) := by decide +kernel
theorem dX3_next_5 : decode cX3_next 5 = .ok (.invokevirtual 39, 3) := by decide +kernel
theorem dX3_next_8 : decode cX3_next 8 = .ok (.aload_n 0, 1) := by decide +kernel
theorem dX3_next_9 : decode cX3_next 9 = .ok (.getfield 23, 3) := by decide +kernel
theorem dX3_next_12 : decode cX3_next 12 = .ok (.iconst 0, 1) := by decide +kernel
theorem dX3_next_13 : decode cX3_next 13 = .ok (.invokevirtual 39, 3) := by decide +kernel
theorem dX3_next_16 : decode cX3_next 16 = .ok (.aload_n 0, 1) := by decide +kernel
theorem dX3_next_17 : decode cX3_next 17 = .ok (.iconst 0, 1) := by decide +kernel
theorem dX3_next_18 : decode cX3_next 18 = .ok (.putfield 43, 3) := by decide +kernel
theorem dX3_next_21 : decode cX3_next 21 = .ok (.return_, 1) := by decide +kernel
theorem dX3_type_0 : decode cX3_type 0 = .ok (.iload_n 1, 1) := by decide +kernel
theorem dX3_type_1 : decode cX3_type 1 = .ok (.bipush 32, 2) := by decide +kernel
theorem dX3_type_3 : decode cX3_type 3 = .ok (.if_icmp .lt 18, 3) := by decide +kernel
theorem dX3_type_6 : decode cX3_type 6 = .ok (.iload_n 1, 1) := by decide +kernel
theorem dX3_type_7 : decode cX3_type 7 = .ok (.bipush 126, 2) := by decide +kernel
theorem dX3_type_9 : decode cX3_type 9 = .ok (.if_icmp .gt 12, 3) := by decide +kernel
theorem dX3_type_12 : decode cX3_type 12 = .ok (.aload_n 0, 1) := by decide +kernel
theorem dX3_type_13 : decode cX3_type 13 = .ok (.getfield 35, 3) := by decide +kernel
theorem dX3_type_16 : decode cX3_type 16 = .ok (.bipush 120, 2) := by decide +kernel
theorem dX3_type_18 : decode cX3_type 18 = .ok (.if_icmp .ne 5, 3) := by decide +kernel
theorem dX3_type_21 : decode cX3_type 21 = .ok (.iconst 0, 1) := by decide +kernel
theorem dX3_type_22 : decode cX3_type 22 = .ok (.ireturn, 1) := by decide +kernel
theorem dX3_type_23 : decode cX3_type 23 = .ok (.aload_n 0, 1) := by decide +kernel
theorem dX3_type_24 : decode cX3_type 24 = .ok (.dup, 1) := by decide +kernel
theorem dX3_type_25 : decode cX3_type 25 = .ok (.getfield 35, 3) := by decide +kernel
theorem dX3_type_28 : decode cX3_type 28 = .ok (.iconst 1, 1) := by decide +kernel
theorem dX3_type_29 : decode cX3_type 29 = .ok (.iadd, 1) := by decide +kernel
theorem dX3_type_30 : decode cX3_type 30 = .ok (.putfield 35, 3) := by decide +kernel
theorem dX3_type_33 : decode cX3_type 33 = .ok (.aload_n 0, 1) := by decide +kernel
theorem dX3_type_34 : decode cX3_type 34 = .ok (.getfield 43, 3) := by decide +kernel
theorem dX3_type_37 : decode cX3_type 37 = .ok (.ifCond .ne 17, 3) := by decide +kernel
theorem dX3_type_40 : decode cX3_type 40 = .ok (.iload_n 1, 1) := by decide +kernel
theorem dX3_type_41 : decode cX3_type 41 = .ok (.bipush 123, 2) := by decide +kernel
theorem dX3_type_43 : decode cX3_type 43 = .ok (.if_icmp .ne 11, 3) := by decide +kernel
theorem dX3_type_46 : decode cX3_type 46 = .ok (.aload_n 0, 1) := by decide +kernel
theorem dX3_type_47 : decode cX3_type 47 = .ok (.iconst 1, 1) := by decide +kernel
theorem dX3_type_48 : decode cX3_type 48 = .ok (.putfield 43, 3) := by decide +kernel
theorem dX3_type_51 : decode cX3_type 51 = .ok (.goto 55, 3) := by decide +kernel
theorem dX3_type_54 : decode cX3_type 54 = .ok (.aload_n 0, 1) := by decide +kernel
theorem dX3_type_55 : decode cX3_type 55 = .ok (.getfield 43, 3) := by decide +kernel
theorem dX3_type_58 : decode cX3_type 58 = .ok (.ifCond .eq 20, 3) := by decide +kernel
theorem dX3_type_61 : decode cX3_type 61 = .ok (.iload_n 1, 1) := by decide +kernel
theorem dX3_type_62 : decode cX3_type 62 = .ok (.bipush 125, 2) := by decide +kernel
theorem dX3_type_64 : decode cX3_type 64 = .ok (.if_icmp .ne 14, 3) := by decide +kernel
theorem dX3_type_67 : decode cX3_type 67 = .ok (.aload_n 0, 1) := by decide +kernel
theorem dX3_type_68 : decode cX3_type 68 = .ok (.invokevirtual 47, 3) := by decide +kernel
theorem dX3_type_71 : decode cX3_type 71 = .ok (.aload_n 0, 1) := by decide +kernel
theorem dX3_type_72 : decode cX3_type 72 = .ok (.invokevirtual 32, 3) := by decide +kernel
theorem dX3_type_75 : decode cX3_type 75 = .ok (.goto 31, 3) := by decide +kernel
theorem dX3_type_78 : decode cX3_type 78 = .ok (.aload_n 0, 1) := by decide +kernel
theorem dX3_type_79 : decode cX3_type 79 = .ok (.getfield 43, 3) := by decide +kernel
theorem dX3_type_82 : decode cX3_type 82 = .ok (.ifCond .eq 15, 3) := by decide +kernel
theorem dX3_type_85 : decode cX3_type 85 = .ok (.aload_n 0, 1) := by decide +kernel
theorem dX3_type_86 : decode cX3_type 86 = .ok (.getfield 23, 3) := by decide +kernel
theorem dX3_type_89 : decode cX3_type 89 = .ok (.iload_n 1, 1) := by decide +kernel
theorem dX3_type_90 : decode cX3_type 90 = .ok (.invokevirtual 50, 3) := by decide +kernel
theorem dX3_type_93 : decode cX3_type 93 = .ok (.pop, 1) := by decide +kernel
theorem dX3_type_94 : decode cX3_type 94 = .ok (.goto 12, 3) := by decide +kernel
theorem dX3_type_97 : decode cX3_type 97 = .ok (.aload_n 0, 1) := by decide +kernel
theorem dX3_type_98 : decode cX3_type 98 = .ok (.getfield 19, 3) := by decide +kernel
theorem dX3_type_101 : decode cX3_type 101 = .ok (.iload_n 1, 1) := by decide +kernel
theorem dX3_type_102 : decode cX3_type 102 = .ok (.invokevirtual 50, 3) := by decide +kernel
theorem dX3_type_105 : decode cX3_type 105 = .ok (.pop, 1) := by decide +kernel
theorem dX3_type_106 : decode cX3_type 106 = .ok (.iconst 1, 1) := by decide +kernel
theorem dX3_type_107 : decode cX3_type 107 = .ok (.ireturn, 1) := by decide +kernel
theorem dX3_rule_0 : decode cX3_rule 0 = .ok (.aload_n 0, 1) := by decide +kernel
theorem dX3_rule_1 : decode cX3_rule 1 = .ok (.getfield 19, 3) := by decide +kernel
theorem dX3_rule_4 : decode cX3_rule 4 = .ok (.invokestatic 54, 3) := by decide +kernel
theorem dX3_rule_7 : decode cX3_rule 7 = .ok (.astore_n 1, 1) := by decide +kernel
theorem dX3_rule_8 : decode cX3_rule 8 = .ok (.aload_n 1, 1) := by decide +kernel
theorem dX3_rule_9 : decode cX3_rule 9 = .ok (.ifnull 15, 3) := by decide +kernel
theorem dX3_rule_12 : decode cX3_rule 12 = .ok (.aload_n 0, 1) := by decide +kernel
theorem dX3_rule_13 : decode cX3_rule 13 = .ok (.getfield 10, 3) := by decide +kernel
theorem dX3_rule_16 : decode cX3_rule 16 = .ok (.invokevirtual 60, 3) := by decide +kernel
theorem dX3_rule_19 : decode cX3_rule 19 = .ok (.bipush 12, 2) := by decide +kernel
theorem dX3_rule_21 : decode cX3_rule 21 = .ok (.if_icmp .ne 4, 3) := by decide +kernel
theorem dX3_rule_24 : decode cX3_rule 24 = .ok (.return_, 1) := by decide +kernel
theorem dX3_rule_25 : decode cX3_rule 25 = .ok (.iconst 0, 1) := by decide +kernel
theorem dX3_rule_26 : decode cX3_rule 26 = .ok (.istore_n 2, 1) := by decide +kernel
theorem dX3_rule_27 : decode cX3_rule 27 = .ok (.iconst 0, 1) := by decide +kernel
theorem dX3_rule_28 : decode cX3_rule 28 = .ok (.istore_n 3, 1) := by decide +kernel
theorem dX3_rule_29 : decode cX3_rule 29 = .ok (.iload_n 3, 1) := by decide +kernel
theorem dX3_rule_30 : decode cX3_rule 30 = .ok (.aload_n 0, 1) := by decide +kernel
theorem dX3_rule_31 : decode cX3_rule 31 = .ok (.getfield 19, 3) := by decide +kernel
theorem dX3_rule_34 : decode cX3_rule 34 = .ok (.invokevirtual 64, 3) := by decide +kernel
theorem dX3_rule_37 : decode cX3_rule 37 = .ok (.if_icmp .ge 48, 3) := by decide +kernel
