set_option maxRecDepth 100000
theorem dX3_rule_40 : decode cX3_rule 40 = .ok (.aload_n 0, 1) := by decide +kernel
theorem dX3_rule_41 : decode cX3_rule 41 = .ok (.getfield 19, 3) := by decide +kernel
theorem dX3_rule_44 : decode cX3_rule 44 = .ok (.iload_n 3, 1) := by decide +kernel
theorem dX3_rule_45 : decode cX3_rule 45 = .ok (.invokevirtual 67, 3) := by decide +kernel
theorem dX3_rule_48 : decode cX3_rule 48 = .ok (.istore 4, 2) := by decide +kernel
theorem dX3_rule_50 : decode cX3_rule 50 = .ok (.iload_n 2, 1) := by decide +kernel
theorem dX3_rule_51 : decode cX3_rule 51 = .ok (.iload 4, 2) := by decide +kernel
theorem dX3_rule_53 : decode cX3_rule 53 = .ok (.invokestatic 71, 3) := by decide +kernel
theorem dX3_rule_56 : decode cX3_rule 56 = .ok (.ifCond .eq 8, 3) := by decide +kernel
theorem dX3_rule_59 : decode cX3_rule 59 = .ok (.bipush 8, 2) := by decide +kernel
theorem dX3_rule_61 : decode cX3_rule 61 = .ok (.goto 16, 3) := by decide +kernel
theorem dX3_rule_64 : decode cX3_rule 64 = .ok (.iload 4, 2) := by decide +kernel
theorem dX3_rule_66 : decode cX3_rule 66 = .ok (.invokestatic 75, 3) := by decide +kernel
theorem dX3_rule_69 : decode cX3_rule 69 = .ok (.ifCond .eq 7, 3) := by decide +kernel
theorem dX3_rule_72 : decode cX3_rule 72 = .ok (.iconst 1, 1) := by decide +kernel
theorem dX3_rule_73 : decode cX3_rule 73 = .ok (.goto 4, 3) := by decide +kernel
theorem dX3_rule_76 : decode cX3_rule 76 = .ok (.iconst 0, 1) := by decide +kernel
theorem dX3_rule_77 : decode cX3_rule 77 = .ok (.iadd, 1) := by decide +kernel
theorem dX3_rule_78 : decode cX3_rule 78 = .ok (.istore_n 2, 1) := by decide +kernel
theorem dX3_rule_79 : decode cX3_rule 79 = .ok (.iinc 3 1, 3) := by decide +kernel
theorem dX3_rule_82 : decode cX3_rule 82 = .ok (.goto (-53), 3) := by decide +kernel
theorem dX3_rule_85 : decode cX3_rule 85 = .ok (.new 78, 3) := by decide +kernel
theorem dX3_rule_88 : decode cX3_rule 88 = .ok (.dup, 1) := by decide +kernel
theorem dX3_rule_89 : decode cX3_rule 89 = .ok (.aload_n 1, 1) := by decide +kernel
theorem dX3_rule_90 : decode cX3_rule 90 = .ok (.iload_n 2, 1) := by decide +kernel
theorem dX3_rule_91 : decode cX3_rule 91 = .ok (.invokespecial 80, 3) := by decide +kernel
theorem dX3_rule_94 : decode cX3_rule 94 = .ok (.astore_n 3, 1) := by decide +kernel
theorem dX3_rule_95 : decode cX3_rule 95 = .ok (.aload_n 0, 1) := by decide +kernel
theorem dX3_rule_96 : decode cX3_rule 96 = .ok (.getfield 10, 3) := by decide +kernel
theorem dX3_rule_99 : decode cX3_rule 99 = .ok (.aload_n 3, 1) := by decide +kernel
theorem dX3_rule_100 : decode cX3_rule 100 = .ok (.invokevirtual 83, 3) := by decide +kernel
theorem dX3_rule_103 : decode cX3_rule 103 = .ok (.pop, 1) := by decide +kernel
theorem dX3_rule_104 : decode cX3_rule 104 = .ok (.aload_n 0, 1) := by decide +kernel
theorem dX3_rule_105 : decode cX3_rule 105 = .ok (.getfield 26, 3) := by decide +kernel
theorem dX3_rule_108 : decode cX3_rule 108 = .ok (.iconst 0, 1) := by decide +kernel
theorem dX3_rule_109 : decode cX3_rule 109 = .ok (.invokevirtual 39, 3) := by decide +kernel
theorem dX3_rule_112 : decode cX3_rule 112 = .ok (.iconst 0, 1) := by decide +kernel
theorem dX3_rule_113 : decode cX3_rule 113 = .ok (.istore 4, 2) := by decide +kernel
theorem dX3_rule_115 : decode cX3_rule 115 = .ok (.iload 4, 2) := by decide +kernel
theorem dX3_rule_117 : decode cX3_rule 117 = .ok (.aload_n 0, 1) := by decide +kernel
theorem dX3_rule_118 : decode cX3_rule 118 = .ok (.getfield 23, 3) := by decide +kernel
theorem dX3_rule_121 : decode cX3_rule 121 = .ok (.invokevirtual 64, 3) := by decide +kernel
theorem dX3_rule_124 : decode cX3_rule 124 = .ok (.if_icmp .gt 80, 3) := by decide +kernel
theorem dX3_rule_127 : decode cX3_rule 127 = .ok (.iload 4, 2) := by decide +kernel
theorem dX3_rule_129 : decode cX3_rule 129 = .ok (.aload_n 0, 1) := by decide +kernel
theorem dX3_rule_130 : decode cX3_rule 130 = .ok (.getfield 23, 3) := by decide +kernel
theorem dX3_rule_133 : decode cX3_rule 133 = .ok (.invokevirtual 64, 3) := by decide +kernel
theorem dX3_rule_136 : decode cX3_rule 136 = .ok (.if_icmp .ge 15, 3) := by decide +kernel
theorem dX3_rule_139 : decode cX3_rule 139 = .ok (.aload_n 0, 1) := by decide +kernel
theorem dX3_rule_140 : decode cX3_rule 140 = .ok (.getfield 23, 3) := by decide +kernel
theorem dX3_rule_143 : decode cX3_rule 143 = .ok (.iload 4, 2) := by decide +kernel
theorem dX3_rule_145 : decode cX3_rule 145 = .ok (.invokevirtual 67, 3) := by decide +kernel
theorem dX3_rule_148 : decode cX3_rule 148 = .ok (.goto 5, 3) := by decide +kernel
theorem dX3_rule_151 : decode cX3_rule 151 = .ok (.bipush 59, 2) := by decide +kernel
theorem dX3_rule_153 : decode cX3_rule 153 = .ok (.istore 5, 2) := by decide +kernel
theorem dX3_rule_155 : decode cX3_rule 155 = .ok (.iload 5, 2) := by decide +kernel
theorem dX3_rule_157 : decode cX3_rule 157 = .ok (.bipush 59, 2) := by decide +kernel
theorem dX3_rule_159 : decode cX3_rule 159 = .ok (.if_icmp .ne 22, 3) := by decide +kernel
theorem dX3_rule_162 : decode cX3_rule 162 = .ok (.aload_n 3, 1) := by decide +kernel
theorem dX3_rule_163 : decode cX3_rule 163 = .ok (.aload_n 0, 1) := by decide +kernel
theorem dX3_rule_164 : decode cX3_rule 164 = .ok (.getfield 26, 3) := by decide +kernel
theorem dX3_rule_167 : decode cX3_rule 167 = .ok (.invokestatic 87, 3) := by decide +kernel
theorem dX3_rule_170 : decode cX3_rule 170 = .ok (.aload_n 0, 1) := by decide +kernel
theorem dX3_rule_171 : decode cX3_rule 171 = .ok (.getfield 26, 3) := by decide +kernel
theorem dX3_rule_174 : decode cX3_rule 174 = .ok (.iconst 0, 1) := by decide +kernel
theorem dX3_rule_175 : decode cX3_rule 175 = .ok (.invokevirtual 39, 3) := by decide +kernel
theorem dX3_rule_178 : decode cX3_rule 178 = .ok (.goto 20, 3) := by decide +kernel
theorem dX3_rule_181 : decode cX3_rule 181 = .ok (.iload 5, 2) := by decide +kernel
theorem dX3_rule_183 : decode cX3_rule 183 = .ok (.bipush 32, 2) := by decide +kernel
theorem dX3_rule_185 : decode cX3_rule 185 = .ok (.if_icmp .eq 13, 3) := by decide +kernel
theorem dX3_rule_188 : decode cX3_rule 188 = .ok (.aload_n 0, 1) := by decide +kernel
theorem dX3_rule_189 : decode cX3_rule 189 = .ok (.getfield 26, 3) := by decide +kernel
theorem dX3_rule_192 : decode cX3_rule 192 = .ok (.iload 5, 2) := by decide +kernel
theorem dX3_rule_194 : decode cX3_rule 194 = .ok (.invokevirtual 50, 3) := by decide +kernel
theorem dX3_rule_197 : decode cX3_rule 197 = .ok (.pop, 1) := by decide +kernel
theorem dX3_rule_198 : decode cX3_rule 198 = .ok (.iinc 4 1, 3) := by decide +kernel
theorem dX3_rule_201 : decode cX3_rule 201 = .ok (.goto (-86), 3) := by decide +kernel
theorem dX3_rule_204 : decode cX3_rule 204 = .ok (.return_, 1) := by decide +kernel
theorem dX4_init_0 : decode cX4_init 0 = .ok (.aload_n 0, 1) := by decide +kernel
theorem dX4_init_1 : decode cX4_init 1 = .ok (.invokespecial 1, 3) := by decide +kernel
theorem dX4_init_4 : decode cX4_init 4 = .ok (.aload_n 0, 1) := by decide +kernel
theorem dX4_init_5 : decode cX4_init 5 = .ok (.sipush 184, 3) := by decide +kernel
theorem dX4_init_8 : decode cX4_init 8 = .ok (.anewarray 7, 3) := by decide +kernel
theorem dX4_init_11 : decode cX4_init 11 = .ok (.putfield 9, 3) := by decide +kernel
theorem dX4_init_14 : decode cX4_init 14 = .ok (.aload_n 0, 1) := by decide +kernel
theorem dX4_init_15 : decode cX4_init 15 = .ok (.sipush 184, 3) := by decide +kernel
theorem dX4_init_18 : decode cX4_init 18 = .ok (.newarray .int, 2) := by decide +kernel
theorem dX4_init_20 : decode cX4_init 20 = .ok (.putfield 15, 3) := by decide +kernel
theorem dX4_init_23 : decode cX4_init 23 = .ok (.return_, 1) := by decide +kernel
theorem dX4_add_0 : decode cX4_add 0 = .ok (.aload_n 0, 1) := by decide +kernel
theorem dX4_add_1 : decode cX4_add 1 = .ok (.getfield 19, 3) := by decide +kernel
theorem dX4_add_4 : decode cX4_add 4 = .ok (.sipush 184, 3) := by decide +kernel
theorem dX4_add_7 : decode cX4_add 7 = .ok (.if_icmp .ne 4, 3) := by decide +kernel
theorem dX4_add_10 : decode cX4_add 10 = .ok (.return_, 1) := by decide +kernel
theorem dX4_add_11 : decode cX4_add 11 = .ok (.aload_n 0, 1) := by decide +kernel
theorem dX4_add_12 : decode cX4_add 12 = .ok (.getfield 9, 3) := by decide +kernel
theorem dX4_add_15 : decode cX4_add 15 = .ok (.aload_n 0, 1) := by decide +kernel
theorem dX4_add_16 : decode cX4_add 16 = .ok (.getfield 19, 3) := by decide +kernel
theorem dX4_add_19 : decode cX4_add 19 = .ok (.aload_n 1, 1) := by decide +kernel
theorem dX4_add_20 : decode cX4_add 20 = .ok (.aastore, 1) := by decide +kernel
theorem dX4_add_21 : decode cX4_add 21 = .ok (.aload_n 0, 1) := by decide +kernel
theorem dX4_add_22 : decode cX4_add 22 = .ok (.getfield 15, 3) := by decide +kernel
theorem dX4_add_25 : decode cX4_add 25 = .ok (.aload_n 0, 1) := by decide +kernel
theorem dX4_add_26 : decode cX4_add 26 = .ok (.getfield 19, 3) := by decide +kernel
theorem dX4_add_29 : decode cX4_add 29 = .ok (.iload_n 2, 1) := by decide +kernel
theorem dX4_add_30 : decode cX4_add 30 = .ok (.iastore, 1) := by decide +kernel
theorem dX4_add_31 : decode cX4_add 31 = .ok (.aload_n 0, 1) := by decide +kernel
theorem dX4_add_32 : decode cX4_add 32 = .ok (.dup, 1) := by decide +kernel
theorem dX4_add_33 : decode cX4_add 33 = .ok (.getfield 19, 3) := by decide +kernel
theorem dX4_add_36 : decode cX4_add 36 = .ok (.iconst 1, 1) := by decide +kernel
theorem dX4_add_37 : decode cX4_add 37 = .ok (.iadd, 1) := by decide +kernel
theorem dX4_add_38 : decode cX4_add 38 = .ok (.putfield 19, 3) := by decide +kernel
theorem dX4_add_41 : decode cX4_add 41 = .ok (.return_, 1) := by decide +kernel
theorem dX4_size_0 : decode cX4_size 0 = .ok (.aload_n 0, 1) := by decide +kernel
theorem dX4_size_1 : decode cX4_size 1 = .ok (.getfield 9, 3) := by decide +kernel
theorem dX4_size_4 : decode cX4_size 4 = .ok (.iload_n 1, 1) := by decide +kernel
theorem dX4_size_5 : decode cX4_size 5 = .ok (.aaload, 1) := by decide +kernel
theorem dX4_size_6 : decode cX4_size 6 = .ok (.ifnonnull 12, 3) := by decide +kernel
theorem dX4_size_9 : decode cX4_size 9 = .ok (.aload_n 0, 1) := by decide +kernel
theorem dX4_size_10 : decode cX4_size 10 = .ok (.getfield 15, 3) := by decide +kernel
theorem dX4_size_13 : decode cX4_size 13 = .ok (.iload_n 1, 1) := by decide +kernel
theorem dX4_size_14 : decode cX4_size 14 = .ok (.iaload, 1) := by decide +kernel
theorem dX4_size_15 : decode cX4_size 15 = .ok (.goto 17, 3) := by decide +kernel
theorem dX4_size_18 : decode cX4_size 18 = .ok (.aload_n 0, 1) := by decide +kernel
theorem dX4_size_19 : decode cX4_size 19 = .ok (.getfield 9, 3) := by decide +kernel
theorem dX4_size_22 : decode cX4_size 22 = .ok (.iload_n 1, 1) := by decide +kernel
theorem dX4_size_23 : decode cX4_size 23 = .ok (.aaload, 1) := by decide +kernel
theorem dX4_size_24 : decode cX4_size 24 = .ok (.getfield 33, 3) := by decide +kernel
theorem dX4_size_27 : decode cX4_size 27 = .ok (.getfield 37, 3) := by decide +kernel
theorem dX4_size_30 : decode cX4_size 30 = .ok (.iconst 2, 1) := by decide +kernel
theorem dX4_size_31 : decode cX4_size 31 = .ok (.iaload, 1) := by decide +kernel
theorem dX4_size_32 : decode cX4_size 32 = .ok (.ireturn, 1) := by decide +kernel
theorem dX4_blank_0 : decode cX4_blank 0 = .ok (.aload_n 0, 1) := by decide +kernel
theorem dX4_blank_1 : decode cX4_blank 1 = .ok (.getfield 9, 3) := by decide +kernel
theorem dX4_blank_4 : decode cX4_blank 4 = .ok (.iload_n 1, 1) := by decide +kernel
theorem dX4_blank_5 : decode cX4_blank 5 = .ok (.aaload, 1) := by decide +kernel
theorem dX4_blank_6 : decode cX4_blank 6 = .ok (.getfield 23, 3) := by decide +kernel
theorem dX4_blank_9 : decode cX4_blank 9 = .ok (.aload_n 0, 1) := by decide +kernel
theorem dX4_blank_10 : decode cX4_blank 10 = .ok (.getfield 15, 3) := by decide +kernel
theorem dX4_blank_13 : decode cX4_blank 13 = .ok (.iload_n 1, 1) := by decide +kernel
theorem dX4_blank_14 : decode cX4_blank 14 = .ok (.iaload, 1) := by decide +kernel
theorem dX4_blank_15 : decode cX4_blank 15 = .ok (.invokevirtual 27, 3) := by decide +kernel
theorem dX4_blank_18 : decode cX4_blank 18 = .ok (.bipush 32, 2) := by decide +kernel
theorem dX4_blank_20 : decode cX4_blank 20 = .ok (.if_icmp .ne 7, 3) := by decide +kernel
theorem dX4_blank_23 : decode cX4_blank 23 = .ok (.iconst 1, 1) := by decide +kernel
theorem dX4_blank_24 : decode cX4_blank 24 = .ok (.goto 4, 3) := by decide +kernel
theorem dX4_blank_27 : decode cX4_blank 27 = .ok (.iconst 0, 1) := by decide +kernel
theorem dX4_blank_28 : decode cX4_blank 28 = .ok (.ireturn, 1) := by decide +kernel
theorem dX4_placed_0 : decode cX4_placed 0 = .ok (.aload_n 0, 1) := by decide +kernel
theorem dX4_placed_1 : decode cX4_placed 1 = .ok (.getfield 9, 3) := by decide +kernel
theorem dX4_placed_4 : decode cX4_placed 4 = .ok (.iload_n 1, 1) := by decide +kernel
theorem dX4_placed_5 : decode cX4_placed 5 = .ok (.aaload, 1) := by decide +kernel
theorem dX4_placed_6 : decode cX4_placed 6 = .ok (.getfield 42, 3) := by decide +kernel
theorem dX4_placed_9 : decode cX4_placed 9 = .ok (.aload_n 0, 1) := by decide +kernel
theorem dX4_placed_10 : decode cX4_placed 10 = .ok (.getfield 15, 3) := by decide +kernel
theorem dX4_placed_13 : decode cX4_placed 13 = .ok (.iload_n 1, 1) := by decide +kernel
theorem dX4_placed_14 : decode cX4_placed 14 = .ok (.iaload, 1) := by decide +kernel
theorem dX4_placed_15 : decode cX4_placed 15 = .ok (.iaload, 1) := by decide +kernel
theorem dX4_placed_16 : decode cX4_placed 16 = .ok (.ireturn, 1) := by decide +kernel
theorem dX4_put_0 : decode cX4_put 0 = .ok (.aload_n 0, 1) := by decide +kernel
theorem dX4_put_1 : decode cX4_put 1 = .ok (.getfield 9, 3) := by decide +kernel
theorem dX4_put_4 : decode cX4_put 4 = .ok (.iload_n 1, 1) := by decide +kernel
theorem dX4_put_5 : decode cX4_put 5 = .ok (.aaload, 1) := by decide +kernel
theorem dX4_put_6 : decode cX4_put 6 = .ok (.getfield 42, 3) := by decide +kernel
theorem dX4_put_9 : decode cX4_put 9 = .ok (.aload_n 0, 1) := by decide +kernel
theorem dX4_put_10 : decode cX4_put 10 = .ok (.getfield 15, 3) := by decide +kernel
theorem dX4_put_13 : decode cX4_put 13 = .ok (.iload_n 1, 1) := by decide +kernel
theorem dX4_put_14 : decode cX4_put 14 = .ok (.iaload, 1) := by decide +kernel
theorem dX4_put_15 : decode cX4_put 15 = .ok (.iload_n 2, 1) := by decide +kernel
theorem dX4_put_16 : decode cX4_put 16 = .ok (.iastore, 1) := by decide +kernel
theorem dX4_put_17 : decode cX4_put 17 = .ok (.return_, 1) := by decide +kernel
theorem dX6_add_0 : decode cX6_add 0 = .ok (.aload_n 0, 1) := by decide +kernel
theorem dX6_add_1 : decode cX6_add 1 = .ok (.getfield 10, 3) := by decide +kernel
theorem dX6_add_4 : decode cX6_add 4 = .ok (.iload_n 1, 1) := by decide +kernel
theorem dX6_add_5 : decode cX6_add 5 = .ok (.invokevirtual 20, 3) := by decide +kernel
theorem dX6_add_8 : decode cX6_add 8 = .ok (.pop, 1) := by decide +kernel
theorem dX6_add_9 : decode cX6_add 9 = .ok (.aload_n 0, 1) := by decide +kernel
theorem dX6_add_10 : decode cX6_add 10 = .ok (.getfield 16, 3) := by decide +kernel
theorem dX6_add_13 : decode cX6_add 13 = .ok (.arraylength, 1) := by decide +kernel
theorem dX6_add_14 : decode cX6_add 14 = .ok (.aload_n 0, 1) := by decide +kernel
theorem dX6_add_15 : decode cX6_add 15 = .ok (.getfield 10, 3) := by decide +kernel
theorem dX6_add_18 : decode cX6_add 18 = .ok (.invokevirtual 24, 3) := by decide +kernel
theorem dX6_add_21 : decode cX6_add 21 = .ok (.if_icmp .ge 21, 3) := by decide +kernel
theorem dX6_add_24 : decode cX6_add 24 = .ok (.aload_n 0, 1) := by decide +kernel
theorem dX6_add_25 : decode cX6_add 25 = .ok (.aload_n 0, 1) := by decide +kernel
theorem dX6_add_26 : decode cX6_add 26 = .ok (.getfield 16, 3) := by decide +kernel
theorem dX6_add_29 : decode cX6_add 29 = .ok (.iconst 2, 1) := by decide +kernel
theorem dX6_add_30 : decode cX6_add 30 = .ok (.aload_n 0, 1) := by decide +kernel
theorem dX6_add_31 : decode cX6_add 31 = .ok (.getfield 16, 3) := by decide +kernel
theorem dX6_add_34 : decode cX6_add 34 = .ok (.arraylength, 1) := by decide +kernel
theorem dX6_add_35 : decode cX6_add 35 = .ok (.imul, 1) := by decide +kernel
theorem dX6_add_36 : decode cX6_add 36 = .ok (.invokestatic 28, 3) := by decide +kernel
theorem dX6_add_39 : decode cX6_add 39 = .ok (.putfield 16, 3) := by decide +kernel
theorem dX6_add_42 : decode cX6_add 42 = .ok (.return_, 1) := by decide +kernel
theorem dX6_init_0 : decode cX6_init 0 = .ok (.aload_n 0, 1) := by decide +kernel
theorem dX6_init_1 : decode cX6_init 1 = .ok (.invokespecial 1, 3) := by decide +kernel
theorem dX6_init_4 : decode cX6_init 4 = .ok (.aload_n 0, 1) := by decide +kernel
theorem dX6_init_5 : decode cX6_init 5 = .ok (.new 7, 3) := by decide +kernel
theorem dX6_init_8 : decode cX6_init 8 = .ok (.dup, 1) := by decide +kernel
theorem dX6_init_9 : decode cX6_init 9 = .ok (.invokespecial 9, 3) := by decide +kernel
theorem dX6_init_12 : decode cX6_init 12 = .ok (.putfield 10, 3) := by decide +kernel
theorem dX6_init_15 : decode cX6_init 15 = .ok (.aload_n 0, 1) := by decide +kernel
theorem dX6_init_16 : decode cX6_init 16 = .ok (.iconst 4, 1) := by decide +kernel
theorem dX6_init_17 : decode cX6_init 17 = .ok (.newarray .int, 2) := by decide +kernel
theorem dX6_init_19 : decode cX6_init 19 = .ok (.putfield 16, 3) := by decide +kernel
theorem dX6_init_22 : decode cX6_init 22 = .ok (.return_, 1) := by decide +kernel
theorem dX6_name_0 : decode cX6_name 0 = .ok (.iconst 1, 1) := by decide +kernel
theorem dX6_name_1 : decode cX6_name 1 = .ok (.ireturn, 1) := by decide +kernel
theorem dX6_classes_0 : decode cX6_classes 0 = .ok (.iconst 0, 1) := by decide +kernel
theorem dX6_classes_1 : decode cX6_classes 1 = .ok (.ireturn, 1) := by decide +kernel
theorem dX7_init_0 : decode cX7_init 0 = .ok (.aload_n 0, 1) := by decide +kernel
theorem dX7_init_1 : decode cX7_init 1 = .ok (.invokespecial 1, 3) := by decide +kernel
theorem dX7_init_4 : decode cX7_init 4 = .ok (.aload_n 0, 1) := by decide +kernel
theorem dX7_init_5 : decode cX7_init 5 = .ok (.iload_n 1, 1) := by decide +kernel
theorem dX7_init_6 : decode cX7_init 6 = .ok (.putfield 7, 3) := by decide +kernel
theorem dX7_init_9 : decode cX7_init 9 = .ok (.aload_n 0, 1) := by decide +kernel
theorem dX7_init_10 : decode cX7_init 10 = .ok (.iload_n 2, 1) := by decide +kernel
theorem dX7_init_11 : decode cX7_init 11 = .ok (.putfield 13, 3) := by decide +kernel
theorem dX7_init_14 : decode cX7_init 14 = .ok (.aload_n 0, 1) := by decide +kernel
theorem dX7_init_15 : decode cX7_init 15 = .ok (.iload_n 3, 1) := by decide +kernel
theorem dX7_init_16 : decode cX7_init 16 = .ok (.putfield 17, 3) := by decide +kernel
theorem dX7_init_19 : decode cX7_init 19 = .ok (.aload_n 0, 1) := by decide +kernel
theorem dX7_init_20 : decode cX7_init 20 = .ok (.aload 4, 2) := by decide +kernel
theorem dX7_init_22 : decode cX7_init 22 = .ok (.putfield 21, 3) := by decide +kernel
theorem dX7_init_25 : decode cX7_init 25 = .ok (.return_, 1) := by decide +kernel
theorem dX7_fits_0 : decode cX7_fits 0 = .ok (.aload_n 1, 1) := by decide +kernel
theorem dX7_fits_1 : decode cX7_fits 1 = .ok (.getfield 25, 3) := by decide +kernel
theorem dX7_fits_4 : decode cX7_fits 4 = .ok (.ifCond .eq 48, 3) := by decide +kernel
theorem dX7_fits_7 : decode cX7_fits 7 = .ok (.aload_n 0, 1) := by decide +kernel
theorem dX7_fits_8 : decode cX7_fits 8 = .ok (.getfield 7, 3) := by decide +kernel
theorem dX7_fits_11 : decode cX7_fits 11 = .ok (.ifCond .eq 23, 3) := by decide +kernel
theorem dX7_fits_14 : decode cX7_fits 14 = .ok (.aload_n 0, 1) := by decide +kernel
theorem dX7_fits_15 : decode cX7_fits 15 = .ok (.getfield 7, 3) := by decide +kernel
theorem dX7_fits_18 : decode cX7_fits 18 = .ok (.bipush 42, 2) := by decide +kernel
theorem dX7_fits_20 : decode cX7_fits 20 = .ok (.if_icmp .eq 14, 3) := by decide +kernel
theorem dX7_fits_23 : decode cX7_fits 23 = .ok (.aload_n 0, 1) := by decide +kernel
theorem dX7_fits_24 : decode cX7_fits 24 = .ok (.getfield 7, 3) := by decide +kernel
theorem dX7_fits_27 : decode cX7_fits 27 = .ok (.aload_n 1, 1) := by decide +kernel
theorem dX7_fits_28 : decode cX7_fits 28 = .ok (.getfield 25, 3) := by decide +kernel
theorem dX7_fits_31 : decode cX7_fits 31 = .ok (.if_icmp .ne 21, 3) := by decide +kernel
theorem dX7_fits_34 : decode cX7_fits 34 = .ok (.aload_n 0, 1) := by decide +kernel
theorem dX7_fits_35 : decode cX7_fits 35 = .ok (.getfield 13, 3) := by decide +kernel
theorem dX7_fits_38 : decode cX7_fits 38 = .ok (.aload_n 1, 1) := by decide +kernel
theorem dX7_fits_39 : decode cX7_fits 39 = .ok (.getfield 28, 3) := by decide +kernel
theorem dX7_fits_42 : decode cX7_fits 42 = .ok (.iconst (-1), 1) := by decide +kernel
theorem dX7_fits_43 : decode cX7_fits 43 = .ok (.ixor, 1) := by decide +kernel
theorem dX7_fits_44 : decode cX7_fits 44 = .ok (.iand, 1) := by decide +kernel
theorem dX7_fits_45 : decode cX7_fits 45 = .ok (.ifCond .ne 7, 3) := by decide +kernel
theorem dX7_fits_48 : decode cX7_fits 48 = .ok (.iconst 1, 1) := by decide +kernel
theorem dX7_fits_49 : decode cX7_fits 49 = .ok (.goto 4, 3) := by decide +kernel
theorem dX7_fits_52 : decode cX7_fits 52 = .ok (.iconst 0, 1) := by decide +kernel
theorem dX7_fits_53 : decode cX7_fits 53 = .ok (.ireturn, 1) := by decide +kernel
theorem dX8_init_0 : decode cX8_init 0 = .ok (.aload_n 0, 1) := by decide +kernel
theorem dX8_init_1 : decode cX8_init 1 = .ok (.invokespecial 1, 3) := by decide +kernel
theorem dX8_init_4 : decode cX8_init 4 = .ok (.aload_n 0, 1) := by decide +kernel
theorem dX8_init_5 : decode cX8_init 5 = .ok (.bipush 7, 2) := by decide +kernel
theorem dX8_init_7 : decode cX8_init 7 = .ok (.newarray .int, 2) := by decide +kernel
theorem dX8_init_9 : decode cX8_init 9 = .ok (.putfield 7, 3) := by decide +kernel
theorem dX8_init_12 : decode cX8_init 12 = .ok (.aload_n 0, 1) := by decide +kernel
theorem dX8_init_13 : decode cX8_init 13 = .ok (.bipush 7, 2) := by decide +kernel
theorem dX8_init_15 : decode cX8_init 15 = .ok (.newarray .int, 2) := by decide +kernel
theorem dX8_init_17 : decode cX8_init 17 = .ok (.putfield 13, 3) := by decide +kernel
theorem dX8_init_20 : decode cX8_init 20 = .ok (.aload_n 0, 1) := by decide +kernel
theorem dX8_init_21 : decode cX8_init 21 = .ok (.aload_n 1, 1) := by decide +kernel
theorem dX8_init_22 : decode cX8_init 22 = .ok (.putfield 16, 3) := by decide +kernel
theorem dX8_init_25 : decode cX8_init 25 = .ok (.aload_n 0, 1) := by decide +kernel
theorem dX8_init_26 : decode cX8_init 26 = .ok (.iload_n 2, 1) := by decide +kernel
theorem dX8_init_27 : decode cX8_init 27 = .ok (.putfield 20, 3) := by decide +kernel
theorem dX8_init_30 : decode cX8_init 30 = .ok (.iconst 0, 1) := by decide +kernel
theorem dX8_init_31 : decode cX8_init 31 = .ok (.istore_n 3, 1) := by decide +kernel
theorem dX8_init_32 : decode cX8_init 32 = .ok (.iload_n 3, 1) := by decide +kernel
theorem dX8_init_33 : decode cX8_init 33 = .ok (.bipush 7, 2) := by decide +kernel
theorem dX8_init_35 : decode cX8_init 35 = .ok (.if_icmp .ge 25, 3) := by decide +kernel
theorem dX8_init_38 : decode cX8_init 38 = .ok (.aload_n 0, 1) := by decide +kernel
theorem dX8_init_39 : decode cX8_init 39 = .ok (.getfield 7, 3) := by decide +kernel
theorem dX8_init_42 : decode cX8_init 42 = .ok (.iload_n 3, 1) := by decide +kernel
theorem dX8_init_43 : decode cX8_init 43 = .ok (.bipush (-2), 2) := by decide +kernel
theorem dX8_init_45 : decode cX8_init 45 = .ok (.iastore, 1) := by decide +kernel
theorem dX8_init_46 : decode cX8_init 46 = .ok (.aload_n 0, 1) := by decide +kernel
theorem dX8_init_47 : decode cX8_init 47 = .ok (.getfield 13, 3) := by decide +kernel
theorem dX8_init_50 : decode cX8_init 50 = .ok (.iload_n 3, 1) := by decide +kernel
theorem dX8_init_51 : decode cX8_init 51 = .ok (.bipush (-2), 2) := by decide +kernel
theorem dX8_init_53 : decode cX8_init 53 = .ok (.iastore, 1) := by decide +kernel
theorem dX8_init_54 : decode cX8_init 54 = .ok (.iinc 3 1, 3) := by decide +kernel
theorem dX8_init_57 : decode cX8_init 57 = .ok (.goto (-25), 3) := by decide +kernel
theorem dX8_init_60 : decode cX8_init 60 = .ok (.return_, 1) := by decide +kernel
theorem dX8_set_0 : decode cX8_set 0 = .ok (.iload_n 3, 1) := by decide +kernel
theorem dX8_set_1 : decode cX8_set 1 = .ok (.ifCond .eq 13, 3) := by decide +kernel
theorem dX8_set_4 : decode cX8_set 4 = .ok (.aload_n 0, 1) := by decide +kernel
theorem dX8_set_5 : decode cX8_set 5 = .ok (.getfield 13, 3) := by decide +kernel
theorem dX8_set_8 : decode cX8_set 8 = .ok (.iload_n 1, 1) := by decide +kernel
theorem dX8_set_9 : decode cX8_set 9 = .ok (.iload_n 2, 1) := by decide +kernel
theorem dX8_set_10 : decode cX8_set 10 = .ok (.iastore, 1) := by decide +kernel
theorem dX8_set_11 : decode cX8_set 11 = .ok (.goto 10, 3) := by decide +kernel
theorem dX8_set_14 : decode cX8_set 14 = .ok (.aload_n 0, 1) := by decide +kernel
theorem dX8_set_15 : decode cX8_set 15 = .ok (.getfield 7, 3) := by decide +kernel
theorem dX8_set_18 : decode cX8_set 18 = .ok (.iload_n 1, 1) := by decide +kernel
theorem dX8_set_19 : decode cX8_set 19 = .ok (.iload_n 2, 1) := by decide +kernel
theorem dX8_set_20 : decode cX8_set 20 = .ok (.iastore, 1) := by decide +kernel
theorem dX8_set_21 : decode cX8_set 21 = .ok (.return_, 1) := by decide +kernel
