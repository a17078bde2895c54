set_option maxRecDepth 100000
theorem dJ4_append_1 : decode cJ4_append 1 = .ok (.aload_n 0, 1) := by decide +kernel
theorem dJ4_append_2 : decode cJ4_append 2 = .ok (.getfield 79, 3) := by decide +kernel
theorem dJ4_append_5 : decode cJ4_append 5 = .ok (.iconst 1, 1) := by decide +kernel
theorem dJ4_append_6 : decode cJ4_append 6 = .ok (.iadd, 1) := by decide +kernel
theorem dJ4_append_7 : decode cJ4_append 7 = .ok (.invokevirtual 100, 3) := by decide +kernel
theorem dJ4_append_10 : decode cJ4_append 10 = .ok (.aload_n 0, 1) := by decide +kernel
theorem dJ4_append_11 : decode cJ4_append 11 = .ok (.invokevirtual 83, 3) := by decide +kernel
theorem dJ4_append_14 : decode cJ4_append 14 = .ok (.ifCond .eq 31, 3) := by decide +kernel
theorem dJ4_append_17 : decode cJ4_append 17 = .ok (.iload_n 1, 1) := by decide +kernel
theorem dJ4_append_18 : decode cJ4_append 18 = .ok (.invokestatic 191, 3) := by decide +kernel
theorem dJ4_append_21 : decode cJ4_append 21 = .ok (.ifCond .eq 24, 3) := by decide +kernel
theorem dJ4_append_24 : decode cJ4_append 24 = .ok (.aload_n 0, 1) := by decide +kernel
theorem dJ4_append_25 : decode cJ4_append 25 = .ok (.getfield 15, 3) := by decide +kernel
theorem dJ4_append_28 : decode cJ4_append 28 = .ok (.aload_n 0, 1) := by decide +kernel
theorem dJ4_append_29 : decode cJ4_append 29 = .ok (.dup, 1) := by decide +kernel
theorem dJ4_append_30 : decode cJ4_append 30 = .ok (.getfield 79, 3) := by decide +kernel
theorem dJ4_append_33 : decode cJ4_append 33 = .ok (.dup_x1, 1) := by decide +kernel
theorem dJ4_append_34 : decode cJ4_append 34 = .ok (.iconst 1, 1) := by decide +kernel
theorem dJ4_append_35 : decode cJ4_append 35 = .ok (.iadd, 1) := by decide +kernel
theorem dJ4_append_36 : decode cJ4_append 36 = .ok (.putfield 79, 3) := by decide +kernel
theorem dJ4_append_39 : decode cJ4_append 39 = .ok (.iload_n 1, 1) := by decide +kernel
theorem dJ4_append_40 : decode cJ4_append 40 = .ok (.i2b, 1) := by decide +kernel
theorem dJ4_append_41 : decode cJ4_append 41 = .ok (.bastore, 1) := by decide +kernel
theorem dJ4_append_42 : decode cJ4_append 42 = .ok (.goto 33, 3) := by decide +kernel
theorem dJ4_append_45 : decode cJ4_append 45 = .ok (.aload_n 0, 1) := by decide +kernel
theorem dJ4_append_46 : decode cJ4_append 46 = .ok (.invokevirtual 83, 3) := by decide +kernel
theorem dJ4_append_49 : decode cJ4_append 49 = .ok (.ifCond .eq 7, 3) := by decide +kernel
theorem dJ4_append_52 : decode cJ4_append 52 = .ok (.aload_n 0, 1) := by decide +kernel
theorem dJ4_append_53 : decode cJ4_append 53 = .ok (.invokevirtual 195, 3) := by decide +kernel
theorem dJ4_append_56 : decode cJ4_append 56 = .ok (.aload_n 0, 1) := by decide +kernel
theorem dJ4_append_57 : decode cJ4_append 57 = .ok (.getfield 15, 3) := by decide +kernel
theorem dJ4_append_60 : decode cJ4_append 60 = .ok (.aload_n 0, 1) := by decide +kernel
theorem dJ4_append_61 : decode cJ4_append 61 = .ok (.dup, 1) := by decide +kernel
theorem dJ4_append_62 : decode cJ4_append 62 = .ok (.getfield 79, 3) := by decide +kernel
theorem dJ4_append_65 : decode cJ4_append 65 = .ok (.dup_x1, 1) := by decide +kernel
theorem dJ4_append_66 : decode cJ4_append 66 = .ok (.iconst 1, 1) := by decide +kernel
theorem dJ4_append_67 : decode cJ4_append 67 = .ok (.iadd, 1) := by decide +kernel
theorem dJ4_append_68 : decode cJ4_append 68 = .ok (.putfield 79, 3) := by decide +kernel
theorem dJ4_append_71 : decode cJ4_append 71 = .ok (.iload_n 1, 1) := by decide +kernel
theorem dJ4_append_72 : decode cJ4_append 72 = .ok (.invokestatic 197, 3) := by decide +kernel
theorem dJ4_append_75 : decode cJ4_append 75 = .ok (.aload_n 0, 1) := by decide +kernel
theorem dJ4_append_76 : decode cJ4_append 76 = .ok (.areturn, 1) := by decide +kernel
theorem dJ4_inflate_0 : decode cJ4_inflate 0 = .ok (.aload_n 0, 1) := by decide +kernel
theorem dJ4_inflate_1 : decode cJ4_inflate 1 = .ok (.invokevirtual 83, 3) := by decide +kernel
theorem dJ4_inflate_4 : decode cJ4_inflate 4 = .ok (.ifCond .ne 4, 3) := by decide +kernel
theorem dJ4_inflate_7 : decode cJ4_inflate 7 = .ok (.return_, 1) := by decide +kernel
theorem dJ4_inflate_8 : decode cJ4_inflate 8 = .ok (.aload_n 0, 1) := by decide +kernel
theorem dJ4_inflate_9 : decode cJ4_inflate 9 = .ok (.getfield 15, 3) := by decide +kernel
theorem dJ4_inflate_12 : decode cJ4_inflate 12 = .ok (.arraylength, 1) := by decide +kernel
theorem dJ4_inflate_13 : decode cJ4_inflate 13 = .ok (.invokestatic 26, 3) := by decide +kernel
theorem dJ4_inflate_16 : decode cJ4_inflate 16 = .ok (.astore_n 1, 1) := by decide +kernel
theorem dJ4_inflate_17 : decode cJ4_inflate 17 = .ok (.aload_n 0, 1) := by decide +kernel
theorem dJ4_inflate_18 : decode cJ4_inflate 18 = .ok (.getfield 15, 3) := by decide +kernel
theorem dJ4_inflate_21 : decode cJ4_inflate 21 = .ok (.iconst 0, 1) := by decide +kernel
theorem dJ4_inflate_22 : decode cJ4_inflate 22 = .ok (.aload_n 1, 1) := by decide +kernel
theorem dJ4_inflate_23 : decode cJ4_inflate 23 = .ok (.iconst 0, 1) := by decide +kernel
theorem dJ4_inflate_24 : decode cJ4_inflate 24 = .ok (.aload_n 0, 1) := by decide +kernel
theorem dJ4_inflate_25 : decode cJ4_inflate 25 = .ok (.getfield 79, 3) := by decide +kernel
theorem dJ4_inflate_28 : decode cJ4_inflate 28 = .ok (.invokestatic 125, 3) := by decide +kernel
theorem dJ4_inflate_31 : decode cJ4_inflate 31 = .ok (.aload_n 0, 1) := by decide +kernel
theorem dJ4_inflate_32 : decode cJ4_inflate 32 = .ok (.aload_n 1, 1) := by decide +kernel
theorem dJ4_inflate_33 : decode cJ4_inflate 33 = .ok (.putfield 15, 3) := by decide +kernel
theorem dJ4_inflate_36 : decode cJ4_inflate 36 = .ok (.aload_n 0, 1) := by decide +kernel
theorem dJ4_inflate_37 : decode cJ4_inflate 37 = .ok (.iconst 1, 1) := by decide +kernel
theorem dJ4_inflate_38 : decode cJ4_inflate 38 = .ok (.putfield 22, 3) := by decide +kernel
theorem dJ4_inflate_41 : decode cJ4_inflate 41 = .ok (.return_, 1) := by decide +kernel
theorem dJ4_length_0 : decode cJ4_length 0 = .ok (.aload_n 0, 1) := by decide +kernel
theorem dJ4_length_1 : decode cJ4_length 1 = .ok (.getfield 79, 3) := by decide +kernel
theorem dJ4_length_4 : decode cJ4_length 4 = .ok (.ireturn, 1) := by decide +kernel
theorem dJ4_charAt_0 : decode cJ4_charAt 0 = .ok (.aload_n 0, 1) := by decide +kernel
theorem dJ4_charAt_1 : decode cJ4_charAt 1 = .ok (.getfield 22, 3) := by decide +kernel
theorem dJ4_charAt_4 : decode cJ4_charAt 4 = .ok (.istore_n 2, 1) := by decide +kernel
theorem dJ4_charAt_5 : decode cJ4_charAt 5 = .ok (.aload_n 0, 1) := by decide +kernel
theorem dJ4_charAt_6 : decode cJ4_charAt 6 = .ok (.getfield 15, 3) := by decide +kernel
theorem dJ4_charAt_9 : decode cJ4_charAt 9 = .ok (.astore_n 3, 1) := by decide +kernel
theorem dJ4_charAt_10 : decode cJ4_charAt 10 = .ok (.aload_n 0, 1) := by decide +kernel
theorem dJ4_charAt_11 : decode cJ4_charAt 11 = .ok (.getfield 79, 3) := by decide +kernel
theorem dJ4_charAt_14 : decode cJ4_charAt 14 = .ok (.aload_n 3, 1) := by decide +kernel
theorem dJ4_charAt_15 : decode cJ4_charAt 15 = .ok (.arraylength, 1) := by decide +kernel
theorem dJ4_charAt_16 : decode cJ4_charAt 16 = .ok (.iload_n 2, 1) := by decide +kernel
theorem dJ4_charAt_17 : decode cJ4_charAt 17 = .ok (.ishr, 1) := by decide +kernel
theorem dJ4_charAt_18 : decode cJ4_charAt 18 = .ok (.invokestatic 138, 3) := by decide +kernel
theorem dJ4_charAt_21 : decode cJ4_charAt 21 = .ok (.istore 4, 2) := by decide +kernel
theorem dJ4_charAt_23 : decode cJ4_charAt 23 = .ok (.iload_n 1, 1) := by decide +kernel
theorem dJ4_charAt_24 : decode cJ4_charAt 24 = .ok (.iload 4, 2) := by decide +kernel
theorem dJ4_charAt_26 : decode cJ4_charAt 26 = .ok (.invokestatic 144, 3) := by decide +kernel
theorem dJ4_charAt_29 : decode cJ4_charAt 29 = .ok (.iload_n 2, 1) := by decide +kernel
theorem dJ4_charAt_30 : decode cJ4_charAt 30 = .ok (.ifCond .ne 12, 3) := by decide +kernel
theorem dJ4_charAt_33 : decode cJ4_charAt 33 = .ok (.aload_n 3, 1) := by decide +kernel
theorem dJ4_charAt_34 : decode cJ4_charAt 34 = .ok (.iload_n 1, 1) := by decide +kernel
theorem dJ4_charAt_35 : decode cJ4_charAt 35 = .ok (.baload, 1) := by decide +kernel
theorem dJ4_charAt_36 : decode cJ4_charAt 36 = .ok (.sipush 255, 3) := by decide +kernel
theorem dJ4_charAt_39 : decode cJ4_charAt 39 = .ok (.iand, 1) := by decide +kernel
theorem dJ4_charAt_40 : decode cJ4_charAt 40 = .ok (.i2c, 1) := by decide +kernel
theorem dJ4_charAt_41 : decode cJ4_charAt 41 = .ok (.ireturn, 1) := by decide +kernel
theorem dJ4_charAt_42 : decode cJ4_charAt 42 = .ok (.aload_n 3, 1) := by decide +kernel
theorem dJ4_charAt_43 : decode cJ4_charAt 43 = .ok (.iload_n 1, 1) := by decide +kernel
theorem dJ4_charAt_44 : decode cJ4_charAt 44 = .ok (.invokestatic 148, 3) := by decide +kernel
theorem dJ4_charAt_47 : decode cJ4_charAt 47 = .ok (.ireturn, 1) := by decide +kernel
theorem dJ5_init_0 : decode cJ5_init 0 = .ok (.aload_n 0, 1) := by decide +kernel
theorem dJ5_init_1 : decode cJ5_init 1 = .ok (.bipush 16, 2) := by decide +kernel
theorem dJ5_init_3 : decode cJ5_init 3 = .ok (.invokespecial 1, 3) := by decide +kernel
theorem dJ5_init_6 : decode cJ5_init 6 = .ok (.return_, 1) := by decide +kernel
theorem dJ5_setLength_0 : decode cJ5_setLength 0 = .ok (.aload_n 0, 1) := by decide +kernel
theorem dJ5_setLength_1 : decode cJ5_setLength 1 = .ok (.iload_n 1, 1) := by decide +kernel
theorem dJ5_setLength_2 : decode cJ5_setLength 2 = .ok (.invokespecial 333, 3) := by decide +kernel
theorem dJ5_setLength_5 : decode cJ5_setLength 5 = .ok (.return_, 1) := by decide +kernel
theorem dJ5_append_0 : decode cJ5_append 0 = .ok (.aload_n 0, 1) := by decide +kernel
theorem dJ5_append_1 : decode cJ5_append 1 = .ok (.iload_n 1, 1) := by decide +kernel
theorem dJ5_append_2 : decode cJ5_append 2 = .ok (.invokespecial 50, 3) := by decide +kernel
theorem dJ5_append_5 : decode cJ5_append 5 = .ok (.pop, 1) := by decide +kernel
theorem dJ5_append_6 : decode cJ5_append 6 = .ok (.aload_n 0, 1) := by decide +kernel
theorem dJ5_append_7 : decode cJ5_append 7 = .ok (.areturn, 1) := by decide +kernel
theorem dJ5_length_0 : decode cJ5_length 0 = .ok (.aload_n 0, 1) := by decide +kernel
theorem dJ5_length_1 : decode cJ5_length 1 = .ok (.invokespecial 343, 3) := by decide +kernel
theorem dJ5_length_4 : decode cJ5_length 4 = .ok (.ireturn, 1) := by decide +kernel
theorem dJ5_charAt_0 : decode cJ5_charAt 0 = .ok (.aload_n 0, 1) := by decide +kernel
theorem dJ5_charAt_1 : decode cJ5_charAt 1 = .ok (.iload_n 1, 1) := by decide +kernel
theorem dJ5_charAt_2 : decode cJ5_charAt 2 = .ok (.invokespecial 329, 3) := by decide +kernel
theorem dJ5_charAt_5 : decode cJ5_charAt 5 = .ok (.ireturn, 1) := by decide +kernel
theorem dJ6_indexOf_0 : decode cJ6_indexOf 0 = .ok (.aload_n 0, 1) := by decide +kernel
theorem dJ6_indexOf_1 : decode cJ6_indexOf 1 = .ok (.iload_n 1, 1) := by decide +kernel
theorem dJ6_indexOf_2 : decode cJ6_indexOf 2 = .ok (.iconst 0, 1) := by decide +kernel
theorem dJ6_indexOf_3 : decode cJ6_indexOf 3 = .ok (.invokevirtual 633, 3) := by decide +kernel
theorem dJ6_indexOf_6 : decode cJ6_indexOf 6 = .ok (.ireturn, 1) := by decide +kernel
theorem dJ6_indexOf_2_0 : decode cJ6_indexOf_2 0 = .ok (.aload_n 0, 1) := by decide +kernel
theorem dJ6_indexOf_2_1 : decode cJ6_indexOf_2 1 = .ok (.invokevirtual 492, 3) := by decide +kernel
theorem dJ6_indexOf_2_4 : decode cJ6_indexOf_2 4 = .ok (.ifCond .eq 19, 3) := by decide +kernel
theorem dJ6_indexOf_2_7 : decode cJ6_indexOf_2 7 = .ok (.aload_n 0, 1) := by decide +kernel
theorem dJ6_indexOf_2_8 : decode cJ6_indexOf_2 8 = .ok (.getfield 9, 3) := by decide +kernel
theorem dJ6_indexOf_2_11 : decode cJ6_indexOf_2 11 = .ok (.iload_n 1, 1) := by decide +kernel
theorem dJ6_indexOf_2_12 : decode cJ6_indexOf_2 12 = .ok (.iload_n 2, 1) := by decide +kernel
theorem dJ6_indexOf_2_13 : decode cJ6_indexOf_2 13 = .ok (.aload_n 0, 1) := by decide +kernel
theorem dJ6_indexOf_2_14 : decode cJ6_indexOf_2 14 = .ok (.invokevirtual 505, 3) := by decide +kernel
theorem dJ6_indexOf_2_17 : decode cJ6_indexOf_2 17 = .ok (.invokestatic 637, 3) := by decide +kernel
theorem dJ6_indexOf_2_20 : decode cJ6_indexOf_2 20 = .ok (.goto 16, 3) := by decide +kernel
theorem dJ6_indexOf_2_23 : decode cJ6_indexOf_2 23 = .ok (.aload_n 0, 1) := by decide +kernel
theorem dJ6_indexOf_2_24 : decode cJ6_indexOf_2 24 = .ok (.getfield 9, 3) := by decide +kernel
theorem dJ6_indexOf_2_27 : decode cJ6_indexOf_2 27 = .ok (.iload_n 1, 1) := by decide +kernel
theorem dJ6_indexOf_2_28 : decode cJ6_indexOf_2 28 = .ok (.iload_n 2, 1) := by decide +kernel
theorem dJ6_indexOf_2_29 : decode cJ6_indexOf_2 29 = .ok (.aload_n 0, 1) := by decide +kernel
theorem dJ6_indexOf_2_30 : decode cJ6_indexOf_2 30 = .ok (.invokevirtual 505, 3) := by decide +kernel
theorem dJ6_indexOf_2_33 : decode cJ6_indexOf_2 33 = .ok (.invokestatic 640, 3) := by decide +kernel
theorem dJ6_indexOf_2_36 : decode cJ6_indexOf_2 36 = .ok (.ireturn, 1) := by decide +kernel
theorem dJ6_isLatin1_0 : decode cJ6_isLatin1 0 = .ok (.getstatic 38, 3) := by decide +kernel
theorem dJ6_isLatin1_3 : decode cJ6_isLatin1 3 = .ok (.ifCond .eq 14, 3) := by decide +kernel
theorem dJ6_isLatin1_6 : decode cJ6_isLatin1 6 = .ok (.aload_n 0, 1) := by decide +kernel
theorem dJ6_isLatin1_7 : decode cJ6_isLatin1 7 = .ok (.getfield 15, 3) := by decide +kernel
theorem dJ6_isLatin1_10 : decode cJ6_isLatin1 10 = .ok (.ifCond .ne 7, 3) := by decide +kernel
theorem dJ6_isLatin1_13 : decode cJ6_isLatin1 13 = .ok (.iconst 1, 1) := by decide +kernel
theorem dJ6_isLatin1_14 : decode cJ6_isLatin1 14 = .ok (.goto 4, 3) := by decide +kernel
theorem dJ6_isLatin1_17 : decode cJ6_isLatin1 17 = .ok (.iconst 0, 1) := by decide +kernel
theorem dJ6_isLatin1_18 : decode cJ6_isLatin1 18 = .ok (.ireturn, 1) := by decide +kernel
theorem dJ6_length_0 : decode cJ6_length 0 = .ok (.aload_n 0, 1) := by decide +kernel
theorem dJ6_length_1 : decode cJ6_length 1 = .ok (.getfield 9, 3) := by decide +kernel
theorem dJ6_length_4 : decode cJ6_length 4 = .ok (.arraylength, 1) := by decide +kernel
theorem dJ6_length_5 : decode cJ6_length 5 = .ok (.aload_n 0, 1) := by decide +kernel
theorem dJ6_length_6 : decode cJ6_length 6 = .ok (.invokevirtual 335, 3) := by decide +kernel
theorem dJ6_length_9 : decode cJ6_length 9 = .ok (.ishr, 1) := by decide +kernel
theorem dJ6_length_10 : decode cJ6_length 10 = .ok (.ireturn, 1) := by decide +kernel
theorem dJ6_coder_0 : decode cJ6_coder 0 = .ok (.getstatic 38, 3) := by decide +kernel
theorem dJ6_coder_3 : decode cJ6_coder 3 = .ok (.ifCond .eq 10, 3) := by decide +kernel
theorem dJ6_coder_6 : decode cJ6_coder 6 = .ok (.aload_n 0, 1) := by decide +kernel
theorem dJ6_coder_7 : decode cJ6_coder 7 = .ok (.getfield 15, 3) := by decide +kernel
theorem dJ6_coder_10 : decode cJ6_coder 10 = .ok (.goto 4, 3) := by decide +kernel
theorem dJ6_coder_13 : decode cJ6_coder 13 = .ok (.iconst 1, 1) := by decide +kernel
theorem dJ6_coder_14 : decode cJ6_coder 14 = .ok (.ireturn, 1) := by decide +kernel
theorem dJ6_checkBoundsBeginEnd_0 : decode cJ6_checkBoundsBeginEnd 0 = .ok (.iload_n 0, 1) := by decide +kernel
theorem dJ6_checkBoundsBeginEnd_1 : decode cJ6_checkBoundsBeginEnd 1 = .ok (.iload_n 1, 1) := by decide +kernel
theorem dJ6_checkBoundsBeginEnd_2 : decode cJ6_checkBoundsBeginEnd 2 = .ok (.iload_n 2, 1) := by decide +kernel
theorem dJ6_checkBoundsBeginEnd_3 : decode cJ6_checkBoundsBeginEnd 3 = .ok (.getstatic 1053, 3) := by decide +kernel
theorem dJ6_checkBoundsBeginEnd_6 : decode cJ6_checkBoundsBeginEnd 6 = .ok (.invokestatic 1062, 3) := by decide +kernel
theorem dJ6_checkBoundsBeginEnd_9 : decode cJ6_checkBoundsBeginEnd 9 = .ok (.pop, 1) := by decide +kernel
theorem dJ6_checkBoundsBeginEnd_10 : decode cJ6_checkBoundsBeginEnd 10 = .ok (.return_, 1) := by decide +kernel
theorem dJ6_checkBoundsOffCount_0 : decode cJ6_checkBoundsOffCount 0 = .ok (.iload_n 0, 1) := by decide +kernel
theorem dJ6_checkBoundsOffCount_1 : decode cJ6_checkBoundsOffCount 1 = .ok (.iload_n 1, 1) := by decide +kernel
theorem dJ6_checkBoundsOffCount_2 : decode cJ6_checkBoundsOffCount 2 = .ok (.iload_n 2, 1) := by decide +kernel
theorem dJ6_checkBoundsOffCount_3 : decode cJ6_checkBoundsOffCount 3 = .ok (.getstatic 1053, 3) := by decide +kernel
theorem dJ6_checkBoundsOffCount_6 : decode cJ6_checkBoundsOffCount 6 = .ok (.invokestatic 1065, 3) := by decide +kernel
theorem dJ6_checkBoundsOffCount_9 : decode cJ6_checkBoundsOffCount 9 = .ok (.ireturn, 1) := by decide +kernel
theorem dJ6_checkIndex_0 : decode cJ6_checkIndex 0 = .ok (.iload_n 0, 1) := by decide +kernel
theorem dJ6_checkIndex_1 : decode cJ6_checkIndex 1 = .ok (.iload_n 1, 1) := by decide +kernel
theorem dJ6_checkIndex_2 : decode cJ6_checkIndex 2 = .ok (.getstatic 1053, 3) := by decide +kernel
theorem dJ6_checkIndex_5 : decode cJ6_checkIndex 5 = .ok (.invokestatic 1059, 3) := by decide +kernel
theorem dJ6_checkIndex_8 : decode cJ6_checkIndex 8 = .ok (.pop, 1) := by decide +kernel
theorem dJ6_checkIndex_9 : decode cJ6_checkIndex 9 = .ok (.return_, 1) := by decide +kernel
theorem dJ7_newBytesFor_0 : decode cJ7_newBytesFor 0 = .ok (.iload_n 0, 1) := by decide +kernel
theorem dJ7_newBytesFor_1 : decode cJ7_newBytesFor 1 = .ok (.invokestatic 11, 3) := by decide +kernel
theorem dJ7_newBytesFor_4 : decode cJ7_newBytesFor 4 = .ok (.newarray .byte, 2) := by decide +kernel
theorem dJ7_newBytesFor_6 : decode cJ7_newBytesFor 6 = .ok (.areturn, 1) := by decide +kernel
theorem dJ7_newBytesLength_0 : decode cJ7_newBytesLength 0 = .ok (.iload_n 0, 1) := by decide +kernel
theorem dJ7_newBytesLength_1 : decode cJ7_newBytesLength 1 = .ok (.ifCond .ge 11, 3) := by decide +kernel
theorem dJ7_newBytesLength_4 : decode cJ7_newBytesLength 4 = .ok (.new 17, 3) := by decide +kernel
theorem dJ7_newBytesLength_7 : decode cJ7_newBytesLength 7 = .ok (.dup, 1) := by decide +kernel
theorem dJ7_newBytesLength_8 : decode cJ7_newBytesLength 8 = .ok (.invokespecial 19, 3) := by decide +kernel
theorem dJ7_newBytesLength_11 : decode cJ7_newBytesLength 11 = .ok (.athrow, 1) := by decide +kernel
theorem dJ7_newBytesLength_12 : decode cJ7_newBytesLength 12 = .ok (.iload_n 0, 1) := by decide +kernel
theorem dJ7_newBytesLength_13 : decode cJ7_newBytesLength 13 = .ok (.ldc 20, 2) := by decide +kernel
theorem dJ7_newBytesLength_15 : decode cJ7_newBytesLength 15 = .ok (.if_icmp .lt 40, 3) := by decide +kernel
theorem dJ7_newBytesLength_18 : decode cJ7_newBytesLength 18 = .ok (.new 21, 3) := by decide +kernel
theorem dJ7_newBytesLength_21 : decode cJ7_newBytesLength 21 = .ok (.dup, 1) := by decide +kernel
theorem dJ7_newBytesLength_22 : decode cJ7_newBytesLength 22 = .ok (.new 23, 3) := by decide +kernel
theorem dJ7_newBytesLength_25 : decode cJ7_newBytesLength 25 = .ok (.dup, 1) := by decide +kernel
theorem dJ7_newBytesLength_26 : decode cJ7_newBytesLength 26 = .ok (.invokespecial 25, 3) := by decide +kernel
theorem dJ7_newBytesLength_29 : decode cJ7_newBytesLength 29 = .ok (.ldc 26, 2) := by decide +kernel
theorem dJ7_newBytesLength_31 : decode cJ7_newBytesLength 31 = .ok (.invokevirtual 28, 3) := by decide +kernel
theorem dJ7_newBytesLength_34 : decode cJ7_newBytesLength 34 = .ok (.iload_n 0, 1) := by decide +kernel
theorem dJ7_newBytesLength_35 : decode cJ7_newBytesLength 35 = .ok (.invokevirtual 32, 3) := by decide +kernel
theorem dJ7_newBytesLength_38 : decode cJ7_newBytesLength 38 = .ok (.ldc 35, 2) := by decide +kernel
theorem dJ7_newBytesLength_40 : decode cJ7_newBytesLength 40 = .ok (.invokevirtual 28, 3) := by decide +kernel
theorem dJ7_newBytesLength_43 : decode cJ7_newBytesLength 43 = .ok (.ldc 20, 2) := by decide +kernel
theorem dJ7_newBytesLength_45 : decode cJ7_newBytesLength 45 = .ok (.invokevirtual 32, 3) := by decide +kernel
theorem dJ7_newBytesLength_48 : decode cJ7_newBytesLength 48 = .ok (.invokevirtual 37, 3) := by decide +kernel
theorem dJ7_newBytesLength_51 : decode cJ7_newBytesLength 51 = .ok (.invokespecial 41, 3) := by decide +kernel
theorem dJ7_newBytesLength_54 : decode cJ7_newBytesLength 54 = .ok (.athrow, 1) := by decide +kernel
theorem dJ7_newBytesLength_55 : decode cJ7_newBytesLength 55 = .ok (.iload_n 0, 1) := by decide +kernel
theorem dJ7_newBytesLength_56 : decode cJ7_newBytesLength 56 = .ok (.iconst 1, 1) := by decide +kernel
theorem dJ7_newBytesLength_57 : decode cJ7_newBytesLength 57 = .ok (.ishl, 1) := by decide +kernel
theorem dJ7_newBytesLength_58 : decode cJ7_newBytesLength 58 = .ok (.ireturn, 1) := by decide +kernel
theorem dJ7_fillNull_0 : decode cJ7_fillNull 0 = .ok (.aload_n 0, 1) := by decide +kernel
theorem dJ7_fillNull_1 : decode cJ7_fillNull 1 = .ok (.iload_n 1, 1) := by decide +kernel
theorem dJ7_fillNull_2 : decode cJ7_fillNull 2 = .ok (.iconst 1, 1) := by decide +kernel
theorem dJ7_fillNull_3 : decode cJ7_fillNull 3 = .ok (.ishl, 1) := by decide +kernel
theorem dJ7_fillNull_4 : decode cJ7_fillNull 4 = .ok (.iload_n 2, 1) := by decide +kernel
theorem dJ7_fillNull_5 : decode cJ7_fillNull 5 = .ok (.iconst 1, 1) := by decide +kernel
theorem dJ7_fillNull_6 : decode cJ7_fillNull 6 = .ok (.ishl, 1) := by decide +kernel
theorem dJ7_fillNull_7 : decode cJ7_fillNull 7 = .ok (.iconst 0, 1) := by decide +kernel
theorem dJ7_fillNull_8 : decode cJ7_fillNull 8 = .ok (.invokestatic 380, 3) := by decide +kernel
theorem dJ7_fillNull_11 : decode cJ7_fillNull 11 = .ok (.return_, 1) := by decide +kernel
theorem dJ7_indexOf_0 : decode cJ7_indexOf 0 = .ok (.iload_n 2, 1) := by decide +kernel
theorem dJ7_indexOf_1 : decode cJ7_indexOf 1 = .ok (.iconst 0, 1) := by decide +kernel
theorem dJ7_indexOf_2 : decode cJ7_indexOf 2 = .ok (.invokestatic 224, 3) := by decide +kernel
theorem dJ7_indexOf_5 : decode cJ7_indexOf 5 = .ok (.istore_n 2, 1) := by decide +kernel
theorem dJ7_indexOf_6 : decode cJ7_indexOf 6 = .ok (.iload_n 3, 1) := by decide +kernel
theorem dJ7_indexOf_7 : decode cJ7_indexOf 7 = .ok (.aload_n 0, 1) := by decide +kernel
theorem dJ7_indexOf_8 : decode cJ7_indexOf 8 = .ok (.arraylength, 1) := by decide +kernel
theorem dJ7_indexOf_9 : decode cJ7_indexOf 9 = .ok (.iconst 1, 1) := by decide +kernel
theorem dJ7_indexOf_10 : decode cJ7_indexOf 10 = .ok (.ishr, 1) := by decide +kernel
theorem dJ7_indexOf_11 : decode cJ7_indexOf 11 = .ok (.invokestatic 183, 3) := by decide +kernel
theorem dJ7_indexOf_14 : decode cJ7_indexOf 14 = .ok (.istore_n 3, 1) := by decide +kernel
theorem dJ7_indexOf_15 : decode cJ7_indexOf 15 = .ok (.iload_n 2, 1) := by decide +kernel
theorem dJ7_indexOf_16 : decode cJ7_indexOf 16 = .ok (.iload_n 3, 1) := by decide +kernel
theorem dJ7_indexOf_17 : decode cJ7_indexOf 17 = .ok (.if_icmp .lt 5, 3) := by decide +kernel
theorem dJ7_indexOf_20 : decode cJ7_indexOf 20 = .ok (.iconst (-1), 1) := by decide +kernel
theorem dJ7_indexOf_21 : decode cJ7_indexOf 21 = .ok (.ireturn, 1) := by decide +kernel
theorem dJ7_indexOf_22 : decode cJ7_indexOf 22 = .ok (.iload_n 1, 1) := by decide +kernel
theorem dJ7_indexOf_23 : decode cJ7_indexOf 23 = .ok (.ldc 227, 2) := by decide +kernel
theorem dJ7_indexOf_25 : decode cJ7_indexOf 25 = .ok (.if_icmp .ge 11, 3) := by decide +kernel
theorem dJ7_indexOf_28 : decode cJ7_indexOf 28 = .ok (.aload_n 0, 1) := by decide +kernel
theorem dJ7_indexOf_29 : decode cJ7_indexOf 29 = .ok (.iload_n 1, 1) := by decide +kernel
theorem dJ7_indexOf_30 : decode cJ7_indexOf 30 = .ok (.iload_n 2, 1) := by decide +kernel
theorem dJ7_indexOf_31 : decode cJ7_indexOf 31 = .ok (.iload_n 3, 1) := by decide +kernel
theorem dJ7_indexOf_32 : decode cJ7_indexOf 32 = .ok (.invokestatic 228, 3) := by decide +kernel
theorem dJ7_indexOf_35 : decode cJ7_indexOf 35 = .ok (.ireturn, 1) := by decide +kernel
theorem dJ7_indexOf_36 : decode cJ7_indexOf 36 = .ok (.aload_n 0, 1) := by decide +kernel
theorem dJ7_indexOf_37 : decode cJ7_indexOf 37 = .ok (.iload_n 1, 1) := by decide +kernel
theorem dJ7_indexOf_38 : decode cJ7_indexOf 38 = .ok (.iload_n 2, 1) := by decide +kernel
theorem dJ7_indexOf_39 : decode cJ7_indexOf 39 = .ok (.iload_n 3, 1) := by decide +kernel
theorem dJ7_indexOf_40 : decode cJ7_indexOf 40 = .ok (.invokestatic 232, 3) := by decide +kernel
theorem dJ7_indexOf_43 : decode cJ7_indexOf 43 = .ok (.ireturn, 1) := by decide +kernel
theorem dJ7_indexOfChar_0 : decode cJ7_indexOfChar 0 = .ok (.iload_n 2, 1) := by decide +kernel
theorem dJ7_indexOfChar_1 : decode cJ7_indexOfChar 1 = .ok (.iload_n 3, 1) := by decide +kernel
theorem dJ7_indexOfChar_2 : decode cJ7_indexOfChar 2 = .ok (.aload_n 0, 1) := by decide +kernel
theorem dJ7_indexOfChar_3 : decode cJ7_indexOfChar 3 = .ok (.invokestatic 96, 3) := by decide +kernel
theorem dJ7_indexOfChar_6 : decode cJ7_indexOfChar 6 = .ok (.aload_n 0, 1) := by decide +kernel
theorem dJ7_indexOfChar_7 : decode cJ7_indexOfChar 7 = .ok (.iload_n 1, 1) := by decide +kernel
theorem dJ7_indexOfChar_8 : decode cJ7_indexOfChar 8 = .ok (.iload_n 2, 1) := by decide +kernel
theorem dJ7_indexOfChar_9 : decode cJ7_indexOfChar 9 = .ok (.iload_n 3, 1) := by decide +kernel
theorem dJ7_indexOfChar_10 : decode cJ7_indexOfChar 10 = .ok (.invokestatic 244, 3) := by decide +kernel
theorem dJ7_indexOfChar_13 : decode cJ7_indexOfChar 13 = .ok (.ireturn, 1) := by decide +kernel
theorem dJ7_checkBoundsBeginEnd_0 : decode cJ7_checkBoundsBeginEnd 0 = .ok (.iload_n 0, 1) := by decide +kernel
theorem dJ7_checkBoundsBeginEnd_1 : decode cJ7_checkBoundsBeginEnd 1 = .ok (.iload_n 1, 1) := by decide +kernel
theorem dJ7_checkBoundsBeginEnd_2 : decode cJ7_checkBoundsBeginEnd 2 = .ok (.aload_n 2, 1) := by decide +kernel
theorem dJ7_checkBoundsBeginEnd_3 : decode cJ7_checkBoundsBeginEnd 3 = .ok (.invokestatic 48, 3) := by decide +kernel
theorem dJ7_checkBoundsBeginEnd_6 : decode cJ7_checkBoundsBeginEnd 6 = .ok (.invokestatic 241, 3) := by decide +kernel
theorem dJ7_checkBoundsBeginEnd_9 : decode cJ7_checkBoundsBeginEnd 9 = .ok (.return_, 1) := by decide +kernel
theorem dJ7_length_0 : decode cJ7_length 0 = .ok (.aload_n 0, 1) := by decide +kernel
theorem dJ7_length_1 : decode cJ7_length 1 = .ok (.arraylength, 1) := by decide +kernel
theorem dJ7_length_2 : decode cJ7_length 2 = .ok (.iconst 1, 1) := by decide +kernel
theorem dJ7_length_3 : decode cJ7_length 3 = .ok (.ishr, 1) := by decide +kernel
theorem dJ7_length_4 : decode cJ7_length 4 = .ok (.ireturn, 1) := by decide +kernel
theorem dJ7_indexOfCharUnsafe_0 : decode cJ7_indexOfCharUnsafe 0 = .ok (.iload_n 2, 1) := by decide +kernel
theorem dJ7_indexOfCharUnsafe_1 : decode cJ7_indexOfCharUnsafe 1 = .ok (.istore 4, 2) := by decide +kernel
theorem dJ7_indexOfCharUnsafe_3 : decode cJ7_indexOfCharUnsafe 3 = .ok (.iload 4, 2) := by decide +kernel
theorem dJ7_indexOfCharUnsafe_5 : decode cJ7_indexOfCharUnsafe 5 = .ok (.iload_n 3, 1) := by decide +kernel
theorem dJ7_indexOfCharUnsafe_6 : decode cJ7_indexOfCharUnsafe 6 = .ok (.if_icmp .ge 22, 3) := by decide +kernel
theorem dJ7_indexOfCharUnsafe_9 : decode cJ7_indexOfCharUnsafe 9 = .ok (.aload_n 0, 1) := by decide +kernel
theorem dJ7_indexOfCharUnsafe_10 : decode cJ7_indexOfCharUnsafe 10 = .ok (.iload 4, 2) := by decide +kernel
theorem dJ7_indexOfCharUnsafe_12 : decode cJ7_indexOfCharUnsafe 12 = .ok (.invokestatic 71, 3) := by decide +kernel
theorem dJ7_indexOfCharUnsafe_15 : decode cJ7_indexOfCharUnsafe 15 = .ok (.iload_n 1, 1) := by decide +kernel
theorem dJ7_indexOfCharUnsafe_16 : decode cJ7_indexOfCharUnsafe 16 = .ok (.if_icmp .ne 6, 3) := by decide +kernel
theorem dJ7_indexOfCharUnsafe_19 : decode cJ7_indexOfCharUnsafe 19 = .ok (.iload 4, 2) := by decide +kernel
theorem dJ7_indexOfCharUnsafe_21 : decode cJ7_indexOfCharUnsafe 21 = .ok (.ireturn, 1) := by decide +kernel
theorem dJ7_indexOfCharUnsafe_22 : decode cJ7_indexOfCharUnsafe 22 = .ok (.iinc 4 1, 3) := by decide +kernel
theorem dJ7_indexOfCharUnsafe_25 : decode cJ7_indexOfCharUnsafe 25 = .ok (.goto (-22), 3) := by decide +kernel
theorem dJ7_indexOfCharUnsafe_28 : decode cJ7_indexOfCharUnsafe 28 = .ok (.iconst (-1), 1) := by decide +kernel
theorem dJ7_indexOfCharUnsafe_29 : decode cJ7_indexOfCharUnsafe 29 = .ok (.ireturn, 1) := by decide +kernel
theorem dJ7_getChar_0 : decode cJ7_getChar 0 = .ok (.getstatic 44, 3) := by decide +kernel
theorem dJ7_getChar_3 : decode cJ7_getChar 3 = .ok (.ifCond .ne 25, 3) := by decide +kernel
theorem dJ7_getChar_6 : decode cJ7_getChar 6 = .ok (.iload_n 1, 1) := by decide +kernel
theorem dJ7_getChar_7 : decode cJ7_getChar 7 = .ok (.ifCond .lt 11, 3) := by decide +kernel
theorem dJ7_getChar_10 : decode cJ7_getChar 10 = .ok (.iload_n 1, 1) := by decide +kernel
theorem dJ7_getChar_11 : decode cJ7_getChar 11 = .ok (.aload_n 0, 1) := by decide +kernel
theorem dJ7_getChar_12 : decode cJ7_getChar 12 = .ok (.invokestatic 48, 3) := by decide +kernel
theorem dJ7_getChar_15 : decode cJ7_getChar 15 = .ok (.if_icmp .lt 13, 3) := by decide +kernel
theorem dJ7_getChar_18 : decode cJ7_getChar 18 = .ok (.new 52, 3) := by decide +kernel
theorem dJ7_getChar_21 : decode cJ7_getChar 21 = .ok (.dup, 1) := by decide +kernel
theorem dJ7_getChar_22 : decode cJ7_getChar 22 = .ok (.ldc 54, 2) := by decide +kernel
theorem dJ7_getChar_24 : decode cJ7_getChar 24 = .ok (.invokespecial 56, 3) := by decide +kernel
theorem dJ7_getChar_27 : decode cJ7_getChar 27 = .ok (.athrow, 1) := by decide +kernel
theorem dJ7_getChar_28 : decode cJ7_getChar 28 = .ok (.iload_n 1, 1) := by decide +kernel
theorem dJ7_getChar_29 : decode cJ7_getChar 29 = .ok (.iconst 1, 1) := by decide +kernel
theorem dJ7_getChar_30 : decode cJ7_getChar 30 = .ok (.ishl, 1) := by decide +kernel
theorem dJ7_getChar_31 : decode cJ7_getChar 31 = .ok (.istore_n 1, 1) := by decide +kernel
theorem dJ7_getChar_32 : decode cJ7_getChar 32 = .ok (.aload_n 0, 1) := by decide +kernel
theorem dJ7_getChar_33 : decode cJ7_getChar 33 = .ok (.iload_n 1, 1) := by decide +kernel
theorem dJ7_getChar_34 : decode cJ7_getChar 34 = .ok (.iinc 1 1, 3) := by decide +kernel
theorem dJ7_getChar_37 : decode cJ7_getChar 37 = .ok (.baload, 1) := by decide +kernel
theorem dJ7_getChar_38 : decode cJ7_getChar 38 = .ok (.sipush 255, 3) := by decide +kernel
theorem dJ7_getChar_41 : decode cJ7_getChar 41 = .ok (.iand, 1) := by decide +kernel
theorem dJ7_getChar_42 : decode cJ7_getChar 42 = .ok (.getstatic 59, 3) := by decide +kernel
theorem dJ7_getChar_45 : decode cJ7_getChar 45 = .ok (.ishl, 1) := by decide +kernel
theorem dJ7_getChar_46 : decode cJ7_getChar 46 = .ok (.aload_n 0, 1) := by decide +kernel
theorem dJ7_getChar_47 : decode cJ7_getChar 47 = .ok (.iload_n 1, 1) := by decide +kernel
theorem dJ7_getChar_48 : decode cJ7_getChar 48 = .ok (.baload, 1) := by decide +kernel
theorem dJ7_getChar_49 : decode cJ7_getChar 49 = .ok (.sipush 255, 3) := by decide +kernel
theorem dJ7_getChar_52 : decode cJ7_getChar 52 = .ok (.iand, 1) := by decide +kernel
theorem dJ7_getChar_53 : decode cJ7_getChar 53 = .ok (.getstatic 63, 3) := by decide +kernel
theorem dJ7_getChar_56 : decode cJ7_getChar 56 = .ok (.ishl, 1) := by decide +kernel
theorem dJ7_getChar_57 : decode cJ7_getChar 57 = .ok (.ior, 1) := by decide +kernel
theorem dJ7_getChar_58 : decode cJ7_getChar 58 = .ok (.i2c, 1) := by decide +kernel
theorem dJ7_getChar_59 : decode cJ7_getChar 59 = .ok (.ireturn, 1) := by decide +kernel
theorem dJ7_indexOfSupplementary_0 : decode cJ7_indexOfSupplementary 0 = .ok (.iload_n 1, 1) := by decide +kernel
theorem dJ7_indexOfSupplementary_1 : decode cJ7_indexOfSupplementary 1 = .ok (.invokestatic 164, 3) := by decide +kernel
theorem dJ7_indexOfSupplementary_4 : decode cJ7_indexOfSupplementary 4 = .ok (.ifCond .eq 65, 3) := by decide +kernel
theorem dJ7_indexOfSupplementary_7 : decode cJ7_indexOfSupplementary 7 = .ok (.iload_n 1, 1) := by decide +kernel
theorem dJ7_indexOfSupplementary_8 : decode cJ7_indexOfSupplementary 8 = .ok (.invokestatic 157, 3) := by decide +kernel
theorem dJ7_indexOfSupplementary_11 : decode cJ7_indexOfSupplementary 11 = .ok (.istore 4, 2) := by decide +kernel
theorem dJ7_indexOfSupplementary_13 : decode cJ7_indexOfSupplementary 13 = .ok (.iload_n 1, 1) := by decide +kernel
theorem dJ7_indexOfSupplementary_14 : decode cJ7_indexOfSupplementary 14 = .ok (.invokestatic 161, 3) := by decide +kernel
theorem dJ7_indexOfSupplementary_17 : decode cJ7_indexOfSupplementary 17 = .ok (.istore 5, 2) := by decide +kernel
theorem dJ7_indexOfSupplementary_19 : decode cJ7_indexOfSupplementary 19 = .ok (.iload_n 2, 1) := by decide +kernel
theorem dJ7_indexOfSupplementary_20 : decode cJ7_indexOfSupplementary 20 = .ok (.iload_n 3, 1) := by decide +kernel
theorem dJ7_indexOfSupplementary_21 : decode cJ7_indexOfSupplementary 21 = .ok (.aload_n 0, 1) := by decide +kernel
theorem dJ7_indexOfSupplementary_22 : decode cJ7_indexOfSupplementary 22 = .ok (.invokestatic 96, 3) := by decide +kernel
theorem dJ7_indexOfSupplementary_25 : decode cJ7_indexOfSupplementary 25 = .ok (.iload_n 2, 1) := by decide +kernel
theorem dJ7_indexOfSupplementary_26 : decode cJ7_indexOfSupplementary 26 = .ok (.istore 6, 2) := by decide +kernel
theorem dJ7_indexOfSupplementary_28 : decode cJ7_indexOfSupplementary 28 = .ok (.iload 6, 2) := by decide +kernel
theorem dJ7_indexOfSupplementary_30 : decode cJ7_indexOfSupplementary 30 = .ok (.iload_n 3, 1) := by decide +kernel
theorem dJ7_indexOfSupplementary_31 : decode cJ7_indexOfSupplementary 31 = .ok (.iconst 1, 1) := by decide +kernel
theorem dJ7_indexOfSupplementary_32 : decode cJ7_indexOfSupplementary 32 = .ok (.isub, 1) := by decide +kernel
theorem dJ7_indexOfSupplementary_33 : decode cJ7_indexOfSupplementary 33 = .ok (.if_icmp .ge 36, 3) := by decide +kernel
theorem dJ7_indexOfSupplementary_36 : decode cJ7_indexOfSupplementary 36 = .ok (.aload_n 0, 1) := by decide +kernel
theorem dJ7_indexOfSupplementary_37 : decode cJ7_indexOfSupplementary 37 = .ok (.iload 6, 2) := by decide +kernel
theorem dJ7_indexOfSupplementary_39 : decode cJ7_indexOfSupplementary 39 = .ok (.invokestatic 71, 3) := by decide +kernel
theorem dJ7_indexOfSupplementary_42 : decode cJ7_indexOfSupplementary 42 = .ok (.iload 4, 2) := by decide +kernel
theorem dJ7_indexOfSupplementary_44 : decode cJ7_indexOfSupplementary 44 = .ok (.if_icmp .ne 19, 3) := by decide +kernel
theorem dJ7_indexOfSupplementary_47 : decode cJ7_indexOfSupplementary 47 = .ok (.aload_n 0, 1) := by decide +kernel
theorem dJ7_indexOfSupplementary_48 : decode cJ7_indexOfSupplementary 48 = .ok (.iload 6, 2) := by decide +kernel
theorem dJ7_indexOfSupplementary_50 : decode cJ7_indexOfSupplementary 50 = .ok (.iconst 1, 1) := by decide +kernel
theorem dJ7_indexOfSupplementary_51 : decode cJ7_indexOfSupplementary 51 = .ok (.iadd, 1) := by decide +kernel
theorem dJ7_indexOfSupplementary_52 : decode cJ7_indexOfSupplementary 52 = .ok (.invokestatic 71, 3) := by decide +kernel
theorem dJ7_indexOfSupplementary_55 : decode cJ7_indexOfSupplementary 55 = .ok (.iload 5, 2) := by decide +kernel
theorem dJ7_indexOfSupplementary_57 : decode cJ7_indexOfSupplementary 57 = .ok (.if_icmp .ne 6, 3) := by decide +kernel
theorem dJ7_indexOfSupplementary_60 : decode cJ7_indexOfSupplementary 60 = .ok (.iload 6, 2) := by decide +kernel
theorem dJ7_indexOfSupplementary_62 : decode cJ7_indexOfSupplementary 62 = .ok (.ireturn, 1) := by decide +kernel
theorem dJ7_indexOfSupplementary_63 : decode cJ7_indexOfSupplementary 63 = .ok (.iinc 6 1, 3) := by decide +kernel
theorem dJ7_indexOfSupplementary_66 : decode cJ7_indexOfSupplementary 66 = .ok (.goto (-38), 3) := by decide +kernel
theorem dJ7_indexOfSupplementary_69 : decode cJ7_indexOfSupplementary 69 = .ok (.iconst (-1), 1) := by decide +kernel
theorem dJ7_indexOfSupplementary_70 : decode cJ7_indexOfSupplementary 70 = .ok (.ireturn, 1) := by decide +kernel
theorem dJ7_inflate_0 : decode cJ7_inflate 0 = .ok (.iload_n 3, 1) := by decide +kernel
theorem dJ7_inflate_1 : decode cJ7_inflate 1 = .ok (.iload 4, 2) := by decide +kernel
theorem dJ7_inflate_3 : decode cJ7_inflate 3 = .ok (.aload_n 2, 1) := by decide +kernel
theorem dJ7_inflate_4 : decode cJ7_inflate 4 = .ok (.invokestatic 173, 3) := by decide +kernel
theorem dJ7_inflate_7 : decode cJ7_inflate 7 = .ok (.iconst 0, 1) := by decide +kernel
theorem dJ7_inflate_8 : decode cJ7_inflate 8 = .ok (.istore 5, 2) := by decide +kernel
theorem dJ7_inflate_10 : decode cJ7_inflate 10 = .ok (.iload 5, 2) := by decide +kernel
theorem dJ7_inflate_12 : decode cJ7_inflate 12 = .ok (.iload 4, 2) := by decide +kernel
theorem dJ7_inflate_14 : decode cJ7_inflate 14 = .ok (.if_icmp .ge 27, 3) := by decide +kernel
theorem dJ7_inflate_17 : decode cJ7_inflate 17 = .ok (.aload_n 2, 1) := by decide +kernel
theorem dJ7_inflate_18 : decode cJ7_inflate 18 = .ok (.iload_n 3, 1) := by decide +kernel
theorem dJ7_inflate_19 : decode cJ7_inflate 19 = .ok (.iinc 3 1, 3) := by decide +kernel
theorem dJ7_inflate_22 : decode cJ7_inflate 22 = .ok (.aload_n 0, 1) := by decide +kernel
theorem dJ7_inflate_23 : decode cJ7_inflate 23 = .ok (.iload_n 1, 1) := by decide +kernel
theorem dJ7_inflate_24 : decode cJ7_inflate 24 = .ok (.iinc 1 1, 3) := by decide +kernel
theorem dJ7_inflate_27 : decode cJ7_inflate 27 = .ok (.baload, 1) := by decide +kernel
theorem dJ7_inflate_28 : decode cJ7_inflate 28 = .ok (.sipush 255, 3) := by decide +kernel
theorem dJ7_inflate_31 : decode cJ7_inflate 31 = .ok (.iand, 1) := by decide +kernel
theorem dJ7_inflate_32 : decode cJ7_inflate 32 = .ok (.invokestatic 111, 3) := by decide +kernel
theorem dJ7_inflate_35 : decode cJ7_inflate 35 = .ok (.iinc 5 1, 3) := by decide +kernel
theorem dJ7_inflate_38 : decode cJ7_inflate 38 = .ok (.goto (-28), 3) := by decide +kernel
theorem dJ7_inflate_41 : decode cJ7_inflate 41 = .ok (.return_, 1) := by decide +kernel
theorem dJ7_checkBoundsOffCount_0 : decode cJ7_checkBoundsOffCount 0 = .ok (.iload_n 0, 1) := by decide +kernel
theorem dJ7_checkBoundsOffCount_1 : decode cJ7_checkBoundsOffCount 1 = .ok (.iload_n 1, 1) := by decide +kernel
theorem dJ7_checkBoundsOffCount_2 : decode cJ7_checkBoundsOffCount 2 = .ok (.aload_n 2, 1) := by decide +kernel
theorem dJ7_checkBoundsOffCount_3 : decode cJ7_checkBoundsOffCount 3 = .ok (.invokestatic 48, 3) := by decide +kernel
theorem dJ7_checkBoundsOffCount_6 : decode cJ7_checkBoundsOffCount 6 = .ok (.invokestatic 419, 3) := by decide +kernel
theorem dJ7_checkBoundsOffCount_9 : decode cJ7_checkBoundsOffCount 9 = .ok (.pop, 1) := by decide +kernel
theorem dJ7_checkBoundsOffCount_10 : decode cJ7_checkBoundsOffCount 10 = .ok (.return_, 1) := by decide +kernel
theorem dJ7_putChar_0 : decode cJ7_putChar 0 = .ok (.getstatic 44, 3) := by decide +kernel
theorem dJ7_putChar_3 : decode cJ7_putChar 3 = .ok (.ifCond .ne 25, 3) := by decide +kernel
theorem dJ7_putChar_6 : decode cJ7_putChar 6 = .ok (.iload_n 1, 1) := by decide +kernel
theorem dJ7_putChar_7 : decode cJ7_putChar 7 = .ok (.ifCond .lt 11, 3) := by decide +kernel
theorem dJ7_putChar_10 : decode cJ7_putChar 10 = .ok (.iload_n 1, 1) := by decide +kernel
theorem dJ7_putChar_11 : decode cJ7_putChar 11 = .ok (.aload_n 0, 1) := by decide +kernel
theorem dJ7_putChar_12 : decode cJ7_putChar 12 = .ok (.invokestatic 48, 3) := by decide +kernel
theorem dJ7_putChar_15 : decode cJ7_putChar 15 = .ok (.if_icmp .lt 13, 3) := by decide +kernel
theorem dJ7_putChar_18 : decode cJ7_putChar 18 = .ok (.new 52, 3) := by decide +kernel
theorem dJ7_putChar_21 : decode cJ7_putChar 21 = .ok (.dup, 1) := by decide +kernel
theorem dJ7_putChar_22 : decode cJ7_putChar 22 = .ok (.ldc 54, 2) := by decide +kernel
theorem dJ7_putChar_24 : decode cJ7_putChar 24 = .ok (.invokespecial 56, 3) := by decide +kernel
theorem dJ7_putChar_27 : decode cJ7_putChar 27 = .ok (.athrow, 1) := by decide +kernel
theorem dJ7_putChar_28 : decode cJ7_putChar 28 = .ok (.iload_n 1, 1) := by decide +kernel
theorem dJ7_putChar_29 : decode cJ7_putChar 29 = .ok (.iconst 1, 1) := by decide +kernel
theorem dJ7_putChar_30 : decode cJ7_putChar 30 = .ok (.ishl, 1) := by decide +kernel
theorem dJ7_putChar_31 : decode cJ7_putChar 31 = .ok (.istore_n 1, 1) := by decide +kernel
theorem dJ7_putChar_32 : decode cJ7_putChar 32 = .ok (.aload_n 0, 1) := by decide +kernel
theorem dJ7_putChar_33 : decode cJ7_putChar 33 = .ok (.iload_n 1, 1) := by decide +kernel
theorem dJ7_putChar_34 : decode cJ7_putChar 34 = .ok (.iinc 1 1, 3) := by decide +kernel
theorem dJ7_putChar_37 : decode cJ7_putChar 37 = .ok (.iload_n 2, 1) := by decide +kernel
theorem dJ7_putChar_38 : decode cJ7_putChar 38 = .ok (.getstatic 59, 3) := by decide +kernel
theorem dJ7_putChar_41 : decode cJ7_putChar 41 = .ok (.ishr, 1) := by decide +kernel
theorem dJ7_putChar_42 : decode cJ7_putChar 42 = .ok (.i2b, 1) := by decide +kernel
theorem dJ7_putChar_43 : decode cJ7_putChar 43 = .ok (.bastore, 1) := by decide +kernel
theorem dJ7_putChar_44 : decode cJ7_putChar 44 = .ok (.aload_n 0, 1) := by decide +kernel
theorem dJ7_putChar_45 : decode cJ7_putChar 45 = .ok (.iload_n 1, 1) := by decide +kernel
theorem dJ7_putChar_46 : decode cJ7_putChar 46 = .ok (.iload_n 2, 1) := by decide +kernel
theorem dJ7_putChar_47 : decode cJ7_putChar 47 = .ok (.getstatic 63, 3) := by decide +kernel
theorem dJ7_putChar_50 : decode cJ7_putChar 50 = .ok (.ishr, 1) := by decide +kernel
theorem dJ7_putChar_51 : decode cJ7_putChar 51 = .ok (.i2b, 1) := by decide +kernel
theorem dJ7_putChar_52 : decode cJ7_putChar 52 = .ok (.bastore, 1) := by decide +kernel
theorem dJ7_putChar_53 : decode cJ7_putChar 53 = .ok (.return_, 1) := by decide +kernel
theorem dJ7_putCharSB_0 : decode cJ7_putCharSB 0 = .ok (.iload_n 1, 1) := by decide +kernel
theorem dJ7_putCharSB_1 : decode cJ7_putCharSB 1 = .ok (.aload_n 0, 1) := by decide +kernel
theorem dJ7_putCharSB_2 : decode cJ7_putCharSB 2 = .ok (.invokestatic 67, 3) := by decide +kernel
theorem dJ7_putCharSB_5 : decode cJ7_putCharSB 5 = .ok (.aload_n 0, 1) := by decide +kernel
theorem dJ7_putCharSB_6 : decode cJ7_putCharSB 6 = .ok (.iload_n 1, 1) := by decide +kernel
theorem dJ7_putCharSB_7 : decode cJ7_putCharSB 7 = .ok (.iload_n 2, 1) := by decide +kernel
theorem dJ7_putCharSB_8 : decode cJ7_putCharSB 8 = .ok (.invokestatic 111, 3) := by decide +kernel
theorem dJ7_putCharSB_11 : decode cJ7_putCharSB 11 = .ok (.return_, 1) := by decide +kernel
theorem dJ7_checkIndex_0 : decode cJ7_checkIndex 0 = .ok (.iload_n 0, 1) := by decide +kernel
theorem dJ7_checkIndex_1 : decode cJ7_checkIndex 1 = .ok (.aload_n 1, 1) := by decide +kernel
theorem dJ7_checkIndex_2 : decode cJ7_checkIndex 2 = .ok (.invokestatic 48, 3) := by decide +kernel
theorem dJ7_checkIndex_5 : decode cJ7_checkIndex 5 = .ok (.invokestatic 414, 3) := by decide +kernel
theorem dJ7_checkIndex_8 : decode cJ7_checkIndex 8 = .ok (.return_, 1) := by decide +kernel
theorem dJ8_newLength_0 : decode cJ8_newLength 0 = .ok (.iload_n 0, 1) := by decide +kernel
theorem dJ8_newLength_1 : decode cJ8_newLength 1 = .ok (.iload_n 1, 1) := by decide +kernel
theorem dJ8_newLength_2 : decode cJ8_newLength 2 = .ok (.iload_n 2, 1) := by decide +kernel
theorem dJ8_newLength_3 : decode cJ8_newLength 3 = .ok (.invokestatic 194, 3) := by decide +kernel
theorem dJ8_newLength_6 : decode cJ8_newLength 6 = .ok (.iadd, 1) := by decide +kernel
theorem dJ8_newLength_7 : decode cJ8_newLength 7 = .ok (.istore_n 3, 1) := by decide +kernel
theorem dJ8_newLength_8 : decode cJ8_newLength 8 = .ok (.iconst 0, 1) := by decide +kernel
theorem dJ8_newLength_9 : decode cJ8_newLength 9 = .ok (.iload_n 3, 1) := by decide +kernel
theorem dJ8_newLength_10 : decode cJ8_newLength 10 = .ok (.if_icmp .ge 11, 3) := by decide +kernel
theorem dJ8_newLength_13 : decode cJ8_newLength 13 = .ok (.iload_n 3, 1) := by decide +kernel
theorem dJ8_newLength_14 : decode cJ8_newLength 14 = .ok (.ldc 200, 2) := by decide +kernel
theorem dJ8_newLength_16 : decode cJ8_newLength 16 = .ok (.if_icmp .gt 5, 3) := by decide +kernel
theorem dJ8_newLength_19 : decode cJ8_newLength 19 = .ok (.iload_n 3, 1) := by decide +kernel
theorem dJ8_newLength_20 : decode cJ8_newLength 20 = .ok (.ireturn, 1) := by decide +kernel
theorem dJ8_newLength_21 : decode cJ8_newLength 21 = .ok (.iload_n 0, 1) := by decide +kernel
theorem dJ8_newLength_22 : decode cJ8_newLength 22 = .ok (.iload_n 1, 1) := by decide +kernel
theorem dJ8_newLength_23 : decode cJ8_newLength 23 = .ok (.invokestatic 201, 3) := by decide +kernel
theorem dJ8_newLength_26 : decode cJ8_newLength 26 = .ok (.ireturn, 1) := by decide +kernel
theorem dJ8_hugeLength_0 : decode cJ8_hugeLength 0 = .ok (.iload_n 0, 1) := by decide +kernel
theorem dJ8_hugeLength_1 : decode cJ8_hugeLength 1 = .ok (.iload_n 1, 1) := by decide +kernel
theorem dJ8_hugeLength_2 : decode cJ8_hugeLength 2 = .ok (.iadd, 1) := by decide +kernel
theorem dJ8_hugeLength_3 : decode cJ8_hugeLength 3 = .ok (.istore_n 2, 1) := by decide +kernel
theorem dJ8_hugeLength_4 : decode cJ8_hugeLength 4 = .ok (.iload_n 2, 1) := by decide +kernel
theorem dJ8_hugeLength_5 : decode cJ8_hugeLength 5 = .ok (.ifCond .ge 44, 3) := by decide +kernel
theorem dJ8_hugeLength_8 : decode cJ8_hugeLength 8 = .ok (.new 204, 3) := by decide +kernel
theorem dJ8_hugeLength_11 : decode cJ8_hugeLength 11 = .ok (.dup, 1) := by decide +kernel
theorem dJ8_hugeLength_12 : decode cJ8_hugeLength 12 = .ok (.new 89, 3) := by decide +kernel
theorem dJ8_hugeLength_15 : decode cJ8_hugeLength 15 = .ok (.dup, 1) := by decide +kernel
theorem dJ8_hugeLength_16 : decode cJ8_hugeLength 16 = .ok (.invokespecial 91, 3) := by decide +kernel
theorem dJ8_hugeLength_19 : decode cJ8_hugeLength 19 = .ok (.ldc 206, 2) := by decide +kernel
theorem dJ8_hugeLength_21 : decode cJ8_hugeLength 21 = .ok (.invokevirtual 94, 3) := by decide +kernel
theorem dJ8_hugeLength_24 : decode cJ8_hugeLength 24 = .ok (.iload_n 0, 1) := by decide +kernel
theorem dJ8_hugeLength_25 : decode cJ8_hugeLength 25 = .ok (.invokevirtual 98, 3) := by decide +kernel
theorem dJ8_hugeLength_28 : decode cJ8_hugeLength 28 = .ok (.ldc 208, 2) := by decide +kernel
theorem dJ8_hugeLength_30 : decode cJ8_hugeLength 30 = .ok (.invokevirtual 94, 3) := by decide +kernel
theorem dJ8_hugeLength_33 : decode cJ8_hugeLength 33 = .ok (.iload_n 1, 1) := by decide +kernel
theorem dJ8_hugeLength_34 : decode cJ8_hugeLength 34 = .ok (.invokevirtual 98, 3) := by decide +kernel
theorem dJ8_hugeLength_37 : decode cJ8_hugeLength 37 = .ok (.ldc 210, 2) := by decide +kernel
theorem dJ8_hugeLength_39 : decode cJ8_hugeLength 39 = .ok (.invokevirtual 94, 3) := by decide +kernel
theorem dJ8_hugeLength_42 : decode cJ8_hugeLength 42 = .ok (.invokevirtual 101, 3) := by decide +kernel
theorem dJ8_hugeLength_45 : decode cJ8_hugeLength 45 = .ok (.invokespecial 212, 3) := by decide +kernel
theorem dJ8_hugeLength_48 : decode cJ8_hugeLength 48 = .ok (.athrow, 1) := by decide +kernel
theorem dJ8_hugeLength_49 : decode cJ8_hugeLength 49 = .ok (.iload_n 2, 1) := by decide +kernel
theorem dJ8_hugeLength_50 : decode cJ8_hugeLength 50 = .ok (.ldc 200, 2) := by decide +kernel
theorem dJ8_hugeLength_52 : decode cJ8_hugeLength 52 = .ok (.if_icmp .gt 6, 3) := by decide +kernel
theorem dJ8_hugeLength_55 : decode cJ8_hugeLength 55 = .ok (.ldc 200, 2) := by decide +kernel
theorem dJ8_hugeLength_57 : decode cJ8_hugeLength 57 = .ok (.ireturn, 1) := by decide +kernel
theorem dJ8_hugeLength_58 : decode cJ8_hugeLength 58 = .ok (.iload_n 2, 1) := by decide +kernel
theorem dJ8_hugeLength_59 : decode cJ8_hugeLength 59 = .ok (.ireturn, 1) := by decide +kernel
theorem dJ9_max_0 : decode cJ9_max 0 = .ok (.iload_n 0, 1) := by decide +kernel
theorem dJ9_max_1 : decode cJ9_max 1 = .ok (.iload_n 1, 1) := by decide +kernel
theorem dJ9_max_2 : decode cJ9_max 2 = .ok (.if_icmp .lt 7, 3) := by decide +kernel
theorem dJ9_max_5 : decode cJ9_max 5 = .ok (.iload_n 0, 1) := by decide +kernel
theorem dJ9_max_6 : decode cJ9_max 6 = .ok (.goto 4, 3) := by decide +kernel
theorem dJ9_max_9 : decode cJ9_max 9 = .ok (.iload_n 1, 1) := by decide +kernel
theorem dJ9_max_10 : decode cJ9_max 10 = .ok (.ireturn, 1) := by decide +kernel
theorem dJ9_min_0 : decode cJ9_min 0 = .ok (.iload_n 0, 1) := by decide +kernel
theorem dJ9_min_1 : decode cJ9_min 1 = .ok (.iload_n 1, 1) := by decide +kernel
theorem dJ9_min_2 : decode cJ9_min 2 = .ok (.if_icmp .gt 7, 3) := by decide +kernel
theorem dJ9_min_5 : decode cJ9_min 5 = .ok (.iload_n 0, 1) := by decide +kernel
theorem dJ9_min_6 : decode cJ9_min 6 = .ok (.goto 4, 3) := by decide +kernel
theorem dJ9_min_9 : decode cJ9_min 9 = .ok (.iload_n 1, 1) := by decide +kernel
theorem dJ9_min_10 : decode cJ9_min 10 = .ok (.ireturn, 1) := by decide +kernel
theorem dX0_init_0 : decode cX0_init 0 = .ok (.aload_n 0, 1) := by decide +kernel
theorem dX0_init_1 : decode cX0_init 1 = .ok (.invokespecial 1, 3) := by decide +kernel
theorem dX0_init_4 : decode cX0_init 4 = .ok (.aload_n 0, 1) := by decide +kernel
theorem dX0_init_5 : decode cX0_init 5 = .ok (.new 7, 3) := by decide +kernel
theorem dX0_init_8 : decode cX0_init 8 = .ok (.dup, 1) := by decide +kernel
theorem dX0_init_9 : decode cX0_init 9 = .ok (.invokespecial 9, 3) := by decide +kernel
theorem dX0_init_12 : decode cX0_init 12 = .ok (.putfield 10, 3) := by decide +kernel
theorem dX0_init_15 : decode cX0_init 15 = .ok (.aload_n 0, 1) := by decide +kernel
theorem dX0_init_16 : decode cX0_init 16 = .ok (.new 16, 3) := by decide +kernel
theorem dX0_init_19 : decode cX0_init 19 = .ok (.dup, 1) := by decide +kernel
theorem dX0_init_20 : decode cX0_init 20 = .ok (.invokespecial 18, 3) := by decide +kernel
theorem dX0_init_23 : decode cX0_init 23 = .ok (.putfield 19, 3) := by decide +kernel
theorem dX0_init_26 : decode cX0_init 26 = .ok (.aload_n 0, 1) := by decide +kernel
theorem dX0_init_27 : decode cX0_init 27 = .ok (.new 16, 3) := by decide +kernel
theorem dX0_init_30 : decode cX0_init 30 = .ok (.dup, 1) := by decide +kernel
theorem dX0_init_31 : decode cX0_init 31 = .ok (.invokespecial 18, 3) := by decide +kernel
theorem dX0_init_34 : decode cX0_init 34 = .ok (.putfield 23, 3) := by decide +kernel
theorem dX0_init_37 : decode cX0_init 37 = .ok (.aload_n 0, 1) := by decide +kernel
theorem dX0_init_38 : decode cX0_init 38 = .ok (.new 16, 3) := by decide +kernel
theorem dX0_init_41 : decode cX0_init 41 = .ok (.dup, 1) := by decide +kernel
theorem dX0_init_42 : decode cX0_init 42 = .ok (.invokespecial 18, 3) := by decide +kernel
theorem dX0_init_45 : decode cX0_init 45 = .ok (.putfield 26, 3) := by decide +kernel
theorem dX0_init_48 : decode cX0_init 48 = .ok (.aload_n 0, 1) := by decide +kernel
theorem dX0_init_49 : decode cX0_init 49 = .ok (.new 16, 3) := by decide +kernel
theorem dX0_init_52 : decode cX0_init 52 = .ok (.dup, 1) := by decide +kernel
theorem dX0_init_53 : decode cX0_init 53 = .ok (.invokespecial 18, 3) := by decide +kernel
theorem dX0_init_56 : decode cX0_init 56 = .ok (.putfield 29, 3) := by decide +kernel
theorem dX0_init_59 : decode cX0_init 59 = .ok (.aload_n 0, 1) := by decide +kernel
theorem dX0_init_60 : decode cX0_init 60 = .ok (.getstatic 32, 3) := by decide +kernel
theorem dX0_init_63 : decode cX0_init 63 = .ok (.putfield 38, 3) := by decide +kernel
theorem dX0_init_66 : decode cX0_init 66 = .ok (.aload_n 0, 1) := by decide +kernel
theorem dX0_init_67 : decode cX0_init 67 = .ok (.new 41, 3) := by decide +kernel
theorem dX0_init_70 : decode cX0_init 70 = .ok (.dup, 1) := by decide +kernel
theorem dX0_init_71 : decode cX0_init 71 = .ok (.invokespecial 43, 3) := by decide +kernel
theorem dX0_init_74 : decode cX0_init 74 = .ok (.putfield 44, 3) := by decide +kernel
theorem dX0_init_77 : decode cX0_init 77 = .ok (.aload_n 0, 1) := by decide +kernel
theorem dX0_init_78 : decode cX0_init 78 = .ok (.new 16, 3) := by decide +kernel
theorem dX0_init_81 : decode cX0_init 81 = .ok (.dup, 1) := by decide +kernel
theorem dX0_init_82 : decode cX0_init 82 = .ok (.invokespecial 18, 3) := by decide +kernel
theorem dX0_init_85 : decode cX0_init 85 = .ok (.putfield 48, 3) := by decide +kernel
theorem dX0_init_88 : decode cX0_init 88 = .ok (.aload_n 0, 1) := by decide +kernel
theorem dX0_init_89 : decode cX0_init 89 = .ok (.new 51, 3) := by decide +kernel
theorem dX0_init_92 : decode cX0_init 92 = .ok (.dup, 1) := by decide +kernel
theorem dX0_init_93 : decode cX0_init 93 = .ok (.invokespecial 53, 3) := by decide +kernel
theorem dX0_init_96 : decode cX0_init 96 = .ok (.putfield 54, 3) := by decide +kernel
theorem dX0_init_99 : decode cX0_init 99 = .ok (.aload_n 0, 1) := by decide +kernel
theorem dX0_init_100 : decode cX0_init 100 = .ok (.sipush 4096, 3) := by decide +kernel
theorem dX0_init_103 : decode cX0_init 103 = .ok (.newarray .byte, 2) := by decide +kernel
theorem dX0_init_105 : decode cX0_init 105 = .ok (.putfield 58, 3) := by decide +kernel
theorem dX0_init_108 : decode cX0_init 108 = .ok (.aload_n 0, 1) := by decide +kernel
theorem dX0_init_109 : decode cX0_init 109 = .ok (.invokevirtual 62, 3) := by decide +kernel
theorem dX0_init_112 : decode cX0_init 112 = .ok (.return_, 1) := by decide +kernel
theorem dX0_begin_0 : decode cX0_begin 0 = .ok (.aload_n 0, 1) := by decide +kernel
theorem dX0_begin_1 : decode cX0_begin 1 = .ok (.getfield 10, 3) := by decide +kernel
theorem dX0_begin_4 : decode cX0_begin 4 = .ok (.iconst 0, 1) := by decide +kernel
theorem dX0_begin_5 : decode cX0_begin 5 = .ok (.iconst 0, 1) := by decide +kernel
theorem dX0_begin_6 : decode cX0_begin 6 = .ok (.invokevirtual 65, 3) := by decide +kernel
theorem dX0_begin_9 : decode cX0_begin 9 = .ok (.aload_n 0, 1) := by decide +kernel
theorem dX0_begin_10 : decode cX0_begin 10 = .ok (.getfield 26, 3) := by decide +kernel
theorem dX0_begin_13 : decode cX0_begin 13 = .ok (.invokevirtual 68, 3) := by decide +kernel
theorem dX0_begin_16 : decode cX0_begin 16 = .ok (.aload_n 0, 1) := by decide +kernel
theorem dX0_begin_17 : decode cX0_begin 17 = .ok (.aload_n 0, 1) := by decide +kernel
theorem dX0_begin_18 : decode cX0_begin 18 = .ok (.getfield 10, 3) := by decide +kernel
theorem dX0_begin_21 : decode cX0_begin 21 = .ok (.invokevirtual 71, 3) := by decide +kernel
theorem dX0_begin_24 : decode cX0_begin 24 = .ok (.return_, 1) := by decide +kernel
theorem dX0_enter_0 : decode cX0_enter 0 = .ok (.aload_n 0, 1) := by decide +kernel
theorem dX0_enter_1 : decode cX0_enter 1 = .ok (.getfield 26, 3) := by decide +kernel
theorem dX0_enter_4 : decode cX0_enter 4 = .ok (.aload_n 1, 1) := by decide +kernel
theorem dX0_enter_5 : decode cX0_enter 5 = .ok (.invokevirtual 185, 3) := by decide +kernel
theorem dX0_enter_8 : decode cX0_enter 8 = .ok (.pop, 1) := by decide +kernel
theorem dX0_enter_9 : decode cX0_enter 9 = .ok (.aload_n 1, 1) := by decide +kernel
theorem dX0_enter_10 : decode cX0_enter 10 = .ok (.invokevirtual 189, 3) := by decide +kernel
theorem dX0_enter_13 : decode cX0_enter 13 = .ok (.return_, 1) := by decide +kernel
theorem dX0_clear_0 : decode cX0_clear 0 = .ok (.aload_n 0, 1) := by decide +kernel
theorem dX0_clear_1 : decode cX0_clear 1 = .ok (.invokevirtual 62, 3) := by decide +kernel
theorem dX0_clear_4 : decode cX0_clear 4 = .ok (.aload_n 0, 1) := by decide +kernel
theorem dX0_clear_5 : decode cX0_clear 5 = .ok (.iconst 0, 1) := by decide +kernel
theorem dX0_clear_6 : decode cX0_clear 6 = .ok (.putfield 75, 3) := by decide +kernel
theorem dX0_clear_9 : decode cX0_clear 9 = .ok (.aload_n 0, 1) := by decide +kernel
theorem dX0_clear_10 : decode cX0_clear 10 = .ok (.iconst 0, 1) := by decide +kernel
theorem dX0_clear_11 : decode cX0_clear 11 = .ok (.putfield 79, 3) := by decide +kernel
theorem dX0_clear_14 : decode cX0_clear 14 = .ok (.aload_n 0, 1) := by decide +kernel
theorem dX0_clear_15 : decode cX0_clear 15 = .ok (.iconst 0, 1) := by decide +kernel
theorem dX0_clear_16 : decode cX0_clear 16 = .ok (.putfield 82, 3) := by decide +kernel
theorem dX0_clear_19 : decode cX0_clear 19 = .ok (.aload_n 0, 1) := by decide +kernel
theorem dX0_clear_20 : decode cX0_clear 20 = .ok (.getstatic 32, 3) := by decide +kernel
theorem dX0_clear_23 : decode cX0_clear 23 = .ok (.putfield 38, 3) := by decide +kernel
theorem dX0_clear_26 : decode cX0_clear 26 = .ok (.aload_n 0, 1) := by decide +kernel
theorem dX0_clear_27 : decode cX0_clear 27 = .ok (.iconst 0, 1) := by decide +kernel
theorem dX0_clear_28 : decode cX0_clear 28 = .ok (.putfield 86, 3) := by decide +kernel
theorem dX0_clear_31 : decode cX0_clear 31 = .ok (.aload_n 0, 1) := by decide +kernel
theorem dX0_clear_32 : decode cX0_clear 32 = .ok (.getfield 44, 3) := by decide +kernel
theorem dX0_clear_35 : decode cX0_clear 35 = .ok (.invokevirtual 89, 3) := by decide +kernel
theorem dX0_clear_38 : decode cX0_clear 38 = .ok (.aload_n 0, 1) := by decide +kernel
theorem dX0_clear_39 : decode cX0_clear 39 = .ok (.invokevirtual 90, 3) := by decide +kernel
theorem dX0_clear_42 : decode cX0_clear 42 = .ok (.return_, 1) := by decide +kernel
theorem dX0_changed_0 : decode cX0_changed 0 = .ok (.aload_n 0, 1) := by decide +kernel
theorem dX0_changed_1 : decode cX0_changed 1 = .ok (.iconst 0, 1) := by decide +kernel
theorem dX0_changed_2 : decode cX0_changed 2 = .ok (.putfield 93, 3) := by decide +kernel
theorem dX0_changed_5 : decode cX0_changed 5 = .ok (.aload_n 0, 1) := by decide +kernel
theorem dX0_changed_6 : decode cX0_changed 6 = .ok (.iconst 0, 1) := by decide +kernel
theorem dX0_changed_7 : decode cX0_changed 7 = .ok (.putfield 96, 3) := by decide +kernel
theorem dX0_changed_10 : decode cX0_changed 10 = .ok (.return_, 1) := by decide +kernel
theorem dX0_html_0 : decode cX0_html 0 = .ok (.iload_n 1, 1) := by decide +kernel
theorem dX0_html_1 : decode cX0_html 1 = .ok (.bipush 32, 2) := by decide +kernel
theorem dX0_html_3 : decode cX0_html 3 = .ok (.if_icmp .lt 26, 3) := by decide +kernel
theorem dX0_html_6 : decode cX0_html 6 = .ok (.iload_n 1, 1) := by decide +kernel
theorem dX0_html_7 : decode cX0_html 7 = .ok (.bipush 126, 2) := by decide +kernel
theorem dX0_html_9 : decode cX0_html 9 = .ok (.if_icmp .gt 20, 3) := by decide +kernel
theorem dX0_html_12 : decode cX0_html 12 = .ok (.aload_n 0, 1) := by decide +kernel
theorem dX0_html_13 : decode cX0_html 13 = .ok (.getfield 86, 3) := by decide +kernel
theorem dX0_html_16 : decode cX0_html 16 = .ok (.sipush 160, 3) := by decide +kernel
theorem dX0_html_19 : decode cX0_html 19 = .ok (.if_icmp .eq 10, 3) := by decide +kernel
theorem dX0_html_22 : decode cX0_html 22 = .ok (.aload_n 0, 1) := by decide +kernel
theorem dX0_html_23 : decode cX0_html 23 = .ok (.getfield 82, 3) := by decide +kernel
theorem dX0_html_26 : decode cX0_html 26 = .ok (.ifCond .eq 5, 3) := by decide +kernel
theorem dX0_html_29 : decode cX0_html 29 = .ok (.iconst 0, 1) := by decide +kernel
theorem dX0_html_30 : decode cX0_html 30 = .ok (.ireturn, 1) := by decide +kernel
theorem dX0_html_31 : decode cX0_html 31 = .ok (.aload_n 0, 1) := by decide +kernel
theorem dX0_html_32 : decode cX0_html 32 = .ok (.dup, 1) := by decide +kernel
theorem dX0_html_33 : decode cX0_html 33 = .ok (.getfield 86, 3) := by decide +kernel
theorem dX0_html_36 : decode cX0_html 36 = .ok (.iconst 1, 1) := by decide +kernel
theorem dX0_html_37 : decode cX0_html 37 = .ok (.iadd, 1) := by decide +kernel
theorem dX0_html_38 : decode cX0_html 38 = .ok (.putfield 86, 3) := by decide +kernel
theorem dX0_html_41 : decode cX0_html 41 = .ok (.aload_n 0, 1) := by decide +kernel
theorem dX0_html_42 : decode cX0_html 42 = .ok (.invokevirtual 90, 3) := by decide +kernel
theorem dX0_html_45 : decode cX0_html 45 = .ok (.aload_n 0, 1) := by decide +kernel
theorem dX0_html_46 : decode cX0_html 46 = .ok (.getfield 38, 3) := by decide +kernel
theorem dX0_html_49 : decode cX0_html 49 = .ok (.invokevirtual 99, 3) := by decide +kernel
theorem dX0_html_52 : decode cX0_html 52 = .ok (.tableswitch 144 0 6 #[44, 52, 60, 105, 105, 113, 136], 44) := by decide +kernel
theorem dX0_html_96 : decode cX0_html 96 = .ok (.aload_n 0, 1) := by decide +kernel
theorem dX0_html_97 : decode cX0_html 97 = .ok (.iload_n 1, 1) := by decide +kernel
theorem dX0_html_98 : decode cX0_html 98 = .ok (.invokevirtual 103, 3) := by decide +kernel
theorem dX0_html_101 : decode cX0_html 101 = .ok (.goto 164, 3) := by decide +kernel
theorem dX0_html_104 : decode cX0_html 104 = .ok (.aload_n 0, 1) := by decide +kernel
theorem dX0_html_105 : decode cX0_html 105 = .ok (.iload_n 1, 1) := by decide +kernel
theorem dX0_html_106 : decode cX0_html 106 = .ok (.invokevirtual 107, 3) := by decide +kernel
theorem dX0_html_109 : decode cX0_html 109 = .ok (.goto 156, 3) := by decide +kernel
theorem dX0_html_112 : decode cX0_html 112 = .ok (.aload_n 0, 1) := by decide +kernel
theorem dX0_html_113 : decode cX0_html 113 = .ok (.iload_n 1, 1) := by decide +kernel
theorem dX0_html_114 : decode cX0_html 114 = .ok (.putfield 110, 3) := by decide +kernel
theorem dX0_html_117 : decode cX0_html 117 = .ok (.aload_n 0, 1) := by decide +kernel
theorem dX0_html_118 : decode cX0_html 118 = .ok (.iconst 0, 1) := by decide +kernel
theorem dX0_html_119 : decode cX0_html 119 = .ok (.putfield 114, 3) := by decide +kernel
theorem dX0_html_122 : decode cX0_html 122 = .ok (.aload_n 0, 1) := by decide +kernel
theorem dX0_html_123 : decode cX0_html 123 = .ok (.iload_n 1, 1) := by decide +kernel
theorem dX0_html_124 : decode cX0_html 124 = .ok (.invokestatic 117, 3) := by decide +kernel
theorem dX0_html_127 : decode cX0_html 127 = .ok (.ifCond .eq 9, 3) := by decide +kernel
theorem dX0_html_130 : decode cX0_html 130 = .ok (.getstatic 121, 3) := by decide +kernel
theorem dX0_html_133 : decode cX0_html 133 = .ok (.goto 18, 3) := by decide +kernel
theorem dX0_html_136 : decode cX0_html 136 = .ok (.iload_n 1, 1) := by decide +kernel
theorem dX0_html_137 : decode cX0_html 137 = .ok (.bipush 62, 2) := by decide +kernel
theorem dX0_html_139 : decode cX0_html 139 = .ok (.if_icmp .ne 9, 3) := by decide +kernel
theorem dX0_html_142 : decode cX0_html 142 = .ok (.getstatic 32, 3) := by decide +kernel
theorem dX0_html_145 : decode cX0_html 145 = .ok (.goto 6, 3) := by decide +kernel
theorem dX0_html_148 : decode cX0_html 148 = .ok (.getstatic 124, 3) := by decide +kernel
theorem dX0_html_151 : decode cX0_html 151 = .ok (.putfield 38, 3) := by decide +kernel
theorem dX0_html_154 : decode cX0_html 154 = .ok (.goto 111, 3) := by decide +kernel
theorem dX0_html_157 : decode cX0_html 157 = .ok (.aload_n 0, 1) := by decide +kernel
theorem dX0_html_158 : decode cX0_html 158 = .ok (.iload_n 1, 1) := by decide +kernel
theorem dX0_html_159 : decode cX0_html 159 = .ok (.invokevirtual 127, 3) := by decide +kernel
theorem dX0_html_162 : decode cX0_html 162 = .ok (.goto 103, 3) := by decide +kernel
theorem dX0_html_165 : decode cX0_html 165 = .ok (.aload_n 0, 1) := by decide +kernel
theorem dX0_html_166 : decode cX0_html 166 = .ok (.iload_n 1, 1) := by decide +kernel
theorem dX0_html_167 : decode cX0_html 167 = .ok (.bipush 62, 2) := by decide +kernel
theorem dX0_html_169 : decode cX0_html 169 = .ok (.if_icmp .ne 9, 3) := by decide +kernel
theorem dX0_html_172 : decode cX0_html 172 = .ok (.getstatic 32, 3) := by decide +kernel
theorem dX0_html_175 : decode cX0_html 175 = .ok (.goto 7, 3) := by decide +kernel
theorem dX0_html_178 : decode cX0_html 178 = .ok (.aload_n 0, 1) := by decide +kernel
theorem dX0_html_179 : decode cX0_html 179 = .ok (.getfield 38, 3) := by decide +kernel
theorem dX0_html_182 : decode cX0_html 182 = .ok (.putfield 38, 3) := by decide +kernel
theorem dX0_html_185 : decode cX0_html 185 = .ok (.goto 80, 3) := by decide +kernel
theorem dX0_html_188 : decode cX0_html 188 = .ok (.aload_n 0, 1) := by decide +kernel
theorem dX0_html_189 : decode cX0_html 189 = .ok (.iload_n 1, 1) := by decide +kernel
theorem dX0_html_190 : decode cX0_html 190 = .ok (.invokevirtual 130, 3) := by decide +kernel
theorem dX0_html_193 : decode cX0_html 193 = .ok (.goto 72, 3) := by decide +kernel
theorem dX0_html_196 : decode cX0_html 196 = .ok (.aload_n 0, 1) := by decide +kernel
theorem dX0_html_197 : decode cX0_html 197 = .ok (.getstatic 32, 3) := by decide +kernel
theorem dX0_html_200 : decode cX0_html 200 = .ok (.putfield 38, 3) := by decide +kernel
theorem dX0_html_203 : decode cX0_html 203 = .ok (.iload_n 1, 1) := by decide +kernel
theorem dX0_html_204 : decode cX0_html 204 = .ok (.bipush 59, 2) := by decide +kernel
theorem dX0_html_206 : decode cX0_html 206 = .ok (.if_icmp .ne 40, 3) := by decide +kernel
theorem dX0_html_209 : decode cX0_html 209 = .ok (.aload_n 0, 1) := by decide +kernel
theorem dX0_html_210 : decode cX0_html 210 = .ok (.aload_n 0, 1) := by decide +kernel
theorem dX0_html_211 : decode cX0_html 211 = .ok (.getfield 110, 3) := by decide +kernel
theorem dX0_html_214 : decode cX0_html 214 = .ok (.bipush 108, 2) := by decide +kernel
theorem dX0_html_216 : decode cX0_html 216 = .ok (.if_icmp .ne 8, 3) := by decide +kernel
theorem dX0_html_219 : decode cX0_html 219 = .ok (.bipush 60, 2) := by decide +kernel
theorem dX0_html_221 : decode cX0_html 221 = .ok (.goto 19, 3) := by decide +kernel
theorem dX0_html_224 : decode cX0_html 224 = .ok (.aload_n 0, 1) := by decide +kernel
theorem dX0_html_225 : decode cX0_html 225 = .ok (.getfield 110, 3) := by decide +kernel
theorem dX0_html_228 : decode cX0_html 228 = .ok (.bipush 103, 2) := by decide +kernel
