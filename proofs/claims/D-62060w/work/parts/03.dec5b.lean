set_option maxRecDepth 100000
theorem dX5_insideTop_16 : decode cX5_insideTop 16 = .ok (.aload_n 0, 1) := by decide +kernel
theorem dX5_insideTop_17 : decode cX5_insideTop 17 = .ok (.getfield 25, 3) := by decide +kernel
theorem dX5_insideTop_20 : decode cX5_insideTop 20 = .ok (.iload_n 1, 1) := by decide +kernel
theorem dX5_insideTop_21 : decode cX5_insideTop 21 = .ok (.iaload, 1) := by decide +kernel
theorem dX5_insideTop_22 : decode cX5_insideTop 22 = .ok (.iconst 1, 1) := by decide +kernel
theorem dX5_insideTop_23 : decode cX5_insideTop 23 = .ok (.iadd, 1) := by decide +kernel
theorem dX5_insideTop_24 : decode cX5_insideTop 24 = .ok (.putfield 211, 3) := by decide +kernel
theorem dX5_insideTop_27 : decode cX5_insideTop 27 = .ok (.return_, 1) := by decide +kernel
theorem dX5_seat_0 : decode cX5_seat 0 = .ok (.iconst 0, 1) := by decide +kernel
theorem dX5_seat_1 : decode cX5_seat 1 = .ok (.istore_n 2, 1) := by decide +kernel
theorem dX5_seat_2 : decode cX5_seat 2 = .ok (.iconst 0, 1) := by decide +kernel
theorem dX5_seat_3 : decode cX5_seat 3 = .ok (.istore_n 3, 1) := by decide +kernel
theorem dX5_seat_4 : decode cX5_seat 4 = .ok (.iload_n 3, 1) := by decide +kernel
theorem dX5_seat_5 : decode cX5_seat 5 = .ok (.aload_n 0, 1) := by decide +kernel
theorem dX5_seat_6 : decode cX5_seat 6 = .ok (.getfield 142, 3) := by decide +kernel
theorem dX5_seat_9 : decode cX5_seat 9 = .ok (.if_icmp .ge 25, 3) := by decide +kernel
theorem dX5_seat_12 : decode cX5_seat 12 = .ok (.aload_n 0, 1) := by decide +kernel
theorem dX5_seat_13 : decode cX5_seat 13 = .ok (.getfield 16, 3) := by decide +kernel
theorem dX5_seat_16 : decode cX5_seat 16 = .ok (.iload_n 3, 1) := by decide +kernel
theorem dX5_seat_17 : decode cX5_seat 17 = .ok (.iaload, 1) := by decide +kernel
theorem dX5_seat_18 : decode cX5_seat 18 = .ok (.iload_n 1, 1) := by decide +kernel
theorem dX5_seat_19 : decode cX5_seat 19 = .ok (.if_icmp .ne 7, 3) := by decide +kernel
theorem dX5_seat_22 : decode cX5_seat 22 = .ok (.iload_n 3, 1) := by decide +kernel
theorem dX5_seat_23 : decode cX5_seat 23 = .ok (.goto 4, 3) := by decide +kernel
theorem dX5_seat_26 : decode cX5_seat 26 = .ok (.iload_n 2, 1) := by decide +kernel
theorem dX5_seat_27 : decode cX5_seat 27 = .ok (.istore_n 2, 1) := by decide +kernel
theorem dX5_seat_28 : decode cX5_seat 28 = .ok (.iinc 3 1, 3) := by decide +kernel
theorem dX5_seat_31 : decode cX5_seat 31 = .ok (.goto (-27), 3) := by decide +kernel
theorem dX5_seat_34 : decode cX5_seat 34 = .ok (.iload_n 2, 1) := by decide +kernel
theorem dX5_seat_35 : decode cX5_seat 35 = .ok (.ireturn, 1) := by decide +kernel
theorem dX5_behind_0 : decode cX5_behind 0 = .ok (.iload_n 1, 1) := by decide +kernel
theorem dX5_behind_1 : decode cX5_behind 1 = .ok (.iconst 1, 1) := by decide +kernel
theorem dX5_behind_2 : decode cX5_behind 2 = .ok (.iadd, 1) := by decide +kernel
theorem dX5_behind_3 : decode cX5_behind 3 = .ok (.istore_n 2, 1) := by decide +kernel
theorem dX5_behind_4 : decode cX5_behind 4 = .ok (.iload_n 2, 1) := by decide +kernel
theorem dX5_behind_5 : decode cX5_behind 5 = .ok (.aload_n 0, 1) := by decide +kernel
theorem dX5_behind_6 : decode cX5_behind 6 = .ok (.getfield 142, 3) := by decide +kernel
theorem dX5_behind_9 : decode cX5_behind 9 = .ok (.if_icmp .ge 34, 3) := by decide +kernel
theorem dX5_behind_12 : decode cX5_behind 12 = .ok (.aload_n 0, 1) := by decide +kernel
theorem dX5_behind_13 : decode cX5_behind 13 = .ok (.getfield 25, 3) := by decide +kernel
theorem dX5_behind_16 : decode cX5_behind 16 = .ok (.aload_n 0, 1) := by decide +kernel
theorem dX5_behind_17 : decode cX5_behind 17 = .ok (.getfield 16, 3) := by decide +kernel
theorem dX5_behind_20 : decode cX5_behind 20 = .ok (.iload_n 2, 1) := by decide +kernel
theorem dX5_behind_21 : decode cX5_behind 21 = .ok (.iaload, 1) := by decide +kernel
theorem dX5_behind_22 : decode cX5_behind 22 = .ok (.iaload, 1) := by decide +kernel
theorem dX5_behind_23 : decode cX5_behind 23 = .ok (.aload_n 0, 1) := by decide +kernel
theorem dX5_behind_24 : decode cX5_behind 24 = .ok (.getfield 25, 3) := by decide +kernel
theorem dX5_behind_27 : decode cX5_behind 27 = .ok (.aload_n 0, 1) := by decide +kernel
theorem dX5_behind_28 : decode cX5_behind 28 = .ok (.getfield 16, 3) := by decide +kernel
theorem dX5_behind_31 : decode cX5_behind 31 = .ok (.iload_n 1, 1) := by decide +kernel
theorem dX5_behind_32 : decode cX5_behind 32 = .ok (.iaload, 1) := by decide +kernel
theorem dX5_behind_33 : decode cX5_behind 33 = .ok (.iaload, 1) := by decide +kernel
theorem dX5_behind_34 : decode cX5_behind 34 = .ok (.if_icmp .le 9, 3) := by decide +kernel
theorem dX5_behind_37 : decode cX5_behind 37 = .ok (.iinc 2 1, 3) := by decide +kernel
theorem dX5_behind_40 : decode cX5_behind 40 = .ok (.goto (-36), 3) := by decide +kernel
theorem dX5_behind_43 : decode cX5_behind 43 = .ok (.iload_n 2, 1) := by decide +kernel
theorem dX5_behind_44 : decode cX5_behind 44 = .ok (.ireturn, 1) := by decide +kernel
theorem dX5_create_0 : decode cX5_create 0 = .ok (.aload_n 0, 1) := by decide +kernel
theorem dX5_create_1 : decode cX5_create 1 = .ok (.getfield 145, 3) := by decide +kernel
theorem dX5_create_4 : decode cX5_create 4 = .ok (.bipush 24, 2) := by decide +kernel
theorem dX5_create_6 : decode cX5_create 6 = .ok (.if_icmp .ne 10, 3) := by decide +kernel
theorem dX5_create_9 : decode cX5_create 9 = .ok (.aload_n 0, 1) := by decide +kernel
theorem dX5_create_10 : decode cX5_create 10 = .ok (.iconst 1, 1) := by decide +kernel
theorem dX5_create_11 : decode cX5_create 11 = .ok (.putfield 129, 3) := by decide +kernel
theorem dX5_create_14 : decode cX5_create 14 = .ok (.iconst 0, 1) := by decide +kernel
theorem dX5_create_15 : decode cX5_create 15 = .ok (.ireturn, 1) := by decide +kernel
theorem dX5_create_16 : decode cX5_create 16 = .ok (.aload_n 0, 1) := by decide +kernel
theorem dX5_create_17 : decode cX5_create 17 = .ok (.getfield 142, 3) := by decide +kernel
theorem dX5_create_20 : decode cX5_create 20 = .ok (.istore_n 3, 1) := by decide +kernel
theorem dX5_create_21 : decode cX5_create 21 = .ok (.iload_n 3, 1) := by decide +kernel
theorem dX5_create_22 : decode cX5_create 22 = .ok (.aload_n 0, 1) := by decide +kernel
theorem dX5_create_23 : decode cX5_create 23 = .ok (.getfield 208, 3) := by decide +kernel
theorem dX5_create_26 : decode cX5_create 26 = .ok (.if_icmp .le 23, 3) := by decide +kernel
theorem dX5_create_29 : decode cX5_create 29 = .ok (.aload_n 0, 1) := by decide +kernel
theorem dX5_create_30 : decode cX5_create 30 = .ok (.getfield 16, 3) := by decide +kernel
theorem dX5_create_33 : decode cX5_create 33 = .ok (.iload_n 3, 1) := by decide +kernel
theorem dX5_create_34 : decode cX5_create 34 = .ok (.aload_n 0, 1) := by decide +kernel
theorem dX5_create_35 : decode cX5_create 35 = .ok (.getfield 16, 3) := by decide +kernel
theorem dX5_create_38 : decode cX5_create 38 = .ok (.iload_n 3, 1) := by decide +kernel
theorem dX5_create_39 : decode cX5_create 39 = .ok (.iconst 1, 1) := by decide +kernel
theorem dX5_create_40 : decode cX5_create 40 = .ok (.isub, 1) := by decide +kernel
theorem dX5_create_41 : decode cX5_create 41 = .ok (.iaload, 1) := by decide +kernel
theorem dX5_create_42 : decode cX5_create 42 = .ok (.iastore, 1) := by decide +kernel
theorem dX5_create_43 : decode cX5_create 43 = .ok (.iinc 3 (-1), 3) := by decide +kernel
theorem dX5_create_46 : decode cX5_create 46 = .ok (.goto (-25), 3) := by decide +kernel
theorem dX5_create_49 : decode cX5_create 49 = .ok (.aload_n 0, 1) := by decide +kernel
theorem dX5_create_50 : decode cX5_create 50 = .ok (.getfield 16, 3) := by decide +kernel
theorem dX5_create_53 : decode cX5_create 53 = .ok (.aload_n 0, 1) := by decide +kernel
theorem dX5_create_54 : decode cX5_create 54 = .ok (.getfield 208, 3) := by decide +kernel
theorem dX5_create_57 : decode cX5_create 57 = .ok (.aload_n 0, 1) := by decide +kernel
theorem dX5_create_58 : decode cX5_create 58 = .ok (.getfield 145, 3) := by decide +kernel
theorem dX5_create_61 : decode cX5_create 61 = .ok (.iastore, 1) := by decide +kernel
theorem dX5_create_62 : decode cX5_create 62 = .ok (.aload_n 0, 1) := by decide +kernel
theorem dX5_create_63 : decode cX5_create 63 = .ok (.dup, 1) := by decide +kernel
theorem dX5_create_64 : decode cX5_create 64 = .ok (.getfield 142, 3) := by decide +kernel
theorem dX5_create_67 : decode cX5_create 67 = .ok (.iconst 1, 1) := by decide +kernel
theorem dX5_create_68 : decode cX5_create 68 = .ok (.iadd, 1) := by decide +kernel
theorem dX5_create_69 : decode cX5_create 69 = .ok (.putfield 142, 3) := by decide +kernel
theorem dX5_create_72 : decode cX5_create 72 = .ok (.aload_n 0, 1) := by decide +kernel
theorem dX5_create_73 : decode cX5_create 73 = .ok (.getfield 19, 3) := by decide +kernel
theorem dX5_create_76 : decode cX5_create 76 = .ok (.aload_n 0, 1) := by decide +kernel
theorem dX5_create_77 : decode cX5_create 77 = .ok (.getfield 145, 3) := by decide +kernel
theorem dX5_create_80 : decode cX5_create 80 = .ok (.iload_n 1, 1) := by decide +kernel
theorem dX5_create_81 : decode cX5_create 81 = .ok (.iastore, 1) := by decide +kernel
theorem dX5_create_82 : decode cX5_create 82 = .ok (.aload_n 0, 1) := by decide +kernel
theorem dX5_create_83 : decode cX5_create 83 = .ok (.getfield 22, 3) := by decide +kernel
theorem dX5_create_86 : decode cX5_create 86 = .ok (.aload_n 0, 1) := by decide +kernel
theorem dX5_create_87 : decode cX5_create 87 = .ok (.getfield 145, 3) := by decide +kernel
theorem dX5_create_90 : decode cX5_create 90 = .ok (.iload_n 2, 1) := by decide +kernel
theorem dX5_create_91 : decode cX5_create 91 = .ok (.iastore, 1) := by decide +kernel
theorem dX5_create_92 : decode cX5_create 92 = .ok (.aload_n 0, 1) := by decide +kernel
theorem dX5_create_93 : decode cX5_create 93 = .ok (.getfield 25, 3) := by decide +kernel
theorem dX5_create_96 : decode cX5_create 96 = .ok (.aload_n 0, 1) := by decide +kernel
theorem dX5_create_97 : decode cX5_create 97 = .ok (.getfield 145, 3) := by decide +kernel
theorem dX5_create_100 : decode cX5_create 100 = .ok (.aload_n 0, 1) := by decide +kernel
theorem dX5_create_101 : decode cX5_create 101 = .ok (.getfield 211, 3) := by decide +kernel
theorem dX5_create_104 : decode cX5_create 104 = .ok (.iastore, 1) := by decide +kernel
theorem dX5_create_105 : decode cX5_create 105 = .ok (.aload_n 0, 1) := by decide +kernel
theorem dX5_create_106 : decode cX5_create 106 = .ok (.dup, 1) := by decide +kernel
theorem dX5_create_107 : decode cX5_create 107 = .ok (.getfield 145, 3) := by decide +kernel
theorem dX5_create_110 : decode cX5_create 110 = .ok (.iconst 1, 1) := by decide +kernel
theorem dX5_create_111 : decode cX5_create 111 = .ok (.iadd, 1) := by decide +kernel
theorem dX5_create_112 : decode cX5_create 112 = .ok (.putfield 145, 3) := by decide +kernel
theorem dX5_create_115 : decode cX5_create 115 = .ok (.aload_n 0, 1) := by decide +kernel
theorem dX5_create_116 : decode cX5_create 116 = .ok (.getfield 145, 3) := by decide +kernel
theorem dX5_create_119 : decode cX5_create 119 = .ok (.iconst 1, 1) := by decide +kernel
theorem dX5_create_120 : decode cX5_create 120 = .ok (.isub, 1) := by decide +kernel
theorem dX5_create_121 : decode cX5_create 121 = .ok (.ireturn, 1) := by decide +kernel
theorem dX5_push_0 : decode cX5_push 0 = .ok (.aload_n 0, 1) := by decide +kernel
theorem dX5_push_1 : decode cX5_push 1 = .ok (.getfield 129, 3) := by decide +kernel
theorem dX5_push_4 : decode cX5_push 4 = .ok (.ifCond .eq 4, 3) := by decide +kernel
theorem dX5_push_7 : decode cX5_push 7 = .ok (.return_, 1) := by decide +kernel
theorem dX5_push_8 : decode cX5_push 8 = .ok (.aload_n 0, 1) := by decide +kernel
theorem dX5_push_9 : decode cX5_push 9 = .ok (.getfield 31, 3) := by decide +kernel
theorem dX5_push_12 : decode cX5_push 12 = .ok (.aload_n 0, 1) := by decide +kernel
theorem dX5_push_13 : decode cX5_push 13 = .ok (.getfield 148, 3) := by decide +kernel
theorem dX5_push_16 : decode cX5_push 16 = .ok (.iload_n 1, 1) := by decide +kernel
theorem dX5_push_17 : decode cX5_push 17 = .ok (.iastore, 1) := by decide +kernel
theorem dX5_push_18 : decode cX5_push 18 = .ok (.aload_n 0, 1) := by decide +kernel
theorem dX5_push_19 : decode cX5_push 19 = .ok (.dup, 1) := by decide +kernel
theorem dX5_push_20 : decode cX5_push 20 = .ok (.getfield 148, 3) := by decide +kernel
theorem dX5_push_23 : decode cX5_push 23 = .ok (.iconst 1, 1) := by decide +kernel
theorem dX5_push_24 : decode cX5_push 24 = .ok (.iadd, 1) := by decide +kernel
theorem dX5_push_25 : decode cX5_push 25 = .ok (.putfield 148, 3) := by decide +kernel
theorem dX5_push_28 : decode cX5_push 28 = .ok (.return_, 1) := by decide +kernel
theorem dX5_renew_0 : decode cX5_renew 0 = .ok (.aload_n 0, 1) := by decide +kernel
theorem dX5_renew_1 : decode cX5_renew 1 = .ok (.invokevirtual 219, 3) := by decide +kernel
theorem dX5_renew_4 : decode cX5_renew 4 = .ok (.istore_n 1, 1) := by decide +kernel
theorem dX5_renew_5 : decode cX5_renew 5 = .ok (.iconst 0, 1) := by decide +kernel
theorem dX5_renew_6 : decode cX5_renew 6 = .ok (.istore_n 2, 1) := by decide +kernel
theorem dX5_renew_7 : decode cX5_renew 7 = .ok (.iconst 0, 1) := by decide +kernel
theorem dX5_renew_8 : decode cX5_renew 8 = .ok (.istore_n 3, 1) := by decide +kernel
theorem dX5_renew_9 : decode cX5_renew 9 = .ok (.iload_n 3, 1) := by decide +kernel
theorem dX5_renew_10 : decode cX5_renew 10 = .ok (.aload_n 0, 1) := by decide +kernel
theorem dX5_renew_11 : decode cX5_renew 11 = .ok (.getfield 151, 3) := by decide +kernel
theorem dX5_renew_14 : decode cX5_renew 14 = .ok (.if_icmp .ge 36, 3) := by decide +kernel
theorem dX5_renew_17 : decode cX5_renew 17 = .ok (.aload_n 0, 1) := by decide +kernel
theorem dX5_renew_18 : decode cX5_renew 18 = .ok (.getfield 37, 3) := by decide +kernel
theorem dX5_renew_21 : decode cX5_renew 21 = .ok (.iload_n 3, 1) := by decide +kernel
theorem dX5_renew_22 : decode cX5_renew 22 = .ok (.iaload, 1) := by decide +kernel
theorem dX5_renew_23 : decode cX5_renew 23 = .ok (.iload_n 1, 1) := by decide +kernel
theorem dX5_renew_24 : decode cX5_renew 24 = .ok (.if_icmp .ne 20, 3) := by decide +kernel
theorem dX5_renew_27 : decode cX5_renew 27 = .ok (.aload_n 0, 1) := by decide +kernel
theorem dX5_renew_28 : decode cX5_renew 28 = .ok (.aload_n 0, 1) := by decide +kernel
theorem dX5_renew_29 : decode cX5_renew 29 = .ok (.getfield 34, 3) := by decide +kernel
theorem dX5_renew_32 : decode cX5_renew 32 = .ok (.iload_n 3, 1) := by decide +kernel
theorem dX5_renew_33 : decode cX5_renew 33 = .ok (.iaload, 1) := by decide +kernel
theorem dX5_renew_34 : decode cX5_renew 34 = .ok (.invokevirtual 223, 3) := by decide +kernel
theorem dX5_renew_37 : decode cX5_renew 37 = .ok (.ifCond .lt 7, 3) := by decide +kernel
theorem dX5_renew_40 : decode cX5_renew 40 = .ok (.iload_n 3, 1) := by decide +kernel
theorem dX5_renew_41 : decode cX5_renew 41 = .ok (.iconst 1, 1) := by decide +kernel
theorem dX5_renew_42 : decode cX5_renew 42 = .ok (.iadd, 1) := by decide +kernel
theorem dX5_renew_43 : decode cX5_renew 43 = .ok (.istore_n 2, 1) := by decide +kernel
theorem dX5_renew_44 : decode cX5_renew 44 = .ok (.iinc 3 1, 3) := by decide +kernel
theorem dX5_renew_47 : decode cX5_renew 47 = .ok (.goto (-38), 3) := by decide +kernel
theorem dX5_renew_50 : decode cX5_renew 50 = .ok (.iload_n 2, 1) := by decide +kernel
theorem dX5_renew_51 : decode cX5_renew 51 = .ok (.istore_n 3, 1) := by decide +kernel
theorem dX5_renew_52 : decode cX5_renew 52 = .ok (.iload_n 3, 1) := by decide +kernel
theorem dX5_renew_53 : decode cX5_renew 53 = .ok (.aload_n 0, 1) := by decide +kernel
theorem dX5_renew_54 : decode cX5_renew 54 = .ok (.getfield 151, 3) := by decide +kernel
theorem dX5_renew_57 : decode cX5_renew 57 = .ok (.if_icmp .ge 76, 3) := by decide +kernel
theorem dX5_renew_60 : decode cX5_renew 60 = .ok (.aload_n 0, 1) := by decide +kernel
theorem dX5_renew_61 : decode cX5_renew 61 = .ok (.getfield 129, 3) := by decide +kernel
theorem dX5_renew_64 : decode cX5_renew 64 = .ok (.ifCond .ne 69, 3) := by decide +kernel
theorem dX5_renew_67 : decode cX5_renew 67 = .ok (.aload_n 0, 1) := by decide +kernel
theorem dX5_renew_68 : decode cX5_renew 68 = .ok (.getfield 37, 3) := by decide +kernel
theorem dX5_renew_71 : decode cX5_renew 71 = .ok (.iload_n 3, 1) := by decide +kernel
theorem dX5_renew_72 : decode cX5_renew 72 = .ok (.iaload, 1) := by decide +kernel
theorem dX5_renew_73 : decode cX5_renew 73 = .ok (.iload_n 1, 1) := by decide +kernel
theorem dX5_renew_74 : decode cX5_renew 74 = .ok (.if_icmp .ne 53, 3) := by decide +kernel
theorem dX5_renew_77 : decode cX5_renew 77 = .ok (.aload_n 0, 1) := by decide +kernel
theorem dX5_renew_78 : decode cX5_renew 78 = .ok (.aload_n 0, 1) := by decide +kernel
theorem dX5_renew_79 : decode cX5_renew 79 = .ok (.getfield 148, 3) := by decide +kernel
theorem dX5_renew_82 : decode cX5_renew 82 = .ok (.invokevirtual 226, 3) := by decide +kernel
theorem dX5_renew_85 : decode cX5_renew 85 = .ok (.aload_n 0, 1) := by decide +kernel
theorem dX5_renew_86 : decode cX5_renew 86 = .ok (.aload_n 0, 1) := by decide +kernel
theorem dX5_renew_87 : decode cX5_renew 87 = .ok (.getfield 19, 3) := by decide +kernel
theorem dX5_renew_90 : decode cX5_renew 90 = .ok (.aload_n 0, 1) := by decide +kernel
theorem dX5_renew_91 : decode cX5_renew 91 = .ok (.getfield 34, 3) := by decide +kernel
theorem dX5_renew_94 : decode cX5_renew 94 = .ok (.iload_n 3, 1) := by decide +kernel
theorem dX5_renew_95 : decode cX5_renew 95 = .ok (.iaload, 1) := by decide +kernel
theorem dX5_renew_96 : decode cX5_renew 96 = .ok (.iaload, 1) := by decide +kernel
theorem dX5_renew_97 : decode cX5_renew 97 = .ok (.aload_n 0, 1) := by decide +kernel
theorem dX5_renew_98 : decode cX5_renew 98 = .ok (.getfield 22, 3) := by decide +kernel
theorem dX5_renew_101 : decode cX5_renew 101 = .ok (.aload_n 0, 1) := by decide +kernel
theorem dX5_renew_102 : decode cX5_renew 102 = .ok (.getfield 34, 3) := by decide +kernel
theorem dX5_renew_105 : decode cX5_renew 105 = .ok (.iload_n 3, 1) := by decide +kernel
theorem dX5_renew_106 : decode cX5_renew 106 = .ok (.iaload, 1) := by decide +kernel
theorem dX5_renew_107 : decode cX5_renew 107 = .ok (.iaload, 1) := by decide +kernel
theorem dX5_renew_108 : decode cX5_renew 108 = .ok (.invokevirtual 229, 3) := by decide +kernel
theorem dX5_renew_111 : decode cX5_renew 111 = .ok (.istore 4, 2) := by decide +kernel
theorem dX5_renew_113 : decode cX5_renew 113 = .ok (.aload_n 0, 1) := by decide +kernel
theorem dX5_renew_114 : decode cX5_renew 114 = .ok (.iload 4, 2) := by decide +kernel
theorem dX5_renew_116 : decode cX5_renew 116 = .ok (.invokevirtual 232, 3) := by decide +kernel
theorem dX5_renew_119 : decode cX5_renew 119 = .ok (.aload_n 0, 1) := by decide +kernel
theorem dX5_renew_120 : decode cX5_renew 120 = .ok (.getfield 34, 3) := by decide +kernel
theorem dX5_renew_123 : decode cX5_renew 123 = .ok (.iload_n 3, 1) := by decide +kernel
theorem dX5_renew_124 : decode cX5_renew 124 = .ok (.iload 4, 2) := by decide +kernel
theorem dX5_renew_126 : decode cX5_renew 126 = .ok (.iastore, 1) := by decide +kernel
theorem dX5_renew_127 : decode cX5_renew 127 = .ok (.iinc 3 1, 3) := by decide +kernel
theorem dX5_renew_130 : decode cX5_renew 130 = .ok (.goto (-78), 3) := by decide +kernel
theorem dX5_renew_133 : decode cX5_renew 133 = .ok (.return_, 1) := by decide +kernel
theorem dX5_listOwner_0 : decode cX5_listOwner 0 = .ok (.aload_n 0, 1) := by decide +kernel
theorem dX5_listOwner_1 : decode cX5_listOwner 1 = .ok (.bipush 99, 2) := by decide +kernel
theorem dX5_listOwner_3 : decode cX5_listOwner 3 = .ok (.invokevirtual 196, 3) := by decide +kernel
theorem dX5_listOwner_6 : decode cX5_listOwner 6 = .ok (.istore_n 1, 1) := by decide +kernel
theorem dX5_listOwner_7 : decode cX5_listOwner 7 = .ok (.iload_n 1, 1) := by decide +kernel
theorem dX5_listOwner_8 : decode cX5_listOwner 8 = .ok (.ifCond .ge 7, 3) := by decide +kernel
theorem dX5_listOwner_11 : decode cX5_listOwner 11 = .ok (.iconst 0, 1) := by decide +kernel
theorem dX5_listOwner_12 : decode cX5_listOwner 12 = .ok (.goto 9, 3) := by decide +kernel
theorem dX5_listOwner_15 : decode cX5_listOwner 15 = .ok (.aload_n 0, 1) := by decide +kernel
theorem dX5_listOwner_16 : decode cX5_listOwner 16 = .ok (.getfield 31, 3) := by decide +kernel
theorem dX5_listOwner_19 : decode cX5_listOwner 19 = .ok (.iload_n 1, 1) := by decide +kernel
theorem dX5_listOwner_20 : decode cX5_listOwner 20 = .ok (.iaload, 1) := by decide +kernel
theorem dX5_listOwner_21 : decode cX5_listOwner 21 = .ok (.ireturn, 1) := by decide +kernel
theorem dX5_opened_0 : decode cX5_opened 0 = .ok (.iconst (-1), 1) := by decide +kernel
theorem dX5_opened_1 : decode cX5_opened 1 = .ok (.istore_n 2, 1) := by decide +kernel
theorem dX5_opened_2 : decode cX5_opened 2 = .ok (.iconst 0, 1) := by decide +kernel
theorem dX5_opened_3 : decode cX5_opened 3 = .ok (.istore_n 3, 1) := by decide +kernel
theorem dX5_opened_4 : decode cX5_opened 4 = .ok (.iload_n 3, 1) := by decide +kernel
theorem dX5_opened_5 : decode cX5_opened 5 = .ok (.aload_n 0, 1) := by decide +kernel
theorem dX5_opened_6 : decode cX5_opened 6 = .ok (.getfield 148, 3) := by decide +kernel
theorem dX5_opened_9 : decode cX5_opened 9 = .ok (.if_icmp .ge 25, 3) := by decide +kernel
theorem dX5_opened_12 : decode cX5_opened 12 = .ok (.aload_n 0, 1) := by decide +kernel
theorem dX5_opened_13 : decode cX5_opened 13 = .ok (.getfield 31, 3) := by decide +kernel
theorem dX5_opened_16 : decode cX5_opened 16 = .ok (.iload_n 3, 1) := by decide +kernel
theorem dX5_opened_17 : decode cX5_opened 17 = .ok (.iaload, 1) := by decide +kernel
theorem dX5_opened_18 : decode cX5_opened 18 = .ok (.iload_n 1, 1) := by decide +kernel
theorem dX5_opened_19 : decode cX5_opened 19 = .ok (.if_icmp .ne 7, 3) := by decide +kernel
theorem dX5_opened_22 : decode cX5_opened 22 = .ok (.iload_n 3, 1) := by decide +kernel
theorem dX5_opened_23 : decode cX5_opened 23 = .ok (.goto 4, 3) := by decide +kernel
theorem dX5_opened_26 : decode cX5_opened 26 = .ok (.iload_n 2, 1) := by decide +kernel
theorem dX5_opened_27 : decode cX5_opened 27 = .ok (.istore_n 2, 1) := by decide +kernel
theorem dX5_opened_28 : decode cX5_opened 28 = .ok (.iinc 3 1, 3) := by decide +kernel
theorem dX5_opened_31 : decode cX5_opened 31 = .ok (.goto (-27), 3) := by decide +kernel
theorem dX5_opened_34 : decode cX5_opened 34 = .ok (.iload_n 2, 1) := by decide +kernel
theorem dX5_opened_35 : decode cX5_opened 35 = .ok (.ireturn, 1) := by decide +kernel
theorem dX5_findPlace_0 : decode cX5_findPlace 0 = .ok (.aload_n 0, 1) := by decide +kernel
theorem dX5_findPlace_1 : decode cX5_findPlace 1 = .ok (.getfield 31, 3) := by decide +kernel
theorem dX5_findPlace_4 : decode cX5_findPlace 4 = .ok (.iload_n 1, 1) := by decide +kernel
theorem dX5_findPlace_5 : decode cX5_findPlace 5 = .ok (.iconst 1, 1) := by decide +kernel
theorem dX5_findPlace_6 : decode cX5_findPlace 6 = .ok (.isub, 1) := by decide +kernel
theorem dX5_findPlace_7 : decode cX5_findPlace 7 = .ok (.iaload, 1) := by decide +kernel
theorem dX5_findPlace_8 : decode cX5_findPlace 8 = .ok (.istore_n 2, 1) := by decide +kernel
theorem dX5_findPlace_9 : decode cX5_findPlace 9 = .ok (.iconst (-1), 1) := by decide +kernel
theorem dX5_findPlace_10 : decode cX5_findPlace 10 = .ok (.istore_n 3, 1) := by decide +kernel
theorem dX5_findPlace_11 : decode cX5_findPlace 11 = .ok (.iconst 1, 1) := by decide +kernel
theorem dX5_findPlace_12 : decode cX5_findPlace 12 = .ok (.istore 4, 2) := by decide +kernel
theorem dX5_findPlace_14 : decode cX5_findPlace 14 = .ok (.iload 4, 2) := by decide +kernel
theorem dX5_findPlace_16 : decode cX5_findPlace 16 = .ok (.iload_n 1, 1) := by decide +kernel
theorem dX5_findPlace_17 : decode cX5_findPlace 17 = .ok (.if_icmp .ge 37, 3) := by decide +kernel
theorem dX5_findPlace_20 : decode cX5_findPlace 20 = .ok (.aload_n 0, 1) := by decide +kernel
theorem dX5_findPlace_21 : decode cX5_findPlace 21 = .ok (.aload_n 0, 1) := by decide +kernel
theorem dX5_findPlace_22 : decode cX5_findPlace 22 = .ok (.getfield 31, 3) := by decide +kernel
theorem dX5_findPlace_25 : decode cX5_findPlace 25 = .ok (.iload 4, 2) := by decide +kernel
theorem dX5_findPlace_27 : decode cX5_findPlace 27 = .ok (.iaload, 1) := by decide +kernel
theorem dX5_findPlace_28 : decode cX5_findPlace 28 = .ok (.ldc 214, 2) := by decide +kernel
theorem dX5_findPlace_30 : decode cX5_findPlace 30 = .ok (.invokevirtual 192, 3) := by decide +kernel
theorem dX5_findPlace_33 : decode cX5_findPlace 33 = .ok (.ifCond .eq 13, 3) := by decide +kernel
theorem dX5_findPlace_36 : decode cX5_findPlace 36 = .ok (.aload_n 0, 1) := by decide +kernel
theorem dX5_findPlace_37 : decode cX5_findPlace 37 = .ok (.getfield 31, 3) := by decide +kernel
theorem dX5_findPlace_40 : decode cX5_findPlace 40 = .ok (.iload 4, 2) := by decide +kernel
theorem dX5_findPlace_42 : decode cX5_findPlace 42 = .ok (.iaload, 1) := by decide +kernel
theorem dX5_findPlace_43 : decode cX5_findPlace 43 = .ok (.goto 4, 3) := by decide +kernel
theorem dX5_findPlace_46 : decode cX5_findPlace 46 = .ok (.iload_n 3, 1) := by decide +kernel
theorem dX5_findPlace_47 : decode cX5_findPlace 47 = .ok (.istore_n 3, 1) := by decide +kernel
theorem dX5_findPlace_48 : decode cX5_findPlace 48 = .ok (.iinc 4 1, 3) := by decide +kernel
theorem dX5_findPlace_51 : decode cX5_findPlace 51 = .ok (.goto (-37), 3) := by decide +kernel
theorem dX5_findPlace_54 : decode cX5_findPlace 54 = .ok (.aload_n 0, 1) := by decide +kernel
theorem dX5_findPlace_55 : decode cX5_findPlace 55 = .ok (.iload_n 2, 1) := by decide +kernel
theorem dX5_findPlace_56 : decode cX5_findPlace 56 = .ok (.ldc 215, 2) := by decide +kernel
theorem dX5_findPlace_58 : decode cX5_findPlace 58 = .ok (.invokevirtual 192, 3) := by decide +kernel
theorem dX5_findPlace_61 : decode cX5_findPlace 61 = .ok (.ifCond .eq 29, 3) := by decide +kernel
theorem dX5_findPlace_64 : decode cX5_findPlace 64 = .ok (.iload_n 3, 1) := by decide +kernel
theorem dX5_findPlace_65 : decode cX5_findPlace 65 = .ok (.ifCond .lt 25, 3) := by decide +kernel
theorem dX5_findPlace_68 : decode cX5_findPlace 68 = .ok (.aload_n 0, 1) := by decide +kernel
theorem dX5_findPlace_69 : decode cX5_findPlace 69 = .ok (.aload_n 0, 1) := by decide +kernel
theorem dX5_findPlace_70 : decode cX5_findPlace 70 = .ok (.iload_n 3, 1) := by decide +kernel
theorem dX5_findPlace_71 : decode cX5_findPlace 71 = .ok (.invokevirtual 202, 3) := by decide +kernel
theorem dX5_findPlace_74 : decode cX5_findPlace 74 = .ok (.putfield 208, 3) := by decide +kernel
theorem dX5_findPlace_77 : decode cX5_findPlace 77 = .ok (.aload_n 0, 1) := by decide +kernel
theorem dX5_findPlace_78 : decode cX5_findPlace 78 = .ok (.aload_n 0, 1) := by decide +kernel
theorem dX5_findPlace_79 : decode cX5_findPlace 79 = .ok (.getfield 25, 3) := by decide +kernel
theorem dX5_findPlace_82 : decode cX5_findPlace 82 = .ok (.iload_n 3, 1) := by decide +kernel
theorem dX5_findPlace_83 : decode cX5_findPlace 83 = .ok (.iaload, 1) := by decide +kernel
theorem dX5_findPlace_84 : decode cX5_findPlace 84 = .ok (.putfield 211, 3) := by decide +kernel
theorem dX5_findPlace_87 : decode cX5_findPlace 87 = .ok (.goto 8, 3) := by decide +kernel
theorem dX5_findPlace_90 : decode cX5_findPlace 90 = .ok (.aload_n 0, 1) := by decide +kernel
theorem dX5_findPlace_91 : decode cX5_findPlace 91 = .ok (.iload_n 2, 1) := by decide +kernel
theorem dX5_findPlace_92 : decode cX5_findPlace 92 = .ok (.invokevirtual 216, 3) := by decide +kernel
theorem dX5_findPlace_95 : decode cX5_findPlace 95 = .ok (.return_, 1) := by decide +kernel
theorem dX5_list_0 : decode cX5_list 0 = .ok (.iconst (-1), 1) := by decide +kernel
theorem dX5_list_1 : decode cX5_list 1 = .ok (.istore_n 3, 1) := by decide +kernel
theorem dX5_list_2 : decode cX5_list 2 = .ok (.iconst 0, 1) := by decide +kernel
theorem dX5_list_3 : decode cX5_list 3 = .ok (.istore 4, 2) := by decide +kernel
theorem dX5_list_5 : decode cX5_list 5 = .ok (.aload_n 0, 1) := by decide +kernel
theorem dX5_list_6 : decode cX5_list 6 = .ok (.getfield 151, 3) := by decide +kernel
theorem dX5_list_9 : decode cX5_list 9 = .ok (.iconst 1, 1) := by decide +kernel
theorem dX5_list_10 : decode cX5_list 10 = .ok (.isub, 1) := by decide +kernel
theorem dX5_list_11 : decode cX5_list 11 = .ok (.istore 5, 2) := by decide +kernel
theorem dX5_list_13 : decode cX5_list 13 = .ok (.iload 5, 2) := by decide +kernel
theorem dX5_list_15 : decode cX5_list 15 = .ok (.ifCond .lt 48, 3) := by decide +kernel
theorem dX5_list_18 : decode cX5_list 18 = .ok (.aload_n 0, 1) := by decide +kernel
theorem dX5_list_19 : decode cX5_list 19 = .ok (.getfield 37, 3) := by decide +kernel
theorem dX5_list_22 : decode cX5_list 22 = .ok (.iload 5, 2) := by decide +kernel
theorem dX5_list_24 : decode cX5_list 24 = .ok (.iaload, 1) := by decide +kernel
theorem dX5_list_25 : decode cX5_list 25 = .ok (.iload_n 2, 1) := by decide +kernel
theorem dX5_list_26 : decode cX5_list 26 = .ok (.if_icmp .ne 8, 3) := by decide +kernel
theorem dX5_list_29 : decode cX5_list 29 = .ok (.iload 5, 2) := by decide +kernel
theorem dX5_list_31 : decode cX5_list 31 = .ok (.goto 4, 3) := by decide +kernel
theorem dX5_list_34 : decode cX5_list 34 = .ok (.iload_n 3, 1) := by decide +kernel
theorem dX5_list_35 : decode cX5_list 35 = .ok (.istore_n 3, 1) := by decide +kernel
theorem dX5_list_36 : decode cX5_list 36 = .ok (.iload 4, 2) := by decide +kernel
theorem dX5_list_38 : decode cX5_list 38 = .ok (.aload_n 0, 1) := by decide +kernel
theorem dX5_list_39 : decode cX5_list 39 = .ok (.getfield 37, 3) := by decide +kernel
theorem dX5_list_42 : decode cX5_list 42 = .ok (.iload 5, 2) := by decide +kernel
theorem dX5_list_44 : decode cX5_list 44 = .ok (.iaload, 1) := by decide +kernel
theorem dX5_list_45 : decode cX5_list 45 = .ok (.iload_n 2, 1) := by decide +kernel
theorem dX5_list_46 : decode cX5_list 46 = .ok (.if_icmp .ne 7, 3) := by decide +kernel
theorem dX5_list_49 : decode cX5_list 49 = .ok (.iconst 1, 1) := by decide +kernel
theorem dX5_list_50 : decode cX5_list 50 = .ok (.goto 4, 3) := by decide +kernel
theorem dX5_list_53 : decode cX5_list 53 = .ok (.iconst 0, 1) := by decide +kernel
theorem dX5_list_54 : decode cX5_list 54 = .ok (.iadd, 1) := by decide +kernel
theorem dX5_list_55 : decode cX5_list 55 = .ok (.istore 4, 2) := by decide +kernel
theorem dX5_list_57 : decode cX5_list 57 = .ok (.iinc 5 (-1), 3) := by decide +kernel
theorem dX5_list_60 : decode cX5_list 60 = .ok (.goto (-47), 3) := by decide +kernel
theorem dX5_list_63 : decode cX5_list 63 = .ok (.iload 4, 2) := by decide +kernel
theorem dX5_list_65 : decode cX5_list 65 = .ok (.iconst 4, 1) := by decide +kernel
theorem dX5_list_66 : decode cX5_list 66 = .ok (.if_icmp .ne 8, 3) := by decide +kernel
theorem dX5_list_69 : decode cX5_list 69 = .ok (.aload_n 0, 1) := by decide +kernel
theorem dX5_list_70 : decode cX5_list 70 = .ok (.iload_n 3, 1) := by decide +kernel
theorem dX5_list_71 : decode cX5_list 71 = .ok (.invokevirtual 243, 3) := by decide +kernel
theorem dX5_list_74 : decode cX5_list 74 = .ok (.aload_n 0, 1) := by decide +kernel
theorem dX5_list_75 : decode cX5_list 75 = .ok (.getfield 34, 3) := by decide +kernel
theorem dX5_list_78 : decode cX5_list 78 = .ok (.aload_n 0, 1) := by decide +kernel
theorem dX5_list_79 : decode cX5_list 79 = .ok (.getfield 151, 3) := by decide +kernel
theorem dX5_list_82 : decode cX5_list 82 = .ok (.iload_n 1, 1) := by decide +kernel
theorem dX5_list_83 : decode cX5_list 83 = .ok (.iastore, 1) := by decide +kernel
theorem dX5_list_84 : decode cX5_list 84 = .ok (.aload_n 0, 1) := by decide +kernel
theorem dX5_list_85 : decode cX5_list 85 = .ok (.getfield 37, 3) := by decide +kernel
theorem dX5_list_88 : decode cX5_list 88 = .ok (.aload_n 0, 1) := by decide +kernel
theorem dX5_list_89 : decode cX5_list 89 = .ok (.getfield 151, 3) := by decide +kernel
theorem dX5_list_92 : decode cX5_list 92 = .ok (.iload_n 2, 1) := by decide +kernel
theorem dX5_list_93 : decode cX5_list 93 = .ok (.iastore, 1) := by decide +kernel
theorem dX5_list_94 : decode cX5_list 94 = .ok (.aload_n 0, 1) := by decide +kernel
theorem dX5_list_95 : decode cX5_list 95 = .ok (.dup, 1) := by decide +kernel
theorem dX5_list_96 : decode cX5_list 96 = .ok (.getfield 151, 3) := by decide +kernel
theorem dX5_list_99 : decode cX5_list 99 = .ok (.iconst 1, 1) := by decide +kernel
theorem dX5_list_100 : decode cX5_list 100 = .ok (.iadd, 1) := by decide +kernel
theorem dX5_list_101 : decode cX5_list 101 = .ok (.putfield 151, 3) := by decide +kernel
theorem dX5_list_104 : decode cX5_list 104 = .ok (.return_, 1) := by decide +kernel
theorem dX5_dropEntry_0 : decode cX5_dropEntry 0 = .ok (.aload_n 0, 1) := by decide +kernel
theorem dX5_dropEntry_1 : decode cX5_dropEntry 1 = .ok (.dup, 1) := by decide +kernel
theorem dX5_dropEntry_2 : decode cX5_dropEntry 2 = .ok (.getfield 151, 3) := by decide +kernel
theorem dX5_dropEntry_5 : decode cX5_dropEntry 5 = .ok (.iconst 1, 1) := by decide +kernel
theorem dX5_dropEntry_6 : decode cX5_dropEntry 6 = .ok (.isub, 1) := by decide +kernel
theorem dX5_dropEntry_7 : decode cX5_dropEntry 7 = .ok (.putfield 151, 3) := by decide +kernel
theorem dX5_dropEntry_10 : decode cX5_dropEntry 10 = .ok (.iload_n 1, 1) := by decide +kernel
theorem dX5_dropEntry_11 : decode cX5_dropEntry 11 = .ok (.istore_n 2, 1) := by decide +kernel
theorem dX5_dropEntry_12 : decode cX5_dropEntry 12 = .ok (.iload_n 2, 1) := by decide +kernel
theorem dX5_dropEntry_13 : decode cX5_dropEntry 13 = .ok (.aload_n 0, 1) := by decide +kernel
theorem dX5_dropEntry_14 : decode cX5_dropEntry 14 = .ok (.getfield 151, 3) := by decide +kernel
theorem dX5_dropEntry_17 : decode cX5_dropEntry 17 = .ok (.if_icmp .ge 37, 3) := by decide +kernel
theorem dX5_dropEntry_20 : decode cX5_dropEntry 20 = .ok (.aload_n 0, 1) := by decide +kernel
theorem dX5_dropEntry_21 : decode cX5_dropEntry 21 = .ok (.getfield 34, 3) := by decide +kernel
theorem dX5_dropEntry_24 : decode cX5_dropEntry 24 = .ok (.iload_n 2, 1) := by decide +kernel
theorem dX5_dropEntry_25 : decode cX5_dropEntry 25 = .ok (.aload_n 0, 1) := by decide +kernel
theorem dX5_dropEntry_26 : decode cX5_dropEntry 26 = .ok (.getfield 34, 3) := by decide +kernel
theorem dX5_dropEntry_29 : decode cX5_dropEntry 29 = .ok (.iload_n 2, 1) := by decide +kernel
theorem dX5_dropEntry_30 : decode cX5_dropEntry 30 = .ok (.iconst 1, 1) := by decide +kernel
theorem dX5_dropEntry_31 : decode cX5_dropEntry 31 = .ok (.iadd, 1) := by decide +kernel
theorem dX5_dropEntry_32 : decode cX5_dropEntry 32 = .ok (.iaload, 1) := by decide +kernel
theorem dX5_dropEntry_33 : decode cX5_dropEntry 33 = .ok (.iastore, 1) := by decide +kernel
theorem dX5_dropEntry_34 : decode cX5_dropEntry 34 = .ok (.aload_n 0, 1) := by decide +kernel
theorem dX5_dropEntry_35 : decode cX5_dropEntry 35 = .ok (.getfield 37, 3) := by decide +kernel
theorem dX5_dropEntry_38 : decode cX5_dropEntry 38 = .ok (.iload_n 2, 1) := by decide +kernel
theorem dX5_dropEntry_39 : decode cX5_dropEntry 39 = .ok (.aload_n 0, 1) := by decide +kernel
theorem dX5_dropEntry_40 : decode cX5_dropEntry 40 = .ok (.getfield 37, 3) := by decide +kernel
theorem dX5_dropEntry_43 : decode cX5_dropEntry 43 = .ok (.iload_n 2, 1) := by decide +kernel
theorem dX5_dropEntry_44 : decode cX5_dropEntry 44 = .ok (.iconst 1, 1) := by decide +kernel
theorem dX5_dropEntry_45 : decode cX5_dropEntry 45 = .ok (.iadd, 1) := by decide +kernel
theorem dX5_dropEntry_46 : decode cX5_dropEntry 46 = .ok (.iaload, 1) := by decide +kernel
theorem dX5_dropEntry_47 : decode cX5_dropEntry 47 = .ok (.iastore, 1) := by decide +kernel
theorem dX5_dropEntry_48 : decode cX5_dropEntry 48 = .ok (.iinc 2 1, 3) := by decide +kernel
theorem dX5_dropEntry_51 : decode cX5_dropEntry 51 = .ok (.goto (-39), 3) := by decide +kernel
theorem dX5_dropEntry_54 : decode cX5_dropEntry 54 = .ok (.return_, 1) := by decide +kernel
theorem dX5_end_0 : decode cX5_end 0 = .ok (.iload_n 1, 1) := by decide +kernel
theorem dX5_end_1 : decode cX5_end 1 = .ok (.bipush 112, 2) := by decide +kernel
theorem dX5_end_3 : decode cX5_end 3 = .ok (.if_icmp .ne 52, 3) := by decide +kernel
theorem dX5_end_6 : decode cX5_end 6 = .ok (.aload_n 0, 1) := by decide +kernel
theorem dX5_end_7 : decode cX5_end 7 = .ok (.bipush 112, 2) := by decide +kernel
theorem dX5_end_9 : decode cX5_end 9 = .ok (.iconst 4, 1) := by decide +kernel
theorem dX5_end_10 : decode cX5_end 10 = .ok (.invokevirtual 236, 3) := by decide +kernel
theorem dX5_end_13 : decode cX5_end 13 = .ok (.ifCond .eq 16, 3) := by decide +kernel
theorem dX5_end_16 : decode cX5_end 16 = .ok (.aload_n 0, 1) := by decide +kernel
theorem dX5_end_17 : decode cX5_end 17 = .ok (.aload_n 0, 1) := by decide +kernel
theorem dX5_end_18 : decode cX5_end 18 = .ok (.bipush 112, 2) := by decide +kernel
theorem dX5_end_20 : decode cX5_end 20 = .ok (.invokevirtual 196, 3) := by decide +kernel
theorem dX5_end_23 : decode cX5_end 23 = .ok (.putfield 148, 3) := by decide +kernel
theorem dX5_end_26 : decode cX5_end 26 = .ok (.goto 207, 3) := by decide +kernel
theorem dX5_end_29 : decode cX5_end 29 = .ok (.aload_n 0, 1) := by decide +kernel
theorem dX5_end_30 : decode cX5_end 30 = .ok (.aload_n 0, 1) := by decide +kernel
theorem dX5_end_31 : decode cX5_end 31 = .ok (.getfield 148, 3) := by decide +kernel
theorem dX5_end_34 : decode cX5_end 34 = .ok (.invokevirtual 226, 3) := by decide +kernel
theorem dX5_end_37 : decode cX5_end 37 = .ok (.aload_n 0, 1) := by decide +kernel
theorem dX5_end_38 : decode cX5_end 38 = .ok (.bipush 112, 2) := by decide +kernel
theorem dX5_end_40 : decode cX5_end 40 = .ok (.iconst 0, 1) := by decide +kernel
theorem dX5_end_41 : decode cX5_end 41 = .ok (.invokevirtual 229, 3) := by decide +kernel
theorem dX5_end_44 : decode cX5_end 44 = .ok (.istore_n 2, 1) := by decide +kernel
theorem dX5_end_45 : decode cX5_end 45 = .ok (.aload_n 0, 1) := by decide +kernel
theorem dX5_end_46 : decode cX5_end 46 = .ok (.getfield 28, 3) := by decide +kernel
theorem dX5_end_49 : decode cX5_end 49 = .ok (.iconst 0, 1) := by decide +kernel
theorem dX5_end_50 : decode cX5_end 50 = .ok (.iload_n 2, 1) := by decide +kernel
theorem dX5_end_51 : decode cX5_end 51 = .ok (.iastore, 1) := by decide +kernel
theorem dX5_end_52 : decode cX5_end 52 = .ok (.goto 181, 3) := by decide +kernel
theorem dX5_end_55 : decode cX5_end 55 = .ok (.iload_n 1, 1) := by decide +kernel
theorem dX5_end_56 : decode cX5_end 56 = .ok (.bipush 100, 2) := by decide +kernel
theorem dX5_end_58 : decode cX5_end 58 = .ok (.if_icmp .eq 9, 3) := by decide +kernel
theorem dX5_end_61 : decode cX5_end 61 = .ok (.iload_n 1, 1) := by decide +kernel
theorem dX5_end_62 : decode cX5_end 62 = .ok (.bipush 117, 2) := by decide +kernel
theorem dX5_end_64 : decode cX5_end 64 = .ok (.if_icmp .ne 24, 3) := by decide +kernel
theorem dX5_end_67 : decode cX5_end 67 = .ok (.aload_n 0, 1) := by decide +kernel
theorem dX5_end_68 : decode cX5_end 68 = .ok (.iload_n 1, 1) := by decide +kernel
theorem dX5_end_69 : decode cX5_end 69 = .ok (.iconst 4, 1) := by decide +kernel
theorem dX5_end_70 : decode cX5_end 70 = .ok (.invokevirtual 236, 3) := by decide +kernel
theorem dX5_end_73 : decode cX5_end 73 = .ok (.ifCond .eq 160, 3) := by decide +kernel
theorem dX5_end_76 : decode cX5_end 76 = .ok (.aload_n 0, 1) := by decide +kernel
theorem dX5_end_77 : decode cX5_end 77 = .ok (.aload_n 0, 1) := by decide +kernel
theorem dX5_end_78 : decode cX5_end 78 = .ok (.iload_n 1, 1) := by decide +kernel
theorem dX5_end_79 : decode cX5_end 79 = .ok (.invokevirtual 196, 3) := by decide +kernel
theorem dX5_end_82 : decode cX5_end 82 = .ok (.putfield 148, 3) := by decide +kernel
theorem dX5_end_85 : decode cX5_end 85 = .ok (.goto 148, 3) := by decide +kernel
theorem dX5_end_88 : decode cX5_end 88 = .ok (.iload_n 1, 1) := by decide +kernel
theorem dX5_end_89 : decode cX5_end 89 = .ok (.bipush 108, 2) := by decide +kernel
theorem dX5_end_91 : decode cX5_end 91 = .ok (.if_icmp .ne 27, 3) := by decide +kernel
theorem dX5_end_94 : decode cX5_end 94 = .ok (.aload_n 0, 1) := by decide +kernel
theorem dX5_end_95 : decode cX5_end 95 = .ok (.bipush 108, 2) := by decide +kernel
theorem dX5_end_97 : decode cX5_end 97 = .ok (.ldc 239, 2) := by decide +kernel
theorem dX5_end_99 : decode cX5_end 99 = .ok (.invokevirtual 236, 3) := by decide +kernel
theorem dX5_end_102 : decode cX5_end 102 = .ok (.ifCond .eq 131, 3) := by decide +kernel
theorem dX5_end_105 : decode cX5_end 105 = .ok (.aload_n 0, 1) := by decide +kernel
theorem dX5_end_106 : decode cX5_end 106 = .ok (.aload_n 0, 1) := by decide +kernel
theorem dX5_end_107 : decode cX5_end 107 = .ok (.bipush 108, 2) := by decide +kernel
theorem dX5_end_109 : decode cX5_end 109 = .ok (.invokevirtual 196, 3) := by decide +kernel
theorem dX5_end_112 : decode cX5_end 112 = .ok (.putfield 148, 3) := by decide +kernel
theorem dX5_end_115 : decode cX5_end 115 = .ok (.goto 118, 3) := by decide +kernel
theorem dX5_end_118 : decode cX5_end 118 = .ok (.iload_n 1, 1) := by decide +kernel
theorem dX5_end_119 : decode cX5_end 119 = .ok (.bipush 116, 2) := by decide +kernel
theorem dX5_end_121 : decode cX5_end 121 = .ok (.if_icmp .ne 25, 3) := by decide +kernel
theorem dX5_end_124 : decode cX5_end 124 = .ok (.aload_n 0, 1) := by decide +kernel
theorem dX5_end_125 : decode cX5_end 125 = .ok (.bipush 116, 2) := by decide +kernel
theorem dX5_end_127 : decode cX5_end 127 = .ok (.invokevirtual 196, 3) := by decide +kernel
theorem dX5_end_130 : decode cX5_end 130 = .ok (.ifCond .lt 103, 3) := by decide +kernel
theorem dX5_end_133 : decode cX5_end 133 = .ok (.aload_n 0, 1) := by decide +kernel
theorem dX5_end_134 : decode cX5_end 134 = .ok (.aload_n 0, 1) := by decide +kernel
theorem dX5_end_135 : decode cX5_end 135 = .ok (.bipush 116, 2) := by decide +kernel
theorem dX5_end_137 : decode cX5_end 137 = .ok (.invokevirtual 196, 3) := by decide +kernel
theorem dX5_end_140 : decode cX5_end 140 = .ok (.putfield 148, 3) := by decide +kernel
theorem dX5_end_143 : decode cX5_end 143 = .ok (.goto 90, 3) := by decide +kernel
theorem dX5_end_146 : decode cX5_end 146 = .ok (.iload_n 1, 1) := by decide +kernel
theorem dX5_end_147 : decode cX5_end 147 = .ok (.bipush 114, 2) := by decide +kernel
theorem dX5_end_149 : decode cX5_end 149 = .ok (.if_icmp .ne 37, 3) := by decide +kernel
theorem dX5_end_152 : decode cX5_end 152 = .ok (.aload_n 0, 1) := by decide +kernel
theorem dX5_end_153 : decode cX5_end 153 = .ok (.bipush 114, 2) := by decide +kernel
theorem dX5_end_155 : decode cX5_end 155 = .ok (.invokevirtual 196, 3) := by decide +kernel
theorem dX5_end_158 : decode cX5_end 158 = .ok (.istore_n 2, 1) := by decide +kernel
theorem dX5_end_159 : decode cX5_end 159 = .ok (.iload_n 2, 1) := by decide +kernel
theorem dX5_end_160 : decode cX5_end 160 = .ok (.aload_n 0, 1) := by decide +kernel
theorem dX5_end_161 : decode cX5_end 161 = .ok (.bipush 116, 2) := by decide +kernel
theorem dX5_end_163 : decode cX5_end 163 = .ok (.invokevirtual 196, 3) := by decide +kernel
theorem dX5_end_166 : decode cX5_end 166 = .ok (.if_icmp .le 17, 3) := by decide +kernel
theorem dX5_end_169 : decode cX5_end 169 = .ok (.aload_n 0, 1) := by decide +kernel
theorem dX5_end_170 : decode cX5_end 170 = .ok (.bipush 116, 2) := by decide +kernel
theorem dX5_end_172 : decode cX5_end 172 = .ok (.invokevirtual 196, 3) := by decide +kernel
theorem dX5_end_175 : decode cX5_end 175 = .ok (.ifCond .lt 8, 3) := by decide +kernel
theorem dX5_end_178 : decode cX5_end 178 = .ok (.aload_n 0, 1) := by decide +kernel
theorem dX5_end_179 : decode cX5_end 179 = .ok (.iload_n 2, 1) := by decide +kernel
theorem dX5_end_180 : decode cX5_end 180 = .ok (.putfield 148, 3) := by decide +kernel
theorem dX5_end_183 : decode cX5_end 183 = .ok (.goto 50, 3) := by decide +kernel
theorem dX5_end_186 : decode cX5_end 186 = .ok (.iload_n 1, 1) := by decide +kernel
theorem dX5_end_187 : decode cX5_end 187 = .ok (.bipush 99, 2) := by decide +kernel
theorem dX5_end_189 : decode cX5_end 189 = .ok (.if_icmp .ne 27, 3) := by decide +kernel
theorem dX5_end_192 : decode cX5_end 192 = .ok (.aload_n 0, 1) := by decide +kernel
theorem dX5_end_193 : decode cX5_end 193 = .ok (.bipush 99, 2) := by decide +kernel
theorem dX5_end_195 : decode cX5_end 195 = .ok (.ldc 214, 2) := by decide +kernel
theorem dX5_end_197 : decode cX5_end 197 = .ok (.invokevirtual 236, 3) := by decide +kernel
theorem dX5_end_200 : decode cX5_end 200 = .ok (.ifCond .eq 33, 3) := by decide +kernel
theorem dX5_end_203 : decode cX5_end 203 = .ok (.aload_n 0, 1) := by decide +kernel
theorem dX5_end_204 : decode cX5_end 204 = .ok (.aload_n 0, 1) := by decide +kernel
theorem dX5_end_205 : decode cX5_end 205 = .ok (.bipush 99, 2) := by decide +kernel
theorem dX5_end_207 : decode cX5_end 207 = .ok (.invokevirtual 196, 3) := by decide +kernel
theorem dX5_end_210 : decode cX5_end 210 = .ok (.putfield 148, 3) := by decide +kernel
theorem dX5_end_213 : decode cX5_end 213 = .ok (.goto 20, 3) := by decide +kernel
theorem dX5_end_216 : decode cX5_end 216 = .ok (.iload_n 1, 1) := by decide +kernel
theorem dX5_end_217 : decode cX5_end 217 = .ok (.bipush 104, 2) := by decide +kernel
theorem dX5_end_219 : decode cX5_end 219 = .ok (.if_icmp .eq 14, 3) := by decide +kernel
theorem dX5_end_222 : decode cX5_end 222 = .ok (.iload_n 1, 1) := by decide +kernel
theorem dX5_end_223 : decode cX5_end 223 = .ok (.bipush 107, 2) := by decide +kernel
theorem dX5_end_225 : decode cX5_end 225 = .ok (.if_icmp .eq 8, 3) := by decide +kernel
theorem dX5_end_228 : decode cX5_end 228 = .ok (.aload_n 0, 1) := by decide +kernel
theorem dX5_end_229 : decode cX5_end 229 = .ok (.iload_n 1, 1) := by decide +kernel
theorem dX5_end_230 : decode cX5_end 230 = .ok (.invokevirtual 253, 3) := by decide +kernel
theorem dX5_end_233 : decode cX5_end 233 = .ok (.return_, 1) := by decide +kernel
theorem dX5_endOther_0 : decode cX5_endOther 0 = .ok (.aload_n 0, 1) := by decide +kernel
theorem dX5_endOther_1 : decode cX5_endOther 1 = .ok (.invokevirtual 219, 3) := by decide +kernel
theorem dX5_endOther_4 : decode cX5_endOther 4 = .ok (.istore_n 2, 1) := by decide +kernel
theorem dX5_endOther_5 : decode cX5_endOther 5 = .ok (.iconst (-1), 1) := by decide +kernel
theorem dX5_endOther_6 : decode cX5_endOther 6 = .ok (.istore_n 3, 1) := by decide +kernel
theorem dX5_endOther_7 : decode cX5_endOther 7 = .ok (.iconst 0, 1) := by decide +kernel
theorem dX5_endOther_8 : decode cX5_endOther 8 = .ok (.istore 4, 2) := by decide +kernel
theorem dX5_endOther_10 : decode cX5_endOther 10 = .ok (.iload 4, 2) := by decide +kernel
theorem dX5_endOther_12 : decode cX5_endOther 12 = .ok (.aload_n 0, 1) := by decide +kernel
theorem dX5_endOther_13 : decode cX5_endOther 13 = .ok (.getfield 151, 3) := by decide +kernel
theorem dX5_endOther_16 : decode cX5_endOther 16 = .ok (.if_icmp .ge 49, 3) := by decide +kernel
theorem dX5_endOther_19 : decode cX5_endOther 19 = .ok (.iload_n 1, 1) := by decide +kernel
theorem dX5_endOther_20 : decode cX5_endOther 20 = .ok (.invokestatic 189, 3) := by decide +kernel
theorem dX5_endOther_23 : decode cX5_endOther 23 = .ok (.ldc 249, 2) := by decide +kernel
theorem dX5_endOther_25 : decode cX5_endOther 25 = .ok (.iand, 1) := by decide +kernel
theorem dX5_endOther_26 : decode cX5_endOther 26 = .ok (.ifCond .eq 39, 3) := by decide +kernel
theorem dX5_endOther_29 : decode cX5_endOther 29 = .ok (.aload_n 0, 1) := by decide +kernel
theorem dX5_endOther_30 : decode cX5_endOther 30 = .ok (.getfield 37, 3) := by decide +kernel
theorem dX5_endOther_33 : decode cX5_endOther 33 = .ok (.iload 4, 2) := by decide +kernel
theorem dX5_endOther_35 : decode cX5_endOther 35 = .ok (.iaload, 1) := by decide +kernel
theorem dX5_endOther_36 : decode cX5_endOther 36 = .ok (.iload_n 2, 1) := by decide +kernel
theorem dX5_endOther_37 : decode cX5_endOther 37 = .ok (.if_icmp .ne 22, 3) := by decide +kernel
theorem dX5_endOther_40 : decode cX5_endOther 40 = .ok (.aload_n 0, 1) := by decide +kernel
theorem dX5_endOther_41 : decode cX5_endOther 41 = .ok (.getfield 19, 3) := by decide +kernel
theorem dX5_endOther_44 : decode cX5_endOther 44 = .ok (.aload_n 0, 1) := by decide +kernel
theorem dX5_endOther_45 : decode cX5_endOther 45 = .ok (.getfield 34, 3) := by decide +kernel
theorem dX5_endOther_48 : decode cX5_endOther 48 = .ok (.iload 4, 2) := by decide +kernel
theorem dX5_endOther_50 : decode cX5_endOther 50 = .ok (.iaload, 1) := by decide +kernel
theorem dX5_endOther_51 : decode cX5_endOther 51 = .ok (.iaload, 1) := by decide +kernel
theorem dX5_endOther_52 : decode cX5_endOther 52 = .ok (.iload_n 1, 1) := by decide +kernel
theorem dX5_endOther_53 : decode cX5_endOther 53 = .ok (.if_icmp .ne 6, 3) := by decide +kernel
theorem dX5_endOther_56 : decode cX5_endOther 56 = .ok (.iload 4, 2) := by decide +kernel
theorem dX5_endOther_58 : decode cX5_endOther 58 = .ok (.istore_n 3, 1) := by decide +kernel
theorem dX5_endOther_59 : decode cX5_endOther 59 = .ok (.iinc 4 1, 3) := by decide +kernel
theorem dX5_endOther_62 : decode cX5_endOther 62 = .ok (.goto (-52), 3) := by decide +kernel
theorem dX5_endOther_65 : decode cX5_endOther 65 = .ok (.iload_n 3, 1) := by decide +kernel
theorem dX5_endOther_66 : decode cX5_endOther 66 = .ok (.ifCond .ge 24, 3) := by decide +kernel
theorem dX5_endOther_69 : decode cX5_endOther 69 = .ok (.aload_n 0, 1) := by decide +kernel
theorem dX5_endOther_70 : decode cX5_endOther 70 = .ok (.iload_n 1, 1) := by decide +kernel
theorem dX5_endOther_71 : decode cX5_endOther 71 = .ok (.ldc_w 256, 3) := by decide +kernel
theorem dX5_endOther_74 : decode cX5_endOther 74 = .ok (.invokevirtual 236, 3) := by decide +kernel
theorem dX5_endOther_77 : decode cX5_endOther 77 = .ok (.ifCond .eq 12, 3) := by decide +kernel
theorem dX5_endOther_80 : decode cX5_endOther 80 = .ok (.aload_n 0, 1) := by decide +kernel
theorem dX5_endOther_81 : decode cX5_endOther 81 = .ok (.aload_n 0, 1) := by decide +kernel
theorem dX5_endOther_82 : decode cX5_endOther 82 = .ok (.iload_n 1, 1) := by decide +kernel
theorem dX5_endOther_83 : decode cX5_endOther 83 = .ok (.invokevirtual 196, 3) := by decide +kernel
theorem dX5_endOther_86 : decode cX5_endOther 86 = .ok (.putfield 148, 3) := by decide +kernel
theorem dX5_endOther_89 : decode cX5_endOther 89 = .ok (.return_, 1) := by decide +kernel
theorem dX5_endOther_90 : decode cX5_endOther 90 = .ok (.aload_n 0, 1) := by decide +kernel
theorem dX5_endOther_91 : decode cX5_endOther 91 = .ok (.aload_n 0, 1) := by decide +kernel
theorem dX5_endOther_92 : decode cX5_endOther 92 = .ok (.getfield 34, 3) := by decide +kernel
theorem dX5_endOther_95 : decode cX5_endOther 95 = .ok (.iload_n 3, 1) := by decide +kernel
theorem dX5_endOther_96 : decode cX5_endOther 96 = .ok (.iaload, 1) := by decide +kernel
theorem dX5_endOther_97 : decode cX5_endOther 97 = .ok (.invokevirtual 223, 3) := by decide +kernel
theorem dX5_endOther_100 : decode cX5_endOther 100 = .ok (.istore 4, 2) := by decide +kernel
theorem dX5_endOther_102 : decode cX5_endOther 102 = .ok (.iload 4, 2) := by decide +kernel
theorem dX5_endOther_104 : decode cX5_endOther 104 = .ok (.ifCond .ge 11, 3) := by decide +kernel
theorem dX5_endOther_107 : decode cX5_endOther 107 = .ok (.aload_n 0, 1) := by decide +kernel
theorem dX5_endOther_108 : decode cX5_endOther 108 = .ok (.iload_n 3, 1) := by decide +kernel
theorem dX5_endOther_109 : decode cX5_endOther 109 = .ok (.invokevirtual 243, 3) := by decide +kernel
theorem dX5_endOther_112 : decode cX5_endOther 112 = .ok (.goto 55, 3) := by decide +kernel
theorem dX5_endOther_115 : decode cX5_endOther 115 = .ok (.aload_n 0, 1) := by decide +kernel
theorem dX5_endOther_116 : decode cX5_endOther 116 = .ok (.iload 4, 2) := by decide +kernel
theorem dX5_endOther_118 : decode cX5_endOther 118 = .ok (.ldc 214, 2) := by decide +kernel
theorem dX5_endOther_120 : decode cX5_endOther 120 = .ok (.invokevirtual 199, 3) := by decide +kernel
theorem dX5_endOther_123 : decode cX5_endOther 123 = .ok (.ifCond .ne 44, 3) := by decide +kernel
theorem dX5_endOther_126 : decode cX5_endOther 126 = .ok (.aload_n 0, 1) := by decide +kernel
theorem dX5_endOther_127 : decode cX5_endOther 127 = .ok (.getfield 34, 3) := by decide +kernel
theorem dX5_endOther_130 : decode cX5_endOther 130 = .ok (.iload_n 3, 1) := by decide +kernel
theorem dX5_endOther_131 : decode cX5_endOther 131 = .ok (.iaload, 1) := by decide +kernel
theorem dX5_endOther_132 : decode cX5_endOther 132 = .ok (.istore 5, 2) := by decide +kernel
theorem dX5_endOther_134 : decode cX5_endOther 134 = .ok (.aload_n 0, 1) := by decide +kernel
theorem dX5_endOther_135 : decode cX5_endOther 135 = .ok (.iload_n 3, 1) := by decide +kernel
theorem dX5_endOther_136 : decode cX5_endOther 136 = .ok (.invokevirtual 243, 3) := by decide +kernel
theorem dX5_endOther_139 : decode cX5_endOther 139 = .ok (.aload_n 0, 1) := by decide +kernel
theorem dX5_endOther_140 : decode cX5_endOther 140 = .ok (.iload 4, 2) := by decide +kernel
theorem dX5_endOther_142 : decode cX5_endOther 142 = .ok (.ldc 235, 2) := by decide +kernel
theorem dX5_endOther_144 : decode cX5_endOther 144 = .ok (.invokevirtual 199, 3) := by decide +kernel
theorem dX5_endOther_147 : decode cX5_endOther 147 = .ok (.ifCond .eq 14, 3) := by decide +kernel
theorem dX5_endOther_150 : decode cX5_endOther 150 = .ok (.aload_n 0, 1) := by decide +kernel
theorem dX5_endOther_151 : decode cX5_endOther 151 = .ok (.iload 4, 2) := by decide +kernel
theorem dX5_endOther_153 : decode cX5_endOther 153 = .ok (.iload 5, 2) := by decide +kernel
theorem dX5_endOther_155 : decode cX5_endOther 155 = .ok (.invokevirtual 257, 3) := by decide +kernel
theorem dX5_endOther_158 : decode cX5_endOther 158 = .ok (.goto 9, 3) := by decide +kernel
theorem dX5_endOther_161 : decode cX5_endOther 161 = .ok (.aload_n 0, 1) := by decide +kernel
theorem dX5_endOther_162 : decode cX5_endOther 162 = .ok (.iload 4, 2) := by decide +kernel
theorem dX5_endOther_164 : decode cX5_endOther 164 = .ok (.putfield 148, 3) := by decide +kernel
theorem dX5_endOther_167 : decode cX5_endOther 167 = .ok (.return_, 1) := by decide +kernel
theorem dX5_adopt_0 : decode cX5_adopt 0 = .ok (.iload_n 1, 1) := by decide +kernel
theorem dX5_adopt_1 : decode cX5_adopt 1 = .ok (.iconst 1, 1) := by decide +kernel
theorem dX5_adopt_2 : decode cX5_adopt 2 = .ok (.iadd, 1) := by decide +kernel
theorem dX5_adopt_3 : decode cX5_adopt 3 = .ok (.istore_n 3, 1) := by decide +kernel
theorem dX5_adopt_4 : decode cX5_adopt 4 = .ok (.iload_n 3, 1) := by decide +kernel
theorem dX5_adopt_5 : decode cX5_adopt 5 = .ok (.aload_n 0, 1) := by decide +kernel
theorem dX5_adopt_6 : decode cX5_adopt 6 = .ok (.getfield 148, 3) := by decide +kernel
theorem dX5_adopt_9 : decode cX5_adopt 9 = .ok (.if_icmp .ge 24, 3) := by decide +kernel
theorem dX5_adopt_12 : decode cX5_adopt 12 = .ok (.aload_n 0, 1) := by decide +kernel
theorem dX5_adopt_13 : decode cX5_adopt 13 = .ok (.aload_n 0, 1) := by decide +kernel
theorem dX5_adopt_14 : decode cX5_adopt 14 = .ok (.getfield 31, 3) := by decide +kernel
theorem dX5_adopt_17 : decode cX5_adopt 17 = .ok (.iload_n 3, 1) := by decide +kernel
theorem dX5_adopt_18 : decode cX5_adopt 18 = .ok (.iaload, 1) := by decide +kernel
theorem dX5_adopt_19 : decode cX5_adopt 19 = .ok (.ldc 235, 2) := by decide +kernel
theorem dX5_adopt_21 : decode cX5_adopt 21 = .ok (.invokevirtual 192, 3) := by decide +kernel
theorem dX5_adopt_24 : decode cX5_adopt 24 = .ok (.ifCond .ne 9, 3) := by decide +kernel
theorem dX5_adopt_27 : decode cX5_adopt 27 = .ok (.iinc 3 1, 3) := by decide +kernel
theorem dX5_adopt_30 : decode cX5_adopt 30 = .ok (.goto (-26), 3) := by decide +kernel
theorem dX5_adopt_33 : decode cX5_adopt 33 = .ok (.aload_n 0, 1) := by decide +kernel
theorem dX5_adopt_34 : decode cX5_adopt 34 = .ok (.getfield 31, 3) := by decide +kernel
theorem dX5_adopt_37 : decode cX5_adopt 37 = .ok (.iload_n 3, 1) := by decide +kernel
theorem dX5_adopt_38 : decode cX5_adopt 38 = .ok (.iaload, 1) := by decide +kernel
theorem dX5_adopt_39 : decode cX5_adopt 39 = .ok (.istore 4, 2) := by decide +kernel
theorem dX5_adopt_41 : decode cX5_adopt 41 = .ok (.aload_n 0, 1) := by decide +kernel
theorem dX5_adopt_42 : decode cX5_adopt 42 = .ok (.iload 4, 2) := by decide +kernel
theorem dX5_adopt_44 : decode cX5_adopt 44 = .ok (.invokevirtual 202, 3) := by decide +kernel
theorem dX5_adopt_47 : decode cX5_adopt 47 = .ok (.istore 5, 2) := by decide +kernel
theorem dX5_adopt_49 : decode cX5_adopt 49 = .ok (.aload_n 0, 1) := by decide +kernel
theorem dX5_adopt_50 : decode cX5_adopt 50 = .ok (.iload 5, 2) := by decide +kernel
theorem dX5_adopt_52 : decode cX5_adopt 52 = .ok (.invokevirtual 205, 3) := by decide +kernel
theorem dX5_adopt_55 : decode cX5_adopt 55 = .ok (.iload 5, 2) := by decide +kernel
theorem dX5_adopt_57 : decode cX5_adopt 57 = .ok (.isub, 1) := by decide +kernel
theorem dX5_adopt_58 : decode cX5_adopt 58 = .ok (.istore 6, 2) := by decide +kernel
theorem dX5_adopt_60 : decode cX5_adopt 60 = .ok (.iconst 0, 1) := by decide +kernel
theorem dX5_adopt_61 : decode cX5_adopt 61 = .ok (.istore 7, 2) := by decide +kernel
theorem dX5_adopt_63 : decode cX5_adopt 63 = .ok (.iload 7, 2) := by decide +kernel
theorem dX5_adopt_65 : decode cX5_adopt 65 = .ok (.iload 6, 2) := by decide +kernel
theorem dX5_adopt_67 : decode cX5_adopt 67 = .ok (.if_icmp .ge 26, 3) := by decide +kernel
theorem dX5_adopt_70 : decode cX5_adopt 70 = .ok (.aload_n 0, 1) := by decide +kernel
theorem dX5_adopt_71 : decode cX5_adopt 71 = .ok (.getfield 28, 3) := by decide +kernel
theorem dX5_adopt_74 : decode cX5_adopt 74 = .ok (.iload 7, 2) := by decide +kernel
theorem dX5_adopt_76 : decode cX5_adopt 76 = .ok (.aload_n 0, 1) := by decide +kernel
theorem dX5_adopt_77 : decode cX5_adopt 77 = .ok (.getfield 16, 3) := by decide +kernel
theorem dX5_adopt_80 : decode cX5_adopt 80 = .ok (.iload 5, 2) := by decide +kernel
theorem dX5_adopt_82 : decode cX5_adopt 82 = .ok (.iload 7, 2) := by decide +kernel
theorem dX5_adopt_84 : decode cX5_adopt 84 = .ok (.iadd, 1) := by decide +kernel
theorem dX5_adopt_85 : decode cX5_adopt 85 = .ok (.iaload, 1) := by decide +kernel
theorem dX5_adopt_86 : decode cX5_adopt 86 = .ok (.iastore, 1) := by decide +kernel
theorem dX5_adopt_87 : decode cX5_adopt 87 = .ok (.iinc 7 1, 3) := by decide +kernel
theorem dX5_adopt_90 : decode cX5_adopt 90 = .ok (.goto (-27), 3) := by decide +kernel
theorem dX5_adopt_93 : decode cX5_adopt 93 = .ok (.aload_n 0, 1) := by decide +kernel
theorem dX5_adopt_94 : decode cX5_adopt 94 = .ok (.dup, 1) := by decide +kernel
theorem dX5_adopt_95 : decode cX5_adopt 95 = .ok (.getfield 142, 3) := by decide +kernel
theorem dX5_adopt_98 : decode cX5_adopt 98 = .ok (.iload 6, 2) := by decide +kernel
theorem dX5_adopt_100 : decode cX5_adopt 100 = .ok (.isub, 1) := by decide +kernel
theorem dX5_adopt_101 : decode cX5_adopt 101 = .ok (.putfield 142, 3) := by decide +kernel
theorem dX5_adopt_104 : decode cX5_adopt 104 = .ok (.iload 5, 2) := by decide +kernel
theorem dX5_adopt_106 : decode cX5_adopt 106 = .ok (.istore 7, 2) := by decide +kernel
theorem dX5_adopt_108 : decode cX5_adopt 108 = .ok (.iload 7, 2) := by decide +kernel
theorem dX5_adopt_110 : decode cX5_adopt 110 = .ok (.aload_n 0, 1) := by decide +kernel
theorem dX5_adopt_111 : decode cX5_adopt 111 = .ok (.getfield 142, 3) := by decide +kernel
theorem dX5_adopt_114 : decode cX5_adopt 114 = .ok (.if_icmp .ge 26, 3) := by decide +kernel
theorem dX5_adopt_117 : decode cX5_adopt 117 = .ok (.aload_n 0, 1) := by decide +kernel
theorem dX5_adopt_118 : decode cX5_adopt 118 = .ok (.getfield 16, 3) := by decide +kernel
theorem dX5_adopt_121 : decode cX5_adopt 121 = .ok (.iload 7, 2) := by decide +kernel
theorem dX5_adopt_123 : decode cX5_adopt 123 = .ok (.aload_n 0, 1) := by decide +kernel
theorem dX5_adopt_124 : decode cX5_adopt 124 = .ok (.getfield 16, 3) := by decide +kernel
theorem dX5_adopt_127 : decode cX5_adopt 127 = .ok (.iload 7, 2) := by decide +kernel
theorem dX5_adopt_129 : decode cX5_adopt 129 = .ok (.iload 6, 2) := by decide +kernel
theorem dX5_adopt_131 : decode cX5_adopt 131 = .ok (.iadd, 1) := by decide +kernel
theorem dX5_adopt_132 : decode cX5_adopt 132 = .ok (.iaload, 1) := by decide +kernel
theorem dX5_adopt_133 : decode cX5_adopt 133 = .ok (.iastore, 1) := by decide +kernel
theorem dX5_adopt_134 : decode cX5_adopt 134 = .ok (.iinc 7 1, 3) := by decide +kernel
theorem dX5_adopt_137 : decode cX5_adopt 137 = .ok (.goto (-29), 3) := by decide +kernel
theorem dX5_adopt_140 : decode cX5_adopt 140 = .ok (.aload_n 0, 1) := by decide +kernel
theorem dX5_adopt_141 : decode cX5_adopt 141 = .ok (.iload_n 1, 1) := by decide +kernel
theorem dX5_adopt_142 : decode cX5_adopt 142 = .ok (.invokevirtual 226, 3) := by decide +kernel
theorem dX5_adopt_145 : decode cX5_adopt 145 = .ok (.aload_n 0, 1) := by decide +kernel
theorem dX5_adopt_146 : decode cX5_adopt 146 = .ok (.getfield 211, 3) := by decide +kernel
theorem dX5_adopt_149 : decode cX5_adopt 149 = .ok (.aload_n 0, 1) := by decide +kernel
theorem dX5_adopt_150 : decode cX5_adopt 150 = .ok (.getfield 25, 3) := by decide +kernel
theorem dX5_adopt_153 : decode cX5_adopt 153 = .ok (.iload 4, 2) := by decide +kernel
theorem dX5_adopt_155 : decode cX5_adopt 155 = .ok (.iaload, 1) := by decide +kernel
theorem dX5_adopt_156 : decode cX5_adopt 156 = .ok (.isub, 1) := by decide +kernel
theorem dX5_adopt_157 : decode cX5_adopt 157 = .ok (.istore 7, 2) := by decide +kernel
theorem dX5_adopt_159 : decode cX5_adopt 159 = .ok (.aload_n 0, 1) := by decide +kernel
theorem dX5_adopt_160 : decode cX5_adopt 160 = .ok (.getfield 208, 3) := by decide +kernel
theorem dX5_adopt_163 : decode cX5_adopt 163 = .ok (.istore 8, 2) := by decide +kernel
theorem dX5_adopt_165 : decode cX5_adopt 165 = .ok (.aload_n 0, 1) := by decide +kernel
