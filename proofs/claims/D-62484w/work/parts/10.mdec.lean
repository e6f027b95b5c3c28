theorem d_m_isCell_0 : decode b_m_isCell 0 = .ok (.iload_n 0, 1) := by decide +kernel
theorem d_m_isCell_1 : decode b_m_isCell 1 = .ok (.ifCond .lt 13, 3) := by decide +kernel
theorem d_m_isCell_4 : decode b_m_isCell 4 = .ok (.iload_n 0, 1) := by decide +kernel
theorem d_m_isCell_5 : decode b_m_isCell 5 = .ok (.bipush 12, 2) := by decide +kernel
theorem d_m_isCell_7 : decode b_m_isCell 7 = .ok (.if_icmp .ge 7, 3) := by decide +kernel
theorem d_m_isCell_10 : decode b_m_isCell 10 = .ok (.iconst 1, 1) := by decide +kernel
theorem d_m_isCell_11 : decode b_m_isCell 11 = .ok (.goto 4, 3) := by decide +kernel
theorem d_m_isCell_14 : decode b_m_isCell 14 = .ok (.iconst 0, 1) := by decide +kernel
theorem d_m_isCell_15 : decode b_m_isCell 15 = .ok (.ireturn, 1) := by decide +kernel
theorem d_m_isLetter_0 : decode b_m_isLetter 0 = .ok (.iload_n 0, 1) := by decide +kernel
theorem d_m_isLetter_1 : decode b_m_isLetter 1 = .ok (.bipush 65, 2) := by decide +kernel
theorem d_m_isLetter_3 : decode b_m_isLetter 3 = .ok (.if_icmp .lt 13, 3) := by decide +kernel
theorem d_m_isLetter_6 : decode b_m_isLetter 6 = .ok (.iload_n 0, 1) := by decide +kernel
theorem d_m_isLetter_7 : decode b_m_isLetter 7 = .ok (.bipush 76, 2) := by decide +kernel
theorem d_m_isLetter_9 : decode b_m_isLetter 9 = .ok (.if_icmp .gt 7, 3) := by decide +kernel
theorem d_m_isLetter_12 : decode b_m_isLetter 12 = .ok (.iconst 1, 1) := by decide +kernel
theorem d_m_isLetter_13 : decode b_m_isLetter 13 = .ok (.goto 4, 3) := by decide +kernel
theorem d_m_isLetter_16 : decode b_m_isLetter 16 = .ok (.iconst 0, 1) := by decide +kernel
theorem d_m_isLetter_17 : decode b_m_isLetter 17 = .ok (.ireturn, 1) := by decide +kernel
theorem d_m_isDigit_0 : decode b_m_isDigit 0 = .ok (.iload_n 0, 1) := by decide +kernel
theorem d_m_isDigit_1 : decode b_m_isDigit 1 = .ok (.bipush 48, 2) := by decide +kernel
theorem d_m_isDigit_3 : decode b_m_isDigit 3 = .ok (.if_icmp .lt 13, 3) := by decide +kernel
theorem d_m_isDigit_6 : decode b_m_isDigit 6 = .ok (.iload_n 0, 1) := by decide +kernel
theorem d_m_isDigit_7 : decode b_m_isDigit 7 = .ok (.bipush 57, 2) := by decide +kernel
theorem d_m_isDigit_9 : decode b_m_isDigit 9 = .ok (.if_icmp .gt 7, 3) := by decide +kernel
theorem d_m_isDigit_12 : decode b_m_isDigit 12 = .ok (.iconst 1, 1) := by decide +kernel
theorem d_m_isDigit_13 : decode b_m_isDigit 13 = .ok (.goto 4, 3) := by decide +kernel
theorem d_m_isDigit_16 : decode b_m_isDigit 16 = .ok (.iconst 0, 1) := by decide +kernel
theorem d_m_isDigit_17 : decode b_m_isDigit 17 = .ok (.ireturn, 1) := by decide +kernel
theorem d_m_type_0 : decode b_m_type 0 = .ok (.iload_n 1, 1) := by decide +kernel
theorem d_m_type_1 : decode b_m_type 1 = .ok (.bipush 40, 2) := by decide +kernel
theorem d_m_type_3 : decode b_m_type 3 = .ok (.if_icmp .eq 57, 3) := by decide +kernel
theorem d_m_type_6 : decode b_m_type 6 = .ok (.iload_n 1, 1) := by decide +kernel
theorem d_m_type_7 : decode b_m_type 7 = .ok (.bipush 41, 2) := by decide +kernel
theorem d_m_type_9 : decode b_m_type 9 = .ok (.if_icmp .eq 51, 3) := by decide +kernel
theorem d_m_type_12 : decode b_m_type 12 = .ok (.iload_n 1, 1) := by decide +kernel
theorem d_m_type_13 : decode b_m_type 13 = .ok (.bipush 42, 2) := by decide +kernel
theorem d_m_type_15 : decode b_m_type 15 = .ok (.if_icmp .eq 45, 3) := by decide +kernel
theorem d_m_type_18 : decode b_m_type 18 = .ok (.iload_n 1, 1) := by decide +kernel
theorem d_m_type_19 : decode b_m_type 19 = .ok (.bipush 43, 2) := by decide +kernel
theorem d_m_type_21 : decode b_m_type 21 = .ok (.if_icmp .eq 39, 3) := by decide +kernel
theorem d_m_type_24 : decode b_m_type 24 = .ok (.iload_n 1, 1) := by decide +kernel
theorem d_m_type_25 : decode b_m_type 25 = .ok (.bipush 45, 2) := by decide +kernel
theorem d_m_type_27 : decode b_m_type 27 = .ok (.if_icmp .eq 33, 3) := by decide +kernel
theorem d_m_type_30 : decode b_m_type 30 = .ok (.iload_n 1, 1) := by decide +kernel
theorem d_m_type_31 : decode b_m_type 31 = .ok (.bipush 58, 2) := by decide +kernel
theorem d_m_type_33 : decode b_m_type 33 = .ok (.if_icmp .eq 27, 3) := by decide +kernel
theorem d_m_type_36 : decode b_m_type 36 = .ok (.iload_n 1, 1) := by decide +kernel
theorem d_m_type_37 : decode b_m_type 37 = .ok (.bipush 60, 2) := by decide +kernel
theorem d_m_type_39 : decode b_m_type 39 = .ok (.if_icmp .eq 21, 3) := by decide +kernel
theorem d_m_type_42 : decode b_m_type 42 = .ok (.iload_n 1, 1) := by decide +kernel
theorem d_m_type_43 : decode b_m_type 43 = .ok (.bipush 61, 2) := by decide +kernel
theorem d_m_type_45 : decode b_m_type 45 = .ok (.if_icmp .eq 15, 3) := by decide +kernel
theorem d_m_type_48 : decode b_m_type 48 = .ok (.iload_n 1, 1) := by decide +kernel
theorem d_m_type_49 : decode b_m_type 49 = .ok (.bipush 63, 2) := by decide +kernel
theorem d_m_type_51 : decode b_m_type 51 = .ok (.if_icmp .eq 9, 3) := by decide +kernel
theorem d_m_type_54 : decode b_m_type 54 = .ok (.iload_n 1, 1) := by decide +kernel
theorem d_m_type_55 : decode b_m_type 55 = .ok (.bipush 64, 2) := by decide +kernel
theorem d_m_type_57 : decode b_m_type 57 = .ok (.if_icmp .ne 7, 3) := by decide +kernel
theorem d_m_type_60 : decode b_m_type 60 = .ok (.iconst 1, 1) := by decide +kernel
theorem d_m_type_61 : decode b_m_type 61 = .ok (.goto 4, 3) := by decide +kernel
theorem d_m_type_64 : decode b_m_type 64 = .ok (.iconst 0, 1) := by decide +kernel
theorem d_m_type_65 : decode b_m_type 65 = .ok (.istore_n 2, 1) := by decide +kernel
theorem d_m_type_66 : decode b_m_type 66 = .ok (.iload_n 2, 1) := by decide +kernel
theorem d_m_type_67 : decode b_m_type 67 = .ok (.ifCond .ne 17, 3) := by decide +kernel
theorem d_m_type_70 : decode b_m_type 70 = .ok (.iload_n 1, 1) := by decide +kernel
theorem d_m_type_71 : decode b_m_type 71 = .ok (.invokestatic 127, 3) := by decide +kernel
theorem d_m_type_74 : decode b_m_type 74 = .ok (.ifCond .ne 10, 3) := by decide +kernel
theorem d_m_type_77 : decode b_m_type 77 = .ok (.iload_n 1, 1) := by decide +kernel
theorem d_m_type_78 : decode b_m_type 78 = .ok (.invokestatic 131, 3) := by decide +kernel
theorem d_m_type_81 : decode b_m_type 81 = .ok (.ifCond .eq 12, 3) := by decide +kernel
theorem d_m_type_84 : decode b_m_type 84 = .ok (.aload_n 0, 1) := by decide +kernel
theorem d_m_type_85 : decode b_m_type 85 = .ok (.getfield 134, 3) := by decide +kernel
theorem d_m_type_88 : decode b_m_type 88 = .ok (.bipush 30, 2) := by decide +kernel
theorem d_m_type_90 : decode b_m_type 90 = .ok (.if_icmp .ne 5, 3) := by decide +kernel
theorem d_m_type_93 : decode b_m_type 93 = .ok (.iconst 0, 1) := by decide +kernel
theorem d_m_type_94 : decode b_m_type 94 = .ok (.ireturn, 1) := by decide +kernel
theorem d_m_type_95 : decode b_m_type 95 = .ok (.aload_n 0, 1) := by decide +kernel
theorem d_m_type_96 : decode b_m_type 96 = .ok (.getfield 7, 3) := by decide +kernel
theorem d_m_type_99 : decode b_m_type 99 = .ok (.aload_n 0, 1) := by decide +kernel
theorem d_m_type_100 : decode b_m_type 100 = .ok (.getfield 134, 3) := by decide +kernel
theorem d_m_type_103 : decode b_m_type 103 = .ok (.iload_n 1, 1) := by decide +kernel
theorem d_m_type_104 : decode b_m_type 104 = .ok (.iastore, 1) := by decide +kernel
theorem d_m_type_105 : decode b_m_type 105 = .ok (.aload_n 0, 1) := by decide +kernel
theorem d_m_type_106 : decode b_m_type 106 = .ok (.dup, 1) := by decide +kernel
theorem d_m_type_107 : decode b_m_type 107 = .ok (.getfield 134, 3) := by decide +kernel
theorem d_m_type_110 : decode b_m_type 110 = .ok (.iconst 1, 1) := by decide +kernel
theorem d_m_type_111 : decode b_m_type 111 = .ok (.iadd, 1) := by decide +kernel
theorem d_m_type_112 : decode b_m_type 112 = .ok (.putfield 134, 3) := by decide +kernel
theorem d_m_type_115 : decode b_m_type 115 = .ok (.iconst 1, 1) := by decide +kernel
theorem d_m_type_116 : decode b_m_type 116 = .ok (.ireturn, 1) := by decide +kernel
theorem d_m_make_0 : decode b_m_make 0 = .ok (.aload_n 0, 1) := by decide +kernel
theorem d_m_make_1 : decode b_m_make 1 = .ok (.getfield 118, 3) := by decide +kernel
theorem d_m_make_4 : decode b_m_make 4 = .ok (.aload_n 0, 1) := by decide +kernel
theorem d_m_make_5 : decode b_m_make 5 = .ok (.getfield 137, 3) := by decide +kernel
theorem d_m_make_8 : decode b_m_make 8 = .ok (.iload_n 1, 1) := by decide +kernel
theorem d_m_make_9 : decode b_m_make 9 = .ok (.iastore, 1) := by decide +kernel
theorem d_m_make_10 : decode b_m_make 10 = .ok (.aload_n 0, 1) := by decide +kernel
theorem d_m_make_11 : decode b_m_make 11 = .ok (.getfield 121, 3) := by decide +kernel
theorem d_m_make_14 : decode b_m_make 14 = .ok (.aload_n 0, 1) := by decide +kernel
theorem d_m_make_15 : decode b_m_make 15 = .ok (.getfield 137, 3) := by decide +kernel
theorem d_m_make_18 : decode b_m_make 18 = .ok (.iload_n 2, 1) := by decide +kernel
theorem d_m_make_19 : decode b_m_make 19 = .ok (.iastore, 1) := by decide +kernel
theorem d_m_make_20 : decode b_m_make 20 = .ok (.aload_n 0, 1) := by decide +kernel
theorem d_m_make_21 : decode b_m_make 21 = .ok (.dup, 1) := by decide +kernel
theorem d_m_make_22 : decode b_m_make 22 = .ok (.getfield 137, 3) := by decide +kernel
theorem d_m_make_25 : decode b_m_make 25 = .ok (.iconst 1, 1) := by decide +kernel
theorem d_m_make_26 : decode b_m_make 26 = .ok (.iadd, 1) := by decide +kernel
theorem d_m_make_27 : decode b_m_make 27 = .ok (.putfield 137, 3) := by decide +kernel
theorem d_m_make_30 : decode b_m_make 30 = .ok (.return_, 1) := by decide +kernel
theorem d_m_put_0 : decode b_m_put 0 = .ok (.aload_n 0, 1) := by decide +kernel
theorem d_m_put_1 : decode b_m_put 1 = .ok (.getfield 112, 3) := by decide +kernel
theorem d_m_put_4 : decode b_m_put 4 = .ok (.aload_n 0, 1) := by decide +kernel
theorem d_m_put_5 : decode b_m_put 5 = .ok (.getfield 140, 3) := by decide +kernel
theorem d_m_put_8 : decode b_m_put 8 = .ok (.iload_n 1, 1) := by decide +kernel
theorem d_m_put_9 : decode b_m_put 9 = .ok (.iastore, 1) := by decide +kernel
theorem d_m_put_10 : decode b_m_put 10 = .ok (.aload_n 0, 1) := by decide +kernel
theorem d_m_put_11 : decode b_m_put 11 = .ok (.getfield 115, 3) := by decide +kernel
theorem d_m_put_14 : decode b_m_put 14 = .ok (.aload_n 0, 1) := by decide +kernel
theorem d_m_put_15 : decode b_m_put 15 = .ok (.getfield 140, 3) := by decide +kernel
theorem d_m_put_18 : decode b_m_put 18 = .ok (.iload_n 2, 1) := by decide +kernel
theorem d_m_put_19 : decode b_m_put 19 = .ok (.iastore, 1) := by decide +kernel
theorem d_m_put_20 : decode b_m_put 20 = .ok (.aload_n 0, 1) := by decide +kernel
theorem d_m_put_21 : decode b_m_put 21 = .ok (.dup, 1) := by decide +kernel
theorem d_m_put_22 : decode b_m_put 22 = .ok (.getfield 140, 3) := by decide +kernel
theorem d_m_put_25 : decode b_m_put 25 = .ok (.iconst 1, 1) := by decide +kernel
theorem d_m_put_26 : decode b_m_put 26 = .ok (.iadd, 1) := by decide +kernel
theorem d_m_put_27 : decode b_m_put 27 = .ok (.putfield 140, 3) := by decide +kernel
theorem d_m_put_30 : decode b_m_put 30 = .ok (.return_, 1) := by decide +kernel
theorem d_m_rank_0 : decode b_m_rank 0 = .ok (.iload_n 0, 1) := by decide +kernel
theorem d_m_rank_1 : decode b_m_rank 1 = .ok (.sipush 200, 3) := by decide +kernel
theorem d_m_rank_4 : decode b_m_rank 4 = .ok (.if_icmp .eq 9, 3) := by decide +kernel
theorem d_m_rank_7 : decode b_m_rank 7 = .ok (.iload_n 0, 1) := by decide +kernel
theorem d_m_rank_8 : decode b_m_rank 8 = .ok (.bipush 64, 2) := by decide +kernel
theorem d_m_rank_10 : decode b_m_rank 10 = .ok (.if_icmp .ne 7, 3) := by decide +kernel
theorem d_m_rank_13 : decode b_m_rank 13 = .ok (.iconst 3, 1) := by decide +kernel
theorem d_m_rank_14 : decode b_m_rank 14 = .ok (.goto 46, 3) := by decide +kernel
theorem d_m_rank_17 : decode b_m_rank 17 = .ok (.iload_n 0, 1) := by decide +kernel
theorem d_m_rank_18 : decode b_m_rank 18 = .ok (.bipush 42, 2) := by decide +kernel
theorem d_m_rank_20 : decode b_m_rank 20 = .ok (.if_icmp .ne 7, 3) := by decide +kernel
theorem d_m_rank_23 : decode b_m_rank 23 = .ok (.iconst 2, 1) := by decide +kernel
theorem d_m_rank_24 : decode b_m_rank 24 = .ok (.goto 36, 3) := by decide +kernel
theorem d_m_rank_27 : decode b_m_rank 27 = .ok (.iload_n 0, 1) := by decide +kernel
theorem d_m_rank_28 : decode b_m_rank 28 = .ok (.bipush 43, 2) := by decide +kernel
theorem d_m_rank_30 : decode b_m_rank 30 = .ok (.if_icmp .eq 9, 3) := by decide +kernel
theorem d_m_rank_33 : decode b_m_rank 33 = .ok (.iload_n 0, 1) := by decide +kernel
theorem d_m_rank_34 : decode b_m_rank 34 = .ok (.bipush 45, 2) := by decide +kernel
theorem d_m_rank_36 : decode b_m_rank 36 = .ok (.if_icmp .ne 7, 3) := by decide +kernel
theorem d_m_rank_39 : decode b_m_rank 39 = .ok (.iconst 1, 1) := by decide +kernel
theorem d_m_rank_40 : decode b_m_rank 40 = .ok (.goto 20, 3) := by decide +kernel
theorem d_m_rank_43 : decode b_m_rank 43 = .ok (.iload_n 0, 1) := by decide +kernel
theorem d_m_rank_44 : decode b_m_rank 44 = .ok (.bipush 60, 2) := by decide +kernel
theorem d_m_rank_46 : decode b_m_rank 46 = .ok (.if_icmp .eq 9, 3) := by decide +kernel
theorem d_m_rank_49 : decode b_m_rank 49 = .ok (.iload_n 0, 1) := by decide +kernel
theorem d_m_rank_50 : decode b_m_rank 50 = .ok (.bipush 61, 2) := by decide +kernel
theorem d_m_rank_52 : decode b_m_rank 52 = .ok (.if_icmp .ne 7, 3) := by decide +kernel
theorem d_m_rank_55 : decode b_m_rank 55 = .ok (.iconst 0, 1) := by decide +kernel
theorem d_m_rank_56 : decode b_m_rank 56 = .ok (.goto 4, 3) := by decide +kernel
theorem d_m_rank_59 : decode b_m_rank 59 = .ok (.iconst (-1), 1) := by decide +kernel
theorem d_m_rank_60 : decode b_m_rank 60 = .ok (.ireturn, 1) := by decide +kernel
theorem d_m_settle_0 : decode b_m_settle 0 = .ok (.aload_n 0, 1) := by decide +kernel
theorem d_m_settle_1 : decode b_m_settle 1 = .ok (.getfield 140, 3) := by decide +kernel
theorem d_m_settle_4 : decode b_m_settle 4 = .ok (.ifCond .le 114, 3) := by decide +kernel
theorem d_m_settle_7 : decode b_m_settle 7 = .ok (.aload_n 0, 1) := by decide +kernel
theorem d_m_settle_8 : decode b_m_settle 8 = .ok (.getfield 112, 3) := by decide +kernel
theorem d_m_settle_11 : decode b_m_settle 11 = .ok (.aload_n 0, 1) := by decide +kernel
theorem d_m_settle_12 : decode b_m_settle 12 = .ok (.getfield 140, 3) := by decide +kernel
theorem d_m_settle_15 : decode b_m_settle 15 = .ok (.iconst 1, 1) := by decide +kernel
theorem d_m_settle_16 : decode b_m_settle 16 = .ok (.isub, 1) := by decide +kernel
theorem d_m_settle_17 : decode b_m_settle 17 = .ok (.iaload, 1) := by decide +kernel
theorem d_m_settle_18 : decode b_m_settle 18 = .ok (.invokestatic 143, 3) := by decide +kernel
theorem d_m_settle_21 : decode b_m_settle 21 = .ok (.iload_n 1, 1) := by decide +kernel
theorem d_m_settle_22 : decode b_m_settle 22 = .ok (.if_icmp .lt 96, 3) := by decide +kernel
theorem d_m_settle_25 : decode b_m_settle 25 = .ok (.aload_n 0, 1) := by decide +kernel
theorem d_m_settle_26 : decode b_m_settle 26 = .ok (.dup, 1) := by decide +kernel
theorem d_m_settle_27 : decode b_m_settle 27 = .ok (.getfield 140, 3) := by decide +kernel
theorem d_m_settle_30 : decode b_m_settle 30 = .ok (.iconst 1, 1) := by decide +kernel
theorem d_m_settle_31 : decode b_m_settle 31 = .ok (.isub, 1) := by decide +kernel
theorem d_m_settle_32 : decode b_m_settle 32 = .ok (.putfield 140, 3) := by decide +kernel
theorem d_m_settle_35 : decode b_m_settle 35 = .ok (.aload_n 0, 1) := by decide +kernel
theorem d_m_settle_36 : decode b_m_settle 36 = .ok (.getfield 112, 3) := by decide +kernel
theorem d_m_settle_39 : decode b_m_settle 39 = .ok (.aload_n 0, 1) := by decide +kernel
theorem d_m_settle_40 : decode b_m_settle 40 = .ok (.getfield 140, 3) := by decide +kernel
theorem d_m_settle_43 : decode b_m_settle 43 = .ok (.iaload, 1) := by decide +kernel
theorem d_m_settle_44 : decode b_m_settle 44 = .ok (.istore_n 2, 1) := by decide +kernel
theorem d_m_settle_45 : decode b_m_settle 45 = .ok (.aload_n 0, 1) := by decide +kernel
theorem d_m_settle_46 : decode b_m_settle 46 = .ok (.iload_n 2, 1) := by decide +kernel
theorem d_m_settle_47 : decode b_m_settle 47 = .ok (.sipush 200, 3) := by decide +kernel
theorem d_m_settle_50 : decode b_m_settle 50 = .ok (.if_icmp .ne 7, 3) := by decide +kernel
theorem d_m_settle_53 : decode b_m_settle 53 = .ok (.iconst 3, 1) := by decide +kernel
theorem d_m_settle_54 : decode b_m_settle 54 = .ok (.goto 57, 3) := by decide +kernel
theorem d_m_settle_57 : decode b_m_settle 57 = .ok (.iload_n 2, 1) := by decide +kernel
theorem d_m_settle_58 : decode b_m_settle 58 = .ok (.bipush 64, 2) := by decide +kernel
theorem d_m_settle_60 : decode b_m_settle 60 = .ok (.if_icmp .ne 7, 3) := by decide +kernel
theorem d_m_settle_63 : decode b_m_settle 63 = .ok (.iconst 2, 1) := by decide +kernel
theorem d_m_settle_64 : decode b_m_settle 64 = .ok (.goto 47, 3) := by decide +kernel
theorem d_m_settle_67 : decode b_m_settle 67 = .ok (.iload_n 2, 1) := by decide +kernel
theorem d_m_settle_68 : decode b_m_settle 68 = .ok (.bipush 42, 2) := by decide +kernel
theorem d_m_settle_70 : decode b_m_settle 70 = .ok (.if_icmp .ne 7, 3) := by decide +kernel
theorem d_m_settle_73 : decode b_m_settle 73 = .ok (.iconst 4, 1) := by decide +kernel
theorem d_m_settle_74 : decode b_m_settle 74 = .ok (.goto 37, 3) := by decide +kernel
theorem d_m_settle_77 : decode b_m_settle 77 = .ok (.iload_n 2, 1) := by decide +kernel
theorem d_m_settle_78 : decode b_m_settle 78 = .ok (.bipush 43, 2) := by decide +kernel
theorem d_m_settle_80 : decode b_m_settle 80 = .ok (.if_icmp .ne 7, 3) := by decide +kernel
theorem d_m_settle_83 : decode b_m_settle 83 = .ok (.iconst 5, 1) := by decide +kernel
theorem d_m_settle_84 : decode b_m_settle 84 = .ok (.goto 27, 3) := by decide +kernel
theorem d_m_settle_87 : decode b_m_settle 87 = .ok (.iload_n 2, 1) := by decide +kernel
theorem d_m_settle_88 : decode b_m_settle 88 = .ok (.bipush 45, 2) := by decide +kernel
theorem d_m_settle_90 : decode b_m_settle 90 = .ok (.if_icmp .ne 8, 3) := by decide +kernel
theorem d_m_settle_93 : decode b_m_settle 93 = .ok (.bipush 6, 2) := by decide +kernel
theorem d_m_settle_95 : decode b_m_settle 95 = .ok (.goto 16, 3) := by decide +kernel
theorem d_m_settle_98 : decode b_m_settle 98 = .ok (.iload_n 2, 1) := by decide +kernel
theorem d_m_settle_99 : decode b_m_settle 99 = .ok (.bipush 60, 2) := by decide +kernel
theorem d_m_settle_101 : decode b_m_settle 101 = .ok (.if_icmp .ne 8, 3) := by decide +kernel
theorem d_m_settle_104 : decode b_m_settle 104 = .ok (.bipush 7, 2) := by decide +kernel
theorem d_m_settle_106 : decode b_m_settle 106 = .ok (.goto 5, 3) := by decide +kernel
theorem d_m_settle_109 : decode b_m_settle 109 = .ok (.bipush 8, 2) := by decide +kernel
theorem d_m_settle_111 : decode b_m_settle 111 = .ok (.iconst 0, 1) := by decide +kernel
theorem d_m_settle_112 : decode b_m_settle 112 = .ok (.invokevirtual 147, 3) := by decide +kernel
theorem d_m_settle_115 : decode b_m_settle 115 = .ok (.goto (-115), 3) := by decide +kernel
theorem d_m_settle_118 : decode b_m_settle 118 = .ok (.return_, 1) := by decide +kernel
theorem d_m_deepness_0 : decode b_m_deepness 0 = .ok (.iconst 0, 1) := by decide +kernel
theorem d_m_deepness_1 : decode b_m_deepness 1 = .ok (.istore_n 1, 1) := by decide +kernel
theorem d_m_deepness_2 : decode b_m_deepness 2 = .ok (.iconst 0, 1) := by decide +kernel
theorem d_m_deepness_3 : decode b_m_deepness 3 = .ok (.istore_n 2, 1) := by decide +kernel
theorem d_m_deepness_4 : decode b_m_deepness 4 = .ok (.iload_n 2, 1) := by decide +kernel
theorem d_m_deepness_5 : decode b_m_deepness 5 = .ok (.aload_n 0, 1) := by decide +kernel
theorem d_m_deepness_6 : decode b_m_deepness 6 = .ok (.getfield 140, 3) := by decide +kernel
theorem d_m_deepness_9 : decode b_m_deepness 9 = .ok (.if_icmp .ge 41, 3) := by decide +kernel
theorem d_m_deepness_12 : decode b_m_deepness 12 = .ok (.aload_n 0, 1) := by decide +kernel
theorem d_m_deepness_13 : decode b_m_deepness 13 = .ok (.getfield 112, 3) := by decide +kernel
theorem d_m_deepness_16 : decode b_m_deepness 16 = .ok (.iload_n 2, 1) := by decide +kernel
theorem d_m_deepness_17 : decode b_m_deepness 17 = .ok (.iaload, 1) := by decide +kernel
theorem d_m_deepness_18 : decode b_m_deepness 18 = .ok (.bipush 40, 2) := by decide +kernel
theorem d_m_deepness_20 : decode b_m_deepness 20 = .ok (.if_icmp .eq 16, 3) := by decide +kernel
theorem d_m_deepness_23 : decode b_m_deepness 23 = .ok (.aload_n 0, 1) := by decide +kernel
theorem d_m_deepness_24 : decode b_m_deepness 24 = .ok (.getfield 112, 3) := by decide +kernel
theorem d_m_deepness_27 : decode b_m_deepness 27 = .ok (.iload_n 2, 1) := by decide +kernel
theorem d_m_deepness_28 : decode b_m_deepness 28 = .ok (.iaload, 1) := by decide +kernel
theorem d_m_deepness_29 : decode b_m_deepness 29 = .ok (.invokestatic 143, 3) := by decide +kernel
theorem d_m_deepness_32 : decode b_m_deepness 32 = .ok (.iconst 3, 1) := by decide +kernel
theorem d_m_deepness_33 : decode b_m_deepness 33 = .ok (.if_icmp .ne 9, 3) := by decide +kernel
theorem d_m_deepness_36 : decode b_m_deepness 36 = .ok (.iload_n 1, 1) := by decide +kernel
theorem d_m_deepness_37 : decode b_m_deepness 37 = .ok (.iconst 1, 1) := by decide +kernel
theorem d_m_deepness_38 : decode b_m_deepness 38 = .ok (.iadd, 1) := by decide +kernel
theorem d_m_deepness_39 : decode b_m_deepness 39 = .ok (.goto 4, 3) := by decide +kernel
theorem d_m_deepness_42 : decode b_m_deepness 42 = .ok (.iload_n 1, 1) := by decide +kernel
theorem d_m_deepness_43 : decode b_m_deepness 43 = .ok (.istore_n 1, 1) := by decide +kernel
theorem d_m_deepness_44 : decode b_m_deepness 44 = .ok (.iinc 2 1, 3) := by decide +kernel
theorem d_m_deepness_47 : decode b_m_deepness 47 = .ok (.goto (-43), 3) := by decide +kernel
theorem d_m_deepness_50 : decode b_m_deepness 50 = .ok (.iload_n 1, 1) := by decide +kernel
theorem d_m_deepness_51 : decode b_m_deepness 51 = .ok (.ireturn, 1) := by decide +kernel
theorem d_m_begin_0 : decode b_m_begin 0 = .ok (.iload_n 1, 1) := by decide +kernel
theorem d_m_begin_1 : decode b_m_begin 1 = .ok (.invokestatic 127, 3) := by decide +kernel
theorem d_m_begin_4 : decode b_m_begin 4 = .ok (.ifCond .eq 19, 3) := by decide +kernel
theorem d_m_begin_7 : decode b_m_begin 7 = .ok (.aload_n 0, 1) := by decide +kernel
theorem d_m_begin_8 : decode b_m_begin 8 = .ok (.iconst 1, 1) := by decide +kernel
theorem d_m_begin_9 : decode b_m_begin 9 = .ok (.iload_n 1, 1) := by decide +kernel
theorem d_m_begin_10 : decode b_m_begin 10 = .ok (.bipush 65, 2) := by decide +kernel
theorem d_m_begin_12 : decode b_m_begin 12 = .ok (.isub, 1) := by decide +kernel
theorem d_m_begin_13 : decode b_m_begin 13 = .ok (.invokevirtual 147, 3) := by decide +kernel
theorem d_m_begin_16 : decode b_m_begin 16 = .ok (.aload_n 0, 1) := by decide +kernel
theorem d_m_begin_17 : decode b_m_begin 17 = .ok (.iconst 3, 1) := by decide +kernel
theorem d_m_begin_18 : decode b_m_begin 18 = .ok (.invokevirtual 151, 3) := by decide +kernel
theorem d_m_begin_21 : decode b_m_begin 21 = .ok (.iconst 1, 1) := by decide +kernel
theorem d_m_begin_22 : decode b_m_begin 22 = .ok (.ireturn, 1) := by decide +kernel
theorem d_m_begin_23 : decode b_m_begin 23 = .ok (.iload_n 1, 1) := by decide +kernel
theorem d_m_begin_24 : decode b_m_begin 24 = .ok (.invokestatic 131, 3) := by decide +kernel
theorem d_m_begin_27 : decode b_m_begin 27 = .ok (.ifCond .eq 73, 3) := by decide +kernel
theorem d_m_begin_30 : decode b_m_begin 30 = .ok (.iconst 0, 1) := by decide +kernel
theorem d_m_begin_31 : decode b_m_begin 31 = .ok (.istore_n 3, 1) := by decide +kernel
theorem d_m_begin_32 : decode b_m_begin 32 = .ok (.iload_n 2, 1) := by decide +kernel
theorem d_m_begin_33 : decode b_m_begin 33 = .ok (.istore 4, 2) := by decide +kernel
theorem d_m_begin_35 : decode b_m_begin 35 = .ok (.iload 4, 2) := by decide +kernel
theorem d_m_begin_37 : decode b_m_begin 37 = .ok (.aload_n 0, 1) := by decide +kernel
theorem d_m_begin_38 : decode b_m_begin 38 = .ok (.getfield 134, 3) := by decide +kernel
theorem d_m_begin_41 : decode b_m_begin 41 = .ok (.if_icmp .ge 46, 3) := by decide +kernel
theorem d_m_begin_44 : decode b_m_begin 44 = .ok (.iload 4, 2) := by decide +kernel
theorem d_m_begin_46 : decode b_m_begin 46 = .ok (.iload_n 2, 1) := by decide +kernel
theorem d_m_begin_47 : decode b_m_begin 47 = .ok (.iconst 4, 1) := by decide +kernel
theorem d_m_begin_48 : decode b_m_begin 48 = .ok (.iadd, 1) := by decide +kernel
theorem d_m_begin_49 : decode b_m_begin 49 = .ok (.if_icmp .ge 38, 3) := by decide +kernel
theorem d_m_begin_52 : decode b_m_begin 52 = .ok (.aload_n 0, 1) := by decide +kernel
theorem d_m_begin_53 : decode b_m_begin 53 = .ok (.getfield 7, 3) := by decide +kernel
theorem d_m_begin_56 : decode b_m_begin 56 = .ok (.iload 4, 2) := by decide +kernel
theorem d_m_begin_58 : decode b_m_begin 58 = .ok (.iaload, 1) := by decide +kernel
theorem d_m_begin_59 : decode b_m_begin 59 = .ok (.invokestatic 131, 3) := by decide +kernel
theorem d_m_begin_62 : decode b_m_begin 62 = .ok (.ifCond .eq 25, 3) := by decide +kernel
theorem d_m_begin_65 : decode b_m_begin 65 = .ok (.bipush 10, 2) := by decide +kernel
theorem d_m_begin_67 : decode b_m_begin 67 = .ok (.iload_n 3, 1) := by decide +kernel
theorem d_m_begin_68 : decode b_m_begin 68 = .ok (.imul, 1) := by decide +kernel
theorem d_m_begin_69 : decode b_m_begin 69 = .ok (.aload_n 0, 1) := by decide +kernel
theorem d_m_begin_70 : decode b_m_begin 70 = .ok (.getfield 7, 3) := by decide +kernel
theorem d_m_begin_73 : decode b_m_begin 73 = .ok (.iload 4, 2) := by decide +kernel
theorem d_m_begin_75 : decode b_m_begin 75 = .ok (.iaload, 1) := by decide +kernel
theorem d_m_begin_76 : decode b_m_begin 76 = .ok (.iadd, 1) := by decide +kernel
theorem d_m_begin_77 : decode b_m_begin 77 = .ok (.bipush 48, 2) := by decide +kernel
theorem d_m_begin_79 : decode b_m_begin 79 = .ok (.isub, 1) := by decide +kernel
theorem d_m_begin_80 : decode b_m_begin 80 = .ok (.istore_n 3, 1) := by decide +kernel
theorem d_m_begin_81 : decode b_m_begin 81 = .ok (.iinc 4 1, 3) := by decide +kernel
theorem d_m_begin_84 : decode b_m_begin 84 = .ok (.goto (-49), 3) := by decide +kernel
theorem d_m_begin_87 : decode b_m_begin 87 = .ok (.aload_n 0, 1) := by decide +kernel
theorem d_m_begin_88 : decode b_m_begin 88 = .ok (.iconst 0, 1) := by decide +kernel
theorem d_m_begin_89 : decode b_m_begin 89 = .ok (.iload_n 3, 1) := by decide +kernel
theorem d_m_begin_90 : decode b_m_begin 90 = .ok (.invokevirtual 147, 3) := by decide +kernel
theorem d_m_begin_93 : decode b_m_begin 93 = .ok (.aload_n 0, 1) := by decide +kernel
theorem d_m_begin_94 : decode b_m_begin 94 = .ok (.iconst 3, 1) := by decide +kernel
theorem d_m_begin_95 : decode b_m_begin 95 = .ok (.invokevirtual 151, 3) := by decide +kernel
theorem d_m_begin_98 : decode b_m_begin 98 = .ok (.iconst 1, 1) := by decide +kernel
theorem d_m_begin_99 : decode b_m_begin 99 = .ok (.ireturn, 1) := by decide +kernel
theorem d_m_begin_100 : decode b_m_begin 100 = .ok (.iload_n 1, 1) := by decide +kernel
theorem d_m_begin_101 : decode b_m_begin 101 = .ok (.bipush 40, 2) := by decide +kernel
theorem d_m_begin_103 : decode b_m_begin 103 = .ok (.if_icmp .eq 15, 3) := by decide +kernel
theorem d_m_begin_106 : decode b_m_begin 106 = .ok (.iload_n 1, 1) := by decide +kernel
theorem d_m_begin_107 : decode b_m_begin 107 = .ok (.bipush 45, 2) := by decide +kernel
theorem d_m_begin_109 : decode b_m_begin 109 = .ok (.if_icmp .eq 9, 3) := by decide +kernel
theorem d_m_begin_112 : decode b_m_begin 112 = .ok (.iload_n 1, 1) := by decide +kernel
theorem d_m_begin_113 : decode b_m_begin 113 = .ok (.bipush 64, 2) := by decide +kernel
theorem d_m_begin_115 : decode b_m_begin 115 = .ok (.if_icmp .ne 11, 3) := by decide +kernel
theorem d_m_begin_118 : decode b_m_begin 118 = .ok (.aload_n 0, 1) := by decide +kernel
theorem d_m_begin_119 : decode b_m_begin 119 = .ok (.invokevirtual 155, 3) := by decide +kernel
theorem d_m_begin_122 : decode b_m_begin 122 = .ok (.iconst 5, 1) := by decide +kernel
theorem d_m_begin_123 : decode b_m_begin 123 = .ok (.if_icmp .ne 5, 3) := by decide +kernel
theorem d_m_begin_126 : decode b_m_begin 126 = .ok (.iconst 0, 1) := by decide +kernel
theorem d_m_begin_127 : decode b_m_begin 127 = .ok (.ireturn, 1) := by decide +kernel
theorem d_m_begin_128 : decode b_m_begin 128 = .ok (.aload_n 0, 1) := by decide +kernel
theorem d_m_begin_129 : decode b_m_begin 129 = .ok (.iload_n 1, 1) := by decide +kernel
theorem d_m_begin_130 : decode b_m_begin 130 = .ok (.bipush 45, 2) := by decide +kernel
theorem d_m_begin_132 : decode b_m_begin 132 = .ok (.if_icmp .ne 9, 3) := by decide +kernel
theorem d_m_begin_135 : decode b_m_begin 135 = .ok (.sipush 200, 3) := by decide +kernel
theorem d_m_begin_138 : decode b_m_begin 138 = .ok (.goto 4, 3) := by decide +kernel
theorem d_m_begin_141 : decode b_m_begin 141 = .ok (.iload_n 1, 1) := by decide +kernel
theorem d_m_begin_142 : decode b_m_begin 142 = .ok (.iconst 0, 1) := by decide +kernel
theorem d_m_begin_143 : decode b_m_begin 143 = .ok (.invokevirtual 159, 3) := by decide +kernel
theorem d_m_begin_146 : decode b_m_begin 146 = .ok (.iconst 1, 1) := by decide +kernel
theorem d_m_begin_147 : decode b_m_begin 147 = .ok (.ireturn, 1) := by decide +kernel
theorem d_m_compared_0 : decode b_m_compared 0 = .ok (.iconst 0, 1) := by decide +kernel
theorem d_m_compared_1 : decode b_m_compared 1 = .ok (.istore_n 1, 1) := by decide +kernel
theorem d_m_compared_2 : decode b_m_compared 2 = .ok (.aload_n 0, 1) := by decide +kernel
theorem d_m_compared_3 : decode b_m_compared 3 = .ok (.getfield 140, 3) := by decide +kernel
theorem d_m_compared_6 : decode b_m_compared 6 = .ok (.iconst 1, 1) := by decide +kernel
theorem d_m_compared_7 : decode b_m_compared 7 = .ok (.isub, 1) := by decide +kernel
theorem d_m_compared_8 : decode b_m_compared 8 = .ok (.istore_n 2, 1) := by decide +kernel
theorem d_m_compared_9 : decode b_m_compared 9 = .ok (.iload_n 2, 1) := by decide +kernel
theorem d_m_compared_10 : decode b_m_compared 10 = .ok (.ifCond .lt 43, 3) := by decide +kernel
theorem d_m_compared_13 : decode b_m_compared 13 = .ok (.aload_n 0, 1) := by decide +kernel
theorem d_m_compared_14 : decode b_m_compared 14 = .ok (.getfield 112, 3) := by decide +kernel
theorem d_m_compared_17 : decode b_m_compared 17 = .ok (.iload_n 2, 1) := by decide +kernel
theorem d_m_compared_18 : decode b_m_compared 18 = .ok (.iaload, 1) := by decide +kernel
theorem d_m_compared_19 : decode b_m_compared 19 = .ok (.invokestatic 143, 3) := by decide +kernel
theorem d_m_compared_22 : decode b_m_compared 22 = .ok (.ifCond .lt 31, 3) := by decide +kernel
theorem d_m_compared_25 : decode b_m_compared 25 = .ok (.iload_n 1, 1) := by decide +kernel
theorem d_m_compared_26 : decode b_m_compared 26 = .ok (.ifCond .ne 15, 3) := by decide +kernel
theorem d_m_compared_29 : decode b_m_compared 29 = .ok (.aload_n 0, 1) := by decide +kernel
theorem d_m_compared_30 : decode b_m_compared 30 = .ok (.getfield 112, 3) := by decide +kernel
theorem d_m_compared_33 : decode b_m_compared 33 = .ok (.iload_n 2, 1) := by decide +kernel
theorem d_m_compared_34 : decode b_m_compared 34 = .ok (.iaload, 1) := by decide +kernel
theorem d_m_compared_35 : decode b_m_compared 35 = .ok (.invokestatic 143, 3) := by decide +kernel
theorem d_m_compared_38 : decode b_m_compared 38 = .ok (.ifCond .ne 7, 3) := by decide +kernel
theorem d_m_compared_41 : decode b_m_compared 41 = .ok (.iconst 1, 1) := by decide +kernel
theorem d_m_compared_42 : decode b_m_compared 42 = .ok (.goto 4, 3) := by decide +kernel
theorem d_m_compared_45 : decode b_m_compared 45 = .ok (.iconst 0, 1) := by decide +kernel
theorem d_m_compared_46 : decode b_m_compared 46 = .ok (.istore_n 1, 1) := by decide +kernel
theorem d_m_compared_47 : decode b_m_compared 47 = .ok (.iinc 2 (-1), 3) := by decide +kernel
theorem d_m_compared_50 : decode b_m_compared 50 = .ok (.goto (-41), 3) := by decide +kernel
theorem d_m_compared_53 : decode b_m_compared 53 = .ok (.iload_n 1, 1) := by decide +kernel
theorem d_m_compared_54 : decode b_m_compared 54 = .ok (.ireturn, 1) := by decide +kernel
theorem d_m_inner_0 : decode b_m_inner 0 = .ok (.aload_n 0, 1) := by decide +kernel
theorem d_m_inner_1 : decode b_m_inner 1 = .ok (.getfield 140, 3) := by decide +kernel
theorem d_m_inner_4 : decode b_m_inner 4 = .ok (.iconst 1, 1) := by decide +kernel
theorem d_m_inner_5 : decode b_m_inner 5 = .ok (.isub, 1) := by decide +kernel
theorem d_m_inner_6 : decode b_m_inner 6 = .ok (.istore_n 1, 1) := by decide +kernel
theorem d_m_inner_7 : decode b_m_inner 7 = .ok (.iload_n 1, 1) := by decide +kernel
theorem d_m_inner_8 : decode b_m_inner 8 = .ok (.ifCond .lt 21, 3) := by decide +kernel
theorem d_m_inner_11 : decode b_m_inner 11 = .ok (.aload_n 0, 1) := by decide +kernel
theorem d_m_inner_12 : decode b_m_inner 12 = .ok (.getfield 112, 3) := by decide +kernel
theorem d_m_inner_15 : decode b_m_inner 15 = .ok (.iload_n 1, 1) := by decide +kernel
theorem d_m_inner_16 : decode b_m_inner 16 = .ok (.iaload, 1) := by decide +kernel
theorem d_m_inner_17 : decode b_m_inner 17 = .ok (.invokestatic 143, 3) := by decide +kernel
theorem d_m_inner_20 : decode b_m_inner 20 = .ok (.ifCond .lt 9, 3) := by decide +kernel
theorem d_m_inner_23 : decode b_m_inner 23 = .ok (.iinc 1 (-1), 3) := by decide +kernel
theorem d_m_inner_26 : decode b_m_inner 26 = .ok (.goto (-19), 3) := by decide +kernel
theorem d_m_inner_29 : decode b_m_inner 29 = .ok (.iload_n 1, 1) := by decide +kernel
theorem d_m_inner_30 : decode b_m_inner 30 = .ok (.ireturn, 1) := by decide +kernel
theorem d_m_close_0 : decode b_m_close 0 = .ok (.aload_n 0, 1) := by decide +kernel
theorem d_m_close_1 : decode b_m_close 1 = .ok (.iconst 0, 1) := by decide +kernel
theorem d_m_close_2 : decode b_m_close 2 = .ok (.invokevirtual 151, 3) := by decide +kernel
theorem d_m_close_5 : decode b_m_close 5 = .ok (.aload_n 0, 1) := by decide +kernel
theorem d_m_close_6 : decode b_m_close 6 = .ok (.getfield 140, 3) := by decide +kernel
theorem d_m_close_9 : decode b_m_close 9 = .ok (.ifCond .le 55, 3) := by decide +kernel
theorem d_m_close_12 : decode b_m_close 12 = .ok (.aload_n 0, 1) := by decide +kernel
theorem d_m_close_13 : decode b_m_close 13 = .ok (.getfield 112, 3) := by decide +kernel
theorem d_m_close_16 : decode b_m_close 16 = .ok (.aload_n 0, 1) := by decide +kernel
theorem d_m_close_17 : decode b_m_close 17 = .ok (.getfield 140, 3) := by decide +kernel
theorem d_m_close_20 : decode b_m_close 20 = .ok (.iconst 1, 1) := by decide +kernel
theorem d_m_close_21 : decode b_m_close 21 = .ok (.isub, 1) := by decide +kernel
theorem d_m_close_22 : decode b_m_close 22 = .ok (.iaload, 1) := by decide +kernel
theorem d_m_close_23 : decode b_m_close 23 = .ok (.bipush 58, 2) := by decide +kernel
theorem d_m_close_25 : decode b_m_close 25 = .ok (.if_icmp .ne 39, 3) := by decide +kernel
theorem d_m_close_28 : decode b_m_close 28 = .ok (.aload_n 0, 1) := by decide +kernel
theorem d_m_close_29 : decode b_m_close 29 = .ok (.dup, 1) := by decide +kernel
theorem d_m_close_30 : decode b_m_close 30 = .ok (.getfield 140, 3) := by decide +kernel
theorem d_m_close_33 : decode b_m_close 33 = .ok (.iconst 1, 1) := by decide +kernel
theorem d_m_close_34 : decode b_m_close 34 = .ok (.isub, 1) := by decide +kernel
theorem d_m_close_35 : decode b_m_close 35 = .ok (.putfield 140, 3) := by decide +kernel
theorem d_m_close_38 : decode b_m_close 38 = .ok (.aload_n 0, 1) := by decide +kernel
theorem d_m_close_39 : decode b_m_close 39 = .ok (.getfield 121, 3) := by decide +kernel
theorem d_m_close_42 : decode b_m_close 42 = .ok (.aload_n 0, 1) := by decide +kernel
theorem d_m_close_43 : decode b_m_close 43 = .ok (.getfield 115, 3) := by decide +kernel
theorem d_m_close_46 : decode b_m_close 46 = .ok (.aload_n 0, 1) := by decide +kernel
theorem d_m_close_47 : decode b_m_close 47 = .ok (.getfield 140, 3) := by decide +kernel
theorem d_m_close_50 : decode b_m_close 50 = .ok (.iaload, 1) := by decide +kernel
theorem d_m_close_51 : decode b_m_close 51 = .ok (.aload_n 0, 1) := by decide +kernel
theorem d_m_close_52 : decode b_m_close 52 = .ok (.getfield 137, 3) := by decide +kernel
theorem d_m_close_55 : decode b_m_close 55 = .ok (.iastore, 1) := by decide +kernel
theorem d_m_close_56 : decode b_m_close 56 = .ok (.aload_n 0, 1) := by decide +kernel
theorem d_m_close_57 : decode b_m_close 57 = .ok (.iconst 0, 1) := by decide +kernel
theorem d_m_close_58 : decode b_m_close 58 = .ok (.invokevirtual 151, 3) := by decide +kernel
theorem d_m_close_61 : decode b_m_close 61 = .ok (.goto (-56), 3) := by decide +kernel
theorem d_m_close_64 : decode b_m_close 64 = .ok (.return_, 1) := by decide +kernel
theorem d_m_awaits_0 : decode b_m_awaits 0 = .ok (.aload_n 0, 1) := by decide +kernel
theorem d_m_awaits_1 : decode b_m_awaits 1 = .ok (.invokevirtual 162, 3) := by decide +kernel
theorem d_m_awaits_4 : decode b_m_awaits 4 = .ok (.istore_n 1, 1) := by decide +kernel
theorem d_m_awaits_5 : decode b_m_awaits 5 = .ok (.iload_n 1, 1) := by decide +kernel
theorem d_m_awaits_6 : decode b_m_awaits 6 = .ok (.ifCond .lt 32, 3) := by decide +kernel
theorem d_m_awaits_9 : decode b_m_awaits 9 = .ok (.aload_n 0, 1) := by decide +kernel
theorem d_m_awaits_10 : decode b_m_awaits 10 = .ok (.getfield 112, 3) := by decide +kernel
theorem d_m_awaits_13 : decode b_m_awaits 13 = .ok (.iload_n 1, 1) := by decide +kernel
theorem d_m_awaits_14 : decode b_m_awaits 14 = .ok (.iaload, 1) := by decide +kernel
theorem d_m_awaits_15 : decode b_m_awaits 15 = .ok (.bipush 58, 2) := by decide +kernel
theorem d_m_awaits_17 : decode b_m_awaits 17 = .ok (.if_icmp .eq 15, 3) := by decide +kernel
theorem d_m_awaits_20 : decode b_m_awaits 20 = .ok (.aload_n 0, 1) := by decide +kernel
theorem d_m_awaits_21 : decode b_m_awaits 21 = .ok (.getfield 112, 3) := by decide +kernel
theorem d_m_awaits_24 : decode b_m_awaits 24 = .ok (.iload_n 1, 1) := by decide +kernel
theorem d_m_awaits_25 : decode b_m_awaits 25 = .ok (.iaload, 1) := by decide +kernel
theorem d_m_awaits_26 : decode b_m_awaits 26 = .ok (.invokestatic 143, 3) := by decide +kernel
theorem d_m_awaits_29 : decode b_m_awaits 29 = .ok (.ifCond .lt 9, 3) := by decide +kernel
theorem d_m_awaits_32 : decode b_m_awaits 32 = .ok (.iinc 1 (-1), 3) := by decide +kernel
theorem d_m_awaits_35 : decode b_m_awaits 35 = .ok (.goto (-30), 3) := by decide +kernel
theorem d_m_awaits_38 : decode b_m_awaits 38 = .ok (.iload_n 1, 1) := by decide +kernel
theorem d_m_awaits_39 : decode b_m_awaits 39 = .ok (.ifCond .ge 7, 3) := by decide +kernel
theorem d_m_awaits_42 : decode b_m_awaits 42 = .ok (.iconst 0, 1) := by decide +kernel
theorem d_m_awaits_43 : decode b_m_awaits 43 = .ok (.goto 9, 3) := by decide +kernel
theorem d_m_awaits_46 : decode b_m_awaits 46 = .ok (.aload_n 0, 1) := by decide +kernel
theorem d_m_awaits_47 : decode b_m_awaits 47 = .ok (.getfield 112, 3) := by decide +kernel
theorem d_m_awaits_50 : decode b_m_awaits 50 = .ok (.iload_n 1, 1) := by decide +kernel
theorem d_m_awaits_51 : decode b_m_awaits 51 = .ok (.iaload, 1) := by decide +kernel
theorem d_m_awaits_52 : decode b_m_awaits 52 = .ok (.ireturn, 1) := by decide +kernel
theorem d_m_goesOn_0 : decode b_m_goesOn 0 = .ok (.iload_n 1, 1) := by decide +kernel
theorem d_m_goesOn_1 : decode b_m_goesOn 1 = .ok (.invokestatic 143, 3) := by decide +kernel
theorem d_m_goesOn_4 : decode b_m_goesOn 4 = .ok (.ifCond .ne 10, 3) := by decide +kernel
theorem d_m_goesOn_7 : decode b_m_goesOn 7 = .ok (.aload_n 0, 1) := by decide +kernel
theorem d_m_goesOn_8 : decode b_m_goesOn 8 = .ok (.invokevirtual 165, 3) := by decide +kernel
theorem d_m_goesOn_11 : decode b_m_goesOn 11 = .ok (.ifCond .ne 31, 3) := by decide +kernel
theorem d_m_goesOn_14 : decode b_m_goesOn 14 = .ok (.iload_n 1, 1) := by decide +kernel
theorem d_m_goesOn_15 : decode b_m_goesOn 15 = .ok (.invokestatic 143, 3) := by decide +kernel
theorem d_m_goesOn_18 : decode b_m_goesOn 18 = .ok (.iconst 3, 1) := by decide +kernel
theorem d_m_goesOn_19 : decode b_m_goesOn 19 = .ok (.if_icmp .eq 23, 3) := by decide +kernel
theorem d_m_goesOn_22 : decode b_m_goesOn 22 = .ok (.iload_n 1, 1) := by decide +kernel
theorem d_m_goesOn_23 : decode b_m_goesOn 23 = .ok (.bipush 40, 2) := by decide +kernel
theorem d_m_goesOn_25 : decode b_m_goesOn 25 = .ok (.if_icmp .eq 17, 3) := by decide +kernel
theorem d_m_goesOn_28 : decode b_m_goesOn 28 = .ok (.iload_n 1, 1) := by decide +kernel
theorem d_m_goesOn_29 : decode b_m_goesOn 29 = .ok (.invokestatic 127, 3) := by decide +kernel
theorem d_m_goesOn_32 : decode b_m_goesOn 32 = .ok (.ifCond .ne 10, 3) := by decide +kernel
theorem d_m_goesOn_35 : decode b_m_goesOn 35 = .ok (.iload_n 1, 1) := by decide +kernel
theorem d_m_goesOn_36 : decode b_m_goesOn 36 = .ok (.invokestatic 131, 3) := by decide +kernel
theorem d_m_goesOn_39 : decode b_m_goesOn 39 = .ok (.ifCond .eq 5, 3) := by decide +kernel
theorem d_m_goesOn_42 : decode b_m_goesOn 42 = .ok (.iconst 0, 1) := by decide +kernel
theorem d_m_goesOn_43 : decode b_m_goesOn 43 = .ok (.ireturn, 1) := by decide +kernel
theorem d_m_goesOn_44 : decode b_m_goesOn 44 = .ok (.iload_n 1, 1) := by decide +kernel
theorem d_m_goesOn_45 : decode b_m_goesOn 45 = .ok (.invokestatic 143, 3) := by decide +kernel
theorem d_m_goesOn_48 : decode b_m_goesOn 48 = .ok (.ifCond .lt 30, 3) := by decide +kernel
theorem d_m_goesOn_51 : decode b_m_goesOn 51 = .ok (.aload_n 0, 1) := by decide +kernel
theorem d_m_goesOn_52 : decode b_m_goesOn 52 = .ok (.iload_n 1, 1) := by decide +kernel
theorem d_m_goesOn_53 : decode b_m_goesOn 53 = .ok (.invokestatic 143, 3) := by decide +kernel
theorem d_m_goesOn_56 : decode b_m_goesOn 56 = .ok (.ifCond .ne 7, 3) := by decide +kernel
theorem d_m_goesOn_59 : decode b_m_goesOn 59 = .ok (.iconst 1, 1) := by decide +kernel
theorem d_m_goesOn_60 : decode b_m_goesOn 60 = .ok (.goto 7, 3) := by decide +kernel
theorem d_m_goesOn_63 : decode b_m_goesOn 63 = .ok (.iload_n 1, 1) := by decide +kernel
theorem d_m_goesOn_64 : decode b_m_goesOn 64 = .ok (.invokestatic 143, 3) := by decide +kernel
theorem d_m_goesOn_67 : decode b_m_goesOn 67 = .ok (.invokevirtual 151, 3) := by decide +kernel
theorem d_m_goesOn_70 : decode b_m_goesOn 70 = .ok (.aload_n 0, 1) := by decide +kernel
theorem d_m_goesOn_71 : decode b_m_goesOn 71 = .ok (.iload_n 1, 1) := by decide +kernel
theorem d_m_goesOn_72 : decode b_m_goesOn 72 = .ok (.iconst 0, 1) := by decide +kernel
theorem d_m_goesOn_73 : decode b_m_goesOn 73 = .ok (.invokevirtual 159, 3) := by decide +kernel
theorem d_m_goesOn_76 : decode b_m_goesOn 76 = .ok (.iconst 1, 1) := by decide +kernel
theorem d_m_goesOn_77 : decode b_m_goesOn 77 = .ok (.ireturn, 1) := by decide +kernel
theorem d_m_goesOn_78 : decode b_m_goesOn 78 = .ok (.iload_n 1, 1) := by decide +kernel
theorem d_m_goesOn_79 : decode b_m_goesOn 79 = .ok (.bipush 63, 2) := by decide +kernel
theorem d_m_goesOn_81 : decode b_m_goesOn 81 = .ok (.if_icmp .ne 29, 3) := by decide +kernel
theorem d_m_goesOn_84 : decode b_m_goesOn 84 = .ok (.aload_n 0, 1) := by decide +kernel
theorem d_m_goesOn_85 : decode b_m_goesOn 85 = .ok (.iconst 0, 1) := by decide +kernel
theorem d_m_goesOn_86 : decode b_m_goesOn 86 = .ok (.invokevirtual 151, 3) := by decide +kernel
theorem d_m_goesOn_89 : decode b_m_goesOn 89 = .ok (.aload_n 0, 1) := by decide +kernel
theorem d_m_goesOn_90 : decode b_m_goesOn 90 = .ok (.bipush 10, 2) := by decide +kernel
theorem d_m_goesOn_92 : decode b_m_goesOn 92 = .ok (.iconst 0, 1) := by decide +kernel
theorem d_m_goesOn_93 : decode b_m_goesOn 93 = .ok (.invokevirtual 147, 3) := by decide +kernel
theorem d_m_goesOn_96 : decode b_m_goesOn 96 = .ok (.aload_n 0, 1) := by decide +kernel
theorem d_m_goesOn_97 : decode b_m_goesOn 97 = .ok (.bipush 63, 2) := by decide +kernel
theorem d_m_goesOn_99 : decode b_m_goesOn 99 = .ok (.aload_n 0, 1) := by decide +kernel
theorem d_m_goesOn_100 : decode b_m_goesOn 100 = .ok (.getfield 137, 3) := by decide +kernel
theorem d_m_goesOn_103 : decode b_m_goesOn 103 = .ok (.iconst 1, 1) := by decide +kernel
theorem d_m_goesOn_104 : decode b_m_goesOn 104 = .ok (.isub, 1) := by decide +kernel
theorem d_m_goesOn_105 : decode b_m_goesOn 105 = .ok (.invokevirtual 159, 3) := by decide +kernel
theorem d_m_goesOn_108 : decode b_m_goesOn 108 = .ok (.iconst 1, 1) := by decide +kernel
theorem d_m_goesOn_109 : decode b_m_goesOn 109 = .ok (.ireturn, 1) := by decide +kernel
theorem d_m_goesOn_110 : decode b_m_goesOn 110 = .ok (.aload_n 0, 1) := by decide +kernel
theorem d_m_goesOn_111 : decode b_m_goesOn 111 = .ok (.invokevirtual 169, 3) := by decide +kernel
theorem d_m_goesOn_114 : decode b_m_goesOn 114 = .ok (.iload_n 1, 1) := by decide +kernel
theorem d_m_goesOn_115 : decode b_m_goesOn 115 = .ok (.bipush 58, 2) := by decide +kernel
theorem d_m_goesOn_117 : decode b_m_goesOn 117 = .ok (.if_icmp .ne 8, 3) := by decide +kernel
theorem d_m_goesOn_120 : decode b_m_goesOn 120 = .ok (.bipush 63, 2) := by decide +kernel
theorem d_m_goesOn_122 : decode b_m_goesOn 122 = .ok (.goto 5, 3) := by decide +kernel
theorem d_m_goesOn_125 : decode b_m_goesOn 125 = .ok (.bipush 40, 2) := by decide +kernel
theorem d_m_goesOn_127 : decode b_m_goesOn 127 = .ok (.if_icmp .eq 5, 3) := by decide +kernel
theorem d_m_goesOn_130 : decode b_m_goesOn 130 = .ok (.iconst 0, 1) := by decide +kernel
theorem d_m_goesOn_131 : decode b_m_goesOn 131 = .ok (.ireturn, 1) := by decide +kernel
theorem d_m_goesOn_132 : decode b_m_goesOn 132 = .ok (.aload_n 0, 1) := by decide +kernel
theorem d_m_goesOn_133 : decode b_m_goesOn 133 = .ok (.invokevirtual 172, 3) := by decide +kernel
theorem d_m_goesOn_136 : decode b_m_goesOn 136 = .ok (.aload_n 0, 1) := by decide +kernel
theorem d_m_goesOn_137 : decode b_m_goesOn 137 = .ok (.dup, 1) := by decide +kernel
theorem d_m_goesOn_138 : decode b_m_goesOn 138 = .ok (.getfield 140, 3) := by decide +kernel
theorem d_m_goesOn_141 : decode b_m_goesOn 141 = .ok (.iconst 1, 1) := by decide +kernel
theorem d_m_goesOn_142 : decode b_m_goesOn 142 = .ok (.isub, 1) := by decide +kernel
theorem d_m_goesOn_143 : decode b_m_goesOn 143 = .ok (.putfield 140, 3) := by decide +kernel
theorem d_m_goesOn_146 : decode b_m_goesOn 146 = .ok (.iload_n 1, 1) := by decide +kernel
theorem d_m_goesOn_147 : decode b_m_goesOn 147 = .ok (.bipush 58, 2) := by decide +kernel
theorem d_m_goesOn_149 : decode b_m_goesOn 149 = .ok (.if_icmp .ne 43, 3) := by decide +kernel
theorem d_m_goesOn_152 : decode b_m_goesOn 152 = .ok (.aload_n 0, 1) := by decide +kernel
theorem d_m_goesOn_153 : decode b_m_goesOn 153 = .ok (.bipush 9, 2) := by decide +kernel
theorem d_m_goesOn_155 : decode b_m_goesOn 155 = .ok (.iconst 0, 1) := by decide +kernel
theorem d_m_goesOn_156 : decode b_m_goesOn 156 = .ok (.invokevirtual 147, 3) := by decide +kernel
theorem d_m_goesOn_159 : decode b_m_goesOn 159 = .ok (.aload_n 0, 1) := by decide +kernel
theorem d_m_goesOn_160 : decode b_m_goesOn 160 = .ok (.getfield 121, 3) := by decide +kernel
theorem d_m_goesOn_163 : decode b_m_goesOn 163 = .ok (.aload_n 0, 1) := by decide +kernel
theorem d_m_goesOn_164 : decode b_m_goesOn 164 = .ok (.getfield 115, 3) := by decide +kernel
theorem d_m_goesOn_167 : decode b_m_goesOn 167 = .ok (.aload_n 0, 1) := by decide +kernel
theorem d_m_goesOn_168 : decode b_m_goesOn 168 = .ok (.getfield 140, 3) := by decide +kernel
theorem d_m_goesOn_171 : decode b_m_goesOn 171 = .ok (.iaload, 1) := by decide +kernel
theorem d_m_goesOn_172 : decode b_m_goesOn 172 = .ok (.aload_n 0, 1) := by decide +kernel
theorem d_m_goesOn_173 : decode b_m_goesOn 173 = .ok (.getfield 137, 3) := by decide +kernel
theorem d_m_goesOn_176 : decode b_m_goesOn 176 = .ok (.iastore, 1) := by decide +kernel
theorem d_m_goesOn_177 : decode b_m_goesOn 177 = .ok (.aload_n 0, 1) := by decide +kernel
theorem d_m_goesOn_178 : decode b_m_goesOn 178 = .ok (.bipush 58, 2) := by decide +kernel
theorem d_m_goesOn_180 : decode b_m_goesOn 180 = .ok (.aload_n 0, 1) := by decide +kernel
theorem d_m_goesOn_181 : decode b_m_goesOn 181 = .ok (.getfield 137, 3) := by decide +kernel
theorem d_m_goesOn_184 : decode b_m_goesOn 184 = .ok (.iconst 1, 1) := by decide +kernel
theorem d_m_goesOn_185 : decode b_m_goesOn 185 = .ok (.isub, 1) := by decide +kernel
theorem d_m_goesOn_186 : decode b_m_goesOn 186 = .ok (.invokevirtual 159, 3) := by decide +kernel
theorem d_m_goesOn_189 : decode b_m_goesOn 189 = .ok (.goto 8, 3) := by decide +kernel
theorem d_m_goesOn_192 : decode b_m_goesOn 192 = .ok (.aload_n 0, 1) := by decide +kernel
theorem d_m_goesOn_193 : decode b_m_goesOn 193 = .ok (.iconst 3, 1) := by decide +kernel
theorem d_m_goesOn_194 : decode b_m_goesOn 194 = .ok (.invokevirtual 151, 3) := by decide +kernel
theorem d_m_goesOn_197 : decode b_m_goesOn 197 = .ok (.iconst 1, 1) := by decide +kernel
theorem d_m_goesOn_198 : decode b_m_goesOn 198 = .ok (.ireturn, 1) := by decide +kernel
theorem d_m_fault_0 : decode b_m_fault 0 = .ok (.aload_n 0, 1) := by decide +kernel
theorem d_m_fault_1 : decode b_m_fault 1 = .ok (.iconst 0, 1) := by decide +kernel
theorem d_m_fault_2 : decode b_m_fault 2 = .ok (.putfield 140, 3) := by decide +kernel
theorem d_m_fault_5 : decode b_m_fault 5 = .ok (.aload_n 0, 1) := by decide +kernel
theorem d_m_fault_6 : decode b_m_fault 6 = .ok (.iconst 0, 1) := by decide +kernel
theorem d_m_fault_7 : decode b_m_fault 7 = .ok (.putfield 137, 3) := by decide +kernel
theorem d_m_fault_10 : decode b_m_fault 10 = .ok (.iconst 1, 1) := by decide +kernel
theorem d_m_fault_11 : decode b_m_fault 11 = .ok (.istore_n 1, 1) := by decide +kernel
theorem d_m_fault_12 : decode b_m_fault 12 = .ok (.iconst 0, 1) := by decide +kernel
theorem d_m_fault_13 : decode b_m_fault 13 = .ok (.istore_n 2, 1) := by decide +kernel
theorem d_m_fault_14 : decode b_m_fault 14 = .ok (.iload_n 2, 1) := by decide +kernel
theorem d_m_fault_15 : decode b_m_fault 15 = .ok (.aload_n 0, 1) := by decide +kernel
theorem d_m_fault_16 : decode b_m_fault 16 = .ok (.getfield 134, 3) := by decide +kernel
theorem d_m_fault_19 : decode b_m_fault 19 = .ok (.if_icmp .ge 141, 3) := by decide +kernel
theorem d_m_fault_22 : decode b_m_fault 22 = .ok (.aload_n 0, 1) := by decide +kernel
theorem d_m_fault_23 : decode b_m_fault 23 = .ok (.getfield 7, 3) := by decide +kernel
theorem d_m_fault_26 : decode b_m_fault 26 = .ok (.iload_n 2, 1) := by decide +kernel
theorem d_m_fault_27 : decode b_m_fault 27 = .ok (.iaload, 1) := by decide +kernel
theorem d_m_fault_28 : decode b_m_fault 28 = .ok (.istore_n 3, 1) := by decide +kernel
theorem d_m_fault_29 : decode b_m_fault 29 = .ok (.iload_n 1, 1) := by decide +kernel
theorem d_m_fault_30 : decode b_m_fault 30 = .ok (.ifCond .eq 25, 3) := by decide +kernel
theorem d_m_fault_33 : decode b_m_fault 33 = .ok (.iload_n 3, 1) := by decide +kernel
theorem d_m_fault_34 : decode b_m_fault 34 = .ok (.bipush 40, 2) := by decide +kernel
theorem d_m_fault_36 : decode b_m_fault 36 = .ok (.if_icmp .eq 15, 3) := by decide +kernel
theorem d_m_fault_39 : decode b_m_fault 39 = .ok (.iload_n 3, 1) := by decide +kernel
theorem d_m_fault_40 : decode b_m_fault 40 = .ok (.bipush 45, 2) := by decide +kernel
theorem d_m_fault_42 : decode b_m_fault 42 = .ok (.if_icmp .eq 9, 3) := by decide +kernel
theorem d_m_fault_45 : decode b_m_fault 45 = .ok (.iload_n 3, 1) := by decide +kernel
theorem d_m_fault_46 : decode b_m_fault 46 = .ok (.bipush 64, 2) := by decide +kernel
theorem d_m_fault_48 : decode b_m_fault 48 = .ok (.if_icmp .ne 7, 3) := by decide +kernel
theorem d_m_fault_51 : decode b_m_fault 51 = .ok (.iconst 1, 1) := by decide +kernel
theorem d_m_fault_52 : decode b_m_fault 52 = .ok (.goto 4, 3) := by decide +kernel
theorem d_m_fault_55 : decode b_m_fault 55 = .ok (.iconst 0, 1) := by decide +kernel
theorem d_m_fault_56 : decode b_m_fault 56 = .ok (.istore 4, 2) := by decide +kernel
theorem d_m_fault_58 : decode b_m_fault 58 = .ok (.iload_n 1, 1) := by decide +kernel
theorem d_m_fault_59 : decode b_m_fault 59 = .ok (.ifCond .eq 15, 3) := by decide +kernel
theorem d_m_fault_62 : decode b_m_fault 62 = .ok (.aload_n 0, 1) := by decide +kernel
theorem d_m_fault_63 : decode b_m_fault 63 = .ok (.iload_n 3, 1) := by decide +kernel
theorem d_m_fault_64 : decode b_m_fault 64 = .ok (.iload_n 2, 1) := by decide +kernel
theorem d_m_fault_65 : decode b_m_fault 65 = .ok (.invokevirtual 175, 3) := by decide +kernel
theorem d_m_fault_68 : decode b_m_fault 68 = .ok (.ifCond .ne 16, 3) := by decide +kernel
theorem d_m_fault_71 : decode b_m_fault 71 = .ok (.goto 11, 3) := by decide +kernel
theorem d_m_fault_74 : decode b_m_fault 74 = .ok (.aload_n 0, 1) := by decide +kernel
theorem d_m_fault_75 : decode b_m_fault 75 = .ok (.iload_n 3, 1) := by decide +kernel
theorem d_m_fault_76 : decode b_m_fault 76 = .ok (.invokevirtual 179, 3) := by decide +kernel
theorem d_m_fault_79 : decode b_m_fault 79 = .ok (.ifCond .ne 5, 3) := by decide +kernel
theorem d_m_fault_82 : decode b_m_fault 82 = .ok (.iload_n 2, 1) := by decide +kernel
theorem d_m_fault_83 : decode b_m_fault 83 = .ok (.ireturn, 1) := by decide +kernel
theorem d_m_fault_84 : decode b_m_fault 84 = .ok (.iinc 2 1, 3) := by decide +kernel
theorem d_m_fault_87 : decode b_m_fault 87 = .ok (.iconst 1, 1) := by decide +kernel
theorem d_m_fault_88 : decode b_m_fault 88 = .ok (.istore 5, 2) := by decide +kernel
theorem d_m_fault_90 : decode b_m_fault 90 = .ok (.iload_n 1, 1) := by decide +kernel
theorem d_m_fault_91 : decode b_m_fault 91 = .ok (.ifCond .eq 45, 3) := by decide +kernel
theorem d_m_fault_94 : decode b_m_fault 94 = .ok (.iload_n 3, 1) := by decide +kernel
theorem d_m_fault_95 : decode b_m_fault 95 = .ok (.invokestatic 131, 3) := by decide +kernel
theorem d_m_fault_98 : decode b_m_fault 98 = .ok (.ifCond .eq 38, 3) := by decide +kernel
theorem d_m_fault_101 : decode b_m_fault 101 = .ok (.iload_n 2, 1) := by decide +kernel
theorem d_m_fault_102 : decode b_m_fault 102 = .ok (.aload_n 0, 1) := by decide +kernel
theorem d_m_fault_103 : decode b_m_fault 103 = .ok (.getfield 134, 3) := by decide +kernel
theorem d_m_fault_106 : decode b_m_fault 106 = .ok (.if_icmp .ge 30, 3) := by decide +kernel
theorem d_m_fault_109 : decode b_m_fault 109 = .ok (.aload_n 0, 1) := by decide +kernel
theorem d_m_fault_110 : decode b_m_fault 110 = .ok (.getfield 7, 3) := by decide +kernel
theorem d_m_fault_113 : decode b_m_fault 113 = .ok (.iload_n 2, 1) := by decide +kernel
theorem d_m_fault_114 : decode b_m_fault 114 = .ok (.iaload, 1) := by decide +kernel
theorem d_m_fault_115 : decode b_m_fault 115 = .ok (.invokestatic 131, 3) := by decide +kernel
theorem d_m_fault_118 : decode b_m_fault 118 = .ok (.ifCond .eq 18, 3) := by decide +kernel
theorem d_m_fault_121 : decode b_m_fault 121 = .ok (.iload 5, 2) := by decide +kernel
theorem d_m_fault_123 : decode b_m_fault 123 = .ok (.iconst 4, 1) := by decide +kernel
theorem d_m_fault_124 : decode b_m_fault 124 = .ok (.if_icmp .ge 12, 3) := by decide +kernel
theorem d_m_fault_127 : decode b_m_fault 127 = .ok (.iinc 2 1, 3) := by decide +kernel
theorem d_m_fault_130 : decode b_m_fault 130 = .ok (.iinc 5 1, 3) := by decide +kernel
theorem d_m_fault_133 : decode b_m_fault 133 = .ok (.goto (-43), 3) := by decide +kernel
theorem d_m_fault_136 : decode b_m_fault 136 = .ok (.iload_n 1, 1) := by decide +kernel
theorem d_m_fault_137 : decode b_m_fault 137 = .ok (.ifCond .eq 8, 3) := by decide +kernel
theorem d_m_fault_140 : decode b_m_fault 140 = .ok (.iload 4, 2) := by decide +kernel
theorem d_m_fault_142 : decode b_m_fault 142 = .ok (.goto 14, 3) := by decide +kernel
theorem d_m_fault_145 : decode b_m_fault 145 = .ok (.iload_n 3, 1) := by decide +kernel
theorem d_m_fault_146 : decode b_m_fault 146 = .ok (.bipush 41, 2) := by decide +kernel
theorem d_m_fault_148 : decode b_m_fault 148 = .ok (.if_icmp .eq 7, 3) := by decide +kernel
theorem d_m_fault_151 : decode b_m_fault 151 = .ok (.iconst 1, 1) := by decide +kernel
theorem d_m_fault_152 : decode b_m_fault 152 = .ok (.goto 4, 3) := by decide +kernel
theorem d_m_fault_155 : decode b_m_fault 155 = .ok (.iconst 0, 1) := by decide +kernel
theorem d_m_fault_156 : decode b_m_fault 156 = .ok (.istore_n 1, 1) := by decide +kernel
theorem d_m_fault_157 : decode b_m_fault 157 = .ok (.goto (-143), 3) := by decide +kernel
theorem d_m_fault_160 : decode b_m_fault 160 = .ok (.iload_n 1, 1) := by decide +kernel
theorem d_m_fault_161 : decode b_m_fault 161 = .ok (.ifCond .ne 10, 3) := by decide +kernel
theorem d_m_fault_164 : decode b_m_fault 164 = .ok (.aload_n 0, 1) := by decide +kernel
theorem d_m_fault_165 : decode b_m_fault 165 = .ok (.invokevirtual 169, 3) := by decide +kernel
theorem d_m_fault_168 : decode b_m_fault 168 = .ok (.ifCond .eq 8, 3) := by decide +kernel
theorem d_m_fault_171 : decode b_m_fault 171 = .ok (.aload_n 0, 1) := by decide +kernel
theorem d_m_fault_172 : decode b_m_fault 172 = .ok (.getfield 134, 3) := by decide +kernel
theorem d_m_fault_175 : decode b_m_fault 175 = .ok (.ireturn, 1) := by decide +kernel
theorem d_m_fault_176 : decode b_m_fault 176 = .ok (.aload_n 0, 1) := by decide +kernel
theorem d_m_fault_177 : decode b_m_fault 177 = .ok (.invokevirtual 172, 3) := by decide +kernel
theorem d_m_fault_180 : decode b_m_fault 180 = .ok (.iconst (-1), 1) := by decide +kernel
theorem d_m_fault_181 : decode b_m_fault 181 = .ok (.ireturn, 1) := by decide +kernel
theorem d_m_change_0 : decode b_m_change 0 = .ok (.aload_n 0, 1) := by decide +kernel
theorem d_m_change_1 : decode b_m_change 1 = .ok (.dup, 1) := by decide +kernel
theorem d_m_change_2 : decode b_m_change 2 = .ok (.getfield 13, 3) := by decide +kernel
theorem d_m_change_5 : decode b_m_change 5 = .ok (.iconst 1, 1) := by decide +kernel
theorem d_m_change_6 : decode b_m_change 6 = .ok (.iadd, 1) := by decide +kernel
theorem d_m_change_7 : decode b_m_change 7 = .ok (.putfield 13, 3) := by decide +kernel
theorem d_m_change_10 : decode b_m_change 10 = .ok (.iconst 0, 1) := by decide +kernel
theorem d_m_change_11 : decode b_m_change 11 = .ok (.istore_n 2, 1) := by decide +kernel
theorem d_m_change_12 : decode b_m_change 12 = .ok (.iload_n 2, 1) := by decide +kernel
theorem d_m_change_13 : decode b_m_change 13 = .ok (.iload_n 1, 1) := by decide +kernel
theorem d_m_change_14 : decode b_m_change 14 = .ok (.if_icmp .gt 19, 3) := by decide +kernel
theorem d_m_change_17 : decode b_m_change 17 = .ok (.aload_n 0, 1) := by decide +kernel
theorem d_m_change_18 : decode b_m_change 18 = .ok (.getfield 17, 3) := by decide +kernel
theorem d_m_change_21 : decode b_m_change 21 = .ok (.iload_n 2, 1) := by decide +kernel
theorem d_m_change_22 : decode b_m_change 22 = .ok (.aload_n 0, 1) := by decide +kernel
theorem d_m_change_23 : decode b_m_change 23 = .ok (.getfield 13, 3) := by decide +kernel
theorem d_m_change_26 : decode b_m_change 26 = .ok (.iastore, 1) := by decide +kernel
theorem d_m_change_27 : decode b_m_change 27 = .ok (.iinc 2 1, 3) := by decide +kernel
theorem d_m_change_30 : decode b_m_change 30 = .ok (.goto (-18), 3) := by decide +kernel
theorem d_m_change_33 : decode b_m_change 33 = .ok (.return_, 1) := by decide +kernel
theorem d_m_define_0 : decode b_m_define 0 = .ok (.aload_n 0, 1) := by decide +kernel
theorem d_m_define_1 : decode b_m_define 1 = .ok (.invokevirtual 182, 3) := by decide +kernel
theorem d_m_define_4 : decode b_m_define 4 = .ok (.istore_n 2, 1) := by decide +kernel
theorem d_m_define_5 : decode b_m_define 5 = .ok (.aload_n 0, 1) := by decide +kernel
theorem d_m_define_6 : decode b_m_define 6 = .ok (.getfield 134, 3) := by decide +kernel
theorem d_m_define_9 : decode b_m_define 9 = .ok (.istore_n 3, 1) := by decide +kernel
theorem d_m_define_10 : decode b_m_define 10 = .ok (.aload_n 0, 1) := by decide +kernel
theorem d_m_define_11 : decode b_m_define 11 = .ok (.iconst 0, 1) := by decide +kernel
theorem d_m_define_12 : decode b_m_define 12 = .ok (.putfield 134, 3) := by decide +kernel
theorem d_m_define_15 : decode b_m_define 15 = .ok (.iload_n 1, 1) := by decide +kernel
theorem d_m_define_16 : decode b_m_define 16 = .ok (.invokestatic 185, 3) := by decide +kernel
theorem d_m_define_19 : decode b_m_define 19 = .ok (.ifCond .ne 5, 3) := by decide +kernel
theorem d_m_define_22 : decode b_m_define 22 = .ok (.iconst (-1), 1) := by decide +kernel
theorem d_m_define_23 : decode b_m_define 23 = .ok (.ireturn, 1) := by decide +kernel
theorem d_m_define_24 : decode b_m_define 24 = .ok (.iload_n 2, 1) := by decide +kernel
theorem d_m_define_25 : decode b_m_define 25 = .ok (.ifCond .lt 7, 3) := by decide +kernel
theorem d_m_define_28 : decode b_m_define 28 = .ok (.iconst 1, 1) := by decide +kernel
theorem d_m_define_29 : decode b_m_define 29 = .ok (.iload_n 2, 1) := by decide +kernel
theorem d_m_define_30 : decode b_m_define 30 = .ok (.iadd, 1) := by decide +kernel
theorem d_m_define_31 : decode b_m_define 31 = .ok (.ireturn, 1) := by decide +kernel
theorem d_m_define_32 : decode b_m_define 32 = .ok (.aload_n 0, 1) := by decide +kernel
theorem d_m_define_33 : decode b_m_define 33 = .ok (.getfield 20, 3) := by decide +kernel
theorem d_m_define_36 : decode b_m_define 36 = .ok (.iload_n 1, 1) := by decide +kernel
theorem d_m_define_37 : decode b_m_define 37 = .ok (.baload, 1) := by decide +kernel
theorem d_m_define_38 : decode b_m_define 38 = .ok (.ifCond .eq 17, 3) := by decide +kernel
theorem d_m_define_41 : decode b_m_define 41 = .ok (.aload_n 0, 1) := by decide +kernel
theorem d_m_define_42 : decode b_m_define 42 = .ok (.getfield 27, 3) := by decide +kernel
theorem d_m_define_45 : decode b_m_define 45 = .ok (.iload_n 1, 1) := by decide +kernel
theorem d_m_define_46 : decode b_m_define 46 = .ok (.iaload, 1) := by decide +kernel
theorem d_m_define_47 : decode b_m_define 47 = .ok (.iload_n 3, 1) := by decide +kernel
theorem d_m_define_48 : decode b_m_define 48 = .ok (.if_icmp .ne 7, 3) := by decide +kernel
theorem d_m_define_51 : decode b_m_define 51 = .ok (.iconst 1, 1) := by decide +kernel
theorem d_m_define_52 : decode b_m_define 52 = .ok (.goto 4, 3) := by decide +kernel
theorem d_m_define_55 : decode b_m_define 55 = .ok (.iconst 0, 1) := by decide +kernel
theorem d_m_define_56 : decode b_m_define 56 = .ok (.istore 4, 2) := by decide +kernel
theorem d_m_define_58 : decode b_m_define 58 = .ok (.iconst 0, 1) := by decide +kernel
theorem d_m_define_59 : decode b_m_define 59 = .ok (.istore 5, 2) := by decide +kernel
theorem d_m_define_61 : decode b_m_define 61 = .ok (.iload 5, 2) := by decide +kernel
theorem d_m_define_63 : decode b_m_define 63 = .ok (.iload_n 3, 1) := by decide +kernel
theorem d_m_define_64 : decode b_m_define 64 = .ok (.if_icmp .ge 43, 3) := by decide +kernel
theorem d_m_define_67 : decode b_m_define 67 = .ok (.iload 4, 2) := by decide +kernel
theorem d_m_define_69 : decode b_m_define 69 = .ok (.ifCond .eq 29, 3) := by decide +kernel
theorem d_m_define_72 : decode b_m_define 72 = .ok (.aload_n 0, 1) := by decide +kernel
theorem d_m_define_73 : decode b_m_define 73 = .ok (.getfield 24, 3) := by decide +kernel
theorem d_m_define_76 : decode b_m_define 76 = .ok (.bipush 30, 2) := by decide +kernel
theorem d_m_define_78 : decode b_m_define 78 = .ok (.iload_n 1, 1) := by decide +kernel
theorem d_m_define_79 : decode b_m_define 79 = .ok (.imul, 1) := by decide +kernel
theorem d_m_define_80 : decode b_m_define 80 = .ok (.iload 5, 2) := by decide +kernel
theorem d_m_define_82 : decode b_m_define 82 = .ok (.iadd, 1) := by decide +kernel
theorem d_m_define_83 : decode b_m_define 83 = .ok (.iaload, 1) := by decide +kernel
theorem d_m_define_84 : decode b_m_define 84 = .ok (.aload_n 0, 1) := by decide +kernel
theorem d_m_define_85 : decode b_m_define 85 = .ok (.getfield 7, 3) := by decide +kernel
theorem d_m_define_88 : decode b_m_define 88 = .ok (.iload 5, 2) := by decide +kernel
theorem d_m_define_90 : decode b_m_define 90 = .ok (.iaload, 1) := by decide +kernel
theorem d_m_define_91 : decode b_m_define 91 = .ok (.if_icmp .ne 7, 3) := by decide +kernel
theorem d_m_define_94 : decode b_m_define 94 = .ok (.iconst 1, 1) := by decide +kernel
theorem d_m_define_95 : decode b_m_define 95 = .ok (.goto 4, 3) := by decide +kernel
theorem d_m_define_98 : decode b_m_define 98 = .ok (.iconst 0, 1) := by decide +kernel
theorem d_m_define_99 : decode b_m_define 99 = .ok (.istore 4, 2) := by decide +kernel
theorem d_m_define_101 : decode b_m_define 101 = .ok (.iinc 5 1, 3) := by decide +kernel
theorem d_m_define_104 : decode b_m_define 104 = .ok (.goto (-43), 3) := by decide +kernel
theorem d_m_define_107 : decode b_m_define 107 = .ok (.iload 4, 2) := by decide +kernel
theorem d_m_define_109 : decode b_m_define 109 = .ok (.ifCond .eq 5, 3) := by decide +kernel
theorem d_m_define_112 : decode b_m_define 112 = .ok (.iconst 0, 1) := by decide +kernel
theorem d_m_define_113 : decode b_m_define 113 = .ok (.ireturn, 1) := by decide +kernel
theorem d_m_define_114 : decode b_m_define 114 = .ok (.aload_n 0, 1) := by decide +kernel
theorem d_m_define_115 : decode b_m_define 115 = .ok (.aload_n 0, 1) := by decide +kernel
theorem d_m_define_116 : decode b_m_define 116 = .ok (.getfield 20, 3) := by decide +kernel
theorem d_m_define_119 : decode b_m_define 119 = .ok (.iload_n 1, 1) := by decide +kernel
theorem d_m_define_120 : decode b_m_define 120 = .ok (.baload, 1) := by decide +kernel
theorem d_m_define_121 : decode b_m_define 121 = .ok (.ifCond .eq 7, 3) := by decide +kernel
theorem d_m_define_124 : decode b_m_define 124 = .ok (.iconst 2, 1) := by decide +kernel
theorem d_m_define_125 : decode b_m_define 125 = .ok (.goto 9, 3) := by decide +kernel
theorem d_m_define_128 : decode b_m_define 128 = .ok (.aload_n 0, 1) := by decide +kernel
theorem d_m_define_129 : decode b_m_define 129 = .ok (.getfield 45, 3) := by decide +kernel
theorem d_m_define_132 : decode b_m_define 132 = .ok (.iload_n 1, 1) := by decide +kernel
theorem d_m_define_133 : decode b_m_define 133 = .ok (.iaload, 1) := by decide +kernel
theorem d_m_define_134 : decode b_m_define 134 = .ok (.invokevirtual 188, 3) := by decide +kernel
theorem d_m_define_137 : decode b_m_define 137 = .ok (.aload_n 0, 1) := by decide +kernel
theorem d_m_define_138 : decode b_m_define 138 = .ok (.getfield 51, 3) := by decide +kernel
theorem d_m_define_141 : decode b_m_define 141 = .ok (.iload_n 1, 1) := by decide +kernel
theorem d_m_define_142 : decode b_m_define 142 = .ok (.aload_n 0, 1) := by decide +kernel
theorem d_m_define_143 : decode b_m_define 143 = .ok (.getfield 51, 3) := by decide +kernel
theorem d_m_define_146 : decode b_m_define 146 = .ok (.iload_n 1, 1) := by decide +kernel
theorem d_m_define_147 : decode b_m_define 147 = .ok (.baload, 1) := by decide +kernel
theorem d_m_define_148 : decode b_m_define 148 = .ok (.ifCond .eq 16, 3) := by decide +kernel
theorem d_m_define_151 : decode b_m_define 151 = .ok (.aload_n 0, 1) := by decide +kernel
theorem d_m_define_152 : decode b_m_define 152 = .ok (.getfield 20, 3) := by decide +kernel
theorem d_m_define_155 : decode b_m_define 155 = .ok (.iload_n 1, 1) := by decide +kernel
theorem d_m_define_156 : decode b_m_define 156 = .ok (.baload, 1) := by decide +kernel
theorem d_m_define_157 : decode b_m_define 157 = .ok (.ifCond .eq 7, 3) := by decide +kernel
theorem d_m_define_160 : decode b_m_define 160 = .ok (.iconst 1, 1) := by decide +kernel
theorem d_m_define_161 : decode b_m_define 161 = .ok (.goto 4, 3) := by decide +kernel
theorem d_m_define_164 : decode b_m_define 164 = .ok (.iconst 0, 1) := by decide +kernel
theorem d_m_define_165 : decode b_m_define 165 = .ok (.bastore, 1) := by decide +kernel
theorem d_m_define_166 : decode b_m_define 166 = .ok (.aload_n 0, 1) := by decide +kernel
theorem d_m_define_167 : decode b_m_define 167 = .ok (.getfield 54, 3) := by decide +kernel
theorem d_m_define_170 : decode b_m_define 170 = .ok (.iload_n 1, 1) := by decide +kernel
theorem d_m_define_171 : decode b_m_define 171 = .ok (.aload_n 0, 1) := by decide +kernel
theorem d_m_define_172 : decode b_m_define 172 = .ok (.getfield 54, 3) := by decide +kernel
theorem d_m_define_175 : decode b_m_define 175 = .ok (.iload_n 1, 1) := by decide +kernel
theorem d_m_define_176 : decode b_m_define 176 = .ok (.baload, 1) := by decide +kernel
theorem d_m_define_177 : decode b_m_define 177 = .ok (.ifCond .eq 16, 3) := by decide +kernel
theorem d_m_define_180 : decode b_m_define 180 = .ok (.aload_n 0, 1) := by decide +kernel
theorem d_m_define_181 : decode b_m_define 181 = .ok (.getfield 20, 3) := by decide +kernel
theorem d_m_define_184 : decode b_m_define 184 = .ok (.iload_n 1, 1) := by decide +kernel
theorem d_m_define_185 : decode b_m_define 185 = .ok (.baload, 1) := by decide +kernel
theorem d_m_define_186 : decode b_m_define 186 = .ok (.ifCond .eq 7, 3) := by decide +kernel
theorem d_m_define_189 : decode b_m_define 189 = .ok (.iconst 1, 1) := by decide +kernel
theorem d_m_define_190 : decode b_m_define 190 = .ok (.goto 4, 3) := by decide +kernel
theorem d_m_define_193 : decode b_m_define 193 = .ok (.iconst 0, 1) := by decide +kernel
theorem d_m_define_194 : decode b_m_define 194 = .ok (.bastore, 1) := by decide +kernel
theorem d_m_define_195 : decode b_m_define 195 = .ok (.aload_n 0, 1) := by decide +kernel
theorem d_m_define_196 : decode b_m_define 196 = .ok (.getfield 20, 3) := by decide +kernel
theorem d_m_define_199 : decode b_m_define 199 = .ok (.iload_n 1, 1) := by decide +kernel
theorem d_m_define_200 : decode b_m_define 200 = .ok (.iconst 1, 1) := by decide +kernel
theorem d_m_define_201 : decode b_m_define 201 = .ok (.bastore, 1) := by decide +kernel
theorem d_m_define_202 : decode b_m_define 202 = .ok (.aload_n 0, 1) := by decide +kernel
theorem d_m_define_203 : decode b_m_define 203 = .ok (.getfield 27, 3) := by decide +kernel
theorem d_m_define_206 : decode b_m_define 206 = .ok (.iload_n 1, 1) := by decide +kernel
theorem d_m_define_207 : decode b_m_define 207 = .ok (.iload_n 3, 1) := by decide +kernel
theorem d_m_define_208 : decode b_m_define 208 = .ok (.iastore, 1) := by decide +kernel
theorem d_m_define_209 : decode b_m_define 209 = .ok (.aload_n 0, 1) := by decide +kernel
theorem d_m_define_210 : decode b_m_define 210 = .ok (.getfield 30, 3) := by decide +kernel
theorem d_m_define_213 : decode b_m_define 213 = .ok (.iload_n 1, 1) := by decide +kernel
theorem d_m_define_214 : decode b_m_define 214 = .ok (.aload_n 0, 1) := by decide +kernel
theorem d_m_define_215 : decode b_m_define 215 = .ok (.getfield 137, 3) := by decide +kernel
theorem d_m_define_218 : decode b_m_define 218 = .ok (.iastore, 1) := by decide +kernel
theorem d_m_define_219 : decode b_m_define 219 = .ok (.aload_n 0, 1) := by decide +kernel
theorem d_m_define_220 : decode b_m_define 220 = .ok (.getfield 39, 3) := by decide +kernel
theorem d_m_define_223 : decode b_m_define 223 = .ok (.iload_n 1, 1) := by decide +kernel
theorem d_m_define_224 : decode b_m_define 224 = .ok (.aload_n 0, 1) := by decide +kernel
theorem d_m_define_225 : decode b_m_define 225 = .ok (.getfield 13, 3) := by decide +kernel
theorem d_m_define_228 : decode b_m_define 228 = .ok (.iastore, 1) := by decide +kernel
theorem d_m_define_229 : decode b_m_define 229 = .ok (.iconst 0, 1) := by decide +kernel
theorem d_m_define_230 : decode b_m_define 230 = .ok (.istore 5, 2) := by decide +kernel
theorem d_m_define_232 : decode b_m_define 232 = .ok (.iload 5, 2) := by decide +kernel
theorem d_m_define_234 : decode b_m_define 234 = .ok (.iload_n 3, 1) := by decide +kernel
theorem d_m_define_235 : decode b_m_define 235 = .ok (.if_icmp .ge 28, 3) := by decide +kernel
theorem d_m_define_238 : decode b_m_define 238 = .ok (.aload_n 0, 1) := by decide +kernel
theorem d_m_define_239 : decode b_m_define 239 = .ok (.getfield 24, 3) := by decide +kernel
theorem d_m_define_242 : decode b_m_define 242 = .ok (.bipush 30, 2) := by decide +kernel
theorem d_m_define_244 : decode b_m_define 244 = .ok (.iload_n 1, 1) := by decide +kernel
theorem d_m_define_245 : decode b_m_define 245 = .ok (.imul, 1) := by decide +kernel
theorem d_m_define_246 : decode b_m_define 246 = .ok (.iload 5, 2) := by decide +kernel
theorem d_m_define_248 : decode b_m_define 248 = .ok (.iadd, 1) := by decide +kernel
theorem d_m_define_249 : decode b_m_define 249 = .ok (.aload_n 0, 1) := by decide +kernel
theorem d_m_define_250 : decode b_m_define 250 = .ok (.getfield 7, 3) := by decide +kernel
theorem d_m_define_253 : decode b_m_define 253 = .ok (.iload 5, 2) := by decide +kernel
theorem d_m_define_255 : decode b_m_define 255 = .ok (.iaload, 1) := by decide +kernel
theorem d_m_define_256 : decode b_m_define 256 = .ok (.iastore, 1) := by decide +kernel
theorem d_m_define_257 : decode b_m_define 257 = .ok (.iinc 5 1, 3) := by decide +kernel
theorem d_m_define_260 : decode b_m_define 260 = .ok (.goto (-28), 3) := by decide +kernel
theorem d_m_define_263 : decode b_m_define 263 = .ok (.iconst 0, 1) := by decide +kernel
theorem d_m_define_264 : decode b_m_define 264 = .ok (.istore 5, 2) := by decide +kernel
theorem d_m_define_266 : decode b_m_define 266 = .ok (.iload 5, 2) := by decide +kernel
theorem d_m_define_268 : decode b_m_define 268 = .ok (.aload_n 0, 1) := by decide +kernel
theorem d_m_define_269 : decode b_m_define 269 = .ok (.getfield 137, 3) := by decide +kernel
theorem d_m_define_272 : decode b_m_define 272 = .ok (.if_icmp .ge 47, 3) := by decide +kernel
theorem d_m_define_275 : decode b_m_define 275 = .ok (.aload_n 0, 1) := by decide +kernel
theorem d_m_define_276 : decode b_m_define 276 = .ok (.getfield 33, 3) := by decide +kernel
theorem d_m_define_279 : decode b_m_define 279 = .ok (.bipush 40, 2) := by decide +kernel
theorem d_m_define_281 : decode b_m_define 281 = .ok (.iload_n 1, 1) := by decide +kernel
theorem d_m_define_282 : decode b_m_define 282 = .ok (.imul, 1) := by decide +kernel
theorem d_m_define_283 : decode b_m_define 283 = .ok (.iload 5, 2) := by decide +kernel
theorem d_m_define_285 : decode b_m_define 285 = .ok (.iadd, 1) := by decide +kernel
theorem d_m_define_286 : decode b_m_define 286 = .ok (.aload_n 0, 1) := by decide +kernel
theorem d_m_define_287 : decode b_m_define 287 = .ok (.getfield 118, 3) := by decide +kernel
theorem d_m_define_290 : decode b_m_define 290 = .ok (.iload 5, 2) := by decide +kernel
theorem d_m_define_292 : decode b_m_define 292 = .ok (.iaload, 1) := by decide +kernel
theorem d_m_define_293 : decode b_m_define 293 = .ok (.iastore, 1) := by decide +kernel
theorem d_m_define_294 : decode b_m_define 294 = .ok (.aload_n 0, 1) := by decide +kernel
theorem d_m_define_295 : decode b_m_define 295 = .ok (.getfield 36, 3) := by decide +kernel
theorem d_m_define_298 : decode b_m_define 298 = .ok (.bipush 40, 2) := by decide +kernel
theorem d_m_define_300 : decode b_m_define 300 = .ok (.iload_n 1, 1) := by decide +kernel
theorem d_m_define_301 : decode b_m_define 301 = .ok (.imul, 1) := by decide +kernel
theorem d_m_define_302 : decode b_m_define 302 = .ok (.iload 5, 2) := by decide +kernel
theorem d_m_define_304 : decode b_m_define 304 = .ok (.iadd, 1) := by decide +kernel
theorem d_m_define_305 : decode b_m_define 305 = .ok (.aload_n 0, 1) := by decide +kernel
theorem d_m_define_306 : decode b_m_define 306 = .ok (.getfield 121, 3) := by decide +kernel
theorem d_m_define_309 : decode b_m_define 309 = .ok (.iload 5, 2) := by decide +kernel
theorem d_m_define_311 : decode b_m_define 311 = .ok (.iaload, 1) := by decide +kernel
theorem d_m_define_312 : decode b_m_define 312 = .ok (.iastore, 1) := by decide +kernel
theorem d_m_define_313 : decode b_m_define 313 = .ok (.iinc 5 1, 3) := by decide +kernel
theorem d_m_define_316 : decode b_m_define 316 = .ok (.goto (-50), 3) := by decide +kernel
theorem d_m_define_319 : decode b_m_define 319 = .ok (.iconst 0, 1) := by decide +kernel
theorem d_m_define_320 : decode b_m_define 320 = .ok (.ireturn, 1) := by decide +kernel
theorem d_m_set_0 : decode b_m_set 0 = .ok (.iload_n 1, 1) := by decide +kernel
theorem d_m_set_1 : decode b_m_set 1 = .ok (.invokestatic 185, 3) := by decide +kernel
theorem d_m_set_4 : decode b_m_set 4 = .ok (.ifCond .eq 12, 3) := by decide +kernel
theorem d_m_set_7 : decode b_m_set 7 = .ok (.iload_n 3, 1) := by decide +kernel
theorem d_m_set_8 : decode b_m_set 8 = .ok (.ifCond .lt 8, 3) := by decide +kernel
theorem d_m_set_11 : decode b_m_set 11 = .ok (.iload_n 3, 1) := by decide +kernel
theorem d_m_set_12 : decode b_m_set 12 = .ok (.iconst 2, 1) := by decide +kernel
theorem d_m_set_13 : decode b_m_set 13 = .ok (.if_icmp .le 5, 3) := by decide +kernel
theorem d_m_set_16 : decode b_m_set 16 = .ok (.iconst 0, 1) := by decide +kernel
theorem d_m_set_17 : decode b_m_set 17 = .ok (.ireturn, 1) := by decide +kernel
theorem d_m_set_18 : decode b_m_set 18 = .ok (.aload_n 0, 1) := by decide +kernel
theorem d_m_set_19 : decode b_m_set 19 = .ok (.getfield 20, 3) := by decide +kernel
theorem d_m_set_22 : decode b_m_set 22 = .ok (.iload_n 1, 1) := by decide +kernel
theorem d_m_set_23 : decode b_m_set 23 = .ok (.baload, 1) := by decide +kernel
theorem d_m_set_24 : decode b_m_set 24 = .ok (.istore 4, 2) := by decide +kernel
theorem d_m_set_26 : decode b_m_set 26 = .ok (.iload 4, 2) := by decide +kernel
theorem d_m_set_28 : decode b_m_set 28 = .ok (.ifCond .ne 25, 3) := by decide +kernel
theorem d_m_set_31 : decode b_m_set 31 = .ok (.aload_n 0, 1) := by decide +kernel
theorem d_m_set_32 : decode b_m_set 32 = .ok (.getfield 42, 3) := by decide +kernel
theorem d_m_set_35 : decode b_m_set 35 = .ok (.iload_n 1, 1) := by decide +kernel
theorem d_m_set_36 : decode b_m_set 36 = .ok (.iaload, 1) := by decide +kernel
theorem d_m_set_37 : decode b_m_set 37 = .ok (.iload_n 2, 1) := by decide +kernel
theorem d_m_set_38 : decode b_m_set 38 = .ok (.if_icmp .ne 15, 3) := by decide +kernel
theorem d_m_set_41 : decode b_m_set 41 = .ok (.aload_n 0, 1) := by decide +kernel
theorem d_m_set_42 : decode b_m_set 42 = .ok (.getfield 45, 3) := by decide +kernel
theorem d_m_set_45 : decode b_m_set 45 = .ok (.iload_n 1, 1) := by decide +kernel
theorem d_m_set_46 : decode b_m_set 46 = .ok (.iaload, 1) := by decide +kernel
theorem d_m_set_47 : decode b_m_set 47 = .ok (.iload_n 3, 1) := by decide +kernel
theorem d_m_set_48 : decode b_m_set 48 = .ok (.if_icmp .ne 5, 3) := by decide +kernel
theorem d_m_set_51 : decode b_m_set 51 = .ok (.iconst 1, 1) := by decide +kernel
theorem d_m_set_52 : decode b_m_set 52 = .ok (.ireturn, 1) := by decide +kernel
theorem d_m_set_53 : decode b_m_set 53 = .ok (.aload_n 0, 1) := by decide +kernel
theorem d_m_set_54 : decode b_m_set 54 = .ok (.iload 4, 2) := by decide +kernel
theorem d_m_set_56 : decode b_m_set 56 = .ok (.ifCond .eq 7, 3) := by decide +kernel
theorem d_m_set_59 : decode b_m_set 59 = .ok (.iconst 2, 1) := by decide +kernel
theorem d_m_set_60 : decode b_m_set 60 = .ok (.goto 9, 3) := by decide +kernel
theorem d_m_set_63 : decode b_m_set 63 = .ok (.aload_n 0, 1) := by decide +kernel
theorem d_m_set_64 : decode b_m_set 64 = .ok (.getfield 45, 3) := by decide +kernel
theorem d_m_set_67 : decode b_m_set 67 = .ok (.iload_n 1, 1) := by decide +kernel
theorem d_m_set_68 : decode b_m_set 68 = .ok (.iaload, 1) := by decide +kernel
theorem d_m_set_69 : decode b_m_set 69 = .ok (.invokevirtual 188, 3) := by decide +kernel
theorem d_m_set_72 : decode b_m_set 72 = .ok (.aload_n 0, 1) := by decide +kernel
theorem d_m_set_73 : decode b_m_set 73 = .ok (.getfield 48, 3) := by decide +kernel
theorem d_m_set_76 : decode b_m_set 76 = .ok (.iload_n 1, 1) := by decide +kernel
theorem d_m_set_77 : decode b_m_set 77 = .ok (.iload 4, 2) := by decide +kernel
theorem d_m_set_79 : decode b_m_set 79 = .ok (.ifCond .ne 13, 3) := by decide +kernel
theorem d_m_set_82 : decode b_m_set 82 = .ok (.aload_n 0, 1) := by decide +kernel
theorem d_m_set_83 : decode b_m_set 83 = .ok (.getfield 42, 3) := by decide +kernel
theorem d_m_set_86 : decode b_m_set 86 = .ok (.iload_n 1, 1) := by decide +kernel
theorem d_m_set_87 : decode b_m_set 87 = .ok (.iaload, 1) := by decide +kernel
theorem d_m_set_88 : decode b_m_set 88 = .ok (.iload_n 2, 1) := by decide +kernel
theorem d_m_set_89 : decode b_m_set 89 = .ok (.if_icmp .eq 10, 3) := by decide +kernel
theorem d_m_set_92 : decode b_m_set 92 = .ok (.aload_n 0, 1) := by decide +kernel
theorem d_m_set_93 : decode b_m_set 93 = .ok (.getfield 13, 3) := by decide +kernel
theorem d_m_set_96 : decode b_m_set 96 = .ok (.goto 9, 3) := by decide +kernel
theorem d_m_set_99 : decode b_m_set 99 = .ok (.aload_n 0, 1) := by decide +kernel
theorem d_m_set_100 : decode b_m_set 100 = .ok (.getfield 48, 3) := by decide +kernel
theorem d_m_set_103 : decode b_m_set 103 = .ok (.iload_n 1, 1) := by decide +kernel
theorem d_m_set_104 : decode b_m_set 104 = .ok (.iaload, 1) := by decide +kernel
theorem d_m_set_105 : decode b_m_set 105 = .ok (.iastore, 1) := by decide +kernel
theorem d_m_set_106 : decode b_m_set 106 = .ok (.aload_n 0, 1) := by decide +kernel
theorem d_m_set_107 : decode b_m_set 107 = .ok (.getfield 20, 3) := by decide +kernel
theorem d_m_set_110 : decode b_m_set 110 = .ok (.iload_n 1, 1) := by decide +kernel
theorem d_m_set_111 : decode b_m_set 111 = .ok (.iconst 0, 1) := by decide +kernel
theorem d_m_set_112 : decode b_m_set 112 = .ok (.bastore, 1) := by decide +kernel
theorem d_m_set_113 : decode b_m_set 113 = .ok (.aload_n 0, 1) := by decide +kernel
theorem d_m_set_114 : decode b_m_set 114 = .ok (.getfield 51, 3) := by decide +kernel
theorem d_m_set_117 : decode b_m_set 117 = .ok (.iload_n 1, 1) := by decide +kernel
theorem d_m_set_118 : decode b_m_set 118 = .ok (.iconst 0, 1) := by decide +kernel
theorem d_m_set_119 : decode b_m_set 119 = .ok (.bastore, 1) := by decide +kernel
theorem d_m_set_120 : decode b_m_set 120 = .ok (.aload_n 0, 1) := by decide +kernel
theorem d_m_set_121 : decode b_m_set 121 = .ok (.getfield 54, 3) := by decide +kernel
theorem d_m_set_124 : decode b_m_set 124 = .ok (.iload_n 1, 1) := by decide +kernel
theorem d_m_set_125 : decode b_m_set 125 = .ok (.iconst 0, 1) := by decide +kernel
theorem d_m_set_126 : decode b_m_set 126 = .ok (.bastore, 1) := by decide +kernel
theorem d_m_set_127 : decode b_m_set 127 = .ok (.aload_n 0, 1) := by decide +kernel
theorem d_m_set_128 : decode b_m_set 128 = .ok (.getfield 42, 3) := by decide +kernel
theorem d_m_set_131 : decode b_m_set 131 = .ok (.iload_n 1, 1) := by decide +kernel
theorem d_m_set_132 : decode b_m_set 132 = .ok (.iload_n 2, 1) := by decide +kernel
theorem d_m_set_133 : decode b_m_set 133 = .ok (.iastore, 1) := by decide +kernel
theorem d_m_set_134 : decode b_m_set 134 = .ok (.aload_n 0, 1) := by decide +kernel
theorem d_m_set_135 : decode b_m_set 135 = .ok (.getfield 45, 3) := by decide +kernel
theorem d_m_set_138 : decode b_m_set 138 = .ok (.iload_n 1, 1) := by decide +kernel
theorem d_m_set_139 : decode b_m_set 139 = .ok (.iload_n 3, 1) := by decide +kernel
theorem d_m_set_140 : decode b_m_set 140 = .ok (.iastore, 1) := by decide +kernel
theorem d_m_set_141 : decode b_m_set 141 = .ok (.iconst 1, 1) := by decide +kernel
theorem d_m_set_142 : decode b_m_set 142 = .ok (.ireturn, 1) := by decide +kernel
theorem d_m_settled_0 : decode b_m_settled 0 = .ok (.aload_n 0, 1) := by decide +kernel
theorem d_m_settled_1 : decode b_m_settled 1 = .ok (.getfield 20, 3) := by decide +kernel
theorem d_m_settled_4 : decode b_m_settled 4 = .ok (.iload_n 1, 1) := by decide +kernel
theorem d_m_settled_5 : decode b_m_settled 5 = .ok (.baload, 1) := by decide +kernel
theorem d_m_settled_6 : decode b_m_settled 6 = .ok (.ifCond .eq 25, 3) := by decide +kernel
theorem d_m_settled_9 : decode b_m_settled 9 = .ok (.aload_n 0, 1) := by decide +kernel
theorem d_m_settled_10 : decode b_m_settled 10 = .ok (.getfield 51, 3) := by decide +kernel
theorem d_m_settled_13 : decode b_m_settled 13 = .ok (.iload_n 1, 1) := by decide +kernel
theorem d_m_settled_14 : decode b_m_settled 14 = .ok (.baload, 1) := by decide +kernel
theorem d_m_settled_15 : decode b_m_settled 15 = .ok (.ifCond .eq 20, 3) := by decide +kernel
theorem d_m_settled_18 : decode b_m_settled 18 = .ok (.aload_n 0, 1) := by decide +kernel
theorem d_m_settled_19 : decode b_m_settled 19 = .ok (.getfield 61, 3) := by decide +kernel
theorem d_m_settled_22 : decode b_m_settled 22 = .ok (.iload_n 1, 1) := by decide +kernel
theorem d_m_settled_23 : decode b_m_settled 23 = .ok (.iaload, 1) := by decide +kernel
theorem d_m_settled_24 : decode b_m_settled 24 = .ok (.aload_n 0, 1) := by decide +kernel
theorem d_m_settled_25 : decode b_m_settled 25 = .ok (.getfield 13, 3) := by decide +kernel
theorem d_m_settled_28 : decode b_m_settled 28 = .ok (.if_icmp .ne 7, 3) := by decide +kernel
theorem d_m_settled_31 : decode b_m_settled 31 = .ok (.iconst 1, 1) := by decide +kernel
theorem d_m_settled_32 : decode b_m_settled 32 = .ok (.goto 4, 3) := by decide +kernel
theorem d_m_settled_35 : decode b_m_settled 35 = .ok (.iconst 0, 1) := by decide +kernel
theorem d_m_settled_36 : decode b_m_settled 36 = .ok (.ireturn, 1) := by decide +kernel
theorem d_m_durabilityOf_0 : decode b_m_durabilityOf 0 = .ok (.aload_n 0, 1) := by decide +kernel
theorem d_m_durabilityOf_1 : decode b_m_durabilityOf 1 = .ok (.getfield 20, 3) := by decide +kernel
theorem d_m_durabilityOf_4 : decode b_m_durabilityOf 4 = .ok (.iload_n 1, 1) := by decide +kernel
theorem d_m_durabilityOf_5 : decode b_m_durabilityOf 5 = .ok (.baload, 1) := by decide +kernel
theorem d_m_durabilityOf_6 : decode b_m_durabilityOf 6 = .ok (.ifCond .eq 12, 3) := by decide +kernel
theorem d_m_durabilityOf_9 : decode b_m_durabilityOf 9 = .ok (.aload_n 0, 1) := by decide +kernel
theorem d_m_durabilityOf_10 : decode b_m_durabilityOf 10 = .ok (.getfield 67, 3) := by decide +kernel
theorem d_m_durabilityOf_13 : decode b_m_durabilityOf 13 = .ok (.iload_n 1, 1) := by decide +kernel
theorem d_m_durabilityOf_14 : decode b_m_durabilityOf 14 = .ok (.iaload, 1) := by decide +kernel
theorem d_m_durabilityOf_15 : decode b_m_durabilityOf 15 = .ok (.goto 9, 3) := by decide +kernel
theorem d_m_durabilityOf_18 : decode b_m_durabilityOf 18 = .ok (.aload_n 0, 1) := by decide +kernel
theorem d_m_durabilityOf_19 : decode b_m_durabilityOf 19 = .ok (.getfield 45, 3) := by decide +kernel
theorem d_m_durabilityOf_22 : decode b_m_durabilityOf 22 = .ok (.iload_n 1, 1) := by decide +kernel
theorem d_m_durabilityOf_23 : decode b_m_durabilityOf 23 = .ok (.iaload, 1) := by decide +kernel
theorem d_m_durabilityOf_24 : decode b_m_durabilityOf 24 = .ok (.ireturn, 1) := by decide +kernel
theorem d_m_sinceOf_0 : decode b_m_sinceOf 0 = .ok (.aload_n 0, 1) := by decide +kernel
theorem d_m_sinceOf_1 : decode b_m_sinceOf 1 = .ok (.getfield 20, 3) := by decide +kernel
theorem d_m_sinceOf_4 : decode b_m_sinceOf 4 = .ok (.iload_n 1, 1) := by decide +kernel
theorem d_m_sinceOf_5 : decode b_m_sinceOf 5 = .ok (.baload, 1) := by decide +kernel
theorem d_m_sinceOf_6 : decode b_m_sinceOf 6 = .ok (.ifCond .eq 12, 3) := by decide +kernel
theorem d_m_sinceOf_9 : decode b_m_sinceOf 9 = .ok (.aload_n 0, 1) := by decide +kernel
theorem d_m_sinceOf_10 : decode b_m_sinceOf 10 = .ok (.getfield 64, 3) := by decide +kernel
theorem d_m_sinceOf_13 : decode b_m_sinceOf 13 = .ok (.iload_n 1, 1) := by decide +kernel
theorem d_m_sinceOf_14 : decode b_m_sinceOf 14 = .ok (.iaload, 1) := by decide +kernel
theorem d_m_sinceOf_15 : decode b_m_sinceOf 15 = .ok (.goto 9, 3) := by decide +kernel
theorem d_m_sinceOf_18 : decode b_m_sinceOf 18 = .ok (.aload_n 0, 1) := by decide +kernel
theorem d_m_sinceOf_19 : decode b_m_sinceOf 19 = .ok (.getfield 48, 3) := by decide +kernel
theorem d_m_sinceOf_22 : decode b_m_sinceOf 22 = .ok (.iload_n 1, 1) := by decide +kernel
theorem d_m_sinceOf_23 : decode b_m_sinceOf 23 = .ok (.iaload, 1) := by decide +kernel
theorem d_m_sinceOf_24 : decode b_m_sinceOf 24 = .ok (.ireturn, 1) := by decide +kernel
theorem d_m_start_0 : decode b_m_start 0 = .ok (.aload_n 0, 1) := by decide +kernel
theorem d_m_start_1 : decode b_m_start 1 = .ok (.getfield 85, 3) := by decide +kernel
theorem d_m_start_4 : decode b_m_start 4 = .ok (.aload_n 0, 1) := by decide +kernel
theorem d_m_start_5 : decode b_m_start 5 = .ok (.getfield 191, 3) := by decide +kernel
theorem d_m_start_8 : decode b_m_start 8 = .ok (.iload_n 1, 1) := by decide +kernel
theorem d_m_start_9 : decode b_m_start 9 = .ok (.iastore, 1) := by decide +kernel
theorem d_m_start_10 : decode b_m_start 10 = .ok (.aload_n 0, 1) := by decide +kernel
theorem d_m_start_11 : decode b_m_start 11 = .ok (.getfield 88, 3) := by decide +kernel
theorem d_m_start_14 : decode b_m_start 14 = .ok (.aload_n 0, 1) := by decide +kernel
theorem d_m_start_15 : decode b_m_start 15 = .ok (.getfield 191, 3) := by decide +kernel
theorem d_m_start_18 : decode b_m_start 18 = .ok (.iload_n 2, 1) := by decide +kernel
theorem d_m_start_19 : decode b_m_start 19 = .ok (.iastore, 1) := by decide +kernel
theorem d_m_start_20 : decode b_m_start 20 = .ok (.aload_n 0, 1) := by decide +kernel
theorem d_m_start_21 : decode b_m_start 21 = .ok (.getfield 106, 3) := by decide +kernel
theorem d_m_start_24 : decode b_m_start 24 = .ok (.iload_n 1, 1) := by decide +kernel
theorem d_m_start_25 : decode b_m_start 25 = .ok (.iconst 1, 1) := by decide +kernel
theorem d_m_start_26 : decode b_m_start 26 = .ok (.bastore, 1) := by decide +kernel
theorem d_m_start_27 : decode b_m_start 27 = .ok (.aload_n 0, 1) := by decide +kernel
theorem d_m_start_28 : decode b_m_start 28 = .ok (.dup, 1) := by decide +kernel
theorem d_m_start_29 : decode b_m_start 29 = .ok (.getfield 191, 3) := by decide +kernel
theorem d_m_start_32 : decode b_m_start 32 = .ok (.iconst 1, 1) := by decide +kernel
theorem d_m_start_33 : decode b_m_start 33 = .ok (.iadd, 1) := by decide +kernel
theorem d_m_start_34 : decode b_m_start 34 = .ok (.putfield 191, 3) := by decide +kernel
theorem d_m_start_37 : decode b_m_start 37 = .ok (.return_, 1) := by decide +kernel
theorem d_m_counts_0 : decode b_m_counts 0 = .ok (.aload_n 0, 1) := by decide +kernel
theorem d_m_counts_1 : decode b_m_counts 1 = .ok (.getfield 79, 3) := by decide +kernel
theorem d_m_counts_4 : decode b_m_counts 4 = .ok (.iconst 3, 1) := by decide +kernel
theorem d_m_counts_5 : decode b_m_counts 5 = .ok (.iload_n 1, 1) := by decide +kernel
theorem d_m_counts_6 : decode b_m_counts 6 = .ok (.imul, 1) := by decide +kernel
theorem d_m_counts_7 : decode b_m_counts 7 = .ok (.iload_n 2, 1) := by decide +kernel
theorem d_m_counts_8 : decode b_m_counts 8 = .ok (.iadd, 1) := by decide +kernel
theorem d_m_counts_9 : decode b_m_counts 9 = .ok (.dup2, 1) := by decide +kernel
theorem d_m_counts_10 : decode b_m_counts 10 = .ok (.iaload, 1) := by decide +kernel
theorem d_m_counts_11 : decode b_m_counts 11 = .ok (.iconst 1, 1) := by decide +kernel
theorem d_m_counts_12 : decode b_m_counts 12 = .ok (.iadd, 1) := by decide +kernel
theorem d_m_counts_13 : decode b_m_counts 13 = .ok (.iastore, 1) := by decide +kernel
theorem d_m_counts_14 : decode b_m_counts 14 = .ok (.aload_n 0, 1) := by decide +kernel
theorem d_m_counts_15 : decode b_m_counts 15 = .ok (.getfield 82, 3) := by decide +kernel
theorem d_m_counts_18 : decode b_m_counts 18 = .ok (.iload_n 2, 1) := by decide +kernel
theorem d_m_counts_19 : decode b_m_counts 19 = .ok (.dup2, 1) := by decide +kernel
theorem d_m_counts_20 : decode b_m_counts 20 = .ok (.iaload, 1) := by decide +kernel
theorem d_m_counts_21 : decode b_m_counts 21 = .ok (.iconst 1, 1) := by decide +kernel
theorem d_m_counts_22 : decode b_m_counts 22 = .ok (.iadd, 1) := by decide +kernel
theorem d_m_counts_23 : decode b_m_counts 23 = .ok (.iastore, 1) := by decide +kernel
theorem d_m_counts_24 : decode b_m_counts 24 = .ok (.return_, 1) := by decide +kernel
theorem d_m_finish_0 : decode b_m_finish 0 = .ok (.aload_n 0, 1) := by decide +kernel
theorem d_m_finish_1 : decode b_m_finish 1 = .ok (.dup, 1) := by decide +kernel
theorem d_m_finish_2 : decode b_m_finish 2 = .ok (.getfield 191, 3) := by decide +kernel
theorem d_m_finish_5 : decode b_m_finish 5 = .ok (.iconst 1, 1) := by decide +kernel
theorem d_m_finish_6 : decode b_m_finish 6 = .ok (.isub, 1) := by decide +kernel
theorem d_m_finish_7 : decode b_m_finish 7 = .ok (.putfield 191, 3) := by decide +kernel
theorem d_m_finish_10 : decode b_m_finish 10 = .ok (.aload_n 0, 1) := by decide +kernel
theorem d_m_finish_11 : decode b_m_finish 11 = .ok (.getfield 106, 3) := by decide +kernel
theorem d_m_finish_14 : decode b_m_finish 14 = .ok (.aload_n 0, 1) := by decide +kernel
theorem d_m_finish_15 : decode b_m_finish 15 = .ok (.getfield 85, 3) := by decide +kernel
theorem d_m_finish_18 : decode b_m_finish 18 = .ok (.aload_n 0, 1) := by decide +kernel
theorem d_m_finish_19 : decode b_m_finish 19 = .ok (.getfield 191, 3) := by decide +kernel
theorem d_m_finish_22 : decode b_m_finish 22 = .ok (.iaload, 1) := by decide +kernel
theorem d_m_finish_23 : decode b_m_finish 23 = .ok (.iconst 0, 1) := by decide +kernel
theorem d_m_finish_24 : decode b_m_finish 24 = .ok (.bastore, 1) := by decide +kernel
theorem d_m_finish_25 : decode b_m_finish 25 = .ok (.return_, 1) := by decide +kernel
theorem d_m_use_0 : decode b_m_use 0 = .ok (.aload_n 0, 1) := by decide +kernel
theorem d_m_use_1 : decode b_m_use 1 = .ok (.dup, 1) := by decide +kernel
theorem d_m_use_2 : decode b_m_use 2 = .ok (.getfield 194, 3) := by decide +kernel
theorem d_m_use_5 : decode b_m_use 5 = .ok (.iconst 1, 1) := by decide +kernel
theorem d_m_use_6 : decode b_m_use 6 = .ok (.iadd, 1) := by decide +kernel
theorem d_m_use_7 : decode b_m_use 7 = .ok (.putfield 194, 3) := by decide +kernel
theorem d_m_use_10 : decode b_m_use 10 = .ok (.aload_n 0, 1) := by decide +kernel
theorem d_m_use_11 : decode b_m_use 11 = .ok (.getfield 76, 3) := by decide +kernel
theorem d_m_use_14 : decode b_m_use 14 = .ok (.iload_n 1, 1) := by decide +kernel
theorem d_m_use_15 : decode b_m_use 15 = .ok (.aload_n 0, 1) := by decide +kernel
theorem d_m_use_16 : decode b_m_use 16 = .ok (.getfield 194, 3) := by decide +kernel
theorem d_m_use_19 : decode b_m_use 19 = .ok (.iastore, 1) := by decide +kernel
theorem d_m_use_20 : decode b_m_use 20 = .ok (.return_, 1) := by decide +kernel
theorem d_m_enter_0 : decode b_m_enter 0 = .ok (.aload_n 0, 1) := by decide +kernel
theorem d_m_enter_1 : decode b_m_enter 1 = .ok (.getfield 51, 3) := by decide +kernel
theorem d_m_enter_4 : decode b_m_enter 4 = .ok (.iload_n 2, 1) := by decide +kernel
theorem d_m_enter_5 : decode b_m_enter 5 = .ok (.baload, 1) := by decide +kernel
theorem d_m_enter_6 : decode b_m_enter 6 = .ok (.ifCond .eq 44, 3) := by decide +kernel
theorem d_m_enter_9 : decode b_m_enter 9 = .ok (.aload_n 0, 1) := by decide +kernel
theorem d_m_enter_10 : decode b_m_enter 10 = .ok (.getfield 17, 3) := by decide +kernel
theorem d_m_enter_13 : decode b_m_enter 13 = .ok (.aload_n 0, 1) := by decide +kernel
theorem d_m_enter_14 : decode b_m_enter 14 = .ok (.getfield 67, 3) := by decide +kernel
theorem d_m_enter_17 : decode b_m_enter 17 = .ok (.iload_n 2, 1) := by decide +kernel
theorem d_m_enter_18 : decode b_m_enter 18 = .ok (.iaload, 1) := by decide +kernel
theorem d_m_enter_19 : decode b_m_enter 19 = .ok (.iaload, 1) := by decide +kernel
theorem d_m_enter_20 : decode b_m_enter 20 = .ok (.aload_n 0, 1) := by decide +kernel
theorem d_m_enter_21 : decode b_m_enter 21 = .ok (.getfield 61, 3) := by decide +kernel
theorem d_m_enter_24 : decode b_m_enter 24 = .ok (.iload_n 2, 1) := by decide +kernel
theorem d_m_enter_25 : decode b_m_enter 25 = .ok (.iaload, 1) := by decide +kernel
theorem d_m_enter_26 : decode b_m_enter 26 = .ok (.if_icmp .gt 24, 3) := by decide +kernel
theorem d_m_enter_29 : decode b_m_enter 29 = .ok (.aload_n 0, 1) := by decide +kernel
theorem d_m_enter_30 : decode b_m_enter 30 = .ok (.iload_n 2, 1) := by decide +kernel
theorem d_m_enter_31 : decode b_m_enter 31 = .ok (.iconst 2, 1) := by decide +kernel
theorem d_m_enter_32 : decode b_m_enter 32 = .ok (.invokevirtual 210, 3) := by decide +kernel
theorem d_m_enter_35 : decode b_m_enter 35 = .ok (.aload_n 0, 1) := by decide +kernel
theorem d_m_enter_36 : decode b_m_enter 36 = .ok (.getfield 61, 3) := by decide +kernel
theorem d_m_enter_39 : decode b_m_enter 39 = .ok (.iload_n 2, 1) := by decide +kernel
theorem d_m_enter_40 : decode b_m_enter 40 = .ok (.aload_n 0, 1) := by decide +kernel
theorem d_m_enter_41 : decode b_m_enter 41 = .ok (.getfield 13, 3) := by decide +kernel
theorem d_m_enter_44 : decode b_m_enter 44 = .ok (.iastore, 1) := by decide +kernel
theorem d_m_enter_45 : decode b_m_enter 45 = .ok (.aload_n 0, 1) := by decide +kernel
theorem d_m_enter_46 : decode b_m_enter 46 = .ok (.invokevirtual 213, 3) := by decide +kernel
theorem d_m_enter_49 : decode b_m_enter 49 = .ok (.return_, 1) := by decide +kernel
theorem d_m_enter_50 : decode b_m_enter 50 = .ok (.aload_n 0, 1) := by decide +kernel
theorem d_m_enter_51 : decode b_m_enter 51 = .ok (.getfield 91, 3) := by decide +kernel
theorem d_m_enter_54 : decode b_m_enter 54 = .ok (.iload_n 1, 1) := by decide +kernel
theorem d_m_enter_55 : decode b_m_enter 55 = .ok (.iconst 0, 1) := by decide +kernel
theorem d_m_enter_56 : decode b_m_enter 56 = .ok (.iastore, 1) := by decide +kernel
theorem d_m_enter_57 : decode b_m_enter 57 = .ok (.aload_n 0, 1) := by decide +kernel
theorem d_m_enter_58 : decode b_m_enter 58 = .ok (.getfield 88, 3) := by decide +kernel
theorem d_m_enter_61 : decode b_m_enter 61 = .ok (.iload_n 1, 1) := by decide +kernel
theorem d_m_enter_62 : decode b_m_enter 62 = .ok (.aload_n 0, 1) := by decide +kernel
theorem d_m_enter_63 : decode b_m_enter 63 = .ok (.getfield 51, 3) := by decide +kernel
theorem d_m_enter_66 : decode b_m_enter 66 = .ok (.iload_n 2, 1) := by decide +kernel
theorem d_m_enter_67 : decode b_m_enter 67 = .ok (.baload, 1) := by decide +kernel
theorem d_m_enter_68 : decode b_m_enter 68 = .ok (.ifCond .eq 22, 3) := by decide +kernel
theorem d_m_enter_71 : decode b_m_enter 71 = .ok (.aload_n 0, 1) := by decide +kernel
theorem d_m_enter_72 : decode b_m_enter 72 = .ok (.getfield 39, 3) := by decide +kernel
theorem d_m_enter_75 : decode b_m_enter 75 = .ok (.iload_n 2, 1) := by decide +kernel
theorem d_m_enter_76 : decode b_m_enter 76 = .ok (.iaload, 1) := by decide +kernel
theorem d_m_enter_77 : decode b_m_enter 77 = .ok (.aload_n 0, 1) := by decide +kernel
theorem d_m_enter_78 : decode b_m_enter 78 = .ok (.getfield 61, 3) := by decide +kernel
theorem d_m_enter_81 : decode b_m_enter 81 = .ok (.iload_n 2, 1) := by decide +kernel
theorem d_m_enter_82 : decode b_m_enter 82 = .ok (.iaload, 1) := by decide +kernel
theorem d_m_enter_83 : decode b_m_enter 83 = .ok (.if_icmp .gt 7, 3) := by decide +kernel
theorem d_m_enter_86 : decode b_m_enter 86 = .ok (.iconst 1, 1) := by decide +kernel
theorem d_m_enter_87 : decode b_m_enter 87 = .ok (.goto 4, 3) := by decide +kernel
theorem d_m_enter_90 : decode b_m_enter 90 = .ok (.iconst 2, 1) := by decide +kernel
theorem d_m_enter_91 : decode b_m_enter 91 = .ok (.iastore, 1) := by decide +kernel
theorem d_m_enter_92 : decode b_m_enter 92 = .ok (.return_, 1) := by decide +kernel
theorem d_m_lookThrough_0 : decode b_m_lookThrough 0 = .ok (.aload_n 0, 1) := by decide +kernel
theorem d_m_lookThrough_1 : decode b_m_lookThrough 1 = .ok (.getfield 91, 3) := by decide +kernel
theorem d_m_lookThrough_4 : decode b_m_lookThrough 4 = .ok (.iload_n 1, 1) := by decide +kernel
theorem d_m_lookThrough_5 : decode b_m_lookThrough 5 = .ok (.iaload, 1) := by decide +kernel
theorem d_m_lookThrough_6 : decode b_m_lookThrough 6 = .ok (.aload_n 0, 1) := by decide +kernel
theorem d_m_lookThrough_7 : decode b_m_lookThrough 7 = .ok (.getfield 70, 3) := by decide +kernel
theorem d_m_lookThrough_10 : decode b_m_lookThrough 10 = .ok (.iload_n 2, 1) := by decide +kernel
theorem d_m_lookThrough_11 : decode b_m_lookThrough 11 = .ok (.iaload, 1) := by decide +kernel
theorem d_m_lookThrough_12 : decode b_m_lookThrough 12 = .ok (.if_icmp .ne 94, 3) := by decide +kernel
theorem d_m_lookThrough_15 : decode b_m_lookThrough 15 = .ok (.aload_n 0, 1) := by decide +kernel
theorem d_m_lookThrough_16 : decode b_m_lookThrough 16 = .ok (.iload_n 2, 1) := by decide +kernel
theorem d_m_lookThrough_17 : decode b_m_lookThrough 17 = .ok (.iconst 1, 1) := by decide +kernel
theorem d_m_lookThrough_18 : decode b_m_lookThrough 18 = .ok (.invokevirtual 210, 3) := by decide +kernel
theorem d_m_lookThrough_21 : decode b_m_lookThrough 21 = .ok (.aload_n 0, 1) := by decide +kernel
theorem d_m_lookThrough_22 : decode b_m_lookThrough 22 = .ok (.getfield 61, 3) := by decide +kernel
theorem d_m_lookThrough_25 : decode b_m_lookThrough 25 = .ok (.iload_n 2, 1) := by decide +kernel
theorem d_m_lookThrough_26 : decode b_m_lookThrough 26 = .ok (.aload_n 0, 1) := by decide +kernel
theorem d_m_lookThrough_27 : decode b_m_lookThrough 27 = .ok (.getfield 13, 3) := by decide +kernel
theorem d_m_lookThrough_30 : decode b_m_lookThrough 30 = .ok (.iastore, 1) := by decide +kernel
theorem d_m_lookThrough_31 : decode b_m_lookThrough 31 = .ok (.iconst 2, 1) := by decide +kernel
theorem d_m_lookThrough_32 : decode b_m_lookThrough 32 = .ok (.istore_n 3, 1) := by decide +kernel
theorem d_m_lookThrough_33 : decode b_m_lookThrough 33 = .ok (.iconst 0, 1) := by decide +kernel
theorem d_m_lookThrough_34 : decode b_m_lookThrough 34 = .ok (.istore 4, 2) := by decide +kernel
theorem d_m_lookThrough_36 : decode b_m_lookThrough 36 = .ok (.iload 4, 2) := by decide +kernel
theorem d_m_lookThrough_38 : decode b_m_lookThrough 38 = .ok (.aload_n 0, 1) := by decide +kernel
theorem d_m_lookThrough_39 : decode b_m_lookThrough 39 = .ok (.getfield 70, 3) := by decide +kernel
theorem d_m_lookThrough_42 : decode b_m_lookThrough 42 = .ok (.iload_n 2, 1) := by decide +kernel
theorem d_m_lookThrough_43 : decode b_m_lookThrough 43 = .ok (.iaload, 1) := by decide +kernel
theorem d_m_lookThrough_44 : decode b_m_lookThrough 44 = .ok (.if_icmp .ge 50, 3) := by decide +kernel
theorem d_m_lookThrough_47 : decode b_m_lookThrough 47 = .ok (.aload_n 0, 1) := by decide +kernel
theorem d_m_lookThrough_48 : decode b_m_lookThrough 48 = .ok (.aload_n 0, 1) := by decide +kernel
theorem d_m_lookThrough_49 : decode b_m_lookThrough 49 = .ok (.getfield 73, 3) := by decide +kernel
theorem d_m_lookThrough_52 : decode b_m_lookThrough 52 = .ok (.bipush 12, 2) := by decide +kernel
theorem d_m_lookThrough_54 : decode b_m_lookThrough 54 = .ok (.iload_n 2, 1) := by decide +kernel
theorem d_m_lookThrough_55 : decode b_m_lookThrough 55 = .ok (.imul, 1) := by decide +kernel
theorem d_m_lookThrough_56 : decode b_m_lookThrough 56 = .ok (.iload 4, 2) := by decide +kernel
theorem d_m_lookThrough_58 : decode b_m_lookThrough 58 = .ok (.iadd, 1) := by decide +kernel
theorem d_m_lookThrough_59 : decode b_m_lookThrough 59 = .ok (.iaload, 1) := by decide +kernel
theorem d_m_lookThrough_60 : decode b_m_lookThrough 60 = .ok (.invokevirtual 216, 3) := by decide +kernel
theorem d_m_lookThrough_63 : decode b_m_lookThrough 63 = .ok (.iload_n 3, 1) := by decide +kernel
theorem d_m_lookThrough_64 : decode b_m_lookThrough 64 = .ok (.if_icmp .ge 22, 3) := by decide +kernel
theorem d_m_lookThrough_67 : decode b_m_lookThrough 67 = .ok (.aload_n 0, 1) := by decide +kernel
theorem d_m_lookThrough_68 : decode b_m_lookThrough 68 = .ok (.aload_n 0, 1) := by decide +kernel
theorem d_m_lookThrough_69 : decode b_m_lookThrough 69 = .ok (.getfield 73, 3) := by decide +kernel
theorem d_m_lookThrough_72 : decode b_m_lookThrough 72 = .ok (.bipush 12, 2) := by decide +kernel
theorem d_m_lookThrough_74 : decode b_m_lookThrough 74 = .ok (.iload_n 2, 1) := by decide +kernel
theorem d_m_lookThrough_75 : decode b_m_lookThrough 75 = .ok (.imul, 1) := by decide +kernel
theorem d_m_lookThrough_76 : decode b_m_lookThrough 76 = .ok (.iload 4, 2) := by decide +kernel
theorem d_m_lookThrough_78 : decode b_m_lookThrough 78 = .ok (.iadd, 1) := by decide +kernel
theorem d_m_lookThrough_79 : decode b_m_lookThrough 79 = .ok (.iaload, 1) := by decide +kernel
theorem d_m_lookThrough_80 : decode b_m_lookThrough 80 = .ok (.invokevirtual 216, 3) := by decide +kernel
theorem d_m_lookThrough_83 : decode b_m_lookThrough 83 = .ok (.goto 4, 3) := by decide +kernel
theorem d_m_lookThrough_86 : decode b_m_lookThrough 86 = .ok (.iload_n 3, 1) := by decide +kernel
theorem d_m_lookThrough_87 : decode b_m_lookThrough 87 = .ok (.istore_n 3, 1) := by decide +kernel
theorem d_m_lookThrough_88 : decode b_m_lookThrough 88 = .ok (.iinc 4 1, 3) := by decide +kernel
theorem d_m_lookThrough_91 : decode b_m_lookThrough 91 = .ok (.goto (-55), 3) := by decide +kernel
theorem d_m_lookThrough_94 : decode b_m_lookThrough 94 = .ok (.aload_n 0, 1) := by decide +kernel
theorem d_m_lookThrough_95 : decode b_m_lookThrough 95 = .ok (.getfield 67, 3) := by decide +kernel
theorem d_m_lookThrough_98 : decode b_m_lookThrough 98 = .ok (.iload_n 2, 1) := by decide +kernel
theorem d_m_lookThrough_99 : decode b_m_lookThrough 99 = .ok (.iload_n 3, 1) := by decide +kernel
theorem d_m_lookThrough_100 : decode b_m_lookThrough 100 = .ok (.iastore, 1) := by decide +kernel
theorem d_m_lookThrough_101 : decode b_m_lookThrough 101 = .ok (.aload_n 0, 1) := by decide +kernel
theorem d_m_lookThrough_102 : decode b_m_lookThrough 102 = .ok (.invokevirtual 213, 3) := by decide +kernel
theorem d_m_lookThrough_105 : decode b_m_lookThrough 105 = .ok (.return_, 1) := by decide +kernel
theorem d_m_lookThrough_106 : decode b_m_lookThrough 106 = .ok (.aload_n 0, 1) := by decide +kernel
theorem d_m_lookThrough_107 : decode b_m_lookThrough 107 = .ok (.getfield 73, 3) := by decide +kernel
theorem d_m_lookThrough_110 : decode b_m_lookThrough 110 = .ok (.bipush 12, 2) := by decide +kernel
theorem d_m_lookThrough_112 : decode b_m_lookThrough 112 = .ok (.iload_n 2, 1) := by decide +kernel
theorem d_m_lookThrough_113 : decode b_m_lookThrough 113 = .ok (.imul, 1) := by decide +kernel
theorem d_m_lookThrough_114 : decode b_m_lookThrough 114 = .ok (.aload_n 0, 1) := by decide +kernel
theorem d_m_lookThrough_115 : decode b_m_lookThrough 115 = .ok (.getfield 91, 3) := by decide +kernel
theorem d_m_lookThrough_118 : decode b_m_lookThrough 118 = .ok (.iload_n 1, 1) := by decide +kernel
theorem d_m_lookThrough_119 : decode b_m_lookThrough 119 = .ok (.iaload, 1) := by decide +kernel
theorem d_m_lookThrough_120 : decode b_m_lookThrough 120 = .ok (.iadd, 1) := by decide +kernel
theorem d_m_lookThrough_121 : decode b_m_lookThrough 121 = .ok (.iaload, 1) := by decide +kernel
theorem d_m_lookThrough_122 : decode b_m_lookThrough 122 = .ok (.istore_n 3, 1) := by decide +kernel
theorem d_m_lookThrough_123 : decode b_m_lookThrough 123 = .ok (.aload_n 0, 1) := by decide +kernel
theorem d_m_lookThrough_124 : decode b_m_lookThrough 124 = .ok (.getfield 106, 3) := by decide +kernel
theorem d_m_lookThrough_127 : decode b_m_lookThrough 127 = .ok (.iload_n 3, 1) := by decide +kernel
theorem d_m_lookThrough_128 : decode b_m_lookThrough 128 = .ok (.baload, 1) := by decide +kernel
theorem d_m_lookThrough_129 : decode b_m_lookThrough 129 = .ok (.ifCond .eq 13, 3) := by decide +kernel
theorem d_m_lookThrough_132 : decode b_m_lookThrough 132 = .ok (.aload_n 0, 1) := by decide +kernel
theorem d_m_lookThrough_133 : decode b_m_lookThrough 133 = .ok (.getfield 88, 3) := by decide +kernel
theorem d_m_lookThrough_136 : decode b_m_lookThrough 136 = .ok (.iload_n 1, 1) := by decide +kernel
theorem d_m_lookThrough_137 : decode b_m_lookThrough 137 = .ok (.iconst 2, 1) := by decide +kernel
theorem d_m_lookThrough_138 : decode b_m_lookThrough 138 = .ok (.iastore, 1) := by decide +kernel
theorem d_m_lookThrough_139 : decode b_m_lookThrough 139 = .ok (.goto 54, 3) := by decide +kernel
theorem d_m_lookThrough_142 : decode b_m_lookThrough 142 = .ok (.aload_n 0, 1) := by decide +kernel
theorem d_m_lookThrough_143 : decode b_m_lookThrough 143 = .ok (.iload_n 3, 1) := by decide +kernel
theorem d_m_lookThrough_144 : decode b_m_lookThrough 144 = .ok (.invokevirtual 219, 3) := by decide +kernel
theorem d_m_lookThrough_147 : decode b_m_lookThrough 147 = .ok (.ifCond .ne 12, 3) := by decide +kernel
theorem d_m_lookThrough_150 : decode b_m_lookThrough 150 = .ok (.aload_n 0, 1) := by decide +kernel
theorem d_m_lookThrough_151 : decode b_m_lookThrough 151 = .ok (.iload_n 3, 1) := by decide +kernel
theorem d_m_lookThrough_152 : decode b_m_lookThrough 152 = .ok (.iconst 0, 1) := by decide +kernel
theorem d_m_lookThrough_153 : decode b_m_lookThrough 153 = .ok (.invokevirtual 222, 3) := by decide +kernel
theorem d_m_lookThrough_156 : decode b_m_lookThrough 156 = .ok (.goto 37, 3) := by decide +kernel
theorem d_m_lookThrough_159 : decode b_m_lookThrough 159 = .ok (.aload_n 0, 1) := by decide +kernel
theorem d_m_lookThrough_160 : decode b_m_lookThrough 160 = .ok (.iload_n 3, 1) := by decide +kernel
theorem d_m_lookThrough_161 : decode b_m_lookThrough 161 = .ok (.invokevirtual 225, 3) := by decide +kernel
theorem d_m_lookThrough_164 : decode b_m_lookThrough 164 = .ok (.aload_n 0, 1) := by decide +kernel
theorem d_m_lookThrough_165 : decode b_m_lookThrough 165 = .ok (.getfield 61, 3) := by decide +kernel
theorem d_m_lookThrough_168 : decode b_m_lookThrough 168 = .ok (.iload_n 2, 1) := by decide +kernel
theorem d_m_lookThrough_169 : decode b_m_lookThrough 169 = .ok (.iaload, 1) := by decide +kernel
theorem d_m_lookThrough_170 : decode b_m_lookThrough 170 = .ok (.if_icmp .le 13, 3) := by decide +kernel
theorem d_m_lookThrough_173 : decode b_m_lookThrough 173 = .ok (.aload_n 0, 1) := by decide +kernel
theorem d_m_lookThrough_174 : decode b_m_lookThrough 174 = .ok (.getfield 88, 3) := by decide +kernel
theorem d_m_lookThrough_177 : decode b_m_lookThrough 177 = .ok (.iload_n 1, 1) := by decide +kernel
theorem d_m_lookThrough_178 : decode b_m_lookThrough 178 = .ok (.iconst 2, 1) := by decide +kernel
theorem d_m_lookThrough_179 : decode b_m_lookThrough 179 = .ok (.iastore, 1) := by decide +kernel
theorem d_m_lookThrough_180 : decode b_m_lookThrough 180 = .ok (.goto 13, 3) := by decide +kernel
theorem d_m_lookThrough_183 : decode b_m_lookThrough 183 = .ok (.aload_n 0, 1) := by decide +kernel
theorem d_m_lookThrough_184 : decode b_m_lookThrough 184 = .ok (.getfield 91, 3) := by decide +kernel
theorem d_m_lookThrough_187 : decode b_m_lookThrough 187 = .ok (.iload_n 1, 1) := by decide +kernel
theorem d_m_lookThrough_188 : decode b_m_lookThrough 188 = .ok (.dup2, 1) := by decide +kernel
theorem d_m_lookThrough_189 : decode b_m_lookThrough 189 = .ok (.iaload, 1) := by decide +kernel
theorem d_m_lookThrough_190 : decode b_m_lookThrough 190 = .ok (.iconst 1, 1) := by decide +kernel
theorem d_m_lookThrough_191 : decode b_m_lookThrough 191 = .ok (.iadd, 1) := by decide +kernel
theorem d_m_lookThrough_192 : decode b_m_lookThrough 192 = .ok (.iastore, 1) := by decide +kernel
theorem d_m_lookThrough_193 : decode b_m_lookThrough 193 = .ok (.return_, 1) := by decide +kernel
theorem d_m_worked_0 : decode b_m_worked 0 = .ok (.aload_n 0, 1) := by decide +kernel
theorem d_m_worked_1 : decode b_m_worked 1 = .ok (.iload_n 2, 1) := by decide +kernel
theorem d_m_worked_2 : decode b_m_worked 2 = .ok (.iconst 0, 1) := by decide +kernel
theorem d_m_worked_3 : decode b_m_worked 3 = .ok (.invokevirtual 210, 3) := by decide +kernel
theorem d_m_worked_6 : decode b_m_worked 6 = .ok (.aload_n 0, 1) := by decide +kernel
theorem d_m_worked_7 : decode b_m_worked 7 = .ok (.getfield 109, 3) := by decide +kernel
theorem d_m_worked_10 : decode b_m_worked 10 = .ok (.iload_n 1, 1) := by decide +kernel
theorem d_m_worked_11 : decode b_m_worked 11 = .ok (.baload, 1) := by decide +kernel
theorem d_m_worked_12 : decode b_m_worked 12 = .ok (.ifCond .eq 7, 3) := by decide +kernel
theorem d_m_worked_15 : decode b_m_worked 15 = .ok (.iconst 0, 1) := by decide +kernel
theorem d_m_worked_16 : decode b_m_worked 16 = .ok (.goto 4, 3) := by decide +kernel
theorem d_m_worked_19 : decode b_m_worked 19 = .ok (.iconst 2, 1) := by decide +kernel
theorem d_m_worked_20 : decode b_m_worked 20 = .ok (.istore 5, 2) := by decide +kernel
theorem d_m_worked_22 : decode b_m_worked 22 = .ok (.iconst 0, 1) := by decide +kernel
theorem d_m_worked_23 : decode b_m_worked 23 = .ok (.istore 6, 2) := by decide +kernel
theorem d_m_worked_25 : decode b_m_worked 25 = .ok (.iload 6, 2) := by decide +kernel
theorem d_m_worked_27 : decode b_m_worked 27 = .ok (.aload_n 0, 1) := by decide +kernel
theorem d_m_worked_28 : decode b_m_worked 28 = .ok (.getfield 100, 3) := by decide +kernel
theorem d_m_worked_31 : decode b_m_worked 31 = .ok (.iload_n 1, 1) := by decide +kernel
theorem d_m_worked_32 : decode b_m_worked 32 = .ok (.iaload, 1) := by decide +kernel
theorem d_m_worked_33 : decode b_m_worked 33 = .ok (.if_icmp .ge 70, 3) := by decide +kernel
theorem d_m_worked_36 : decode b_m_worked 36 = .ok (.aload_n 0, 1) := by decide +kernel
theorem d_m_worked_37 : decode b_m_worked 37 = .ok (.getfield 103, 3) := by decide +kernel
theorem d_m_worked_40 : decode b_m_worked 40 = .ok (.bipush 12, 2) := by decide +kernel
theorem d_m_worked_42 : decode b_m_worked 42 = .ok (.iload_n 1, 1) := by decide +kernel
theorem d_m_worked_43 : decode b_m_worked 43 = .ok (.imul, 1) := by decide +kernel
theorem d_m_worked_44 : decode b_m_worked 44 = .ok (.iload 6, 2) := by decide +kernel
theorem d_m_worked_46 : decode b_m_worked 46 = .ok (.iadd, 1) := by decide +kernel
theorem d_m_worked_47 : decode b_m_worked 47 = .ok (.iaload, 1) := by decide +kernel
theorem d_m_worked_48 : decode b_m_worked 48 = .ok (.istore 7, 2) := by decide +kernel
theorem d_m_worked_50 : decode b_m_worked 50 = .ok (.aload_n 0, 1) := by decide +kernel
theorem d_m_worked_51 : decode b_m_worked 51 = .ok (.getfield 73, 3) := by decide +kernel
theorem d_m_worked_54 : decode b_m_worked 54 = .ok (.bipush 12, 2) := by decide +kernel
theorem d_m_worked_56 : decode b_m_worked 56 = .ok (.iload_n 2, 1) := by decide +kernel
theorem d_m_worked_57 : decode b_m_worked 57 = .ok (.imul, 1) := by decide +kernel
theorem d_m_worked_58 : decode b_m_worked 58 = .ok (.iload 6, 2) := by decide +kernel
theorem d_m_worked_60 : decode b_m_worked 60 = .ok (.iadd, 1) := by decide +kernel
theorem d_m_worked_61 : decode b_m_worked 61 = .ok (.iload 7, 2) := by decide +kernel
theorem d_m_worked_63 : decode b_m_worked 63 = .ok (.iastore, 1) := by decide +kernel
theorem d_m_worked_64 : decode b_m_worked 64 = .ok (.aload_n 0, 1) := by decide +kernel
theorem d_m_worked_65 : decode b_m_worked 65 = .ok (.getfield 109, 3) := by decide +kernel
theorem d_m_worked_68 : decode b_m_worked 68 = .ok (.iload_n 1, 1) := by decide +kernel
theorem d_m_worked_69 : decode b_m_worked 69 = .ok (.baload, 1) := by decide +kernel
theorem d_m_worked_70 : decode b_m_worked 70 = .ok (.ifCond .ne 23, 3) := by decide +kernel
theorem d_m_worked_73 : decode b_m_worked 73 = .ok (.aload_n 0, 1) := by decide +kernel
theorem d_m_worked_74 : decode b_m_worked 74 = .ok (.iload 7, 2) := by decide +kernel
theorem d_m_worked_76 : decode b_m_worked 76 = .ok (.invokevirtual 216, 3) := by decide +kernel
theorem d_m_worked_79 : decode b_m_worked 79 = .ok (.iload 5, 2) := by decide +kernel
theorem d_m_worked_81 : decode b_m_worked 81 = .ok (.if_icmp .ge 12, 3) := by decide +kernel
theorem d_m_worked_84 : decode b_m_worked 84 = .ok (.aload_n 0, 1) := by decide +kernel
theorem d_m_worked_85 : decode b_m_worked 85 = .ok (.iload 7, 2) := by decide +kernel
theorem d_m_worked_87 : decode b_m_worked 87 = .ok (.invokevirtual 216, 3) := by decide +kernel
theorem d_m_worked_90 : decode b_m_worked 90 = .ok (.goto 5, 3) := by decide +kernel
theorem d_m_worked_93 : decode b_m_worked 93 = .ok (.iload 5, 2) := by decide +kernel
theorem d_m_worked_95 : decode b_m_worked 95 = .ok (.istore 5, 2) := by decide +kernel
theorem d_m_worked_97 : decode b_m_worked 97 = .ok (.iinc 6 1, 3) := by decide +kernel
theorem d_m_worked_100 : decode b_m_worked 100 = .ok (.goto (-75), 3) := by decide +kernel
theorem d_m_worked_103 : decode b_m_worked 103 = .ok (.aload_n 0, 1) := by decide +kernel
theorem d_m_worked_104 : decode b_m_worked 104 = .ok (.getfield 51, 3) := by decide +kernel
theorem d_m_worked_107 : decode b_m_worked 107 = .ok (.iload_n 2, 1) := by decide +kernel
theorem d_m_worked_108 : decode b_m_worked 108 = .ok (.baload, 1) := by decide +kernel
theorem d_m_worked_109 : decode b_m_worked 109 = .ok (.ifCond .eq 40, 3) := by decide +kernel
theorem d_m_worked_112 : decode b_m_worked 112 = .ok (.aload_n 0, 1) := by decide +kernel
theorem d_m_worked_113 : decode b_m_worked 113 = .ok (.getfield 54, 3) := by decide +kernel
theorem d_m_worked_116 : decode b_m_worked 116 = .ok (.iload_n 2, 1) := by decide +kernel
theorem d_m_worked_117 : decode b_m_worked 117 = .ok (.baload, 1) := by decide +kernel
theorem d_m_worked_118 : decode b_m_worked 118 = .ok (.ifCond .eq 14, 3) := by decide +kernel
theorem d_m_worked_121 : decode b_m_worked 121 = .ok (.aload_n 0, 1) := by decide +kernel
theorem d_m_worked_122 : decode b_m_worked 122 = .ok (.getfield 57, 3) := by decide +kernel
theorem d_m_worked_125 : decode b_m_worked 125 = .ok (.iload_n 2, 1) := by decide +kernel
theorem d_m_worked_126 : decode b_m_worked 126 = .ok (.laload, 1) := by decide +kernel
theorem d_m_worked_127 : decode b_m_worked 127 = .ok (.lload_n 3, 1) := by decide +kernel
theorem d_m_worked_128 : decode b_m_worked 128 = .ok (.lcmp, 1) := by decide +kernel
theorem d_m_worked_129 : decode b_m_worked 129 = .ok (.ifCond .eq 16, 3) := by decide +kernel
theorem d_m_worked_132 : decode b_m_worked 132 = .ok (.aload_n 0, 1) := by decide +kernel
theorem d_m_worked_133 : decode b_m_worked 133 = .ok (.getfield 61, 3) := by decide +kernel
theorem d_m_worked_136 : decode b_m_worked 136 = .ok (.iload_n 2, 1) := by decide +kernel
theorem d_m_worked_137 : decode b_m_worked 137 = .ok (.iaload, 1) := by decide +kernel
theorem d_m_worked_138 : decode b_m_worked 138 = .ok (.aload_n 0, 1) := by decide +kernel
theorem d_m_worked_139 : decode b_m_worked 139 = .ok (.getfield 13, 3) := by decide +kernel
theorem d_m_worked_142 : decode b_m_worked 142 = .ok (.if_icmp .ne 7, 3) := by decide +kernel
theorem d_m_worked_145 : decode b_m_worked 145 = .ok (.iconst 1, 1) := by decide +kernel
theorem d_m_worked_146 : decode b_m_worked 146 = .ok (.goto 4, 3) := by decide +kernel
theorem d_m_worked_149 : decode b_m_worked 149 = .ok (.iconst 0, 1) := by decide +kernel
theorem d_m_worked_150 : decode b_m_worked 150 = .ok (.istore 6, 2) := by decide +kernel
theorem d_m_worked_152 : decode b_m_worked 152 = .ok (.aload_n 0, 1) := by decide +kernel
theorem d_m_worked_153 : decode b_m_worked 153 = .ok (.getfield 64, 3) := by decide +kernel
theorem d_m_worked_156 : decode b_m_worked 156 = .ok (.iload_n 2, 1) := by decide +kernel
theorem d_m_worked_157 : decode b_m_worked 157 = .ok (.iload 6, 2) := by decide +kernel
theorem d_m_worked_159 : decode b_m_worked 159 = .ok (.ifCond .eq 12, 3) := by decide +kernel
theorem d_m_worked_162 : decode b_m_worked 162 = .ok (.aload_n 0, 1) := by decide +kernel
theorem d_m_worked_163 : decode b_m_worked 163 = .ok (.getfield 64, 3) := by decide +kernel
theorem d_m_worked_166 : decode b_m_worked 166 = .ok (.iload_n 2, 1) := by decide +kernel
theorem d_m_worked_167 : decode b_m_worked 167 = .ok (.iaload, 1) := by decide +kernel
theorem d_m_worked_168 : decode b_m_worked 168 = .ok (.goto 7, 3) := by decide +kernel
theorem d_m_worked_171 : decode b_m_worked 171 = .ok (.aload_n 0, 1) := by decide +kernel
theorem d_m_worked_172 : decode b_m_worked 172 = .ok (.getfield 13, 3) := by decide +kernel
theorem d_m_worked_175 : decode b_m_worked 175 = .ok (.iastore, 1) := by decide +kernel
theorem d_m_worked_176 : decode b_m_worked 176 = .ok (.aload_n 0, 1) := by decide +kernel
theorem d_m_worked_177 : decode b_m_worked 177 = .ok (.getfield 51, 3) := by decide +kernel
theorem d_m_worked_180 : decode b_m_worked 180 = .ok (.iload_n 2, 1) := by decide +kernel
theorem d_m_worked_181 : decode b_m_worked 181 = .ok (.iconst 1, 1) := by decide +kernel
theorem d_m_worked_182 : decode b_m_worked 182 = .ok (.bastore, 1) := by decide +kernel
theorem d_m_worked_183 : decode b_m_worked 183 = .ok (.aload_n 0, 1) := by decide +kernel
theorem d_m_worked_184 : decode b_m_worked 184 = .ok (.getfield 54, 3) := by decide +kernel
theorem d_m_worked_187 : decode b_m_worked 187 = .ok (.iload_n 2, 1) := by decide +kernel
theorem d_m_worked_188 : decode b_m_worked 188 = .ok (.iconst 1, 1) := by decide +kernel
theorem d_m_worked_189 : decode b_m_worked 189 = .ok (.bastore, 1) := by decide +kernel
theorem d_m_worked_190 : decode b_m_worked 190 = .ok (.aload_n 0, 1) := by decide +kernel
theorem d_m_worked_191 : decode b_m_worked 191 = .ok (.getfield 57, 3) := by decide +kernel
theorem d_m_worked_194 : decode b_m_worked 194 = .ok (.iload_n 2, 1) := by decide +kernel
theorem d_m_worked_195 : decode b_m_worked 195 = .ok (.lload_n 3, 1) := by decide +kernel
theorem d_m_worked_196 : decode b_m_worked 196 = .ok (.lastore, 1) := by decide +kernel
theorem d_m_worked_197 : decode b_m_worked 197 = .ok (.aload_n 0, 1) := by decide +kernel
theorem d_m_worked_198 : decode b_m_worked 198 = .ok (.getfield 61, 3) := by decide +kernel
theorem d_m_worked_201 : decode b_m_worked 201 = .ok (.iload_n 2, 1) := by decide +kernel
theorem d_m_worked_202 : decode b_m_worked 202 = .ok (.aload_n 0, 1) := by decide +kernel
theorem d_m_worked_203 : decode b_m_worked 203 = .ok (.getfield 13, 3) := by decide +kernel
theorem d_m_worked_206 : decode b_m_worked 206 = .ok (.iastore, 1) := by decide +kernel
theorem d_m_worked_207 : decode b_m_worked 207 = .ok (.aload_n 0, 1) := by decide +kernel
theorem d_m_worked_208 : decode b_m_worked 208 = .ok (.getfield 67, 3) := by decide +kernel
theorem d_m_worked_211 : decode b_m_worked 211 = .ok (.iload_n 2, 1) := by decide +kernel
theorem d_m_worked_212 : decode b_m_worked 212 = .ok (.iload 5, 2) := by decide +kernel
theorem d_m_worked_214 : decode b_m_worked 214 = .ok (.iastore, 1) := by decide +kernel
theorem d_m_worked_215 : decode b_m_worked 215 = .ok (.aload_n 0, 1) := by decide +kernel
theorem d_m_worked_216 : decode b_m_worked 216 = .ok (.getfield 70, 3) := by decide +kernel
theorem d_m_worked_219 : decode b_m_worked 219 = .ok (.iload_n 2, 1) := by decide +kernel
theorem d_m_worked_220 : decode b_m_worked 220 = .ok (.aload_n 0, 1) := by decide +kernel
theorem d_m_worked_221 : decode b_m_worked 221 = .ok (.getfield 100, 3) := by decide +kernel
theorem d_m_worked_224 : decode b_m_worked 224 = .ok (.iload_n 1, 1) := by decide +kernel
theorem d_m_worked_225 : decode b_m_worked 225 = .ok (.iaload, 1) := by decide +kernel
theorem d_m_worked_226 : decode b_m_worked 226 = .ok (.iastore, 1) := by decide +kernel
theorem d_m_worked_227 : decode b_m_worked 227 = .ok (.aload_n 0, 1) := by decide +kernel
theorem d_m_worked_228 : decode b_m_worked 228 = .ok (.iload_n 2, 1) := by decide +kernel
theorem d_m_worked_229 : decode b_m_worked 229 = .ok (.invokevirtual 228, 3) := by decide +kernel
theorem d_m_worked_232 : decode b_m_worked 232 = .ok (.aload_n 0, 1) := by decide +kernel
theorem d_m_worked_233 : decode b_m_worked 233 = .ok (.invokevirtual 213, 3) := by decide +kernel
theorem d_m_worked_236 : decode b_m_worked 236 = .ok (.return_, 1) := by decide +kernel
theorem d_m_push_0 : decode b_m_push 0 = .ok (.aload_n 0, 1) := by decide +kernel
theorem d_m_push_1 : decode b_m_push 1 = .ok (.getfield 97, 3) := by decide +kernel
theorem d_m_push_4 : decode b_m_push 4 = .ok (.bipush 16, 2) := by decide +kernel
theorem d_m_push_6 : decode b_m_push 6 = .ok (.iload_n 1, 1) := by decide +kernel
theorem d_m_push_7 : decode b_m_push 7 = .ok (.imul, 1) := by decide +kernel
theorem d_m_push_8 : decode b_m_push 8 = .ok (.aload_n 0, 1) := by decide +kernel
theorem d_m_push_9 : decode b_m_push 9 = .ok (.getfield 94, 3) := by decide +kernel
theorem d_m_push_12 : decode b_m_push 12 = .ok (.iload_n 1, 1) := by decide +kernel
theorem d_m_push_13 : decode b_m_push 13 = .ok (.iaload, 1) := by decide +kernel
theorem d_m_push_14 : decode b_m_push 14 = .ok (.iadd, 1) := by decide +kernel
theorem d_m_push_15 : decode b_m_push 15 = .ok (.lload_n 2, 1) := by decide +kernel
theorem d_m_push_16 : decode b_m_push 16 = .ok (.lastore, 1) := by decide +kernel
theorem d_m_push_17 : decode b_m_push 17 = .ok (.aload_n 0, 1) := by decide +kernel
theorem d_m_push_18 : decode b_m_push 18 = .ok (.getfield 94, 3) := by decide +kernel
theorem d_m_push_21 : decode b_m_push 21 = .ok (.iload_n 1, 1) := by decide +kernel
theorem d_m_push_22 : decode b_m_push 22 = .ok (.dup2, 1) := by decide +kernel
theorem d_m_push_23 : decode b_m_push 23 = .ok (.iaload, 1) := by decide +kernel
theorem d_m_push_24 : decode b_m_push 24 = .ok (.iconst 1, 1) := by decide +kernel
theorem d_m_push_25 : decode b_m_push 25 = .ok (.iadd, 1) := by decide +kernel
theorem d_m_push_26 : decode b_m_push 26 = .ok (.iastore, 1) := by decide +kernel
theorem d_m_push_27 : decode b_m_push 27 = .ok (.return_, 1) := by decide +kernel
theorem d_m_look_0 : decode b_m_look 0 = .ok (.iconst 0, 1) := by decide +kernel
theorem d_m_look_1 : decode b_m_look 1 = .ok (.istore 4, 2) := by decide +kernel
theorem d_m_look_3 : decode b_m_look 3 = .ok (.iconst 0, 1) := by decide +kernel
theorem d_m_look_4 : decode b_m_look 4 = .ok (.istore 5, 2) := by decide +kernel
theorem d_m_look_6 : decode b_m_look 6 = .ok (.iload 5, 2) := by decide +kernel
theorem d_m_look_8 : decode b_m_look 8 = .ok (.aload_n 0, 1) := by decide +kernel
theorem d_m_look_9 : decode b_m_look 9 = .ok (.getfield 100, 3) := by decide +kernel
theorem d_m_look_12 : decode b_m_look 12 = .ok (.iload_n 1, 1) := by decide +kernel
theorem d_m_look_13 : decode b_m_look 13 = .ok (.iaload, 1) := by decide +kernel
theorem d_m_look_14 : decode b_m_look 14 = .ok (.if_icmp .ge 37, 3) := by decide +kernel
theorem d_m_look_17 : decode b_m_look 17 = .ok (.iload 4, 2) := by decide +kernel
theorem d_m_look_19 : decode b_m_look 19 = .ok (.ifCond .ne 19, 3) := by decide +kernel
theorem d_m_look_22 : decode b_m_look 22 = .ok (.aload_n 0, 1) := by decide +kernel
theorem d_m_look_23 : decode b_m_look 23 = .ok (.getfield 103, 3) := by decide +kernel
theorem d_m_look_26 : decode b_m_look 26 = .ok (.bipush 12, 2) := by decide +kernel
theorem d_m_look_28 : decode b_m_look 28 = .ok (.iload_n 1, 1) := by decide +kernel
theorem d_m_look_29 : decode b_m_look 29 = .ok (.imul, 1) := by decide +kernel
theorem d_m_look_30 : decode b_m_look 30 = .ok (.iload 5, 2) := by decide +kernel
theorem d_m_look_32 : decode b_m_look 32 = .ok (.iadd, 1) := by decide +kernel
theorem d_m_look_33 : decode b_m_look 33 = .ok (.iaload, 1) := by decide +kernel
theorem d_m_look_34 : decode b_m_look 34 = .ok (.iload_n 3, 1) := by decide +kernel
theorem d_m_look_35 : decode b_m_look 35 = .ok (.if_icmp .ne 7, 3) := by decide +kernel
theorem d_m_look_38 : decode b_m_look 38 = .ok (.iconst 1, 1) := by decide +kernel
theorem d_m_look_39 : decode b_m_look 39 = .ok (.goto 4, 3) := by decide +kernel
theorem d_m_look_42 : decode b_m_look 42 = .ok (.iconst 0, 1) := by decide +kernel
theorem d_m_look_43 : decode b_m_look 43 = .ok (.istore 4, 2) := by decide +kernel
theorem d_m_look_45 : decode b_m_look 45 = .ok (.iinc 5 1, 3) := by decide +kernel
theorem d_m_look_48 : decode b_m_look 48 = .ok (.goto (-42), 3) := by decide +kernel
theorem d_m_look_51 : decode b_m_look 51 = .ok (.iload 4, 2) := by decide +kernel
theorem d_m_look_53 : decode b_m_look 53 = .ok (.ifCond .ne 30, 3) := by decide +kernel
theorem d_m_look_56 : decode b_m_look 56 = .ok (.aload_n 0, 1) := by decide +kernel
theorem d_m_look_57 : decode b_m_look 57 = .ok (.getfield 103, 3) := by decide +kernel
theorem d_m_look_60 : decode b_m_look 60 = .ok (.bipush 12, 2) := by decide +kernel
theorem d_m_look_62 : decode b_m_look 62 = .ok (.iload_n 1, 1) := by decide +kernel
theorem d_m_look_63 : decode b_m_look 63 = .ok (.imul, 1) := by decide +kernel
theorem d_m_look_64 : decode b_m_look 64 = .ok (.aload_n 0, 1) := by decide +kernel
theorem d_m_look_65 : decode b_m_look 65 = .ok (.getfield 100, 3) := by decide +kernel
theorem d_m_look_68 : decode b_m_look 68 = .ok (.iload_n 1, 1) := by decide +kernel
theorem d_m_look_69 : decode b_m_look 69 = .ok (.iaload, 1) := by decide +kernel
theorem d_m_look_70 : decode b_m_look 70 = .ok (.iadd, 1) := by decide +kernel
theorem d_m_look_71 : decode b_m_look 71 = .ok (.iload_n 3, 1) := by decide +kernel
theorem d_m_look_72 : decode b_m_look 72 = .ok (.iastore, 1) := by decide +kernel
theorem d_m_look_73 : decode b_m_look 73 = .ok (.aload_n 0, 1) := by decide +kernel
theorem d_m_look_74 : decode b_m_look 74 = .ok (.getfield 100, 3) := by decide +kernel
theorem d_m_look_77 : decode b_m_look 77 = .ok (.iload_n 1, 1) := by decide +kernel
theorem d_m_look_78 : decode b_m_look 78 = .ok (.dup2, 1) := by decide +kernel
theorem d_m_look_79 : decode b_m_look 79 = .ok (.iaload, 1) := by decide +kernel
theorem d_m_look_80 : decode b_m_look 80 = .ok (.iconst 1, 1) := by decide +kernel
theorem d_m_look_81 : decode b_m_look 81 = .ok (.iadd, 1) := by decide +kernel
theorem d_m_look_82 : decode b_m_look 82 = .ok (.iastore, 1) := by decide +kernel
theorem d_m_look_83 : decode b_m_look 83 = .ok (.aload_n 0, 1) := by decide +kernel
theorem d_m_look_84 : decode b_m_look 84 = .ok (.getfield 106, 3) := by decide +kernel
theorem d_m_look_87 : decode b_m_look 87 = .ok (.iload_n 3, 1) := by decide +kernel
theorem d_m_look_88 : decode b_m_look 88 = .ok (.baload, 1) := by decide +kernel
theorem d_m_look_89 : decode b_m_look 89 = .ok (.ifCond .eq 22, 3) := by decide +kernel
theorem d_m_look_92 : decode b_m_look 92 = .ok (.aload_n 0, 1) := by decide +kernel
theorem d_m_look_93 : decode b_m_look 93 = .ok (.getfield 109, 3) := by decide +kernel
theorem d_m_look_96 : decode b_m_look 96 = .ok (.iload_n 1, 1) := by decide +kernel
theorem d_m_look_97 : decode b_m_look 97 = .ok (.iconst 1, 1) := by decide +kernel
theorem d_m_look_98 : decode b_m_look 98 = .ok (.bastore, 1) := by decide +kernel
theorem d_m_look_99 : decode b_m_look 99 = .ok (.aload_n 0, 1) := by decide +kernel
theorem d_m_look_100 : decode b_m_look 100 = .ok (.iload_n 1, 1) := by decide +kernel
theorem d_m_look_101 : decode b_m_look 101 = .ok (.iload_n 2, 1) := by decide +kernel
theorem d_m_look_102 : decode b_m_look 102 = .ok (.ldc2_w 246, 3) := by decide +kernel
theorem d_m_look_105 : decode b_m_look 105 = .ok (.invokevirtual 203, 3) := by decide +kernel
theorem d_m_look_108 : decode b_m_look 108 = .ok (.goto 156, 3) := by decide +kernel
theorem d_m_look_111 : decode b_m_look 111 = .ok (.aload_n 0, 1) := by decide +kernel
theorem d_m_look_112 : decode b_m_look 112 = .ok (.iload_n 3, 1) := by decide +kernel
theorem d_m_look_113 : decode b_m_look 113 = .ok (.invokevirtual 219, 3) := by decide +kernel
theorem d_m_look_116 : decode b_m_look 116 = .ok (.ifCond .ne 12, 3) := by decide +kernel
theorem d_m_look_119 : decode b_m_look 119 = .ok (.aload_n 0, 1) := by decide +kernel
theorem d_m_look_120 : decode b_m_look 120 = .ok (.iload_n 3, 1) := by decide +kernel
theorem d_m_look_121 : decode b_m_look 121 = .ok (.iconst 0, 1) := by decide +kernel
theorem d_m_look_122 : decode b_m_look 122 = .ok (.invokevirtual 222, 3) := by decide +kernel
theorem d_m_look_125 : decode b_m_look 125 = .ok (.goto 139, 3) := by decide +kernel
theorem d_m_look_128 : decode b_m_look 128 = .ok (.aload_n 0, 1) := by decide +kernel
theorem d_m_look_129 : decode b_m_look 129 = .ok (.getfield 20, 3) := by decide +kernel
theorem d_m_look_132 : decode b_m_look 132 = .ok (.iload_n 3, 1) := by decide +kernel
theorem d_m_look_133 : decode b_m_look 133 = .ok (.baload, 1) := by decide +kernel
theorem d_m_look_134 : decode b_m_look 134 = .ok (.ifCond .eq 21, 3) := by decide +kernel
theorem d_m_look_137 : decode b_m_look 137 = .ok (.aload_n 0, 1) := by decide +kernel
theorem d_m_look_138 : decode b_m_look 138 = .ok (.getfield 54, 3) := by decide +kernel
theorem d_m_look_141 : decode b_m_look 141 = .ok (.iload_n 3, 1) := by decide +kernel
theorem d_m_look_142 : decode b_m_look 142 = .ok (.baload, 1) := by decide +kernel
theorem d_m_look_143 : decode b_m_look 143 = .ok (.ifCond .ne 12, 3) := by decide +kernel
theorem d_m_look_146 : decode b_m_look 146 = .ok (.aload_n 0, 1) := by decide +kernel
theorem d_m_look_147 : decode b_m_look 147 = .ok (.iload_n 3, 1) := by decide +kernel
theorem d_m_look_148 : decode b_m_look 148 = .ok (.iconst 2, 1) := by decide +kernel
theorem d_m_look_149 : decode b_m_look 149 = .ok (.invokevirtual 222, 3) := by decide +kernel
theorem d_m_look_152 : decode b_m_look 152 = .ok (.goto 112, 3) := by decide +kernel
theorem d_m_look_155 : decode b_m_look 155 = .ok (.aload_n 0, 1) := by decide +kernel
theorem d_m_look_156 : decode b_m_look 156 = .ok (.getfield 20, 3) := by decide +kernel
theorem d_m_look_159 : decode b_m_look 159 = .ok (.iload_n 3, 1) := by decide +kernel
theorem d_m_look_160 : decode b_m_look 160 = .ok (.baload, 1) := by decide +kernel
theorem d_m_look_161 : decode b_m_look 161 = .ok (.ifCond .eq 8, 3) := by decide +kernel
theorem d_m_look_164 : decode b_m_look 164 = .ok (.aload_n 0, 1) := by decide +kernel
theorem d_m_look_165 : decode b_m_look 165 = .ok (.iload_n 3, 1) := by decide +kernel
theorem d_m_look_166 : decode b_m_look 166 = .ok (.invokevirtual 228, 3) := by decide +kernel
theorem d_m_look_169 : decode b_m_look 169 = .ok (.aload_n 0, 1) := by decide +kernel
theorem d_m_look_170 : decode b_m_look 170 = .ok (.getfield 20, 3) := by decide +kernel
theorem d_m_look_173 : decode b_m_look 173 = .ok (.iload_n 3, 1) := by decide +kernel
theorem d_m_look_174 : decode b_m_look 174 = .ok (.baload, 1) := by decide +kernel
theorem d_m_look_175 : decode b_m_look 175 = .ok (.ifCond .eq 12, 3) := by decide +kernel
theorem d_m_look_178 : decode b_m_look 178 = .ok (.aload_n 0, 1) := by decide +kernel
theorem d_m_look_179 : decode b_m_look 179 = .ok (.getfield 57, 3) := by decide +kernel
theorem d_m_look_182 : decode b_m_look 182 = .ok (.iload_n 3, 1) := by decide +kernel
theorem d_m_look_183 : decode b_m_look 183 = .ok (.laload, 1) := by decide +kernel
theorem d_m_look_184 : decode b_m_look 184 = .ok (.goto 10, 3) := by decide +kernel
theorem d_m_look_187 : decode b_m_look 187 = .ok (.aload_n 0, 1) := by decide +kernel
theorem d_m_look_188 : decode b_m_look 188 = .ok (.getfield 42, 3) := by decide +kernel
theorem d_m_look_191 : decode b_m_look 191 = .ok (.iload_n 3, 1) := by decide +kernel
theorem d_m_look_192 : decode b_m_look 192 = .ok (.iaload, 1) := by decide +kernel
theorem d_m_look_193 : decode b_m_look 193 = .ok (.i2l, 1) := by decide +kernel
theorem d_m_look_194 : decode b_m_look 194 = .ok (.lstore 5, 2) := by decide +kernel
theorem d_m_look_196 : decode b_m_look 196 = .ok (.lload 5, 2) := by decide +kernel
theorem d_m_look_198 : decode b_m_look 198 = .ok (.ldc2_w 246, 3) := by decide +kernel
theorem d_m_look_201 : decode b_m_look 201 = .ok (.lcmp, 1) := by decide +kernel
theorem d_m_look_202 : decode b_m_look 202 = .ok (.ifCond .ne 15, 3) := by decide +kernel
theorem d_m_look_205 : decode b_m_look 205 = .ok (.aload_n 0, 1) := by decide +kernel
theorem d_m_look_206 : decode b_m_look 206 = .ok (.iload_n 1, 1) := by decide +kernel
theorem d_m_look_207 : decode b_m_look 207 = .ok (.iload_n 2, 1) := by decide +kernel
theorem d_m_look_208 : decode b_m_look 208 = .ok (.ldc2_w 246, 3) := by decide +kernel
theorem d_m_look_211 : decode b_m_look 211 = .ok (.invokevirtual 203, 3) := by decide +kernel
theorem d_m_look_214 : decode b_m_look 214 = .ok (.goto 50, 3) := by decide +kernel
theorem d_m_look_217 : decode b_m_look 217 = .ok (.aload_n 0, 1) := by decide +kernel
theorem d_m_look_218 : decode b_m_look 218 = .ok (.getfield 33, 3) := by decide +kernel
theorem d_m_look_221 : decode b_m_look 221 = .ok (.bipush 40, 2) := by decide +kernel
theorem d_m_look_223 : decode b_m_look 223 = .ok (.iload_n 2, 1) := by decide +kernel
theorem d_m_look_224 : decode b_m_look 224 = .ok (.imul, 1) := by decide +kernel
theorem d_m_look_225 : decode b_m_look 225 = .ok (.aload_n 0, 1) := by decide +kernel
theorem d_m_look_226 : decode b_m_look 226 = .ok (.getfield 91, 3) := by decide +kernel
theorem d_m_look_229 : decode b_m_look 229 = .ok (.iload_n 1, 1) := by decide +kernel
theorem d_m_look_230 : decode b_m_look 230 = .ok (.iaload, 1) := by decide +kernel
theorem d_m_look_231 : decode b_m_look 231 = .ok (.iadd, 1) := by decide +kernel
theorem d_m_look_232 : decode b_m_look 232 = .ok (.iaload, 1) := by decide +kernel
theorem d_m_look_233 : decode b_m_look 233 = .ok (.iconst 2, 1) := by decide +kernel
theorem d_m_look_234 : decode b_m_look 234 = .ok (.if_icmp .ne 13, 3) := by decide +kernel
theorem d_m_look_237 : decode b_m_look 237 = .ok (.aload_n 0, 1) := by decide +kernel
theorem d_m_look_238 : decode b_m_look 238 = .ok (.getfield 94, 3) := by decide +kernel
theorem d_m_look_241 : decode b_m_look 241 = .ok (.iload_n 1, 1) := by decide +kernel
theorem d_m_look_242 : decode b_m_look 242 = .ok (.dup2, 1) := by decide +kernel
theorem d_m_look_243 : decode b_m_look 243 = .ok (.iaload, 1) := by decide +kernel
theorem d_m_look_244 : decode b_m_look 244 = .ok (.iconst 1, 1) := by decide +kernel
theorem d_m_look_245 : decode b_m_look 245 = .ok (.isub, 1) := by decide +kernel
theorem d_m_look_246 : decode b_m_look 246 = .ok (.iastore, 1) := by decide +kernel
theorem d_m_look_247 : decode b_m_look 247 = .ok (.aload_n 0, 1) := by decide +kernel
theorem d_m_look_248 : decode b_m_look 248 = .ok (.iload_n 1, 1) := by decide +kernel
theorem d_m_look_249 : decode b_m_look 249 = .ok (.lload 5, 2) := by decide +kernel
theorem d_m_look_251 : decode b_m_look 251 = .ok (.invokevirtual 235, 3) := by decide +kernel
theorem d_m_look_254 : decode b_m_look 254 = .ok (.aload_n 0, 1) := by decide +kernel
theorem d_m_look_255 : decode b_m_look 255 = .ok (.getfield 91, 3) := by decide +kernel
theorem d_m_look_258 : decode b_m_look 258 = .ok (.iload_n 1, 1) := by decide +kernel
theorem d_m_look_259 : decode b_m_look 259 = .ok (.dup2, 1) := by decide +kernel
theorem d_m_look_260 : decode b_m_look 260 = .ok (.iaload, 1) := by decide +kernel
theorem d_m_look_261 : decode b_m_look 261 = .ok (.iconst 1, 1) := by decide +kernel
theorem d_m_look_262 : decode b_m_look 262 = .ok (.iadd, 1) := by decide +kernel
theorem d_m_look_263 : decode b_m_look 263 = .ok (.iastore, 1) := by decide +kernel
theorem d_m_look_264 : decode b_m_look 264 = .ok (.return_, 1) := by decide +kernel
theorem d_m_pop_0 : decode b_m_pop 0 = .ok (.aload_n 0, 1) := by decide +kernel
theorem d_m_pop_1 : decode b_m_pop 1 = .ok (.getfield 94, 3) := by decide +kernel
theorem d_m_pop_4 : decode b_m_pop 4 = .ok (.iload_n 1, 1) := by decide +kernel
theorem d_m_pop_5 : decode b_m_pop 5 = .ok (.dup2, 1) := by decide +kernel
theorem d_m_pop_6 : decode b_m_pop 6 = .ok (.iaload, 1) := by decide +kernel
theorem d_m_pop_7 : decode b_m_pop 7 = .ok (.iconst 1, 1) := by decide +kernel
theorem d_m_pop_8 : decode b_m_pop 8 = .ok (.isub, 1) := by decide +kernel
theorem d_m_pop_9 : decode b_m_pop 9 = .ok (.iastore, 1) := by decide +kernel
theorem d_m_pop_10 : decode b_m_pop 10 = .ok (.aload_n 0, 1) := by decide +kernel
theorem d_m_pop_11 : decode b_m_pop 11 = .ok (.getfield 97, 3) := by decide +kernel
theorem d_m_pop_14 : decode b_m_pop 14 = .ok (.bipush 16, 2) := by decide +kernel
theorem d_m_pop_16 : decode b_m_pop 16 = .ok (.iload_n 1, 1) := by decide +kernel
theorem d_m_pop_17 : decode b_m_pop 17 = .ok (.imul, 1) := by decide +kernel
theorem d_m_pop_18 : decode b_m_pop 18 = .ok (.aload_n 0, 1) := by decide +kernel
theorem d_m_pop_19 : decode b_m_pop 19 = .ok (.getfield 94, 3) := by decide +kernel
theorem d_m_pop_22 : decode b_m_pop 22 = .ok (.iload_n 1, 1) := by decide +kernel
theorem d_m_pop_23 : decode b_m_pop 23 = .ok (.iaload, 1) := by decide +kernel
theorem d_m_pop_24 : decode b_m_pop 24 = .ok (.iadd, 1) := by decide +kernel
theorem d_m_pop_25 : decode b_m_pop 25 = .ok (.laload, 1) := by decide +kernel
theorem d_m_pop_26 : decode b_m_pop 26 = .ok (.lreturn, 1) := by decide +kernel
theorem d_m_combine_0 : decode b_m_combine 0 = .ok (.aload_n 0, 1) := by decide +kernel
theorem d_m_combine_1 : decode b_m_combine 1 = .ok (.iload_n 1, 1) := by decide +kernel
theorem d_m_combine_2 : decode b_m_combine 2 = .ok (.invokevirtual 239, 3) := by decide +kernel
theorem d_m_combine_5 : decode b_m_combine 5 = .ok (.l2i, 1) := by decide +kernel
theorem d_m_combine_6 : decode b_m_combine 6 = .ok (.istore_n 3, 1) := by decide +kernel
theorem d_m_combine_7 : decode b_m_combine 7 = .ok (.aload_n 0, 1) := by decide +kernel
theorem d_m_combine_8 : decode b_m_combine 8 = .ok (.iload_n 1, 1) := by decide +kernel
theorem d_m_combine_9 : decode b_m_combine 9 = .ok (.invokevirtual 239, 3) := by decide +kernel
theorem d_m_combine_12 : decode b_m_combine 12 = .ok (.l2i, 1) := by decide +kernel
theorem d_m_combine_13 : decode b_m_combine 13 = .ok (.istore 4, 2) := by decide +kernel
theorem d_m_combine_15 : decode b_m_combine 15 = .ok (.aload_n 0, 1) := by decide +kernel
theorem d_m_combine_16 : decode b_m_combine 16 = .ok (.iload_n 1, 1) := by decide +kernel
theorem d_m_combine_17 : decode b_m_combine 17 = .ok (.iload_n 2, 1) := by decide +kernel
theorem d_m_combine_18 : decode b_m_combine 18 = .ok (.iconst 4, 1) := by decide +kernel
theorem d_m_combine_19 : decode b_m_combine 19 = .ok (.if_icmp .ne 11, 3) := by decide +kernel
theorem d_m_combine_22 : decode b_m_combine 22 = .ok (.iload 4, 2) := by decide +kernel
theorem d_m_combine_24 : decode b_m_combine 24 = .ok (.iload_n 3, 1) := by decide +kernel
theorem d_m_combine_25 : decode b_m_combine 25 = .ok (.imul, 1) := by decide +kernel
theorem d_m_combine_26 : decode b_m_combine 26 = .ok (.i2l, 1) := by decide +kernel
theorem d_m_combine_27 : decode b_m_combine 27 = .ok (.goto 62, 3) := by decide +kernel
theorem d_m_combine_30 : decode b_m_combine 30 = .ok (.iload_n 2, 1) := by decide +kernel
theorem d_m_combine_31 : decode b_m_combine 31 = .ok (.iconst 5, 1) := by decide +kernel
theorem d_m_combine_32 : decode b_m_combine 32 = .ok (.if_icmp .ne 11, 3) := by decide +kernel
theorem d_m_combine_35 : decode b_m_combine 35 = .ok (.iload 4, 2) := by decide +kernel
theorem d_m_combine_37 : decode b_m_combine 37 = .ok (.iload_n 3, 1) := by decide +kernel
theorem d_m_combine_38 : decode b_m_combine 38 = .ok (.iadd, 1) := by decide +kernel
theorem d_m_combine_39 : decode b_m_combine 39 = .ok (.i2l, 1) := by decide +kernel
theorem d_m_combine_40 : decode b_m_combine 40 = .ok (.goto 49, 3) := by decide +kernel
theorem d_m_combine_43 : decode b_m_combine 43 = .ok (.iload_n 2, 1) := by decide +kernel
theorem d_m_combine_44 : decode b_m_combine 44 = .ok (.bipush 6, 2) := by decide +kernel
theorem d_m_combine_46 : decode b_m_combine 46 = .ok (.if_icmp .ne 11, 3) := by decide +kernel
theorem d_m_combine_49 : decode b_m_combine 49 = .ok (.iload 4, 2) := by decide +kernel
theorem d_m_combine_51 : decode b_m_combine 51 = .ok (.iload_n 3, 1) := by decide +kernel
theorem d_m_combine_52 : decode b_m_combine 52 = .ok (.isub, 1) := by decide +kernel
theorem d_m_combine_53 : decode b_m_combine 53 = .ok (.i2l, 1) := by decide +kernel
theorem d_m_combine_54 : decode b_m_combine 54 = .ok (.goto 35, 3) := by decide +kernel
theorem d_m_combine_57 : decode b_m_combine 57 = .ok (.iload_n 2, 1) := by decide +kernel
theorem d_m_combine_58 : decode b_m_combine 58 = .ok (.bipush 7, 2) := by decide +kernel
theorem d_m_combine_60 : decode b_m_combine 60 = .ok (.if_icmp .ne 18, 3) := by decide +kernel
theorem d_m_combine_63 : decode b_m_combine 63 = .ok (.iload 4, 2) := by decide +kernel
theorem d_m_combine_65 : decode b_m_combine 65 = .ok (.iload_n 3, 1) := by decide +kernel
theorem d_m_combine_66 : decode b_m_combine 66 = .ok (.if_icmp .ge 7, 3) := by decide +kernel
theorem d_m_combine_69 : decode b_m_combine 69 = .ok (.iconst 1, 1) := by decide +kernel
theorem d_m_combine_70 : decode b_m_combine 70 = .ok (.goto 4, 3) := by decide +kernel
theorem d_m_combine_73 : decode b_m_combine 73 = .ok (.iconst 0, 1) := by decide +kernel
theorem d_m_combine_74 : decode b_m_combine 74 = .ok (.i2l, 1) := by decide +kernel
theorem d_m_combine_75 : decode b_m_combine 75 = .ok (.goto 14, 3) := by decide +kernel
theorem d_m_combine_78 : decode b_m_combine 78 = .ok (.iload 4, 2) := by decide +kernel
theorem d_m_combine_80 : decode b_m_combine 80 = .ok (.iload_n 3, 1) := by decide +kernel
theorem d_m_combine_81 : decode b_m_combine 81 = .ok (.if_icmp .ne 7, 3) := by decide +kernel
theorem d_m_combine_84 : decode b_m_combine 84 = .ok (.lconst 1, 1) := by decide +kernel
theorem d_m_combine_85 : decode b_m_combine 85 = .ok (.goto 4, 3) := by decide +kernel
theorem d_m_combine_88 : decode b_m_combine 88 = .ok (.lconst 0, 1) := by decide +kernel
theorem d_m_combine_89 : decode b_m_combine 89 = .ok (.invokevirtual 235, 3) := by decide +kernel
theorem d_m_combine_92 : decode b_m_combine 92 = .ok (.return_, 1) := by decide +kernel
theorem d_m_advance_0 : decode b_m_advance 0 = .ok (.aload_n 0, 1) := by decide +kernel
theorem d_m_advance_1 : decode b_m_advance 1 = .ok (.getfield 33, 3) := by decide +kernel
theorem d_m_advance_4 : decode b_m_advance 4 = .ok (.bipush 40, 2) := by decide +kernel
theorem d_m_advance_6 : decode b_m_advance 6 = .ok (.iload_n 2, 1) := by decide +kernel
theorem d_m_advance_7 : decode b_m_advance 7 = .ok (.imul, 1) := by decide +kernel
theorem d_m_advance_8 : decode b_m_advance 8 = .ok (.aload_n 0, 1) := by decide +kernel
theorem d_m_advance_9 : decode b_m_advance 9 = .ok (.getfield 91, 3) := by decide +kernel
theorem d_m_advance_12 : decode b_m_advance 12 = .ok (.iload_n 1, 1) := by decide +kernel
theorem d_m_advance_13 : decode b_m_advance 13 = .ok (.iaload, 1) := by decide +kernel
theorem d_m_advance_14 : decode b_m_advance 14 = .ok (.iadd, 1) := by decide +kernel
theorem d_m_advance_15 : decode b_m_advance 15 = .ok (.iaload, 1) := by decide +kernel
theorem d_m_advance_16 : decode b_m_advance 16 = .ok (.istore_n 3, 1) := by decide +kernel
theorem d_m_advance_17 : decode b_m_advance 17 = .ok (.aload_n 0, 1) := by decide +kernel
theorem d_m_advance_18 : decode b_m_advance 18 = .ok (.getfield 36, 3) := by decide +kernel
theorem d_m_advance_21 : decode b_m_advance 21 = .ok (.bipush 40, 2) := by decide +kernel
theorem d_m_advance_23 : decode b_m_advance 23 = .ok (.iload_n 2, 1) := by decide +kernel
theorem d_m_advance_24 : decode b_m_advance 24 = .ok (.imul, 1) := by decide +kernel
theorem d_m_advance_25 : decode b_m_advance 25 = .ok (.aload_n 0, 1) := by decide +kernel
theorem d_m_advance_26 : decode b_m_advance 26 = .ok (.getfield 91, 3) := by decide +kernel
theorem d_m_advance_29 : decode b_m_advance 29 = .ok (.iload_n 1, 1) := by decide +kernel
theorem d_m_advance_30 : decode b_m_advance 30 = .ok (.iaload, 1) := by decide +kernel
theorem d_m_advance_31 : decode b_m_advance 31 = .ok (.iadd, 1) := by decide +kernel
theorem d_m_advance_32 : decode b_m_advance 32 = .ok (.iaload, 1) := by decide +kernel
theorem d_m_advance_33 : decode b_m_advance 33 = .ok (.istore 4, 2) := by decide +kernel
theorem d_m_advance_35 : decode b_m_advance 35 = .ok (.iload_n 3, 1) := by decide +kernel
theorem d_m_advance_36 : decode b_m_advance 36 = .ok (.iconst 1, 1) := by decide +kernel
theorem d_m_advance_37 : decode b_m_advance 37 = .ok (.if_icmp .ne 14, 3) := by decide +kernel
theorem d_m_advance_40 : decode b_m_advance 40 = .ok (.aload_n 0, 1) := by decide +kernel
theorem d_m_advance_41 : decode b_m_advance 41 = .ok (.iload_n 1, 1) := by decide +kernel
theorem d_m_advance_42 : decode b_m_advance 42 = .ok (.iload_n 2, 1) := by decide +kernel
theorem d_m_advance_43 : decode b_m_advance 43 = .ok (.iload 4, 2) := by decide +kernel
theorem d_m_advance_45 : decode b_m_advance 45 = .ok (.invokevirtual 231, 3) := by decide +kernel
theorem d_m_advance_48 : decode b_m_advance 48 = .ok (.goto 161, 3) := by decide +kernel
theorem d_m_advance_51 : decode b_m_advance 51 = .ok (.iload_n 3, 1) := by decide +kernel
theorem d_m_advance_52 : decode b_m_advance 52 = .ok (.iconst 2, 1) := by decide +kernel
theorem d_m_advance_53 : decode b_m_advance 53 = .ok (.if_icmp .ne 51, 3) := by decide +kernel
theorem d_m_advance_56 : decode b_m_advance 56 = .ok (.aload_n 0, 1) := by decide +kernel
theorem d_m_advance_57 : decode b_m_advance 57 = .ok (.getfield 97, 3) := by decide +kernel
theorem d_m_advance_60 : decode b_m_advance 60 = .ok (.bipush 16, 2) := by decide +kernel
theorem d_m_advance_62 : decode b_m_advance 62 = .ok (.iload_n 1, 1) := by decide +kernel
theorem d_m_advance_63 : decode b_m_advance 63 = .ok (.imul, 1) := by decide +kernel
theorem d_m_advance_64 : decode b_m_advance 64 = .ok (.aload_n 0, 1) := by decide +kernel
theorem d_m_advance_65 : decode b_m_advance 65 = .ok (.getfield 94, 3) := by decide +kernel
theorem d_m_advance_68 : decode b_m_advance 68 = .ok (.iload_n 1, 1) := by decide +kernel
theorem d_m_advance_69 : decode b_m_advance 69 = .ok (.iaload, 1) := by decide +kernel
theorem d_m_advance_70 : decode b_m_advance 70 = .ok (.iadd, 1) := by decide +kernel
theorem d_m_advance_71 : decode b_m_advance 71 = .ok (.iconst 1, 1) := by decide +kernel
theorem d_m_advance_72 : decode b_m_advance 72 = .ok (.isub, 1) := by decide +kernel
theorem d_m_advance_73 : decode b_m_advance 73 = .ok (.laload, 1) := by decide +kernel
theorem d_m_advance_74 : decode b_m_advance 74 = .ok (.l2i, 1) := by decide +kernel
theorem d_m_advance_75 : decode b_m_advance 75 = .ok (.bipush 12, 2) := by decide +kernel
theorem d_m_advance_77 : decode b_m_advance 77 = .ok (.irem, 1) := by decide +kernel
theorem d_m_advance_78 : decode b_m_advance 78 = .ok (.istore 5, 2) := by decide +kernel
theorem d_m_advance_80 : decode b_m_advance 80 = .ok (.aload_n 0, 1) := by decide +kernel
theorem d_m_advance_81 : decode b_m_advance 81 = .ok (.iload_n 1, 1) := by decide +kernel
theorem d_m_advance_82 : decode b_m_advance 82 = .ok (.iload_n 2, 1) := by decide +kernel
theorem d_m_advance_83 : decode b_m_advance 83 = .ok (.iload 5, 2) := by decide +kernel
theorem d_m_advance_85 : decode b_m_advance 85 = .ok (.ifCond .ge 11, 3) := by decide +kernel
theorem d_m_advance_88 : decode b_m_advance 88 = .ok (.iload 5, 2) := by decide +kernel
theorem d_m_advance_90 : decode b_m_advance 90 = .ok (.bipush 12, 2) := by decide +kernel
theorem d_m_advance_92 : decode b_m_advance 92 = .ok (.iadd, 1) := by decide +kernel
theorem d_m_advance_93 : decode b_m_advance 93 = .ok (.goto 5, 3) := by decide +kernel
theorem d_m_advance_96 : decode b_m_advance 96 = .ok (.iload 5, 2) := by decide +kernel
theorem d_m_advance_98 : decode b_m_advance 98 = .ok (.invokevirtual 231, 3) := by decide +kernel
theorem d_m_advance_101 : decode b_m_advance 101 = .ok (.goto 108, 3) := by decide +kernel
theorem d_m_advance_104 : decode b_m_advance 104 = .ok (.aload_n 0, 1) := by decide +kernel
theorem d_m_advance_105 : decode b_m_advance 105 = .ok (.getfield 91, 3) := by decide +kernel
theorem d_m_advance_108 : decode b_m_advance 108 = .ok (.iload_n 1, 1) := by decide +kernel
theorem d_m_advance_109 : decode b_m_advance 109 = .ok (.dup2, 1) := by decide +kernel
theorem d_m_advance_110 : decode b_m_advance 110 = .ok (.iaload, 1) := by decide +kernel
theorem d_m_advance_111 : decode b_m_advance 111 = .ok (.iconst 1, 1) := by decide +kernel
theorem d_m_advance_112 : decode b_m_advance 112 = .ok (.iadd, 1) := by decide +kernel
theorem d_m_advance_113 : decode b_m_advance 113 = .ok (.iastore, 1) := by decide +kernel
theorem d_m_advance_114 : decode b_m_advance 114 = .ok (.iload_n 3, 1) := by decide +kernel
theorem d_m_advance_115 : decode b_m_advance 115 = .ok (.ifCond .ne 14, 3) := by decide +kernel
theorem d_m_advance_118 : decode b_m_advance 118 = .ok (.aload_n 0, 1) := by decide +kernel
theorem d_m_advance_119 : decode b_m_advance 119 = .ok (.iload_n 1, 1) := by decide +kernel
theorem d_m_advance_120 : decode b_m_advance 120 = .ok (.iload 4, 2) := by decide +kernel
theorem d_m_advance_122 : decode b_m_advance 122 = .ok (.i2l, 1) := by decide +kernel
theorem d_m_advance_123 : decode b_m_advance 123 = .ok (.invokevirtual 235, 3) := by decide +kernel
theorem d_m_advance_126 : decode b_m_advance 126 = .ok (.goto 83, 3) := by decide +kernel
theorem d_m_advance_129 : decode b_m_advance 129 = .ok (.iload_n 3, 1) := by decide +kernel
theorem d_m_advance_130 : decode b_m_advance 130 = .ok (.iconst 3, 1) := by decide +kernel
theorem d_m_advance_131 : decode b_m_advance 131 = .ok (.if_icmp .ne 19, 3) := by decide +kernel
theorem d_m_advance_134 : decode b_m_advance 134 = .ok (.aload_n 0, 1) := by decide +kernel
theorem d_m_advance_135 : decode b_m_advance 135 = .ok (.iload_n 1, 1) := by decide +kernel
theorem d_m_advance_136 : decode b_m_advance 136 = .ok (.aload_n 0, 1) := by decide +kernel
theorem d_m_advance_137 : decode b_m_advance 137 = .ok (.iload_n 1, 1) := by decide +kernel
theorem d_m_advance_138 : decode b_m_advance 138 = .ok (.invokevirtual 239, 3) := by decide +kernel
theorem d_m_advance_141 : decode b_m_advance 141 = .ok (.l2i, 1) := by decide +kernel
theorem d_m_advance_142 : decode b_m_advance 142 = .ok (.ineg, 1) := by decide +kernel
theorem d_m_advance_143 : decode b_m_advance 143 = .ok (.i2l, 1) := by decide +kernel
theorem d_m_advance_144 : decode b_m_advance 144 = .ok (.invokevirtual 235, 3) := by decide +kernel
theorem d_m_advance_147 : decode b_m_advance 147 = .ok (.goto 62, 3) := by decide +kernel
theorem d_m_advance_150 : decode b_m_advance 150 = .ok (.iload_n 3, 1) := by decide +kernel
theorem d_m_advance_151 : decode b_m_advance 151 = .ok (.bipush 9, 2) := by decide +kernel
theorem d_m_advance_153 : decode b_m_advance 153 = .ok (.if_icmp .ne 14, 3) := by decide +kernel
theorem d_m_advance_156 : decode b_m_advance 156 = .ok (.aload_n 0, 1) := by decide +kernel
theorem d_m_advance_157 : decode b_m_advance 157 = .ok (.getfield 91, 3) := by decide +kernel
theorem d_m_advance_160 : decode b_m_advance 160 = .ok (.iload_n 1, 1) := by decide +kernel
theorem d_m_advance_161 : decode b_m_advance 161 = .ok (.iload 4, 2) := by decide +kernel
theorem d_m_advance_163 : decode b_m_advance 163 = .ok (.iastore, 1) := by decide +kernel
theorem d_m_advance_164 : decode b_m_advance 164 = .ok (.goto 45, 3) := by decide +kernel
theorem d_m_advance_167 : decode b_m_advance 167 = .ok (.iload_n 3, 1) := by decide +kernel
theorem d_m_advance_168 : decode b_m_advance 168 = .ok (.bipush 10, 2) := by decide +kernel
theorem d_m_advance_170 : decode b_m_advance 170 = .ok (.if_icmp .ne 33, 3) := by decide +kernel
theorem d_m_advance_173 : decode b_m_advance 173 = .ok (.aload_n 0, 1) := by decide +kernel
theorem d_m_advance_174 : decode b_m_advance 174 = .ok (.getfield 91, 3) := by decide +kernel
theorem d_m_advance_177 : decode b_m_advance 177 = .ok (.iload_n 1, 1) := by decide +kernel
theorem d_m_advance_178 : decode b_m_advance 178 = .ok (.aload_n 0, 1) := by decide +kernel
theorem d_m_advance_179 : decode b_m_advance 179 = .ok (.iload_n 1, 1) := by decide +kernel
theorem d_m_advance_180 : decode b_m_advance 180 = .ok (.invokevirtual 239, 3) := by decide +kernel
theorem d_m_advance_183 : decode b_m_advance 183 = .ok (.lconst 0, 1) := by decide +kernel
theorem d_m_advance_184 : decode b_m_advance 184 = .ok (.lcmp, 1) := by decide +kernel
theorem d_m_advance_185 : decode b_m_advance 185 = .ok (.ifCond .ne 8, 3) := by decide +kernel
theorem d_m_advance_188 : decode b_m_advance 188 = .ok (.iload 4, 2) := by decide +kernel
theorem d_m_advance_190 : decode b_m_advance 190 = .ok (.goto 9, 3) := by decide +kernel
theorem d_m_advance_193 : decode b_m_advance 193 = .ok (.aload_n 0, 1) := by decide +kernel
theorem d_m_advance_194 : decode b_m_advance 194 = .ok (.getfield 91, 3) := by decide +kernel
theorem d_m_advance_197 : decode b_m_advance 197 = .ok (.iload_n 1, 1) := by decide +kernel
theorem d_m_advance_198 : decode b_m_advance 198 = .ok (.iaload, 1) := by decide +kernel
theorem d_m_advance_199 : decode b_m_advance 199 = .ok (.iastore, 1) := by decide +kernel
theorem d_m_advance_200 : decode b_m_advance 200 = .ok (.goto 9, 3) := by decide +kernel
theorem d_m_advance_203 : decode b_m_advance 203 = .ok (.aload_n 0, 1) := by decide +kernel
theorem d_m_advance_204 : decode b_m_advance 204 = .ok (.iload_n 1, 1) := by decide +kernel
theorem d_m_advance_205 : decode b_m_advance 205 = .ok (.iload_n 3, 1) := by decide +kernel
theorem d_m_advance_206 : decode b_m_advance 206 = .ok (.invokevirtual 243, 3) := by decide +kernel
theorem d_m_advance_209 : decode b_m_advance 209 = .ok (.return_, 1) := by decide +kernel
theorem d_m_runAll_0 : decode b_m_runAll 0 = .ok (.aload_n 0, 1) := by decide +kernel
theorem d_m_runAll_1 : decode b_m_runAll 1 = .ok (.getfield 191, 3) := by decide +kernel
theorem d_m_runAll_4 : decode b_m_runAll 4 = .ok (.ifCond .le 162, 3) := by decide +kernel
theorem d_m_runAll_7 : decode b_m_runAll 7 = .ok (.aload_n 0, 1) := by decide +kernel
theorem d_m_runAll_8 : decode b_m_runAll 8 = .ok (.getfield 191, 3) := by decide +kernel
theorem d_m_runAll_11 : decode b_m_runAll 11 = .ok (.iconst 1, 1) := by decide +kernel
theorem d_m_runAll_12 : decode b_m_runAll 12 = .ok (.isub, 1) := by decide +kernel
theorem d_m_runAll_13 : decode b_m_runAll 13 = .ok (.istore_n 1, 1) := by decide +kernel
theorem d_m_runAll_14 : decode b_m_runAll 14 = .ok (.aload_n 0, 1) := by decide +kernel
theorem d_m_runAll_15 : decode b_m_runAll 15 = .ok (.getfield 88, 3) := by decide +kernel
theorem d_m_runAll_18 : decode b_m_runAll 18 = .ok (.iload_n 1, 1) := by decide +kernel
theorem d_m_runAll_19 : decode b_m_runAll 19 = .ok (.iaload, 1) := by decide +kernel
theorem d_m_runAll_20 : decode b_m_runAll 20 = .ok (.ifCond .ne 17, 3) := by decide +kernel
theorem d_m_runAll_23 : decode b_m_runAll 23 = .ok (.aload_n 0, 1) := by decide +kernel
theorem d_m_runAll_24 : decode b_m_runAll 24 = .ok (.iload_n 1, 1) := by decide +kernel
theorem d_m_runAll_25 : decode b_m_runAll 25 = .ok (.aload_n 0, 1) := by decide +kernel
theorem d_m_runAll_26 : decode b_m_runAll 26 = .ok (.getfield 85, 3) := by decide +kernel
theorem d_m_runAll_29 : decode b_m_runAll 29 = .ok (.iload_n 1, 1) := by decide +kernel
theorem d_m_runAll_30 : decode b_m_runAll 30 = .ok (.iaload, 1) := by decide +kernel
theorem d_m_runAll_31 : decode b_m_runAll 31 = .ok (.invokevirtual 197, 3) := by decide +kernel
theorem d_m_runAll_34 : decode b_m_runAll 34 = .ok (.goto 129, 3) := by decide +kernel
theorem d_m_runAll_37 : decode b_m_runAll 37 = .ok (.aload_n 0, 1) := by decide +kernel
theorem d_m_runAll_38 : decode b_m_runAll 38 = .ok (.getfield 88, 3) := by decide +kernel
theorem d_m_runAll_41 : decode b_m_runAll 41 = .ok (.iload_n 1, 1) := by decide +kernel
theorem d_m_runAll_42 : decode b_m_runAll 42 = .ok (.iaload, 1) := by decide +kernel
theorem d_m_runAll_43 : decode b_m_runAll 43 = .ok (.iconst 1, 1) := by decide +kernel
theorem d_m_runAll_44 : decode b_m_runAll 44 = .ok (.if_icmp .ne 17, 3) := by decide +kernel
theorem d_m_runAll_47 : decode b_m_runAll 47 = .ok (.aload_n 0, 1) := by decide +kernel
theorem d_m_runAll_48 : decode b_m_runAll 48 = .ok (.iload_n 1, 1) := by decide +kernel
theorem d_m_runAll_49 : decode b_m_runAll 49 = .ok (.aload_n 0, 1) := by decide +kernel
theorem d_m_runAll_50 : decode b_m_runAll 50 = .ok (.getfield 85, 3) := by decide +kernel
theorem d_m_runAll_53 : decode b_m_runAll 53 = .ok (.iload_n 1, 1) := by decide +kernel
theorem d_m_runAll_54 : decode b_m_runAll 54 = .ok (.iaload, 1) := by decide +kernel
theorem d_m_runAll_55 : decode b_m_runAll 55 = .ok (.invokevirtual 200, 3) := by decide +kernel
theorem d_m_runAll_58 : decode b_m_runAll 58 = .ok (.goto 105, 3) := by decide +kernel
theorem d_m_runAll_61 : decode b_m_runAll 61 = .ok (.aload_n 0, 1) := by decide +kernel
theorem d_m_runAll_62 : decode b_m_runAll 62 = .ok (.getfield 88, 3) := by decide +kernel
theorem d_m_runAll_65 : decode b_m_runAll 65 = .ok (.iload_n 1, 1) := by decide +kernel
theorem d_m_runAll_66 : decode b_m_runAll 66 = .ok (.iaload, 1) := by decide +kernel
theorem d_m_runAll_67 : decode b_m_runAll 67 = .ok (.iconst 2, 1) := by decide +kernel
theorem d_m_runAll_68 : decode b_m_runAll 68 = .ok (.if_icmp .ne 41, 3) := by decide +kernel
theorem d_m_runAll_71 : decode b_m_runAll 71 = .ok (.aload_n 0, 1) := by decide +kernel
theorem d_m_runAll_72 : decode b_m_runAll 72 = .ok (.getfield 91, 3) := by decide +kernel
theorem d_m_runAll_75 : decode b_m_runAll 75 = .ok (.iload_n 1, 1) := by decide +kernel
theorem d_m_runAll_76 : decode b_m_runAll 76 = .ok (.iconst 0, 1) := by decide +kernel
theorem d_m_runAll_77 : decode b_m_runAll 77 = .ok (.iastore, 1) := by decide +kernel
theorem d_m_runAll_78 : decode b_m_runAll 78 = .ok (.aload_n 0, 1) := by decide +kernel
theorem d_m_runAll_79 : decode b_m_runAll 79 = .ok (.getfield 94, 3) := by decide +kernel
theorem d_m_runAll_82 : decode b_m_runAll 82 = .ok (.iload_n 1, 1) := by decide +kernel
theorem d_m_runAll_83 : decode b_m_runAll 83 = .ok (.iconst 0, 1) := by decide +kernel
theorem d_m_runAll_84 : decode b_m_runAll 84 = .ok (.iastore, 1) := by decide +kernel
theorem d_m_runAll_85 : decode b_m_runAll 85 = .ok (.aload_n 0, 1) := by decide +kernel
theorem d_m_runAll_86 : decode b_m_runAll 86 = .ok (.getfield 100, 3) := by decide +kernel
theorem d_m_runAll_89 : decode b_m_runAll 89 = .ok (.iload_n 1, 1) := by decide +kernel
theorem d_m_runAll_90 : decode b_m_runAll 90 = .ok (.iconst 0, 1) := by decide +kernel
theorem d_m_runAll_91 : decode b_m_runAll 91 = .ok (.iastore, 1) := by decide +kernel
theorem d_m_runAll_92 : decode b_m_runAll 92 = .ok (.aload_n 0, 1) := by decide +kernel
theorem d_m_runAll_93 : decode b_m_runAll 93 = .ok (.getfield 109, 3) := by decide +kernel
theorem d_m_runAll_96 : decode b_m_runAll 96 = .ok (.iload_n 1, 1) := by decide +kernel
theorem d_m_runAll_97 : decode b_m_runAll 97 = .ok (.iconst 0, 1) := by decide +kernel
theorem d_m_runAll_98 : decode b_m_runAll 98 = .ok (.bastore, 1) := by decide +kernel
theorem d_m_runAll_99 : decode b_m_runAll 99 = .ok (.aload_n 0, 1) := by decide +kernel
theorem d_m_runAll_100 : decode b_m_runAll 100 = .ok (.getfield 88, 3) := by decide +kernel
theorem d_m_runAll_103 : decode b_m_runAll 103 = .ok (.iload_n 1, 1) := by decide +kernel
theorem d_m_runAll_104 : decode b_m_runAll 104 = .ok (.iconst 3, 1) := by decide +kernel
theorem d_m_runAll_105 : decode b_m_runAll 105 = .ok (.iastore, 1) := by decide +kernel
theorem d_m_runAll_106 : decode b_m_runAll 106 = .ok (.goto 57, 3) := by decide +kernel
theorem d_m_runAll_109 : decode b_m_runAll 109 = .ok (.aload_n 0, 1) := by decide +kernel
theorem d_m_runAll_110 : decode b_m_runAll 110 = .ok (.getfield 91, 3) := by decide +kernel
theorem d_m_runAll_113 : decode b_m_runAll 113 = .ok (.iload_n 1, 1) := by decide +kernel
theorem d_m_runAll_114 : decode b_m_runAll 114 = .ok (.iaload, 1) := by decide +kernel
theorem d_m_runAll_115 : decode b_m_runAll 115 = .ok (.aload_n 0, 1) := by decide +kernel
theorem d_m_runAll_116 : decode b_m_runAll 116 = .ok (.getfield 30, 3) := by decide +kernel
theorem d_m_runAll_119 : decode b_m_runAll 119 = .ok (.aload_n 0, 1) := by decide +kernel
theorem d_m_runAll_120 : decode b_m_runAll 120 = .ok (.getfield 85, 3) := by decide +kernel
theorem d_m_runAll_123 : decode b_m_runAll 123 = .ok (.iload_n 1, 1) := by decide +kernel
theorem d_m_runAll_124 : decode b_m_runAll 124 = .ok (.iaload, 1) := by decide +kernel
theorem d_m_runAll_125 : decode b_m_runAll 125 = .ok (.iaload, 1) := by decide +kernel
theorem d_m_runAll_126 : decode b_m_runAll 126 = .ok (.if_icmp .ne 26, 3) := by decide +kernel
theorem d_m_runAll_129 : decode b_m_runAll 129 = .ok (.aload_n 0, 1) := by decide +kernel
theorem d_m_runAll_130 : decode b_m_runAll 130 = .ok (.iload_n 1, 1) := by decide +kernel
theorem d_m_runAll_131 : decode b_m_runAll 131 = .ok (.aload_n 0, 1) := by decide +kernel
theorem d_m_runAll_132 : decode b_m_runAll 132 = .ok (.getfield 85, 3) := by decide +kernel
theorem d_m_runAll_135 : decode b_m_runAll 135 = .ok (.iload_n 1, 1) := by decide +kernel
theorem d_m_runAll_136 : decode b_m_runAll 136 = .ok (.iaload, 1) := by decide +kernel
theorem d_m_runAll_137 : decode b_m_runAll 137 = .ok (.aload_n 0, 1) := by decide +kernel
theorem d_m_runAll_138 : decode b_m_runAll 138 = .ok (.getfield 97, 3) := by decide +kernel
theorem d_m_runAll_141 : decode b_m_runAll 141 = .ok (.bipush 16, 2) := by decide +kernel
theorem d_m_runAll_143 : decode b_m_runAll 143 = .ok (.iload_n 1, 1) := by decide +kernel
theorem d_m_runAll_144 : decode b_m_runAll 144 = .ok (.imul, 1) := by decide +kernel
theorem d_m_runAll_145 : decode b_m_runAll 145 = .ok (.laload, 1) := by decide +kernel
theorem d_m_runAll_146 : decode b_m_runAll 146 = .ok (.invokevirtual 203, 3) := by decide +kernel
theorem d_m_runAll_149 : decode b_m_runAll 149 = .ok (.goto 14, 3) := by decide +kernel
theorem d_m_runAll_152 : decode b_m_runAll 152 = .ok (.aload_n 0, 1) := by decide +kernel
theorem d_m_runAll_153 : decode b_m_runAll 153 = .ok (.iload_n 1, 1) := by decide +kernel
theorem d_m_runAll_154 : decode b_m_runAll 154 = .ok (.aload_n 0, 1) := by decide +kernel
theorem d_m_runAll_155 : decode b_m_runAll 155 = .ok (.getfield 85, 3) := by decide +kernel
theorem d_m_runAll_158 : decode b_m_runAll 158 = .ok (.iload_n 1, 1) := by decide +kernel
theorem d_m_runAll_159 : decode b_m_runAll 159 = .ok (.iaload, 1) := by decide +kernel
theorem d_m_runAll_160 : decode b_m_runAll 160 = .ok (.invokevirtual 207, 3) := by decide +kernel
theorem d_m_runAll_163 : decode b_m_runAll 163 = .ok (.goto (-163), 3) := by decide +kernel
theorem d_m_runAll_166 : decode b_m_runAll 166 = .ok (.return_, 1) := by decide +kernel
theorem d_m_values_0 : decode b_m_values 0 = .ok (.iconst 0, 1) := by decide +kernel
theorem d_m_values_1 : decode b_m_values 1 = .ok (.istore_n 1, 1) := by decide +kernel
theorem d_m_values_2 : decode b_m_values 2 = .ok (.iconst 0, 1) := by decide +kernel
theorem d_m_values_3 : decode b_m_values 3 = .ok (.istore_n 2, 1) := by decide +kernel
theorem d_m_values_4 : decode b_m_values 4 = .ok (.iload_n 2, 1) := by decide +kernel
theorem d_m_values_5 : decode b_m_values 5 = .ok (.bipush 12, 2) := by decide +kernel
theorem d_m_values_7 : decode b_m_values 7 = .ok (.if_icmp .ge 26, 3) := by decide +kernel
theorem d_m_values_10 : decode b_m_values 10 = .ok (.aload_n 0, 1) := by decide +kernel
theorem d_m_values_11 : decode b_m_values 11 = .ok (.getfield 54, 3) := by decide +kernel
theorem d_m_values_14 : decode b_m_values 14 = .ok (.iload_n 2, 1) := by decide +kernel
theorem d_m_values_15 : decode b_m_values 15 = .ok (.baload, 1) := by decide +kernel
theorem d_m_values_16 : decode b_m_values 16 = .ok (.ifCond .eq 9, 3) := by decide +kernel
theorem d_m_values_19 : decode b_m_values 19 = .ok (.iload_n 1, 1) := by decide +kernel
theorem d_m_values_20 : decode b_m_values 20 = .ok (.iconst 1, 1) := by decide +kernel
theorem d_m_values_21 : decode b_m_values 21 = .ok (.iadd, 1) := by decide +kernel
theorem d_m_values_22 : decode b_m_values 22 = .ok (.goto 4, 3) := by decide +kernel
theorem d_m_values_25 : decode b_m_values 25 = .ok (.iload_n 1, 1) := by decide +kernel
theorem d_m_values_26 : decode b_m_values 26 = .ok (.istore_n 1, 1) := by decide +kernel
theorem d_m_values_27 : decode b_m_values 27 = .ok (.iinc 2 1, 3) := by decide +kernel
theorem d_m_values_30 : decode b_m_values 30 = .ok (.goto (-26), 3) := by decide +kernel
theorem d_m_values_33 : decode b_m_values 33 = .ok (.iload_n 1, 1) := by decide +kernel
theorem d_m_values_34 : decode b_m_values 34 = .ok (.ireturn, 1) := by decide +kernel
theorem d_m_ask_0 : decode b_m_ask 0 = .ok (.iload_n 1, 1) := by decide +kernel
theorem d_m_ask_1 : decode b_m_ask 1 = .ok (.invokestatic 185, 3) := by decide +kernel
theorem d_m_ask_4 : decode b_m_ask 4 = .ok (.ifCond .ne 7, 3) := by decide +kernel
theorem d_m_ask_7 : decode b_m_ask 7 = .ok (.ldc2_w 248, 3) := by decide +kernel
theorem d_m_ask_10 : decode b_m_ask 10 = .ok (.lreturn, 1) := by decide +kernel
theorem d_m_ask_11 : decode b_m_ask 11 = .ok (.iconst 0, 1) := by decide +kernel
theorem d_m_ask_12 : decode b_m_ask 12 = .ok (.istore_n 2, 1) := by decide +kernel
theorem d_m_ask_13 : decode b_m_ask 13 = .ok (.iload_n 2, 1) := by decide +kernel
theorem d_m_ask_14 : decode b_m_ask 14 = .ok (.iconst 3, 1) := by decide +kernel
theorem d_m_ask_15 : decode b_m_ask 15 = .ok (.if_icmp .ge 16, 3) := by decide +kernel
theorem d_m_ask_18 : decode b_m_ask 18 = .ok (.aload_n 0, 1) := by decide +kernel
theorem d_m_ask_19 : decode b_m_ask 19 = .ok (.getfield 82, 3) := by decide +kernel
theorem d_m_ask_22 : decode b_m_ask 22 = .ok (.iload_n 2, 1) := by decide +kernel
theorem d_m_ask_23 : decode b_m_ask 23 = .ok (.iconst 0, 1) := by decide +kernel
theorem d_m_ask_24 : decode b_m_ask 24 = .ok (.iastore, 1) := by decide +kernel
theorem d_m_ask_25 : decode b_m_ask 25 = .ok (.iinc 2 1, 3) := by decide +kernel
theorem d_m_ask_28 : decode b_m_ask 28 = .ok (.goto (-15), 3) := by decide +kernel
theorem d_m_ask_31 : decode b_m_ask 31 = .ok (.aload_n 0, 1) := by decide +kernel
theorem d_m_ask_32 : decode b_m_ask 32 = .ok (.getfield 20, 3) := by decide +kernel
theorem d_m_ask_35 : decode b_m_ask 35 = .ok (.iload_n 1, 1) := by decide +kernel
theorem d_m_ask_36 : decode b_m_ask 36 = .ok (.baload, 1) := by decide +kernel
theorem d_m_ask_37 : decode b_m_ask 37 = .ok (.ifCond .ne 11, 3) := by decide +kernel
theorem d_m_ask_40 : decode b_m_ask 40 = .ok (.aload_n 0, 1) := by decide +kernel
theorem d_m_ask_41 : decode b_m_ask 41 = .ok (.getfield 42, 3) := by decide +kernel
theorem d_m_ask_44 : decode b_m_ask 44 = .ok (.iload_n 1, 1) := by decide +kernel
theorem d_m_ask_45 : decode b_m_ask 45 = .ok (.iaload, 1) := by decide +kernel
theorem d_m_ask_46 : decode b_m_ask 46 = .ok (.i2l, 1) := by decide +kernel
theorem d_m_ask_47 : decode b_m_ask 47 = .ok (.lreturn, 1) := by decide +kernel
theorem d_m_ask_48 : decode b_m_ask 48 = .ok (.aload_n 0, 1) := by decide +kernel
theorem d_m_ask_49 : decode b_m_ask 49 = .ok (.iconst 0, 1) := by decide +kernel
theorem d_m_ask_50 : decode b_m_ask 50 = .ok (.putfield 191, 3) := by decide +kernel
theorem d_m_ask_53 : decode b_m_ask 53 = .ok (.aload_n 0, 1) := by decide +kernel
theorem d_m_ask_54 : decode b_m_ask 54 = .ok (.iload_n 1, 1) := by decide +kernel
theorem d_m_ask_55 : decode b_m_ask 55 = .ok (.invokevirtual 219, 3) := by decide +kernel
theorem d_m_ask_58 : decode b_m_ask 58 = .ok (.ifCond .ne 9, 3) := by decide +kernel
theorem d_m_ask_61 : decode b_m_ask 61 = .ok (.aload_n 0, 1) := by decide +kernel
theorem d_m_ask_62 : decode b_m_ask 62 = .ok (.iload_n 1, 1) := by decide +kernel
theorem d_m_ask_63 : decode b_m_ask 63 = .ok (.iconst 0, 1) := by decide +kernel
theorem d_m_ask_64 : decode b_m_ask 64 = .ok (.invokevirtual 222, 3) := by decide +kernel
theorem d_m_ask_67 : decode b_m_ask 67 = .ok (.aload_n 0, 1) := by decide +kernel
theorem d_m_ask_68 : decode b_m_ask 68 = .ok (.invokevirtual 250, 3) := by decide +kernel
theorem d_m_ask_71 : decode b_m_ask 71 = .ok (.aload_n 0, 1) := by decide +kernel
theorem d_m_ask_72 : decode b_m_ask 72 = .ok (.getfield 54, 3) := by decide +kernel
theorem d_m_ask_75 : decode b_m_ask 75 = .ok (.iload_n 1, 1) := by decide +kernel
theorem d_m_ask_76 : decode b_m_ask 76 = .ok (.baload, 1) := by decide +kernel
theorem d_m_ask_77 : decode b_m_ask 77 = .ok (.ifCond .ne 9, 3) := by decide +kernel
theorem d_m_ask_80 : decode b_m_ask 80 = .ok (.aload_n 0, 1) := by decide +kernel
theorem d_m_ask_81 : decode b_m_ask 81 = .ok (.iload_n 1, 1) := by decide +kernel
theorem d_m_ask_82 : decode b_m_ask 82 = .ok (.iconst 2, 1) := by decide +kernel
theorem d_m_ask_83 : decode b_m_ask 83 = .ok (.invokevirtual 222, 3) := by decide +kernel
theorem d_m_ask_86 : decode b_m_ask 86 = .ok (.aload_n 0, 1) := by decide +kernel
theorem d_m_ask_87 : decode b_m_ask 87 = .ok (.invokevirtual 250, 3) := by decide +kernel
theorem d_m_ask_90 : decode b_m_ask 90 = .ok (.aload_n 0, 1) := by decide +kernel
theorem d_m_ask_91 : decode b_m_ask 91 = .ok (.iload_n 1, 1) := by decide +kernel
theorem d_m_ask_92 : decode b_m_ask 92 = .ok (.invokevirtual 228, 3) := by decide +kernel
theorem d_m_ask_95 : decode b_m_ask 95 = .ok (.aload_n 0, 1) := by decide +kernel
theorem d_m_ask_96 : decode b_m_ask 96 = .ok (.getfield 57, 3) := by decide +kernel
theorem d_m_ask_99 : decode b_m_ask 99 = .ok (.iload_n 1, 1) := by decide +kernel
theorem d_m_ask_100 : decode b_m_ask 100 = .ok (.laload, 1) := by decide +kernel
theorem d_m_ask_101 : decode b_m_ask 101 = .ok (.lstore_n 2, 1) := by decide +kernel
theorem d_m_ask_102 : decode b_m_ask 102 = .ok (.aload_n 0, 1) := by decide +kernel
theorem d_m_ask_103 : decode b_m_ask 103 = .ok (.invokevirtual 253, 3) := by decide +kernel
theorem d_m_ask_106 : decode b_m_ask 106 = .ok (.aload_n 0, 1) := by decide +kernel
theorem d_m_ask_107 : decode b_m_ask 107 = .ok (.getfield 124, 3) := by decide +kernel
theorem d_m_ask_110 : decode b_m_ask 110 = .ok (.if_icmp .le 74, 3) := by decide +kernel
theorem d_m_ask_113 : decode b_m_ask 113 = .ok (.iconst (-1), 1) := by decide +kernel
theorem d_m_ask_114 : decode b_m_ask 114 = .ok (.istore 4, 2) := by decide +kernel
theorem d_m_ask_116 : decode b_m_ask 116 = .ok (.iconst 0, 1) := by decide +kernel
theorem d_m_ask_117 : decode b_m_ask 117 = .ok (.istore 5, 2) := by decide +kernel
theorem d_m_ask_119 : decode b_m_ask 119 = .ok (.iload 5, 2) := by decide +kernel
theorem d_m_ask_121 : decode b_m_ask 121 = .ok (.bipush 12, 2) := by decide +kernel
theorem d_m_ask_123 : decode b_m_ask 123 = .ok (.if_icmp .ge 50, 3) := by decide +kernel
theorem d_m_ask_126 : decode b_m_ask 126 = .ok (.aload_n 0, 1) := by decide +kernel
theorem d_m_ask_127 : decode b_m_ask 127 = .ok (.getfield 54, 3) := by decide +kernel
theorem d_m_ask_130 : decode b_m_ask 130 = .ok (.iload 5, 2) := by decide +kernel
theorem d_m_ask_132 : decode b_m_ask 132 = .ok (.baload, 1) := by decide +kernel
theorem d_m_ask_133 : decode b_m_ask 133 = .ok (.ifCond .eq 30, 3) := by decide +kernel
theorem d_m_ask_136 : decode b_m_ask 136 = .ok (.iload 4, 2) := by decide +kernel
theorem d_m_ask_138 : decode b_m_ask 138 = .ok (.ifCond .lt 20, 3) := by decide +kernel
theorem d_m_ask_141 : decode b_m_ask 141 = .ok (.aload_n 0, 1) := by decide +kernel
theorem d_m_ask_142 : decode b_m_ask 142 = .ok (.getfield 76, 3) := by decide +kernel
theorem d_m_ask_145 : decode b_m_ask 145 = .ok (.iload 5, 2) := by decide +kernel
theorem d_m_ask_147 : decode b_m_ask 147 = .ok (.iaload, 1) := by decide +kernel
theorem d_m_ask_148 : decode b_m_ask 148 = .ok (.aload_n 0, 1) := by decide +kernel
theorem d_m_ask_149 : decode b_m_ask 149 = .ok (.getfield 76, 3) := by decide +kernel
theorem d_m_ask_152 : decode b_m_ask 152 = .ok (.iload 4, 2) := by decide +kernel
theorem d_m_ask_154 : decode b_m_ask 154 = .ok (.iaload, 1) := by decide +kernel
theorem d_m_ask_155 : decode b_m_ask 155 = .ok (.if_icmp .ge 8, 3) := by decide +kernel
theorem d_m_ask_158 : decode b_m_ask 158 = .ok (.iload 5, 2) := by decide +kernel
theorem d_m_ask_160 : decode b_m_ask 160 = .ok (.goto 5, 3) := by decide +kernel
theorem d_m_ask_163 : decode b_m_ask 163 = .ok (.iload 4, 2) := by decide +kernel
theorem d_m_ask_165 : decode b_m_ask 165 = .ok (.istore 4, 2) := by decide +kernel
theorem d_m_ask_167 : decode b_m_ask 167 = .ok (.iinc 5 1, 3) := by decide +kernel
theorem d_m_ask_170 : decode b_m_ask 170 = .ok (.goto (-51), 3) := by decide +kernel
theorem d_m_ask_173 : decode b_m_ask 173 = .ok (.aload_n 0, 1) := by decide +kernel
theorem d_m_ask_174 : decode b_m_ask 174 = .ok (.getfield 54, 3) := by decide +kernel
theorem d_m_ask_177 : decode b_m_ask 177 = .ok (.iload 4, 2) := by decide +kernel
theorem d_m_ask_179 : decode b_m_ask 179 = .ok (.iconst 0, 1) := by decide +kernel
theorem d_m_ask_180 : decode b_m_ask 180 = .ok (.bastore, 1) := by decide +kernel
theorem d_m_ask_181 : decode b_m_ask 181 = .ok (.goto (-79), 3) := by decide +kernel
theorem d_m_ask_184 : decode b_m_ask 184 = .ok (.lload_n 2, 1) := by decide +kernel
theorem d_m_ask_185 : decode b_m_ask 185 = .ok (.lreturn, 1) := by decide +kernel
theorem d_m_revision_0 : decode b_m_revision 0 = .ok (.aload_n 0, 1) := by decide +kernel
theorem d_m_revision_1 : decode b_m_revision 1 = .ok (.getfield 13, 3) := by decide +kernel
theorem d_m_revision_4 : decode b_m_revision 4 = .ok (.ireturn, 1) := by decide +kernel
theorem d_m_changed_0 : decode b_m_changed 0 = .ok (.iload_n 1, 1) := by decide +kernel
theorem d_m_changed_1 : decode b_m_changed 1 = .ok (.ifCond .lt 8, 3) := by decide +kernel
theorem d_m_changed_4 : decode b_m_changed 4 = .ok (.iload_n 1, 1) := by decide +kernel
theorem d_m_changed_5 : decode b_m_changed 5 = .ok (.iconst 2, 1) := by decide +kernel
theorem d_m_changed_6 : decode b_m_changed 6 = .ok (.if_icmp .le 7, 3) := by decide +kernel
theorem d_m_changed_9 : decode b_m_changed 9 = .ok (.iconst (-1), 1) := by decide +kernel
theorem d_m_changed_10 : decode b_m_changed 10 = .ok (.goto 9, 3) := by decide +kernel
theorem d_m_changed_13 : decode b_m_changed 13 = .ok (.aload_n 0, 1) := by decide +kernel
theorem d_m_changed_14 : decode b_m_changed 14 = .ok (.getfield 17, 3) := by decide +kernel
theorem d_m_changed_17 : decode b_m_changed 17 = .ok (.iload_n 1, 1) := by decide +kernel
theorem d_m_changed_18 : decode b_m_changed 18 = .ok (.iaload, 1) := by decide +kernel
theorem d_m_changed_19 : decode b_m_changed 19 = .ok (.ireturn, 1) := by decide +kernel
theorem d_m_note_0 : decode b_m_note 0 = .ok (.iload_n 1, 1) := by decide +kernel
theorem d_m_note_1 : decode b_m_note 1 = .ok (.invokestatic 185, 3) := by decide +kernel
theorem d_m_note_4 : decode b_m_note 4 = .ok (.ifCond .eq 13, 3) := by decide +kernel
theorem d_m_note_7 : decode b_m_note 7 = .ok (.iload_n 2, 1) := by decide +kernel
theorem d_m_note_8 : decode b_m_note 8 = .ok (.ifCond .lt 9, 3) := by decide +kernel
theorem d_m_note_11 : decode b_m_note 11 = .ok (.iload_n 2, 1) := by decide +kernel
theorem d_m_note_12 : decode b_m_note 12 = .ok (.bipush 7, 2) := by decide +kernel
theorem d_m_note_14 : decode b_m_note 14 = .ok (.if_icmp .le 5, 3) := by decide +kernel
theorem d_m_note_17 : decode b_m_note 17 = .ok (.iconst (-1), 1) := by decide +kernel
theorem d_m_note_18 : decode b_m_note 18 = .ok (.ireturn, 1) := by decide +kernel
theorem d_m_note_19 : decode b_m_note 19 = .ok (.iload_n 2, 1) := by decide +kernel
theorem d_m_note_20 : decode b_m_note 20 = .ok (.iconst 3, 1) := by decide +kernel
theorem d_m_note_21 : decode b_m_note 21 = .ok (.if_icmp .ge 14, 3) := by decide +kernel
theorem d_m_note_24 : decode b_m_note 24 = .ok (.aload_n 0, 1) := by decide +kernel
theorem d_m_note_25 : decode b_m_note 25 = .ok (.getfield 79, 3) := by decide +kernel
theorem d_m_note_28 : decode b_m_note 28 = .ok (.iconst 3, 1) := by decide +kernel
theorem d_m_note_29 : decode b_m_note 29 = .ok (.iload_n 1, 1) := by decide +kernel
theorem d_m_note_30 : decode b_m_note 30 = .ok (.imul, 1) := by decide +kernel
theorem d_m_note_31 : decode b_m_note 31 = .ok (.iload_n 2, 1) := by decide +kernel
theorem d_m_note_32 : decode b_m_note 32 = .ok (.iadd, 1) := by decide +kernel
theorem d_m_note_33 : decode b_m_note 33 = .ok (.iaload, 1) := by decide +kernel
theorem d_m_note_34 : decode b_m_note 34 = .ok (.ireturn, 1) := by decide +kernel
theorem d_m_note_35 : decode b_m_note 35 = .ok (.aload_n 0, 1) := by decide +kernel
theorem d_m_note_36 : decode b_m_note 36 = .ok (.getfield 20, 3) := by decide +kernel
theorem d_m_note_39 : decode b_m_note 39 = .ok (.iload_n 1, 1) := by decide +kernel
theorem d_m_note_40 : decode b_m_note 40 = .ok (.baload, 1) := by decide +kernel
theorem d_m_note_41 : decode b_m_note 41 = .ok (.istore_n 3, 1) := by decide +kernel
theorem d_m_note_42 : decode b_m_note 42 = .ok (.iload_n 3, 1) := by decide +kernel
theorem d_m_note_43 : decode b_m_note 43 = .ok (.ifCond .eq 14, 3) := by decide +kernel
theorem d_m_note_46 : decode b_m_note 46 = .ok (.aload_n 0, 1) := by decide +kernel
theorem d_m_note_47 : decode b_m_note 47 = .ok (.getfield 51, 3) := by decide +kernel
theorem d_m_note_50 : decode b_m_note 50 = .ok (.iload_n 1, 1) := by decide +kernel
theorem d_m_note_51 : decode b_m_note 51 = .ok (.baload, 1) := by decide +kernel
theorem d_m_note_52 : decode b_m_note 52 = .ok (.ifCond .ne 5, 3) := by decide +kernel
theorem d_m_note_55 : decode b_m_note 55 = .ok (.iconst 0, 1) := by decide +kernel
theorem d_m_note_56 : decode b_m_note 56 = .ok (.ireturn, 1) := by decide +kernel
theorem d_m_note_57 : decode b_m_note 57 = .ok (.iload_n 2, 1) := by decide +kernel
theorem d_m_note_58 : decode b_m_note 58 = .ok (.tableswitch 72 3 6 #[30, 36, 51, 57], 30) := by decide +kernel
theorem d_m_note_88 : decode b_m_note 88 = .ok (.aload_n 0, 1) := by decide +kernel
theorem d_m_note_89 : decode b_m_note 89 = .ok (.iload_n 1, 1) := by decide +kernel
theorem d_m_note_90 : decode b_m_note 90 = .ok (.invokevirtual 225, 3) := by decide +kernel
theorem d_m_note_93 : decode b_m_note 93 = .ok (.ireturn, 1) := by decide +kernel
theorem d_m_note_94 : decode b_m_note 94 = .ok (.iload_n 3, 1) := by decide +kernel
theorem d_m_note_95 : decode b_m_note 95 = .ok (.ifCond .eq 12, 3) := by decide +kernel
theorem d_m_note_98 : decode b_m_note 98 = .ok (.aload_n 0, 1) := by decide +kernel
theorem d_m_note_99 : decode b_m_note 99 = .ok (.getfield 61, 3) := by decide +kernel
theorem d_m_note_102 : decode b_m_note 102 = .ok (.iload_n 1, 1) := by decide +kernel
theorem d_m_note_103 : decode b_m_note 103 = .ok (.iaload, 1) := by decide +kernel
theorem d_m_note_104 : decode b_m_note 104 = .ok (.goto 4, 3) := by decide +kernel
theorem d_m_note_107 : decode b_m_note 107 = .ok (.iconst 0, 1) := by decide +kernel
theorem d_m_note_108 : decode b_m_note 108 = .ok (.ireturn, 1) := by decide +kernel
theorem d_m_note_109 : decode b_m_note 109 = .ok (.aload_n 0, 1) := by decide +kernel
theorem d_m_note_110 : decode b_m_note 110 = .ok (.iload_n 1, 1) := by decide +kernel
theorem d_m_note_111 : decode b_m_note 111 = .ok (.invokevirtual 216, 3) := by decide +kernel
theorem d_m_note_114 : decode b_m_note 114 = .ok (.ireturn, 1) := by decide +kernel
theorem d_m_note_115 : decode b_m_note 115 = .ok (.iload_n 3, 1) := by decide +kernel
theorem d_m_note_116 : decode b_m_note 116 = .ok (.ifCond .eq 12, 3) := by decide +kernel
theorem d_m_note_119 : decode b_m_note 119 = .ok (.aload_n 0, 1) := by decide +kernel
theorem d_m_note_120 : decode b_m_note 120 = .ok (.getfield 70, 3) := by decide +kernel
theorem d_m_note_123 : decode b_m_note 123 = .ok (.iload_n 1, 1) := by decide +kernel
theorem d_m_note_124 : decode b_m_note 124 = .ok (.iaload, 1) := by decide +kernel
theorem d_m_note_125 : decode b_m_note 125 = .ok (.goto 4, 3) := by decide +kernel
theorem d_m_note_128 : decode b_m_note 128 = .ok (.iconst 0, 1) := by decide +kernel
theorem d_m_note_129 : decode b_m_note 129 = .ok (.ireturn, 1) := by decide +kernel
theorem d_m_note_130 : decode b_m_note 130 = .ok (.iload_n 3, 1) := by decide +kernel
theorem d_m_note_131 : decode b_m_note 131 = .ok (.ifCond .eq 12, 3) := by decide +kernel
theorem d_m_note_134 : decode b_m_note 134 = .ok (.aload_n 0, 1) := by decide +kernel
theorem d_m_note_135 : decode b_m_note 135 = .ok (.getfield 54, 3) := by decide +kernel
theorem d_m_note_138 : decode b_m_note 138 = .ok (.iload_n 1, 1) := by decide +kernel
theorem d_m_note_139 : decode b_m_note 139 = .ok (.baload, 1) := by decide +kernel
theorem d_m_note_140 : decode b_m_note 140 = .ok (.ifCond .eq 7, 3) := by decide +kernel
theorem d_m_note_143 : decode b_m_note 143 = .ok (.iconst 1, 1) := by decide +kernel
theorem d_m_note_144 : decode b_m_note 144 = .ok (.goto 4, 3) := by decide +kernel
theorem d_m_note_147 : decode b_m_note 147 = .ok (.iconst 0, 1) := by decide +kernel
theorem d_m_note_148 : decode b_m_note 148 = .ok (.ireturn, 1) := by decide +kernel
theorem d_m_read_0 : decode b_m_read 0 = .ok (.iload_n 1, 1) := by decide +kernel
theorem d_m_read_1 : decode b_m_read 1 = .ok (.invokestatic 185, 3) := by decide +kernel
theorem d_m_read_4 : decode b_m_read 4 = .ok (.ifCond .eq 82, 3) := by decide +kernel
theorem d_m_read_7 : decode b_m_read 7 = .ok (.aload_n 0, 1) := by decide +kernel
theorem d_m_read_8 : decode b_m_read 8 = .ok (.getfield 20, 3) := by decide +kernel
theorem d_m_read_11 : decode b_m_read 11 = .ok (.iload_n 1, 1) := by decide +kernel
theorem d_m_read_12 : decode b_m_read 12 = .ok (.invokestatic 185, 3) := by decide +kernel
theorem d_m_read_15 : decode b_m_read 15 = .ok (.ifCond .eq 7, 3) := by decide +kernel
theorem d_m_read_18 : decode b_m_read 18 = .ok (.iload_n 1, 1) := by decide +kernel
theorem d_m_read_19 : decode b_m_read 19 = .ok (.goto 4, 3) := by decide +kernel
theorem d_m_read_22 : decode b_m_read 22 = .ok (.iconst 0, 1) := by decide +kernel
theorem d_m_read_23 : decode b_m_read 23 = .ok (.baload, 1) := by decide +kernel
theorem d_m_read_24 : decode b_m_read 24 = .ok (.ifCond .eq 62, 3) := by decide +kernel
theorem d_m_read_27 : decode b_m_read 27 = .ok (.aload_n 0, 1) := by decide +kernel
theorem d_m_read_28 : decode b_m_read 28 = .ok (.getfield 51, 3) := by decide +kernel
theorem d_m_read_31 : decode b_m_read 31 = .ok (.iload_n 1, 1) := by decide +kernel
theorem d_m_read_32 : decode b_m_read 32 = .ok (.invokestatic 185, 3) := by decide +kernel
theorem d_m_read_35 : decode b_m_read 35 = .ok (.ifCond .eq 7, 3) := by decide +kernel
theorem d_m_read_38 : decode b_m_read 38 = .ok (.iload_n 1, 1) := by decide +kernel
theorem d_m_read_39 : decode b_m_read 39 = .ok (.goto 4, 3) := by decide +kernel
theorem d_m_read_42 : decode b_m_read 42 = .ok (.iconst 0, 1) := by decide +kernel
theorem d_m_read_43 : decode b_m_read 43 = .ok (.baload, 1) := by decide +kernel
theorem d_m_read_44 : decode b_m_read 44 = .ok (.ifCond .eq 42, 3) := by decide +kernel
theorem d_m_read_47 : decode b_m_read 47 = .ok (.iload_n 2, 1) := by decide +kernel
theorem d_m_read_48 : decode b_m_read 48 = .ok (.ifCond .lt 38, 3) := by decide +kernel
theorem d_m_read_51 : decode b_m_read 51 = .ok (.iload_n 2, 1) := by decide +kernel
theorem d_m_read_52 : decode b_m_read 52 = .ok (.aload_n 0, 1) := by decide +kernel
theorem d_m_read_53 : decode b_m_read 53 = .ok (.getfield 70, 3) := by decide +kernel
theorem d_m_read_56 : decode b_m_read 56 = .ok (.iload_n 1, 1) := by decide +kernel
theorem d_m_read_57 : decode b_m_read 57 = .ok (.invokestatic 185, 3) := by decide +kernel
theorem d_m_read_60 : decode b_m_read 60 = .ok (.ifCond .eq 7, 3) := by decide +kernel
theorem d_m_read_63 : decode b_m_read 63 = .ok (.iload_n 1, 1) := by decide +kernel
theorem d_m_read_64 : decode b_m_read 64 = .ok (.goto 4, 3) := by decide +kernel
theorem d_m_read_67 : decode b_m_read 67 = .ok (.iconst 0, 1) := by decide +kernel
theorem d_m_read_68 : decode b_m_read 68 = .ok (.iaload, 1) := by decide +kernel
theorem d_m_read_69 : decode b_m_read 69 = .ok (.if_icmp .ge 17, 3) := by decide +kernel
theorem d_m_read_72 : decode b_m_read 72 = .ok (.aload_n 0, 1) := by decide +kernel
theorem d_m_read_73 : decode b_m_read 73 = .ok (.getfield 73, 3) := by decide +kernel
theorem d_m_read_76 : decode b_m_read 76 = .ok (.bipush 12, 2) := by decide +kernel
theorem d_m_read_78 : decode b_m_read 78 = .ok (.iload_n 1, 1) := by decide +kernel
theorem d_m_read_79 : decode b_m_read 79 = .ok (.imul, 1) := by decide +kernel
theorem d_m_read_80 : decode b_m_read 80 = .ok (.iload_n 2, 1) := by decide +kernel
theorem d_m_read_81 : decode b_m_read 81 = .ok (.iadd, 1) := by decide +kernel
theorem d_m_read_82 : decode b_m_read 82 = .ok (.iaload, 1) := by decide +kernel
theorem d_m_read_83 : decode b_m_read 83 = .ok (.goto 4, 3) := by decide +kernel
theorem d_m_read_86 : decode b_m_read 86 = .ok (.iconst (-1), 1) := by decide +kernel
theorem d_m_read_87 : decode b_m_read 87 = .ok (.ireturn, 1) := by decide +kernel
theorem d_m_count_0 : decode b_m_count 0 = .ok (.iload_n 1, 1) := by decide +kernel
theorem d_m_count_1 : decode b_m_count 1 = .ok (.ifCond .lt 17, 3) := by decide +kernel
theorem d_m_count_4 : decode b_m_count 4 = .ok (.iload_n 1, 1) := by decide +kernel
theorem d_m_count_5 : decode b_m_count 5 = .ok (.iconst 3, 1) := by decide +kernel
theorem d_m_count_6 : decode b_m_count 6 = .ok (.if_icmp .ge 12, 3) := by decide +kernel
theorem d_m_count_9 : decode b_m_count 9 = .ok (.aload_n 0, 1) := by decide +kernel
theorem d_m_count_10 : decode b_m_count 10 = .ok (.getfield 82, 3) := by decide +kernel
theorem d_m_count_13 : decode b_m_count 13 = .ok (.iload_n 1, 1) := by decide +kernel
theorem d_m_count_14 : decode b_m_count 14 = .ok (.iaload, 1) := by decide +kernel
theorem d_m_count_15 : decode b_m_count 15 = .ok (.goto 16, 3) := by decide +kernel
theorem d_m_count_18 : decode b_m_count 18 = .ok (.iload_n 1, 1) := by decide +kernel
theorem d_m_count_19 : decode b_m_count 19 = .ok (.iconst 3, 1) := by decide +kernel
theorem d_m_count_20 : decode b_m_count 20 = .ok (.if_icmp .ne 10, 3) := by decide +kernel
theorem d_m_count_23 : decode b_m_count 23 = .ok (.aload_n 0, 1) := by decide +kernel
theorem d_m_count_24 : decode b_m_count 24 = .ok (.invokevirtual 253, 3) := by decide +kernel
theorem d_m_count_27 : decode b_m_count 27 = .ok (.goto 4, 3) := by decide +kernel
theorem d_m_count_30 : decode b_m_count 30 = .ok (.iconst (-1), 1) := by decide +kernel
theorem d_m_count_31 : decode b_m_count 31 = .ok (.ireturn, 1) := by decide +kernel
