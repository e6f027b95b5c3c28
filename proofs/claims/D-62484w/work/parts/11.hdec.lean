theorem d_x_ASB_init_0 : decode b_x_ASB_init 0 = .ok (.aload_n 0, 1) := by decide +kernel
theorem d_x_ASB_init_1 : decode b_x_ASB_init 1 = .ok (.invokespecial 3, 3) := by decide +kernel
theorem d_x_ASB_init_4 : decode b_x_ASB_init 4 = .ok (.getstatic 18, 3) := by decide +kernel
theorem d_x_ASB_init_7 : decode b_x_ASB_init 7 = .ok (.ifCond .eq 18, 3) := by decide +kernel
theorem d_x_ASB_init_10 : decode b_x_ASB_init 10 = .ok (.aload_n 0, 1) := by decide +kernel
theorem d_x_ASB_init_11 : decode b_x_ASB_init 11 = .ok (.iload_n 1, 1) := by decide +kernel
theorem d_x_ASB_init_12 : decode b_x_ASB_init 12 = .ok (.newarray .byte, 2) := by decide +kernel
theorem d_x_ASB_init_14 : decode b_x_ASB_init 14 = .ok (.putfield 15, 3) := by decide +kernel
theorem d_x_ASB_init_17 : decode b_x_ASB_init 17 = .ok (.aload_n 0, 1) := by decide +kernel
theorem d_x_ASB_init_18 : decode b_x_ASB_init 18 = .ok (.iconst 0, 1) := by decide +kernel
theorem d_x_ASB_init_19 : decode b_x_ASB_init 19 = .ok (.putfield 22, 3) := by decide +kernel
theorem d_x_ASB_init_22 : decode b_x_ASB_init 22 = .ok (.goto 16, 3) := by decide +kernel
theorem d_x_ASB_init_38 : decode b_x_ASB_init 38 = .ok (.return_, 1) := by decide +kernel
theorem d_x_Math_max_0 : decode b_x_Math_max 0 = .ok (.iload_n 0, 1) := by decide +kernel
theorem d_x_Math_max_1 : decode b_x_Math_max 1 = .ok (.iload_n 1, 1) := by decide +kernel
theorem d_x_Math_max_2 : decode b_x_Math_max 2 = .ok (.if_icmp .lt 7, 3) := by decide +kernel
theorem d_x_Math_max_5 : decode b_x_Math_max 5 = .ok (.iload_n 0, 1) := by decide +kernel
theorem d_x_Math_max_6 : decode b_x_Math_max 6 = .ok (.goto 4, 3) := by decide +kernel
theorem d_x_Math_max_9 : decode b_x_Math_max 9 = .ok (.iload_n 1, 1) := by decide +kernel
theorem d_x_Math_max_10 : decode b_x_Math_max 10 = .ok (.ireturn, 1) := by decide +kernel
theorem d_x_AS_newLength_0 : decode b_x_AS_newLength 0 = .ok (.iload_n 0, 1) := by decide +kernel
theorem d_x_AS_newLength_1 : decode b_x_AS_newLength 1 = .ok (.iload_n 1, 1) := by decide +kernel
theorem d_x_AS_newLength_2 : decode b_x_AS_newLength 2 = .ok (.iload_n 2, 1) := by decide +kernel
theorem d_x_AS_newLength_3 : decode b_x_AS_newLength 3 = .ok (.invokestatic 194, 3) := by decide +kernel
theorem d_x_AS_newLength_6 : decode b_x_AS_newLength 6 = .ok (.iadd, 1) := by decide +kernel
theorem d_x_AS_newLength_7 : decode b_x_AS_newLength 7 = .ok (.istore_n 3, 1) := by decide +kernel
theorem d_x_AS_newLength_8 : decode b_x_AS_newLength 8 = .ok (.iconst 0, 1) := by decide +kernel
theorem d_x_AS_newLength_9 : decode b_x_AS_newLength 9 = .ok (.iload_n 3, 1) := by decide +kernel
theorem d_x_AS_newLength_10 : decode b_x_AS_newLength 10 = .ok (.if_icmp .ge 11, 3) := by decide +kernel
theorem d_x_AS_newLength_13 : decode b_x_AS_newLength 13 = .ok (.iload_n 3, 1) := by decide +kernel
theorem d_x_AS_newLength_14 : decode b_x_AS_newLength 14 = .ok (.ldc 200, 2) := by decide +kernel
theorem d_x_AS_newLength_16 : decode b_x_AS_newLength 16 = .ok (.if_icmp .gt 5, 3) := by decide +kernel
theorem d_x_AS_newLength_19 : decode b_x_AS_newLength 19 = .ok (.iload_n 3, 1) := by decide +kernel
theorem d_x_AS_newLength_20 : decode b_x_AS_newLength 20 = .ok (.ireturn, 1) := by decide +kernel
theorem d_x_ASB_newCapacity_0 : decode b_x_ASB_newCapacity 0 = .ok (.aload_n 0, 1) := by decide +kernel
theorem d_x_ASB_newCapacity_1 : decode b_x_ASB_newCapacity 1 = .ok (.getfield 15, 3) := by decide +kernel
theorem d_x_ASB_newCapacity_4 : decode b_x_ASB_newCapacity 4 = .ok (.arraylength, 1) := by decide +kernel
theorem d_x_ASB_newCapacity_5 : decode b_x_ASB_newCapacity 5 = .ok (.istore_n 2, 1) := by decide +kernel
theorem d_x_ASB_newCapacity_6 : decode b_x_ASB_newCapacity 6 = .ok (.iload_n 1, 1) := by decide +kernel
theorem d_x_ASB_newCapacity_7 : decode b_x_ASB_newCapacity 7 = .ok (.aload_n 0, 1) := by decide +kernel
theorem d_x_ASB_newCapacity_8 : decode b_x_ASB_newCapacity 8 = .ok (.getfield 22, 3) := by decide +kernel
theorem d_x_ASB_newCapacity_11 : decode b_x_ASB_newCapacity 11 = .ok (.ishl, 1) := by decide +kernel
theorem d_x_ASB_newCapacity_12 : decode b_x_ASB_newCapacity 12 = .ok (.istore_n 3, 1) := by decide +kernel
theorem d_x_ASB_newCapacity_13 : decode b_x_ASB_newCapacity 13 = .ok (.iload_n 3, 1) := by decide +kernel
theorem d_x_ASB_newCapacity_14 : decode b_x_ASB_newCapacity 14 = .ok (.iload_n 2, 1) := by decide +kernel
theorem d_x_ASB_newCapacity_15 : decode b_x_ASB_newCapacity 15 = .ok (.isub, 1) := by decide +kernel
theorem d_x_ASB_newCapacity_16 : decode b_x_ASB_newCapacity 16 = .ok (.istore 4, 2) := by decide +kernel
theorem d_x_ASB_newCapacity_18 : decode b_x_ASB_newCapacity 18 = .ok (.iload_n 2, 1) := by decide +kernel
theorem d_x_ASB_newCapacity_19 : decode b_x_ASB_newCapacity 19 = .ok (.iload 4, 2) := by decide +kernel
theorem d_x_ASB_newCapacity_21 : decode b_x_ASB_newCapacity 21 = .ok (.iload_n 2, 1) := by decide +kernel
theorem d_x_ASB_newCapacity_22 : decode b_x_ASB_newCapacity 22 = .ok (.iconst 2, 1) := by decide +kernel
theorem d_x_ASB_newCapacity_23 : decode b_x_ASB_newCapacity 23 = .ok (.aload_n 0, 1) := by decide +kernel
theorem d_x_ASB_newCapacity_24 : decode b_x_ASB_newCapacity 24 = .ok (.getfield 22, 3) := by decide +kernel
theorem d_x_ASB_newCapacity_27 : decode b_x_ASB_newCapacity 27 = .ok (.ishl, 1) := by decide +kernel
theorem d_x_ASB_newCapacity_28 : decode b_x_ASB_newCapacity 28 = .ok (.iadd, 1) := by decide +kernel
theorem d_x_ASB_newCapacity_29 : decode b_x_ASB_newCapacity 29 = .ok (.invokestatic 114, 3) := by decide +kernel
theorem d_x_ASB_newCapacity_32 : decode b_x_ASB_newCapacity 32 = .ok (.istore 5, 2) := by decide +kernel
theorem d_x_ASB_newCapacity_34 : decode b_x_ASB_newCapacity 34 = .ok (.iload 5, 2) := by decide +kernel
theorem d_x_ASB_newCapacity_36 : decode b_x_ASB_newCapacity 36 = .ok (.ldc 39, 2) := by decide +kernel
theorem d_x_ASB_newCapacity_38 : decode b_x_ASB_newCapacity 38 = .ok (.if_icmp .ne 13, 3) := by decide +kernel
theorem d_x_ASB_newCapacity_51 : decode b_x_ASB_newCapacity 51 = .ok (.iload 5, 2) := by decide +kernel
theorem d_x_ASB_newCapacity_53 : decode b_x_ASB_newCapacity 53 = .ok (.aload_n 0, 1) := by decide +kernel
theorem d_x_ASB_newCapacity_54 : decode b_x_ASB_newCapacity 54 = .ok (.getfield 22, 3) := by decide +kernel
theorem d_x_ASB_newCapacity_57 : decode b_x_ASB_newCapacity 57 = .ok (.ishr, 1) := by decide +kernel
theorem d_x_ASB_newCapacity_58 : decode b_x_ASB_newCapacity 58 = .ok (.ireturn, 1) := by decide +kernel
theorem d_x_Math_min_0 : decode b_x_Math_min 0 = .ok (.iload_n 0, 1) := by decide +kernel
theorem d_x_Math_min_1 : decode b_x_Math_min 1 = .ok (.iload_n 1, 1) := by decide +kernel
theorem d_x_Math_min_2 : decode b_x_Math_min 2 = .ok (.if_icmp .gt 7, 3) := by decide +kernel
theorem d_x_Math_min_5 : decode b_x_Math_min 5 = .ok (.iload_n 0, 1) := by decide +kernel
theorem d_x_Math_min_6 : decode b_x_Math_min 6 = .ok (.goto 4, 3) := by decide +kernel
theorem d_x_Math_min_9 : decode b_x_Math_min 9 = .ok (.iload_n 1, 1) := by decide +kernel
theorem d_x_Math_min_10 : decode b_x_Math_min 10 = .ok (.ireturn, 1) := by decide +kernel
theorem d_x_Arr_copyOf_0 : decode b_x_Arr_copyOf 0 = .ok (.iload_n 1, 1) := by decide +kernel
theorem d_x_Arr_copyOf_1 : decode b_x_Arr_copyOf 1 = .ok (.aload_n 0, 1) := by decide +kernel
theorem d_x_Arr_copyOf_2 : decode b_x_Arr_copyOf 2 = .ok (.arraylength, 1) := by decide +kernel
theorem d_x_Arr_copyOf_3 : decode b_x_Arr_copyOf 3 = .ok (.if_icmp .ne 11, 3) := by decide +kernel
theorem d_x_Arr_copyOf_14 : decode b_x_Arr_copyOf 14 = .ok (.iload_n 1, 1) := by decide +kernel
theorem d_x_Arr_copyOf_15 : decode b_x_Arr_copyOf 15 = .ok (.newarray .byte, 2) := by decide +kernel
theorem d_x_Arr_copyOf_17 : decode b_x_Arr_copyOf 17 = .ok (.astore_n 2, 1) := by decide +kernel
theorem d_x_Arr_copyOf_18 : decode b_x_Arr_copyOf 18 = .ok (.aload_n 0, 1) := by decide +kernel
theorem d_x_Arr_copyOf_19 : decode b_x_Arr_copyOf 19 = .ok (.iconst 0, 1) := by decide +kernel
theorem d_x_Arr_copyOf_20 : decode b_x_Arr_copyOf 20 = .ok (.aload_n 2, 1) := by decide +kernel
theorem d_x_Arr_copyOf_21 : decode b_x_Arr_copyOf 21 = .ok (.iconst 0, 1) := by decide +kernel
theorem d_x_Arr_copyOf_22 : decode b_x_Arr_copyOf 22 = .ok (.aload_n 0, 1) := by decide +kernel
theorem d_x_Arr_copyOf_23 : decode b_x_Arr_copyOf 23 = .ok (.arraylength, 1) := by decide +kernel
theorem d_x_Arr_copyOf_24 : decode b_x_Arr_copyOf 24 = .ok (.iload_n 1, 1) := by decide +kernel
theorem d_x_Arr_copyOf_25 : decode b_x_Arr_copyOf 25 = .ok (.invokestatic 304, 3) := by decide +kernel
theorem d_x_Arr_copyOf_28 : decode b_x_Arr_copyOf 28 = .ok (.invokestatic 150, 3) := by decide +kernel
theorem d_x_Arr_copyOf_31 : decode b_x_Arr_copyOf 31 = .ok (.aload_n 2, 1) := by decide +kernel
theorem d_x_Arr_copyOf_32 : decode b_x_Arr_copyOf 32 = .ok (.areturn, 1) := by decide +kernel
theorem d_x_ASB_ensureCapacityInternal_0 : decode b_x_ASB_ensureCapacityInternal 0 = .ok (.aload_n 0, 1) := by decide +kernel
theorem d_x_ASB_ensureCapacityInternal_1 : decode b_x_ASB_ensureCapacityInternal 1 = .ok (.getfield 15, 3) := by decide +kernel
theorem d_x_ASB_ensureCapacityInternal_4 : decode b_x_ASB_ensureCapacityInternal 4 = .ok (.arraylength, 1) := by decide +kernel
theorem d_x_ASB_ensureCapacityInternal_5 : decode b_x_ASB_ensureCapacityInternal 5 = .ok (.aload_n 0, 1) := by decide +kernel
theorem d_x_ASB_ensureCapacityInternal_6 : decode b_x_ASB_ensureCapacityInternal 6 = .ok (.getfield 22, 3) := by decide +kernel
theorem d_x_ASB_ensureCapacityInternal_9 : decode b_x_ASB_ensureCapacityInternal 9 = .ok (.ishr, 1) := by decide +kernel
theorem d_x_ASB_ensureCapacityInternal_10 : decode b_x_ASB_ensureCapacityInternal 10 = .ok (.istore_n 2, 1) := by decide +kernel
theorem d_x_ASB_ensureCapacityInternal_11 : decode b_x_ASB_ensureCapacityInternal 11 = .ok (.iload_n 1, 1) := by decide +kernel
theorem d_x_ASB_ensureCapacityInternal_12 : decode b_x_ASB_ensureCapacityInternal 12 = .ok (.iload_n 2, 1) := by decide +kernel
theorem d_x_ASB_ensureCapacityInternal_13 : decode b_x_ASB_ensureCapacityInternal 13 = .ok (.isub, 1) := by decide +kernel
theorem d_x_ASB_ensureCapacityInternal_14 : decode b_x_ASB_ensureCapacityInternal 14 = .ok (.ifCond .le 24, 3) := by decide +kernel
theorem d_x_ASB_ensureCapacityInternal_17 : decode b_x_ASB_ensureCapacityInternal 17 = .ok (.aload_n 0, 1) := by decide +kernel
theorem d_x_ASB_ensureCapacityInternal_18 : decode b_x_ASB_ensureCapacityInternal 18 = .ok (.aload_n 0, 1) := by decide +kernel
theorem d_x_ASB_ensureCapacityInternal_19 : decode b_x_ASB_ensureCapacityInternal 19 = .ok (.getfield 15, 3) := by decide +kernel
theorem d_x_ASB_ensureCapacityInternal_22 : decode b_x_ASB_ensureCapacityInternal 22 = .ok (.aload_n 0, 1) := by decide +kernel
theorem d_x_ASB_ensureCapacityInternal_23 : decode b_x_ASB_ensureCapacityInternal 23 = .ok (.iload_n 1, 1) := by decide +kernel
theorem d_x_ASB_ensureCapacityInternal_24 : decode b_x_ASB_ensureCapacityInternal 24 = .ok (.invokevirtual 104, 3) := by decide +kernel
theorem d_x_ASB_ensureCapacityInternal_27 : decode b_x_ASB_ensureCapacityInternal 27 = .ok (.aload_n 0, 1) := by decide +kernel
theorem d_x_ASB_ensureCapacityInternal_28 : decode b_x_ASB_ensureCapacityInternal 28 = .ok (.getfield 22, 3) := by decide +kernel
theorem d_x_ASB_ensureCapacityInternal_31 : decode b_x_ASB_ensureCapacityInternal 31 = .ok (.ishl, 1) := by decide +kernel
theorem d_x_ASB_ensureCapacityInternal_32 : decode b_x_ASB_ensureCapacityInternal 32 = .ok (.invokestatic 108, 3) := by decide +kernel
theorem d_x_ASB_ensureCapacityInternal_35 : decode b_x_ASB_ensureCapacityInternal 35 = .ok (.putfield 15, 3) := by decide +kernel
theorem d_x_ASB_ensureCapacityInternal_38 : decode b_x_ASB_ensureCapacityInternal 38 = .ok (.return_, 1) := by decide +kernel
theorem d_x_ASB_isLatin1_0 : decode b_x_ASB_isLatin1 0 = .ok (.getstatic 18, 3) := by decide +kernel
theorem d_x_ASB_isLatin1_3 : decode b_x_ASB_isLatin1 3 = .ok (.ifCond .eq 14, 3) := by decide +kernel
theorem d_x_ASB_isLatin1_6 : decode b_x_ASB_isLatin1 6 = .ok (.aload_n 0, 1) := by decide +kernel
theorem d_x_ASB_isLatin1_7 : decode b_x_ASB_isLatin1 7 = .ok (.getfield 22, 3) := by decide +kernel
theorem d_x_ASB_isLatin1_10 : decode b_x_ASB_isLatin1 10 = .ok (.ifCond .ne 7, 3) := by decide +kernel
theorem d_x_ASB_isLatin1_13 : decode b_x_ASB_isLatin1 13 = .ok (.iconst 1, 1) := by decide +kernel
theorem d_x_ASB_isLatin1_14 : decode b_x_ASB_isLatin1 14 = .ok (.goto 4, 3) := by decide +kernel
theorem d_x_ASB_isLatin1_17 : decode b_x_ASB_isLatin1 17 = .ok (.iconst 0, 1) := by decide +kernel
theorem d_x_ASB_isLatin1_18 : decode b_x_ASB_isLatin1 18 = .ok (.ireturn, 1) := by decide +kernel
theorem d_x_L1_canEncode_0 : decode b_x_L1_canEncode 0 = .ok (.iload_n 0, 1) := by decide +kernel
theorem d_x_L1_canEncode_1 : decode b_x_L1_canEncode 1 = .ok (.sipush 255, 3) := by decide +kernel
theorem d_x_L1_canEncode_4 : decode b_x_L1_canEncode 4 = .ok (.if_icmp .gt 7, 3) := by decide +kernel
theorem d_x_L1_canEncode_7 : decode b_x_L1_canEncode 7 = .ok (.iconst 1, 1) := by decide +kernel
theorem d_x_L1_canEncode_8 : decode b_x_L1_canEncode 8 = .ok (.goto 4, 3) := by decide +kernel
theorem d_x_L1_canEncode_11 : decode b_x_L1_canEncode 11 = .ok (.iconst 0, 1) := by decide +kernel
theorem d_x_L1_canEncode_12 : decode b_x_L1_canEncode 12 = .ok (.ireturn, 1) := by decide +kernel
theorem d_x_ASB_append_0 : decode b_x_ASB_append 0 = .ok (.aload_n 0, 1) := by decide +kernel
theorem d_x_ASB_append_1 : decode b_x_ASB_append 1 = .ok (.aload_n 0, 1) := by decide +kernel
theorem d_x_ASB_append_2 : decode b_x_ASB_append 2 = .ok (.getfield 79, 3) := by decide +kernel
theorem d_x_ASB_append_5 : decode b_x_ASB_append 5 = .ok (.iconst 1, 1) := by decide +kernel
theorem d_x_ASB_append_6 : decode b_x_ASB_append 6 = .ok (.iadd, 1) := by decide +kernel
theorem d_x_ASB_append_7 : decode b_x_ASB_append 7 = .ok (.invokevirtual 100, 3) := by decide +kernel
theorem d_x_ASB_append_10 : decode b_x_ASB_append 10 = .ok (.aload_n 0, 1) := by decide +kernel
theorem d_x_ASB_append_11 : decode b_x_ASB_append 11 = .ok (.invokevirtual 83, 3) := by decide +kernel
theorem d_x_ASB_append_14 : decode b_x_ASB_append 14 = .ok (.ifCond .eq 31, 3) := by decide +kernel
theorem d_x_ASB_append_17 : decode b_x_ASB_append 17 = .ok (.iload_n 1, 1) := by decide +kernel
theorem d_x_ASB_append_18 : decode b_x_ASB_append 18 = .ok (.invokestatic 191, 3) := by decide +kernel
theorem d_x_ASB_append_21 : decode b_x_ASB_append 21 = .ok (.ifCond .eq 24, 3) := by decide +kernel
theorem d_x_ASB_append_24 : decode b_x_ASB_append 24 = .ok (.aload_n 0, 1) := by decide +kernel
theorem d_x_ASB_append_25 : decode b_x_ASB_append 25 = .ok (.getfield 15, 3) := by decide +kernel
theorem d_x_ASB_append_28 : decode b_x_ASB_append 28 = .ok (.aload_n 0, 1) := by decide +kernel
theorem d_x_ASB_append_29 : decode b_x_ASB_append 29 = .ok (.dup, 1) := by decide +kernel
theorem d_x_ASB_append_30 : decode b_x_ASB_append 30 = .ok (.getfield 79, 3) := by decide +kernel
theorem d_x_ASB_append_33 : decode b_x_ASB_append 33 = .ok (.dup_x1, 1) := by decide +kernel
theorem d_x_ASB_append_34 : decode b_x_ASB_append 34 = .ok (.iconst 1, 1) := by decide +kernel
theorem d_x_ASB_append_35 : decode b_x_ASB_append 35 = .ok (.iadd, 1) := by decide +kernel
theorem d_x_ASB_append_36 : decode b_x_ASB_append 36 = .ok (.putfield 79, 3) := by decide +kernel
theorem d_x_ASB_append_39 : decode b_x_ASB_append 39 = .ok (.iload_n 1, 1) := by decide +kernel
theorem d_x_ASB_append_40 : decode b_x_ASB_append 40 = .ok (.i2b, 1) := by decide +kernel
theorem d_x_ASB_append_41 : decode b_x_ASB_append 41 = .ok (.bastore, 1) := by decide +kernel
theorem d_x_ASB_append_42 : decode b_x_ASB_append 42 = .ok (.goto 33, 3) := by decide +kernel
theorem d_x_ASB_append_75 : decode b_x_ASB_append 75 = .ok (.aload_n 0, 1) := by decide +kernel
theorem d_x_ASB_append_76 : decode b_x_ASB_append 76 = .ok (.areturn, 1) := by decide +kernel
theorem d_x_ASB_getValue_0 : decode b_x_ASB_getValue 0 = .ok (.aload_n 0, 1) := by decide +kernel
theorem d_x_ASB_getValue_1 : decode b_x_ASB_getValue 1 = .ok (.getfield 15, 3) := by decide +kernel
theorem d_x_ASB_getValue_4 : decode b_x_ASB_getValue 4 = .ok (.areturn, 1) := by decide +kernel
theorem d_x_ASB_length_0 : decode b_x_ASB_length 0 = .ok (.aload_n 0, 1) := by decide +kernel
theorem d_x_ASB_length_1 : decode b_x_ASB_length 1 = .ok (.getfield 79, 3) := by decide +kernel
theorem d_x_ASB_length_4 : decode b_x_ASB_length 4 = .ok (.ireturn, 1) := by decide +kernel
theorem d_x_ASB_setLength_0 : decode b_x_ASB_setLength 0 = .ok (.iload_n 1, 1) := by decide +kernel
theorem d_x_ASB_setLength_1 : decode b_x_ASB_setLength 1 = .ok (.ifCond .ge 12, 3) := by decide +kernel
theorem d_x_ASB_setLength_13 : decode b_x_ASB_setLength 13 = .ok (.aload_n 0, 1) := by decide +kernel
theorem d_x_ASB_setLength_14 : decode b_x_ASB_setLength 14 = .ok (.iload_n 1, 1) := by decide +kernel
theorem d_x_ASB_setLength_15 : decode b_x_ASB_setLength 15 = .ok (.invokevirtual 100, 3) := by decide +kernel
theorem d_x_ASB_setLength_18 : decode b_x_ASB_setLength 18 = .ok (.aload_n 0, 1) := by decide +kernel
theorem d_x_ASB_setLength_19 : decode b_x_ASB_setLength 19 = .ok (.getfield 79, 3) := by decide +kernel
theorem d_x_ASB_setLength_22 : decode b_x_ASB_setLength 22 = .ok (.iload_n 1, 1) := by decide +kernel
theorem d_x_ASB_setLength_23 : decode b_x_ASB_setLength 23 = .ok (.if_icmp .ge 40, 3) := by decide +kernel
theorem d_x_ASB_setLength_63 : decode b_x_ASB_setLength 63 = .ok (.aload_n 0, 1) := by decide +kernel
theorem d_x_ASB_setLength_64 : decode b_x_ASB_setLength 64 = .ok (.getfield 79, 3) := by decide +kernel
theorem d_x_ASB_setLength_67 : decode b_x_ASB_setLength 67 = .ok (.iload_n 1, 1) := by decide +kernel
theorem d_x_ASB_setLength_68 : decode b_x_ASB_setLength 68 = .ok (.if_icmp .le 8, 3) := by decide +kernel
theorem d_x_ASB_setLength_71 : decode b_x_ASB_setLength 71 = .ok (.aload_n 0, 1) := by decide +kernel
theorem d_x_ASB_setLength_72 : decode b_x_ASB_setLength 72 = .ok (.iconst 1, 1) := by decide +kernel
theorem d_x_ASB_setLength_73 : decode b_x_ASB_setLength 73 = .ok (.putfield 73, 3) := by decide +kernel
theorem d_x_ASB_setLength_76 : decode b_x_ASB_setLength 76 = .ok (.aload_n 0, 1) := by decide +kernel
theorem d_x_ASB_setLength_77 : decode b_x_ASB_setLength 77 = .ok (.iload_n 1, 1) := by decide +kernel
theorem d_x_ASB_setLength_78 : decode b_x_ASB_setLength 78 = .ok (.putfield 79, 3) := by decide +kernel
theorem d_x_ASB_setLength_81 : decode b_x_ASB_setLength 81 = .ok (.return_, 1) := by decide +kernel
theorem d_x_SB_init_0 : decode b_x_SB_init 0 = .ok (.aload_n 0, 1) := by decide +kernel
theorem d_x_SB_init_1 : decode b_x_SB_init 1 = .ok (.bipush 16, 2) := by decide +kernel
theorem d_x_SB_init_3 : decode b_x_SB_init 3 = .ok (.invokespecial 1, 3) := by decide +kernel
theorem d_x_SB_init_6 : decode b_x_SB_init 6 = .ok (.return_, 1) := by decide +kernel
theorem d_x_SB_append_0 : decode b_x_SB_append 0 = .ok (.aload_n 0, 1) := by decide +kernel
theorem d_x_SB_append_1 : decode b_x_SB_append 1 = .ok (.iload_n 1, 1) := by decide +kernel
theorem d_x_SB_append_2 : decode b_x_SB_append 2 = .ok (.invokespecial 50, 3) := by decide +kernel
theorem d_x_SB_append_5 : decode b_x_SB_append 5 = .ok (.pop, 1) := by decide +kernel
theorem d_x_SB_append_6 : decode b_x_SB_append 6 = .ok (.aload_n 0, 1) := by decide +kernel
theorem d_x_SB_append_7 : decode b_x_SB_append 7 = .ok (.areturn, 1) := by decide +kernel
theorem d_x_SB_length_0 : decode b_x_SB_length 0 = .ok (.aload_n 0, 1) := by decide +kernel
theorem d_x_SB_length_1 : decode b_x_SB_length 1 = .ok (.invokespecial 343, 3) := by decide +kernel
theorem d_x_SB_length_4 : decode b_x_SB_length 4 = .ok (.ireturn, 1) := by decide +kernel
theorem d_x_SB_setLength_0 : decode b_x_SB_setLength 0 = .ok (.aload_n 0, 1) := by decide +kernel
theorem d_x_SB_setLength_1 : decode b_x_SB_setLength 1 = .ok (.iload_n 1, 1) := by decide +kernel
theorem d_x_SB_setLength_2 : decode b_x_SB_setLength 2 = .ok (.invokespecial 333, 3) := by decide +kernel
theorem d_x_SB_setLength_5 : decode b_x_SB_setLength 5 = .ok (.return_, 1) := by decide +kernel
theorem d_x_Arr_checkLength_0 : decode b_x_Arr_checkLength 0 = .ok (.iload_n 1, 1) := by decide +kernel
theorem d_x_Arr_checkLength_1 : decode b_x_Arr_checkLength 1 = .ok (.iload_n 0, 1) := by decide +kernel
theorem d_x_Arr_checkLength_2 : decode b_x_Arr_checkLength 2 = .ok (.if_icmp .ge 35, 3) := by decide +kernel
theorem d_x_Arr_checkLength_37 : decode b_x_Arr_checkLength 37 = .ok (.return_, 1) := by decide +kernel
theorem d_x_Arr_copyOfRangeByte_0 : decode b_x_Arr_copyOfRangeByte 0 = .ok (.iload_n 1, 1) := by decide +kernel
theorem d_x_Arr_copyOfRangeByte_1 : decode b_x_Arr_copyOfRangeByte 1 = .ok (.iload_n 2, 1) := by decide +kernel
theorem d_x_Arr_copyOfRangeByte_2 : decode b_x_Arr_copyOfRangeByte 2 = .ok (.invokestatic 343, 3) := by decide +kernel
theorem d_x_Arr_copyOfRangeByte_5 : decode b_x_Arr_copyOfRangeByte 5 = .ok (.iload_n 2, 1) := by decide +kernel
theorem d_x_Arr_copyOfRangeByte_6 : decode b_x_Arr_copyOfRangeByte 6 = .ok (.iload_n 1, 1) := by decide +kernel
theorem d_x_Arr_copyOfRangeByte_7 : decode b_x_Arr_copyOfRangeByte 7 = .ok (.isub, 1) := by decide +kernel
theorem d_x_Arr_copyOfRangeByte_8 : decode b_x_Arr_copyOfRangeByte 8 = .ok (.istore_n 3, 1) := by decide +kernel
theorem d_x_Arr_copyOfRangeByte_9 : decode b_x_Arr_copyOfRangeByte 9 = .ok (.iload_n 3, 1) := by decide +kernel
theorem d_x_Arr_copyOfRangeByte_10 : decode b_x_Arr_copyOfRangeByte 10 = .ok (.newarray .byte, 2) := by decide +kernel
theorem d_x_Arr_copyOfRangeByte_12 : decode b_x_Arr_copyOfRangeByte 12 = .ok (.astore 4, 2) := by decide +kernel
theorem d_x_Arr_copyOfRangeByte_14 : decode b_x_Arr_copyOfRangeByte 14 = .ok (.aload_n 0, 1) := by decide +kernel
theorem d_x_Arr_copyOfRangeByte_15 : decode b_x_Arr_copyOfRangeByte 15 = .ok (.iload_n 1, 1) := by decide +kernel
theorem d_x_Arr_copyOfRangeByte_16 : decode b_x_Arr_copyOfRangeByte 16 = .ok (.aload 4, 2) := by decide +kernel
theorem d_x_Arr_copyOfRangeByte_18 : decode b_x_Arr_copyOfRangeByte 18 = .ok (.iconst 0, 1) := by decide +kernel
theorem d_x_Arr_copyOfRangeByte_19 : decode b_x_Arr_copyOfRangeByte 19 = .ok (.aload_n 0, 1) := by decide +kernel
theorem d_x_Arr_copyOfRangeByte_20 : decode b_x_Arr_copyOfRangeByte 20 = .ok (.arraylength, 1) := by decide +kernel
theorem d_x_Arr_copyOfRangeByte_21 : decode b_x_Arr_copyOfRangeByte 21 = .ok (.iload_n 1, 1) := by decide +kernel
theorem d_x_Arr_copyOfRangeByte_22 : decode b_x_Arr_copyOfRangeByte 22 = .ok (.isub, 1) := by decide +kernel
theorem d_x_Arr_copyOfRangeByte_23 : decode b_x_Arr_copyOfRangeByte 23 = .ok (.iload_n 3, 1) := by decide +kernel
theorem d_x_Arr_copyOfRangeByte_24 : decode b_x_Arr_copyOfRangeByte 24 = .ok (.invokestatic 304, 3) := by decide +kernel
theorem d_x_Arr_copyOfRangeByte_27 : decode b_x_Arr_copyOfRangeByte 27 = .ok (.invokestatic 150, 3) := by decide +kernel
theorem d_x_Arr_copyOfRangeByte_30 : decode b_x_Arr_copyOfRangeByte 30 = .ok (.aload 4, 2) := by decide +kernel
theorem d_x_Arr_copyOfRangeByte_32 : decode b_x_Arr_copyOfRangeByte 32 = .ok (.areturn, 1) := by decide +kernel
theorem d_x_Arr_copyOfRange_0 : decode b_x_Arr_copyOfRange 0 = .ok (.iload_n 1, 1) := by decide +kernel
theorem d_x_Arr_copyOfRange_1 : decode b_x_Arr_copyOfRange 1 = .ok (.ifCond .ne 9, 3) := by decide +kernel
theorem d_x_Arr_copyOfRange_4 : decode b_x_Arr_copyOfRange 4 = .ok (.iload_n 2, 1) := by decide +kernel
theorem d_x_Arr_copyOfRange_5 : decode b_x_Arr_copyOfRange 5 = .ok (.aload_n 0, 1) := by decide +kernel
theorem d_x_Arr_copyOfRange_6 : decode b_x_Arr_copyOfRange 6 = .ok (.arraylength, 1) := by decide +kernel
theorem d_x_Arr_copyOfRange_7 : decode b_x_Arr_copyOfRange 7 = .ok (.if_icmp .eq 10, 3) := by decide +kernel
theorem d_x_Arr_copyOfRange_10 : decode b_x_Arr_copyOfRange 10 = .ok (.aload_n 0, 1) := by decide +kernel
theorem d_x_Arr_copyOfRange_11 : decode b_x_Arr_copyOfRange 11 = .ok (.iload_n 1, 1) := by decide +kernel
theorem d_x_Arr_copyOfRange_12 : decode b_x_Arr_copyOfRange 12 = .ok (.iload_n 2, 1) := by decide +kernel
theorem d_x_Arr_copyOfRange_13 : decode b_x_Arr_copyOfRange 13 = .ok (.invokestatic 339, 3) := by decide +kernel
theorem d_x_Arr_copyOfRange_16 : decode b_x_Arr_copyOfRange 16 = .ok (.areturn, 1) := by decide +kernel
theorem d_x_Arr_copyOfRange_17 : decode b_x_Arr_copyOfRange 17 = .ok (.aload_n 0, 1) := by decide +kernel
theorem d_x_Arr_copyOfRange_18 : decode b_x_Arr_copyOfRange 18 = .ok (.invokevirtual 310, 3) := by decide +kernel
theorem d_x_Arr_copyOfRange_21 : decode b_x_Arr_copyOfRange 21 = .ok (.checkcast 311, 3) := by decide +kernel
theorem d_x_Arr_copyOfRange_24 : decode b_x_Arr_copyOfRange 24 = .ok (.areturn, 1) := by decide +kernel
theorem d_x_Str_init2_0 : decode b_x_Str_init2 0 = .ok (.aload_n 0, 1) := by decide +kernel
theorem d_x_Str_init2_1 : decode b_x_Str_init2 1 = .ok (.invokespecial 1, 3) := by decide +kernel
theorem d_x_Str_init2_4 : decode b_x_Str_init2 4 = .ok (.aload_n 1, 1) := by decide +kernel
theorem d_x_Str_init2_5 : decode b_x_Str_init2 5 = .ok (.invokevirtual 552, 3) := by decide +kernel
theorem d_x_Str_init2_8 : decode b_x_Str_init2 8 = .ok (.astore_n 3, 1) := by decide +kernel
theorem d_x_Str_init2_9 : decode b_x_Str_init2 9 = .ok (.aload_n 1, 1) := by decide +kernel
theorem d_x_Str_init2_10 : decode b_x_Str_init2 10 = .ok (.invokevirtual 549, 3) := by decide +kernel
theorem d_x_Str_init2_13 : decode b_x_Str_init2 13 = .ok (.istore 4, 2) := by decide +kernel
theorem d_x_Str_init2_15 : decode b_x_Str_init2 15 = .ok (.aload_n 1, 1) := by decide +kernel
theorem d_x_Str_init2_16 : decode b_x_Str_init2 16 = .ok (.invokevirtual 1047, 3) := by decide +kernel
theorem d_x_Str_init2_19 : decode b_x_Str_init2 19 = .ok (.ifCond .eq 22, 3) := by decide +kernel
theorem d_x_Str_init2_22 : decode b_x_Str_init2 22 = .ok (.aload_n 0, 1) := by decide +kernel
theorem d_x_Str_init2_23 : decode b_x_Str_init2 23 = .ok (.iconst 0, 1) := by decide +kernel
theorem d_x_Str_init2_24 : decode b_x_Str_init2 24 = .ok (.putfield 15, 3) := by decide +kernel
theorem d_x_Str_init2_27 : decode b_x_Str_init2 27 = .ok (.aload_n 0, 1) := by decide +kernel
theorem d_x_Str_init2_28 : decode b_x_Str_init2 28 = .ok (.aload_n 3, 1) := by decide +kernel
theorem d_x_Str_init2_29 : decode b_x_Str_init2 29 = .ok (.iconst 0, 1) := by decide +kernel
theorem d_x_Str_init2_30 : decode b_x_Str_init2 30 = .ok (.iload 4, 2) := by decide +kernel
theorem d_x_Str_init2_32 : decode b_x_Str_init2 32 = .ok (.invokestatic 54, 3) := by decide +kernel
theorem d_x_Str_init2_35 : decode b_x_Str_init2 35 = .ok (.putfield 9, 3) := by decide +kernel
theorem d_x_Str_init2_38 : decode b_x_Str_init2 38 = .ok (.goto 59, 3) := by decide +kernel
theorem d_x_Str_init2_97 : decode b_x_Str_init2 97 = .ok (.return_, 1) := by decide +kernel
theorem d_x_Str_init_0 : decode b_x_Str_init 0 = .ok (.aload_n 0, 1) := by decide +kernel
theorem d_x_Str_init_1 : decode b_x_Str_init 1 = .ok (.aload_n 1, 1) := by decide +kernel
theorem d_x_Str_init_2 : decode b_x_Str_init 2 = .ok (.aconst_null, 1) := by decide +kernel
theorem d_x_Str_init_3 : decode b_x_Str_init 3 = .ok (.invokespecial 489, 3) := by decide +kernel
theorem d_x_Str_init_6 : decode b_x_Str_init 6 = .ok (.return_, 1) := by decide +kernel
theorem d_x_SB_toString_0 : decode b_x_SB_toString 0 = .ok (.new 18, 3) := by decide +kernel
theorem d_x_SB_toString_3 : decode b_x_SB_toString 3 = .ok (.dup, 1) := by decide +kernel
theorem d_x_SB_toString_4 : decode b_x_SB_toString 4 = .ok (.aload_n 0, 1) := by decide +kernel
theorem d_x_SB_toString_5 : decode b_x_SB_toString 5 = .ok (.invokespecial 137, 3) := by decide +kernel
theorem d_x_SB_toString_8 : decode b_x_SB_toString 8 = .ok (.areturn, 1) := by decide +kernel
theorem d_x_Str_isLatin1_0 : decode b_x_Str_isLatin1 0 = .ok (.getstatic 38, 3) := by decide +kernel
theorem d_x_Str_isLatin1_3 : decode b_x_Str_isLatin1 3 = .ok (.ifCond .eq 14, 3) := by decide +kernel
theorem d_x_Str_isLatin1_6 : decode b_x_Str_isLatin1 6 = .ok (.aload_n 0, 1) := by decide +kernel
theorem d_x_Str_isLatin1_7 : decode b_x_Str_isLatin1 7 = .ok (.getfield 15, 3) := by decide +kernel
theorem d_x_Str_isLatin1_10 : decode b_x_Str_isLatin1 10 = .ok (.ifCond .ne 7, 3) := by decide +kernel
theorem d_x_Str_isLatin1_13 : decode b_x_Str_isLatin1 13 = .ok (.iconst 1, 1) := by decide +kernel
theorem d_x_Str_isLatin1_14 : decode b_x_Str_isLatin1 14 = .ok (.goto 4, 3) := by decide +kernel
theorem d_x_Str_isLatin1_17 : decode b_x_Str_isLatin1 17 = .ok (.iconst 0, 1) := by decide +kernel
theorem d_x_Str_isLatin1_18 : decode b_x_Str_isLatin1 18 = .ok (.ireturn, 1) := by decide +kernel
theorem d_x_Pre_checkIndex_0 : decode b_x_Pre_checkIndex 0 = .ok (.iload_n 0, 1) := by decide +kernel
theorem d_x_Pre_checkIndex_1 : decode b_x_Pre_checkIndex 1 = .ok (.ifCond .lt 8, 3) := by decide +kernel
theorem d_x_Pre_checkIndex_4 : decode b_x_Pre_checkIndex 4 = .ok (.iload_n 0, 1) := by decide +kernel
theorem d_x_Pre_checkIndex_5 : decode b_x_Pre_checkIndex 5 = .ok (.iload_n 1, 1) := by decide +kernel
theorem d_x_Pre_checkIndex_6 : decode b_x_Pre_checkIndex 6 = .ok (.if_icmp .lt 10, 3) := by decide +kernel
theorem d_x_Pre_checkIndex_16 : decode b_x_Pre_checkIndex 16 = .ok (.iload_n 0, 1) := by decide +kernel
theorem d_x_Pre_checkIndex_17 : decode b_x_Pre_checkIndex 17 = .ok (.ireturn, 1) := by decide +kernel
theorem d_x_Str_checkIndex_0 : decode b_x_Str_checkIndex 0 = .ok (.iload_n 0, 1) := by decide +kernel
theorem d_x_Str_checkIndex_1 : decode b_x_Str_checkIndex 1 = .ok (.iload_n 1, 1) := by decide +kernel
theorem d_x_Str_checkIndex_2 : decode b_x_Str_checkIndex 2 = .ok (.getstatic 1053, 3) := by decide +kernel
theorem d_x_Str_checkIndex_5 : decode b_x_Str_checkIndex 5 = .ok (.invokestatic 1059, 3) := by decide +kernel
theorem d_x_Str_checkIndex_8 : decode b_x_Str_checkIndex 8 = .ok (.pop, 1) := by decide +kernel
theorem d_x_Str_checkIndex_9 : decode b_x_Str_checkIndex 9 = .ok (.return_, 1) := by decide +kernel
theorem d_x_L1_charAt_0 : decode b_x_L1_charAt 0 = .ok (.iload_n 1, 1) := by decide +kernel
theorem d_x_L1_charAt_1 : decode b_x_L1_charAt 1 = .ok (.aload_n 0, 1) := by decide +kernel
theorem d_x_L1_charAt_2 : decode b_x_L1_charAt 2 = .ok (.arraylength, 1) := by decide +kernel
theorem d_x_L1_charAt_3 : decode b_x_L1_charAt 3 = .ok (.invokestatic 9, 3) := by decide +kernel
theorem d_x_L1_charAt_6 : decode b_x_L1_charAt 6 = .ok (.aload_n 0, 1) := by decide +kernel
theorem d_x_L1_charAt_7 : decode b_x_L1_charAt 7 = .ok (.iload_n 1, 1) := by decide +kernel
theorem d_x_L1_charAt_8 : decode b_x_L1_charAt 8 = .ok (.baload, 1) := by decide +kernel
theorem d_x_L1_charAt_9 : decode b_x_L1_charAt 9 = .ok (.sipush 255, 3) := by decide +kernel
theorem d_x_L1_charAt_12 : decode b_x_L1_charAt 12 = .ok (.iand, 1) := by decide +kernel
theorem d_x_L1_charAt_13 : decode b_x_L1_charAt 13 = .ok (.i2c, 1) := by decide +kernel
theorem d_x_L1_charAt_14 : decode b_x_L1_charAt 14 = .ok (.ireturn, 1) := by decide +kernel
theorem d_x_Str_charAt_0 : decode b_x_Str_charAt 0 = .ok (.aload_n 0, 1) := by decide +kernel
theorem d_x_Str_charAt_1 : decode b_x_Str_charAt 1 = .ok (.invokevirtual 492, 3) := by decide +kernel
theorem d_x_Str_charAt_4 : decode b_x_Str_charAt 4 = .ok (.ifCond .eq 12, 3) := by decide +kernel
theorem d_x_Str_charAt_7 : decode b_x_Str_charAt 7 = .ok (.aload_n 0, 1) := by decide +kernel
theorem d_x_Str_charAt_8 : decode b_x_Str_charAt 8 = .ok (.getfield 9, 3) := by decide +kernel
theorem d_x_Str_charAt_11 : decode b_x_Str_charAt 11 = .ok (.iload_n 1, 1) := by decide +kernel
theorem d_x_Str_charAt_12 : decode b_x_Str_charAt 12 = .ok (.invokestatic 495, 3) := by decide +kernel
theorem d_x_Str_charAt_15 : decode b_x_Str_charAt 15 = .ok (.ireturn, 1) := by decide +kernel
theorem d_x_Str_coder_0 : decode b_x_Str_coder 0 = .ok (.getstatic 38, 3) := by decide +kernel
theorem d_x_Str_coder_3 : decode b_x_Str_coder 3 = .ok (.ifCond .eq 10, 3) := by decide +kernel
theorem d_x_Str_coder_6 : decode b_x_Str_coder 6 = .ok (.aload_n 0, 1) := by decide +kernel
theorem d_x_Str_coder_7 : decode b_x_Str_coder 7 = .ok (.getfield 15, 3) := by decide +kernel
theorem d_x_Str_coder_10 : decode b_x_Str_coder 10 = .ok (.goto 4, 3) := by decide +kernel
theorem d_x_Str_coder_14 : decode b_x_Str_coder 14 = .ok (.ireturn, 1) := by decide +kernel
theorem d_x_L1_equals_0 : decode b_x_L1_equals 0 = .ok (.aload_n 0, 1) := by decide +kernel
theorem d_x_L1_equals_1 : decode b_x_L1_equals 1 = .ok (.arraylength, 1) := by decide +kernel
theorem d_x_L1_equals_2 : decode b_x_L1_equals 2 = .ok (.aload_n 1, 1) := by decide +kernel
theorem d_x_L1_equals_3 : decode b_x_L1_equals 3 = .ok (.arraylength, 1) := by decide +kernel
theorem d_x_L1_equals_4 : decode b_x_L1_equals 4 = .ok (.if_icmp .ne 30, 3) := by decide +kernel
theorem d_x_L1_equals_7 : decode b_x_L1_equals 7 = .ok (.iconst 0, 1) := by decide +kernel
theorem d_x_L1_equals_8 : decode b_x_L1_equals 8 = .ok (.istore_n 2, 1) := by decide +kernel
theorem d_x_L1_equals_9 : decode b_x_L1_equals 9 = .ok (.iload_n 2, 1) := by decide +kernel
theorem d_x_L1_equals_10 : decode b_x_L1_equals 10 = .ok (.aload_n 0, 1) := by decide +kernel
theorem d_x_L1_equals_11 : decode b_x_L1_equals 11 = .ok (.arraylength, 1) := by decide +kernel
theorem d_x_L1_equals_12 : decode b_x_L1_equals 12 = .ok (.if_icmp .ge 20, 3) := by decide +kernel
theorem d_x_L1_equals_15 : decode b_x_L1_equals 15 = .ok (.aload_n 0, 1) := by decide +kernel
theorem d_x_L1_equals_16 : decode b_x_L1_equals 16 = .ok (.iload_n 2, 1) := by decide +kernel
theorem d_x_L1_equals_17 : decode b_x_L1_equals 17 = .ok (.baload, 1) := by decide +kernel
theorem d_x_L1_equals_18 : decode b_x_L1_equals 18 = .ok (.aload_n 1, 1) := by decide +kernel
theorem d_x_L1_equals_19 : decode b_x_L1_equals 19 = .ok (.iload_n 2, 1) := by decide +kernel
theorem d_x_L1_equals_20 : decode b_x_L1_equals 20 = .ok (.baload, 1) := by decide +kernel
theorem d_x_L1_equals_21 : decode b_x_L1_equals 21 = .ok (.if_icmp .eq 5, 3) := by decide +kernel
theorem d_x_L1_equals_24 : decode b_x_L1_equals 24 = .ok (.iconst 0, 1) := by decide +kernel
theorem d_x_L1_equals_25 : decode b_x_L1_equals 25 = .ok (.ireturn, 1) := by decide +kernel
theorem d_x_L1_equals_26 : decode b_x_L1_equals 26 = .ok (.iinc 2 1, 3) := by decide +kernel
theorem d_x_L1_equals_29 : decode b_x_L1_equals 29 = .ok (.goto (-20), 3) := by decide +kernel
theorem d_x_L1_equals_32 : decode b_x_L1_equals 32 = .ok (.iconst 1, 1) := by decide +kernel
theorem d_x_L1_equals_33 : decode b_x_L1_equals 33 = .ok (.ireturn, 1) := by decide +kernel
theorem d_x_L1_equals_34 : decode b_x_L1_equals 34 = .ok (.iconst 0, 1) := by decide +kernel
theorem d_x_L1_equals_35 : decode b_x_L1_equals 35 = .ok (.ireturn, 1) := by decide +kernel
theorem d_x_Str_equals_0 : decode b_x_Str_equals 0 = .ok (.aload_n 0, 1) := by decide +kernel
theorem d_x_Str_equals_1 : decode b_x_Str_equals 1 = .ok (.aload_n 1, 1) := by decide +kernel
theorem d_x_Str_equals_2 : decode b_x_Str_equals 2 = .ok (.if_acmp .ne 5, 3) := by decide +kernel
theorem d_x_Str_equals_5 : decode b_x_Str_equals 5 = .ok (.iconst 1, 1) := by decide +kernel
theorem d_x_Str_equals_6 : decode b_x_Str_equals 6 = .ok (.ireturn, 1) := by decide +kernel
theorem d_x_Str_equals_7 : decode b_x_Str_equals 7 = .ok (.aload_n 1, 1) := by decide +kernel
theorem d_x_Str_equals_8 : decode b_x_Str_equals 8 = .ok (.instanceof 10, 3) := by decide +kernel
theorem d_x_Str_equals_11 : decode b_x_Str_equals 11 = .ok (.ifCond .eq 43, 3) := by decide +kernel
theorem d_x_Str_equals_14 : decode b_x_Str_equals 14 = .ok (.aload_n 1, 1) := by decide +kernel
theorem d_x_Str_equals_15 : decode b_x_Str_equals 15 = .ok (.checkcast 10, 3) := by decide +kernel
theorem d_x_Str_equals_18 : decode b_x_Str_equals 18 = .ok (.astore_n 2, 1) := by decide +kernel
theorem d_x_Str_equals_19 : decode b_x_Str_equals 19 = .ok (.getstatic 38, 3) := by decide +kernel
theorem d_x_Str_equals_22 : decode b_x_Str_equals 22 = .ok (.ifCond .eq 14, 3) := by decide +kernel
theorem d_x_Str_equals_25 : decode b_x_Str_equals 25 = .ok (.aload_n 0, 1) := by decide +kernel
theorem d_x_Str_equals_26 : decode b_x_Str_equals 26 = .ok (.getfield 15, 3) := by decide +kernel
theorem d_x_Str_equals_29 : decode b_x_Str_equals 29 = .ok (.aload_n 2, 1) := by decide +kernel
theorem d_x_Str_equals_30 : decode b_x_Str_equals 30 = .ok (.getfield 15, 3) := by decide +kernel
theorem d_x_Str_equals_33 : decode b_x_Str_equals 33 = .ok (.if_icmp .ne 21, 3) := by decide +kernel
theorem d_x_Str_equals_36 : decode b_x_Str_equals 36 = .ok (.aload_n 0, 1) := by decide +kernel
theorem d_x_Str_equals_37 : decode b_x_Str_equals 37 = .ok (.getfield 9, 3) := by decide +kernel
theorem d_x_Str_equals_40 : decode b_x_Str_equals 40 = .ok (.aload_n 2, 1) := by decide +kernel
theorem d_x_Str_equals_41 : decode b_x_Str_equals 41 = .ok (.getfield 9, 3) := by decide +kernel
theorem d_x_Str_equals_44 : decode b_x_Str_equals 44 = .ok (.invokestatic 541, 3) := by decide +kernel
theorem d_x_Str_equals_47 : decode b_x_Str_equals 47 = .ok (.ifCond .eq 7, 3) := by decide +kernel
theorem d_x_Str_equals_50 : decode b_x_Str_equals 50 = .ok (.iconst 1, 1) := by decide +kernel
theorem d_x_Str_equals_51 : decode b_x_Str_equals 51 = .ok (.goto 4, 3) := by decide +kernel
theorem d_x_Str_equals_54 : decode b_x_Str_equals 54 = .ok (.iconst 0, 1) := by decide +kernel
theorem d_x_Str_equals_55 : decode b_x_Str_equals 55 = .ok (.ireturn, 1) := by decide +kernel
theorem d_x_Str_length_0 : decode b_x_Str_length 0 = .ok (.aload_n 0, 1) := by decide +kernel
theorem d_x_Str_length_1 : decode b_x_Str_length 1 = .ok (.getfield 9, 3) := by decide +kernel
theorem d_x_Str_length_4 : decode b_x_Str_length 4 = .ok (.arraylength, 1) := by decide +kernel
theorem d_x_Str_length_5 : decode b_x_Str_length 5 = .ok (.aload_n 0, 1) := by decide +kernel
theorem d_x_Str_length_6 : decode b_x_Str_length 6 = .ok (.invokevirtual 335, 3) := by decide +kernel
theorem d_x_Str_length_9 : decode b_x_Str_length 9 = .ok (.ishr, 1) := by decide +kernel
theorem d_x_Str_length_10 : decode b_x_Str_length 10 = .ok (.ireturn, 1) := by decide +kernel
theorem d_x_L1_canEncodeI_0 : decode b_x_L1_canEncodeI 0 = .ok (.iload_n 0, 1) := by decide +kernel
theorem d_x_L1_canEncodeI_1 : decode b_x_L1_canEncodeI 1 = .ok (.ifCond .lt 14, 3) := by decide +kernel
theorem d_x_L1_canEncodeI_4 : decode b_x_L1_canEncodeI 4 = .ok (.iload_n 0, 1) := by decide +kernel
theorem d_x_L1_canEncodeI_5 : decode b_x_L1_canEncodeI 5 = .ok (.sipush 255, 3) := by decide +kernel
theorem d_x_L1_canEncodeI_8 : decode b_x_L1_canEncodeI 8 = .ok (.if_icmp .gt 7, 3) := by decide +kernel
theorem d_x_L1_canEncodeI_11 : decode b_x_L1_canEncodeI 11 = .ok (.iconst 1, 1) := by decide +kernel
theorem d_x_L1_canEncodeI_12 : decode b_x_L1_canEncodeI 12 = .ok (.goto 4, 3) := by decide +kernel
theorem d_x_L1_canEncodeI_15 : decode b_x_L1_canEncodeI 15 = .ok (.iconst 0, 1) := by decide +kernel
theorem d_x_L1_canEncodeI_16 : decode b_x_L1_canEncodeI 16 = .ok (.ireturn, 1) := by decide +kernel
theorem d_x_L1_indexOfChar_0 : decode b_x_L1_indexOfChar 0 = .ok (.iload_n 1, 1) := by decide +kernel
theorem d_x_L1_indexOfChar_1 : decode b_x_L1_indexOfChar 1 = .ok (.i2b, 1) := by decide +kernel
theorem d_x_L1_indexOfChar_2 : decode b_x_L1_indexOfChar 2 = .ok (.istore 4, 2) := by decide +kernel
theorem d_x_L1_indexOfChar_4 : decode b_x_L1_indexOfChar 4 = .ok (.iload_n 2, 1) := by decide +kernel
theorem d_x_L1_indexOfChar_5 : decode b_x_L1_indexOfChar 5 = .ok (.istore 5, 2) := by decide +kernel
theorem d_x_L1_indexOfChar_7 : decode b_x_L1_indexOfChar 7 = .ok (.iload 5, 2) := by decide +kernel
theorem d_x_L1_indexOfChar_9 : decode b_x_L1_indexOfChar 9 = .ok (.iload_n 3, 1) := by decide +kernel
theorem d_x_L1_indexOfChar_10 : decode b_x_L1_indexOfChar 10 = .ok (.if_icmp .ge 21, 3) := by decide +kernel
theorem d_x_L1_indexOfChar_13 : decode b_x_L1_indexOfChar 13 = .ok (.aload_n 0, 1) := by decide +kernel
theorem d_x_L1_indexOfChar_14 : decode b_x_L1_indexOfChar 14 = .ok (.iload 5, 2) := by decide +kernel
theorem d_x_L1_indexOfChar_16 : decode b_x_L1_indexOfChar 16 = .ok (.baload, 1) := by decide +kernel
theorem d_x_L1_indexOfChar_17 : decode b_x_L1_indexOfChar 17 = .ok (.iload 4, 2) := by decide +kernel
theorem d_x_L1_indexOfChar_19 : decode b_x_L1_indexOfChar 19 = .ok (.if_icmp .ne 6, 3) := by decide +kernel
theorem d_x_L1_indexOfChar_22 : decode b_x_L1_indexOfChar 22 = .ok (.iload 5, 2) := by decide +kernel
theorem d_x_L1_indexOfChar_24 : decode b_x_L1_indexOfChar 24 = .ok (.ireturn, 1) := by decide +kernel
theorem d_x_L1_indexOfChar_25 : decode b_x_L1_indexOfChar 25 = .ok (.iinc 5 1, 3) := by decide +kernel
theorem d_x_L1_indexOfChar_28 : decode b_x_L1_indexOfChar 28 = .ok (.goto (-21), 3) := by decide +kernel
theorem d_x_L1_indexOfChar_31 : decode b_x_L1_indexOfChar 31 = .ok (.iconst (-1), 1) := by decide +kernel
theorem d_x_L1_indexOfChar_32 : decode b_x_L1_indexOfChar 32 = .ok (.ireturn, 1) := by decide +kernel
theorem d_x_L1_indexOf_0 : decode b_x_L1_indexOf 0 = .ok (.iload_n 1, 1) := by decide +kernel
theorem d_x_L1_indexOf_1 : decode b_x_L1_indexOf 1 = .ok (.invokestatic 88, 3) := by decide +kernel
theorem d_x_L1_indexOf_4 : decode b_x_L1_indexOf 4 = .ok (.ifCond .ne 5, 3) := by decide +kernel
theorem d_x_L1_indexOf_7 : decode b_x_L1_indexOf 7 = .ok (.iconst (-1), 1) := by decide +kernel
theorem d_x_L1_indexOf_8 : decode b_x_L1_indexOf 8 = .ok (.ireturn, 1) := by decide +kernel
theorem d_x_L1_indexOf_9 : decode b_x_L1_indexOf 9 = .ok (.iload_n 2, 1) := by decide +kernel
theorem d_x_L1_indexOf_10 : decode b_x_L1_indexOf 10 = .ok (.iconst 0, 1) := by decide +kernel
theorem d_x_L1_indexOf_11 : decode b_x_L1_indexOf 11 = .ok (.invokestatic 92, 3) := by decide +kernel
theorem d_x_L1_indexOf_14 : decode b_x_L1_indexOf 14 = .ok (.istore_n 2, 1) := by decide +kernel
theorem d_x_L1_indexOf_15 : decode b_x_L1_indexOf 15 = .ok (.iload_n 3, 1) := by decide +kernel
theorem d_x_L1_indexOf_16 : decode b_x_L1_indexOf 16 = .ok (.aload_n 0, 1) := by decide +kernel
theorem d_x_L1_indexOf_17 : decode b_x_L1_indexOf 17 = .ok (.arraylength, 1) := by decide +kernel
theorem d_x_L1_indexOf_18 : decode b_x_L1_indexOf 18 = .ok (.invokestatic 38, 3) := by decide +kernel
theorem d_x_L1_indexOf_21 : decode b_x_L1_indexOf 21 = .ok (.istore_n 3, 1) := by decide +kernel
theorem d_x_L1_indexOf_22 : decode b_x_L1_indexOf 22 = .ok (.iload_n 2, 1) := by decide +kernel
theorem d_x_L1_indexOf_23 : decode b_x_L1_indexOf 23 = .ok (.iload_n 3, 1) := by decide +kernel
theorem d_x_L1_indexOf_24 : decode b_x_L1_indexOf 24 = .ok (.if_icmp .lt 5, 3) := by decide +kernel
theorem d_x_L1_indexOf_27 : decode b_x_L1_indexOf 27 = .ok (.iconst (-1), 1) := by decide +kernel
theorem d_x_L1_indexOf_28 : decode b_x_L1_indexOf 28 = .ok (.ireturn, 1) := by decide +kernel
theorem d_x_L1_indexOf_29 : decode b_x_L1_indexOf 29 = .ok (.aload_n 0, 1) := by decide +kernel
theorem d_x_L1_indexOf_30 : decode b_x_L1_indexOf 30 = .ok (.iload_n 1, 1) := by decide +kernel
theorem d_x_L1_indexOf_31 : decode b_x_L1_indexOf 31 = .ok (.iload_n 2, 1) := by decide +kernel
theorem d_x_L1_indexOf_32 : decode b_x_L1_indexOf 32 = .ok (.iload_n 3, 1) := by decide +kernel
theorem d_x_L1_indexOf_33 : decode b_x_L1_indexOf 33 = .ok (.invokestatic 95, 3) := by decide +kernel
theorem d_x_L1_indexOf_36 : decode b_x_L1_indexOf 36 = .ok (.ireturn, 1) := by decide +kernel
theorem d_x_Str_indexOf2_0 : decode b_x_Str_indexOf2 0 = .ok (.aload_n 0, 1) := by decide +kernel
theorem d_x_Str_indexOf2_1 : decode b_x_Str_indexOf2 1 = .ok (.invokevirtual 492, 3) := by decide +kernel
theorem d_x_Str_indexOf2_4 : decode b_x_Str_indexOf2 4 = .ok (.ifCond .eq 19, 3) := by decide +kernel
theorem d_x_Str_indexOf2_7 : decode b_x_Str_indexOf2 7 = .ok (.aload_n 0, 1) := by decide +kernel
theorem d_x_Str_indexOf2_8 : decode b_x_Str_indexOf2 8 = .ok (.getfield 9, 3) := by decide +kernel
theorem d_x_Str_indexOf2_11 : decode b_x_Str_indexOf2 11 = .ok (.iload_n 1, 1) := by decide +kernel
theorem d_x_Str_indexOf2_12 : decode b_x_Str_indexOf2 12 = .ok (.iload_n 2, 1) := by decide +kernel
theorem d_x_Str_indexOf2_13 : decode b_x_Str_indexOf2 13 = .ok (.aload_n 0, 1) := by decide +kernel
theorem d_x_Str_indexOf2_14 : decode b_x_Str_indexOf2 14 = .ok (.invokevirtual 505, 3) := by decide +kernel
theorem d_x_Str_indexOf2_17 : decode b_x_Str_indexOf2 17 = .ok (.invokestatic 637, 3) := by decide +kernel
theorem d_x_Str_indexOf2_20 : decode b_x_Str_indexOf2 20 = .ok (.goto 16, 3) := by decide +kernel
theorem d_x_Str_indexOf2_36 : decode b_x_Str_indexOf2 36 = .ok (.ireturn, 1) := by decide +kernel
theorem d_x_Str_indexOf_0 : decode b_x_Str_indexOf 0 = .ok (.aload_n 0, 1) := by decide +kernel
theorem d_x_Str_indexOf_1 : decode b_x_Str_indexOf 1 = .ok (.iload_n 1, 1) := by decide +kernel
theorem d_x_Str_indexOf_2 : decode b_x_Str_indexOf 2 = .ok (.iconst 0, 1) := by decide +kernel
theorem d_x_Str_indexOf_3 : decode b_x_Str_indexOf 3 = .ok (.invokevirtual 633, 3) := by decide +kernel
theorem d_x_Str_indexOf_6 : decode b_x_Str_indexOf 6 = .ok (.ireturn, 1) := by decide +kernel
theorem d_x_Math_floorMod_0 : decode b_x_Math_floorMod 0 = .ok (.iload_n 0, 1) := by decide +kernel
theorem d_x_Math_floorMod_1 : decode b_x_Math_floorMod 1 = .ok (.iload_n 1, 1) := by decide +kernel
theorem d_x_Math_floorMod_2 : decode b_x_Math_floorMod 2 = .ok (.irem, 1) := by decide +kernel
theorem d_x_Math_floorMod_3 : decode b_x_Math_floorMod 3 = .ok (.istore_n 2, 1) := by decide +kernel
theorem d_x_Math_floorMod_4 : decode b_x_Math_floorMod 4 = .ok (.iload_n 0, 1) := by decide +kernel
theorem d_x_Math_floorMod_5 : decode b_x_Math_floorMod 5 = .ok (.iload_n 1, 1) := by decide +kernel
theorem d_x_Math_floorMod_6 : decode b_x_Math_floorMod 6 = .ok (.ixor, 1) := by decide +kernel
theorem d_x_Math_floorMod_7 : decode b_x_Math_floorMod 7 = .ok (.ifCond .ge 11, 3) := by decide +kernel
theorem d_x_Math_floorMod_10 : decode b_x_Math_floorMod 10 = .ok (.iload_n 2, 1) := by decide +kernel
theorem d_x_Math_floorMod_11 : decode b_x_Math_floorMod 11 = .ok (.ifCond .eq 7, 3) := by decide +kernel
theorem d_x_Math_floorMod_14 : decode b_x_Math_floorMod 14 = .ok (.iload_n 2, 1) := by decide +kernel
theorem d_x_Math_floorMod_15 : decode b_x_Math_floorMod 15 = .ok (.iload_n 1, 1) := by decide +kernel
theorem d_x_Math_floorMod_16 : decode b_x_Math_floorMod 16 = .ok (.iadd, 1) := by decide +kernel
theorem d_x_Math_floorMod_17 : decode b_x_Math_floorMod 17 = .ok (.ireturn, 1) := by decide +kernel
theorem d_x_Math_floorMod_18 : decode b_x_Math_floorMod 18 = .ok (.iload_n 2, 1) := by decide +kernel
theorem d_x_Math_floorMod_19 : decode b_x_Math_floorMod 19 = .ok (.ireturn, 1) := by decide +kernel
theorem d_x_Enum_ordinal_0 : decode b_x_Enum_ordinal 0 = .ok (.aload_n 0, 1) := by decide +kernel
theorem d_x_Enum_ordinal_1 : decode b_x_Enum_ordinal 1 = .ok (.getfield 7, 3) := by decide +kernel
theorem d_x_Enum_ordinal_4 : decode b_x_Enum_ordinal 4 = .ok (.ireturn, 1) := by decide +kernel
theorem d_x_Rdr_init_0 : decode b_x_Rdr_init 0 = .ok (.aload_n 0, 1) := by decide +kernel
theorem d_x_Rdr_init_1 : decode b_x_Rdr_init 1 = .ok (.invokespecial 3, 3) := by decide +kernel
theorem d_x_Rdr_init_4 : decode b_x_Rdr_init 4 = .ok (.aload_n 0, 1) := by decide +kernel
theorem d_x_Rdr_init_5 : decode b_x_Rdr_init 5 = .ok (.bipush 64, 2) := by decide +kernel
theorem d_x_Rdr_init_7 : decode b_x_Rdr_init 7 = .ok (.anewarray 9, 3) := by decide +kernel
theorem d_x_Rdr_init_10 : decode b_x_Rdr_init 10 = .ok (.putfield 11, 3) := by decide +kernel
theorem d_x_Rdr_init_13 : decode b_x_Rdr_init 13 = .ok (.aload_n 0, 1) := by decide +kernel
theorem d_x_Rdr_init_14 : decode b_x_Rdr_init 14 = .ok (.bipush 64, 2) := by decide +kernel
theorem d_x_Rdr_init_16 : decode b_x_Rdr_init 16 = .ok (.newarray .int, 2) := by decide +kernel
theorem d_x_Rdr_init_18 : decode b_x_Rdr_init 18 = .ok (.putfield 17, 3) := by decide +kernel
theorem d_x_Rdr_init_21 : decode b_x_Rdr_init 21 = .ok (.return_, 1) := by decide +kernel
theorem d_x_Cell_init_0 : decode b_x_Cell_init 0 = .ok (.aload_n 0, 1) := by decide +kernel
theorem d_x_Cell_init_1 : decode b_x_Cell_init 1 = .ok (.invokespecial 1, 3) := by decide +kernel
theorem d_x_Cell_init_4 : decode b_x_Cell_init 4 = .ok (.aload_n 0, 1) := by decide +kernel
theorem d_x_Cell_init_5 : decode b_x_Cell_init 5 = .ok (.iconst 1, 1) := by decide +kernel
theorem d_x_Cell_init_6 : decode b_x_Cell_init 6 = .ok (.putfield 7, 3) := by decide +kernel
theorem d_x_Cell_init_9 : decode b_x_Cell_init 9 = .ok (.aload_n 0, 1) := by decide +kernel
theorem d_x_Cell_init_10 : decode b_x_Cell_init 10 = .ok (.iload_n 1, 1) := by decide +kernel
theorem d_x_Cell_init_11 : decode b_x_Cell_init 11 = .ok (.putfield 13, 3) := by decide +kernel
theorem d_x_Cell_init_14 : decode b_x_Cell_init 14 = .ok (.return_, 1) := by decide +kernel
theorem d_x_NS_init_0 : decode b_x_NS_init 0 = .ok (.aload_n 0, 1) := by decide +kernel
theorem d_x_NS_init_1 : decode b_x_NS_init 1 = .ok (.invokespecial 1, 3) := by decide +kernel
theorem d_x_NS_init_4 : decode b_x_NS_init 4 = .ok (.aload_n 0, 1) := by decide +kernel
theorem d_x_NS_init_5 : decode b_x_NS_init 5 = .ok (.bipush 12, 2) := by decide +kernel
theorem d_x_NS_init_7 : decode b_x_NS_init 7 = .ok (.anewarray 9, 3) := by decide +kernel
theorem d_x_NS_init_10 : decode b_x_NS_init 10 = .ok (.putfield 11, 3) := by decide +kernel
theorem d_x_NS_init_13 : decode b_x_NS_init 13 = .ok (.aload_n 0, 1) := by decide +kernel
theorem d_x_NS_init_14 : decode b_x_NS_init 14 = .ok (.new 15, 3) := by decide +kernel
theorem d_x_NS_init_17 : decode b_x_NS_init 17 = .ok (.dup, 1) := by decide +kernel
theorem d_x_NS_init_18 : decode b_x_NS_init 18 = .ok (.invokespecial 17, 3) := by decide +kernel
theorem d_x_NS_init_21 : decode b_x_NS_init 21 = .ok (.putfield 18, 3) := by decide +kernel
theorem d_x_NS_init_24 : decode b_x_NS_init 24 = .ok (.aload_n 0, 1) := by decide +kernel
theorem d_x_NS_init_25 : decode b_x_NS_init 25 = .ok (.new 22, 3) := by decide +kernel
theorem d_x_NS_init_28 : decode b_x_NS_init 28 = .ok (.dup, 1) := by decide +kernel
theorem d_x_NS_init_29 : decode b_x_NS_init 29 = .ok (.invokespecial 24, 3) := by decide +kernel
theorem d_x_NS_init_32 : decode b_x_NS_init 32 = .ok (.putfield 25, 3) := by decide +kernel
theorem d_x_NS_init_35 : decode b_x_NS_init 35 = .ok (.aload_n 0, 1) := by decide +kernel
theorem d_x_NS_init_36 : decode b_x_NS_init 36 = .ok (.iconst 1, 1) := by decide +kernel
theorem d_x_NS_init_37 : decode b_x_NS_init 37 = .ok (.putfield 29, 3) := by decide +kernel
theorem d_x_NS_init_40 : decode b_x_NS_init 40 = .ok (.aload_n 0, 1) := by decide +kernel
theorem d_x_NS_init_41 : decode b_x_NS_init 41 = .ok (.iconst 3, 1) := by decide +kernel
theorem d_x_NS_init_42 : decode b_x_NS_init 42 = .ok (.newarray .int, 2) := by decide +kernel
theorem d_x_NS_init_44 : decode b_x_NS_init 44 = .ok (.putfield 33, 3) := by decide +kernel
theorem d_x_NS_init_47 : decode b_x_NS_init 47 = .ok (.aload_n 0, 1) := by decide +kernel
theorem d_x_NS_init_48 : decode b_x_NS_init 48 = .ok (.iload_n 1, 1) := by decide +kernel
theorem d_x_NS_init_49 : decode b_x_NS_init 49 = .ok (.iconst 1, 1) := by decide +kernel
theorem d_x_NS_init_50 : decode b_x_NS_init 50 = .ok (.if_icmp .ge 7, 3) := by decide +kernel
theorem d_x_NS_init_53 : decode b_x_NS_init 53 = .ok (.iconst 1, 1) := by decide +kernel
theorem d_x_NS_init_54 : decode b_x_NS_init 54 = .ok (.goto 15, 3) := by decide +kernel
theorem d_x_NS_init_57 : decode b_x_NS_init 57 = .ok (.iload_n 1, 1) := by decide +kernel
theorem d_x_NS_init_58 : decode b_x_NS_init 58 = .ok (.bipush 12, 2) := by decide +kernel
theorem d_x_NS_init_60 : decode b_x_NS_init 60 = .ok (.if_icmp .le 8, 3) := by decide +kernel
theorem d_x_NS_init_63 : decode b_x_NS_init 63 = .ok (.bipush 12, 2) := by decide +kernel
theorem d_x_NS_init_65 : decode b_x_NS_init 65 = .ok (.goto 4, 3) := by decide +kernel
theorem d_x_NS_init_68 : decode b_x_NS_init 68 = .ok (.iload_n 1, 1) := by decide +kernel
theorem d_x_NS_init_69 : decode b_x_NS_init 69 = .ok (.putfield 37, 3) := by decide +kernel
theorem d_x_NS_init_72 : decode b_x_NS_init 72 = .ok (.iconst 0, 1) := by decide +kernel
theorem d_x_NS_init_73 : decode b_x_NS_init 73 = .ok (.istore_n 2, 1) := by decide +kernel
theorem d_x_NS_init_74 : decode b_x_NS_init 74 = .ok (.iload_n 2, 1) := by decide +kernel
theorem d_x_NS_init_75 : decode b_x_NS_init 75 = .ok (.bipush 12, 2) := by decide +kernel
theorem d_x_NS_init_77 : decode b_x_NS_init 77 = .ok (.if_icmp .ge 23, 3) := by decide +kernel
theorem d_x_NS_init_80 : decode b_x_NS_init 80 = .ok (.aload_n 0, 1) := by decide +kernel
theorem d_x_NS_init_81 : decode b_x_NS_init 81 = .ok (.getfield 11, 3) := by decide +kernel
theorem d_x_NS_init_84 : decode b_x_NS_init 84 = .ok (.iload_n 2, 1) := by decide +kernel
theorem d_x_NS_init_85 : decode b_x_NS_init 85 = .ok (.new 9, 3) := by decide +kernel
theorem d_x_NS_init_88 : decode b_x_NS_init 88 = .ok (.dup, 1) := by decide +kernel
theorem d_x_NS_init_89 : decode b_x_NS_init 89 = .ok (.iload_n 2, 1) := by decide +kernel
theorem d_x_NS_init_90 : decode b_x_NS_init 90 = .ok (.invokespecial 40, 3) := by decide +kernel
theorem d_x_NS_init_93 : decode b_x_NS_init 93 = .ok (.aastore, 1) := by decide +kernel
theorem d_x_NS_init_94 : decode b_x_NS_init 94 = .ok (.iinc 2 1, 3) := by decide +kernel
theorem d_x_NS_init_97 : decode b_x_NS_init 97 = .ok (.goto (-23), 3) := by decide +kernel
theorem d_x_NS_init_100 : decode b_x_NS_init 100 = .ok (.return_, 1) := by decide +kernel
theorem d_x_NS_type_0 : decode b_x_NS_type 0 = .ok (.iload_n 1, 1) := by decide +kernel
theorem d_x_NS_type_1 : decode b_x_NS_type 1 = .ok (.bipush 65, 2) := by decide +kernel
theorem d_x_NS_type_3 : decode b_x_NS_type 3 = .ok (.if_icmp .lt 9, 3) := by decide +kernel
theorem d_x_NS_type_6 : decode b_x_NS_type 6 = .ok (.iload_n 1, 1) := by decide +kernel
theorem d_x_NS_type_7 : decode b_x_NS_type 7 = .ok (.bipush 76, 2) := by decide +kernel
theorem d_x_NS_type_9 : decode b_x_NS_type 9 = .ok (.if_icmp .le 28, 3) := by decide +kernel
theorem d_x_NS_type_12 : decode b_x_NS_type 12 = .ok (.iload_n 1, 1) := by decide +kernel
theorem d_x_NS_type_13 : decode b_x_NS_type 13 = .ok (.bipush 48, 2) := by decide +kernel
theorem d_x_NS_type_15 : decode b_x_NS_type 15 = .ok (.if_icmp .lt 9, 3) := by decide +kernel
theorem d_x_NS_type_18 : decode b_x_NS_type 18 = .ok (.iload_n 1, 1) := by decide +kernel
theorem d_x_NS_type_19 : decode b_x_NS_type 19 = .ok (.bipush 57, 2) := by decide +kernel
theorem d_x_NS_type_21 : decode b_x_NS_type 21 = .ok (.if_icmp .le 16, 3) := by decide +kernel
theorem d_x_NS_type_24 : decode b_x_NS_type 24 = .ok (.iload_n 1, 1) := by decide +kernel
theorem d_x_NS_type_25 : decode b_x_NS_type 25 = .ok (.ifCond .le 16, 3) := by decide +kernel
theorem d_x_NS_type_28 : decode b_x_NS_type 28 = .ok (.ldc 43, 2) := by decide +kernel
theorem d_x_NS_type_30 : decode b_x_NS_type 30 = .ok (.iload_n 1, 1) := by decide +kernel
theorem d_x_NS_type_31 : decode b_x_NS_type 31 = .ok (.invokevirtual 45, 3) := by decide +kernel
theorem d_x_NS_type_34 : decode b_x_NS_type 34 = .ok (.ifCond .lt 7, 3) := by decide +kernel
theorem d_x_NS_type_37 : decode b_x_NS_type 37 = .ok (.iconst 1, 1) := by decide +kernel
theorem d_x_NS_type_38 : decode b_x_NS_type 38 = .ok (.goto 4, 3) := by decide +kernel
theorem d_x_NS_type_41 : decode b_x_NS_type 41 = .ok (.iconst 0, 1) := by decide +kernel
theorem d_x_NS_type_42 : decode b_x_NS_type 42 = .ok (.istore_n 2, 1) := by decide +kernel
theorem d_x_NS_type_43 : decode b_x_NS_type 43 = .ok (.iload_n 2, 1) := by decide +kernel
theorem d_x_NS_type_44 : decode b_x_NS_type 44 = .ok (.ifCond .eq 15, 3) := by decide +kernel
theorem d_x_NS_type_47 : decode b_x_NS_type 47 = .ok (.aload_n 0, 1) := by decide +kernel
theorem d_x_NS_type_48 : decode b_x_NS_type 48 = .ok (.getfield 18, 3) := by decide +kernel
theorem d_x_NS_type_51 : decode b_x_NS_type 51 = .ok (.invokevirtual 51, 3) := by decide +kernel
theorem d_x_NS_type_54 : decode b_x_NS_type 54 = .ok (.bipush 30, 2) := by decide +kernel
theorem d_x_NS_type_56 : decode b_x_NS_type 56 = .ok (.if_icmp .lt 5, 3) := by decide +kernel
theorem d_x_NS_type_59 : decode b_x_NS_type 59 = .ok (.iconst 0, 1) := by decide +kernel
theorem d_x_NS_type_60 : decode b_x_NS_type 60 = .ok (.ireturn, 1) := by decide +kernel
theorem d_x_NS_type_61 : decode b_x_NS_type 61 = .ok (.aload_n 0, 1) := by decide +kernel
theorem d_x_NS_type_62 : decode b_x_NS_type 62 = .ok (.getfield 18, 3) := by decide +kernel
theorem d_x_NS_type_65 : decode b_x_NS_type 65 = .ok (.iload_n 1, 1) := by decide +kernel
theorem d_x_NS_type_66 : decode b_x_NS_type 66 = .ok (.invokevirtual 55, 3) := by decide +kernel
theorem d_x_NS_type_69 : decode b_x_NS_type 69 = .ok (.pop, 1) := by decide +kernel
theorem d_x_NS_type_70 : decode b_x_NS_type 70 = .ok (.iconst 1, 1) := by decide +kernel
theorem d_x_NS_type_71 : decode b_x_NS_type 71 = .ok (.ireturn, 1) := by decide +kernel
theorem d_x_NS_cell_0 : decode b_x_NS_cell 0 = .ok (.iload_n 1, 1) := by decide +kernel
theorem d_x_NS_cell_1 : decode b_x_NS_cell 1 = .ok (.ifCond .lt 9, 3) := by decide +kernel
theorem d_x_NS_cell_4 : decode b_x_NS_cell 4 = .ok (.iload_n 1, 1) := by decide +kernel
theorem d_x_NS_cell_5 : decode b_x_NS_cell 5 = .ok (.bipush 12, 2) := by decide +kernel
theorem d_x_NS_cell_7 : decode b_x_NS_cell 7 = .ok (.if_icmp .lt 7, 3) := by decide +kernel
theorem d_x_NS_cell_10 : decode b_x_NS_cell 10 = .ok (.aconst_null, 1) := by decide +kernel
theorem d_x_NS_cell_11 : decode b_x_NS_cell 11 = .ok (.goto 9, 3) := by decide +kernel
theorem d_x_NS_cell_14 : decode b_x_NS_cell 14 = .ok (.aload_n 0, 1) := by decide +kernel
theorem d_x_NS_cell_15 : decode b_x_NS_cell 15 = .ok (.getfield 11, 3) := by decide +kernel
theorem d_x_NS_cell_18 : decode b_x_NS_cell 18 = .ok (.iload_n 1, 1) := by decide +kernel
theorem d_x_NS_cell_19 : decode b_x_NS_cell 19 = .ok (.aaload, 1) := by decide +kernel
theorem d_x_NS_cell_20 : decode b_x_NS_cell 20 = .ok (.areturn, 1) := by decide +kernel
theorem d_x_NS_change_0 : decode b_x_NS_change 0 = .ok (.aload_n 0, 1) := by decide +kernel
theorem d_x_NS_change_1 : decode b_x_NS_change 1 = .ok (.dup, 1) := by decide +kernel
theorem d_x_NS_change_2 : decode b_x_NS_change 2 = .ok (.getfield 29, 3) := by decide +kernel
theorem d_x_NS_change_5 : decode b_x_NS_change 5 = .ok (.iconst 1, 1) := by decide +kernel
theorem d_x_NS_change_6 : decode b_x_NS_change 6 = .ok (.iadd, 1) := by decide +kernel
theorem d_x_NS_change_7 : decode b_x_NS_change 7 = .ok (.putfield 29, 3) := by decide +kernel
theorem d_x_NS_change_10 : decode b_x_NS_change 10 = .ok (.iconst 0, 1) := by decide +kernel
theorem d_x_NS_change_11 : decode b_x_NS_change 11 = .ok (.istore_n 2, 1) := by decide +kernel
theorem d_x_NS_change_12 : decode b_x_NS_change 12 = .ok (.iload_n 2, 1) := by decide +kernel
theorem d_x_NS_change_13 : decode b_x_NS_change 13 = .ok (.iload_n 1, 1) := by decide +kernel
theorem d_x_NS_change_14 : decode b_x_NS_change 14 = .ok (.if_icmp .gt 19, 3) := by decide +kernel
theorem d_x_NS_change_17 : decode b_x_NS_change 17 = .ok (.aload_n 0, 1) := by decide +kernel
theorem d_x_NS_change_18 : decode b_x_NS_change 18 = .ok (.getfield 33, 3) := by decide +kernel
theorem d_x_NS_change_21 : decode b_x_NS_change 21 = .ok (.iload_n 2, 1) := by decide +kernel
theorem d_x_NS_change_22 : decode b_x_NS_change 22 = .ok (.aload_n 0, 1) := by decide +kernel
theorem d_x_NS_change_23 : decode b_x_NS_change 23 = .ok (.getfield 29, 3) := by decide +kernel
theorem d_x_NS_change_26 : decode b_x_NS_change 26 = .ok (.iastore, 1) := by decide +kernel
theorem d_x_NS_change_27 : decode b_x_NS_change 27 = .ok (.iinc 2 1, 3) := by decide +kernel
theorem d_x_NS_change_30 : decode b_x_NS_change 30 = .ok (.goto (-18), 3) := by decide +kernel
theorem d_x_NS_change_33 : decode b_x_NS_change 33 = .ok (.return_, 1) := by decide +kernel
theorem d_x_Rdr_peek_0 : decode b_x_Rdr_peek 0 = .ok (.aload_n 0, 1) := by decide +kernel
theorem d_x_Rdr_peek_1 : decode b_x_Rdr_peek 1 = .ok (.getfield 21, 3) := by decide +kernel
theorem d_x_Rdr_peek_4 : decode b_x_Rdr_peek 4 = .ok (.aload_n 0, 1) := by decide +kernel
theorem d_x_Rdr_peek_5 : decode b_x_Rdr_peek 5 = .ok (.getfield 25, 3) := by decide +kernel
theorem d_x_Rdr_peek_8 : decode b_x_Rdr_peek 8 = .ok (.invokevirtual 29, 3) := by decide +kernel
theorem d_x_Rdr_peek_11 : decode b_x_Rdr_peek 11 = .ok (.if_icmp .ge 24, 3) := by decide +kernel
theorem d_x_Rdr_peek_14 : decode b_x_Rdr_peek 14 = .ok (.aload_n 0, 1) := by decide +kernel
theorem d_x_Rdr_peek_15 : decode b_x_Rdr_peek 15 = .ok (.getfield 35, 3) := by decide +kernel
theorem d_x_Rdr_peek_18 : decode b_x_Rdr_peek 18 = .ok (.ifCond .ne 17, 3) := by decide +kernel
theorem d_x_Rdr_peek_21 : decode b_x_Rdr_peek 21 = .ok (.aload_n 0, 1) := by decide +kernel
theorem d_x_Rdr_peek_22 : decode b_x_Rdr_peek 22 = .ok (.getfield 25, 3) := by decide +kernel
theorem d_x_Rdr_peek_25 : decode b_x_Rdr_peek 25 = .ok (.aload_n 0, 1) := by decide +kernel
theorem d_x_Rdr_peek_26 : decode b_x_Rdr_peek 26 = .ok (.getfield 21, 3) := by decide +kernel
theorem d_x_Rdr_peek_29 : decode b_x_Rdr_peek 29 = .ok (.invokevirtual 39, 3) := by decide +kernel
theorem d_x_Rdr_peek_32 : decode b_x_Rdr_peek 32 = .ok (.goto 4, 3) := by decide +kernel
theorem d_x_Rdr_peek_35 : decode b_x_Rdr_peek 35 = .ok (.iconst 0, 1) := by decide +kernel
theorem d_x_Rdr_peek_36 : decode b_x_Rdr_peek 36 = .ok (.ireturn, 1) := by decide +kernel
theorem d_x_Rdr_takes_0 : decode b_x_Rdr_takes 0 = .ok (.aload_n 0, 1) := by decide +kernel
theorem d_x_Rdr_takes_1 : decode b_x_Rdr_takes 1 = .ok (.invokevirtual 43, 3) := by decide +kernel
theorem d_x_Rdr_takes_4 : decode b_x_Rdr_takes 4 = .ok (.iload_n 1, 1) := by decide +kernel
theorem d_x_Rdr_takes_5 : decode b_x_Rdr_takes 5 = .ok (.if_icmp .ne 7, 3) := by decide +kernel
theorem d_x_Rdr_takes_8 : decode b_x_Rdr_takes 8 = .ok (.iconst 1, 1) := by decide +kernel
theorem d_x_Rdr_takes_9 : decode b_x_Rdr_takes 9 = .ok (.goto 4, 3) := by decide +kernel
theorem d_x_Rdr_takes_12 : decode b_x_Rdr_takes 12 = .ok (.iconst 0, 1) := by decide +kernel
theorem d_x_Rdr_takes_13 : decode b_x_Rdr_takes 13 = .ok (.istore_n 2, 1) := by decide +kernel
theorem d_x_Rdr_takes_14 : decode b_x_Rdr_takes 14 = .ok (.aload_n 0, 1) := by decide +kernel
theorem d_x_Rdr_takes_15 : decode b_x_Rdr_takes 15 = .ok (.dup, 1) := by decide +kernel
theorem d_x_Rdr_takes_16 : decode b_x_Rdr_takes 16 = .ok (.getfield 21, 3) := by decide +kernel
theorem d_x_Rdr_takes_19 : decode b_x_Rdr_takes 19 = .ok (.iload_n 2, 1) := by decide +kernel
theorem d_x_Rdr_takes_20 : decode b_x_Rdr_takes 20 = .ok (.ifCond .eq 7, 3) := by decide +kernel
theorem d_x_Rdr_takes_23 : decode b_x_Rdr_takes 23 = .ok (.iconst 1, 1) := by decide +kernel
theorem d_x_Rdr_takes_24 : decode b_x_Rdr_takes 24 = .ok (.goto 4, 3) := by decide +kernel
theorem d_x_Rdr_takes_27 : decode b_x_Rdr_takes 27 = .ok (.iconst 0, 1) := by decide +kernel
theorem d_x_Rdr_takes_28 : decode b_x_Rdr_takes 28 = .ok (.iadd, 1) := by decide +kernel
theorem d_x_Rdr_takes_29 : decode b_x_Rdr_takes 29 = .ok (.putfield 21, 3) := by decide +kernel
theorem d_x_Rdr_takes_32 : decode b_x_Rdr_takes 32 = .ok (.iload_n 2, 1) := by decide +kernel
theorem d_x_Rdr_takes_33 : decode b_x_Rdr_takes 33 = .ok (.ireturn, 1) := by decide +kernel
theorem d_x_Rdr_put_0 : decode b_x_Rdr_put 0 = .ok (.aload_n 0, 1) := by decide +kernel
theorem d_x_Rdr_put_1 : decode b_x_Rdr_put 1 = .ok (.getfield 11, 3) := by decide +kernel
theorem d_x_Rdr_put_4 : decode b_x_Rdr_put 4 = .ok (.aload_n 0, 1) := by decide +kernel
theorem d_x_Rdr_put_5 : decode b_x_Rdr_put 5 = .ok (.getfield 47, 3) := by decide +kernel
theorem d_x_Rdr_put_8 : decode b_x_Rdr_put 8 = .ok (.aload_n 1, 1) := by decide +kernel
theorem d_x_Rdr_put_9 : decode b_x_Rdr_put 9 = .ok (.aastore, 1) := by decide +kernel
theorem d_x_Rdr_put_10 : decode b_x_Rdr_put 10 = .ok (.aload_n 0, 1) := by decide +kernel
theorem d_x_Rdr_put_11 : decode b_x_Rdr_put 11 = .ok (.getfield 17, 3) := by decide +kernel
theorem d_x_Rdr_put_14 : decode b_x_Rdr_put 14 = .ok (.aload_n 0, 1) := by decide +kernel
theorem d_x_Rdr_put_15 : decode b_x_Rdr_put 15 = .ok (.getfield 47, 3) := by decide +kernel
theorem d_x_Rdr_put_18 : decode b_x_Rdr_put 18 = .ok (.iload_n 2, 1) := by decide +kernel
theorem d_x_Rdr_put_19 : decode b_x_Rdr_put 19 = .ok (.iastore, 1) := by decide +kernel
theorem d_x_Rdr_put_20 : decode b_x_Rdr_put 20 = .ok (.aload_n 0, 1) := by decide +kernel
theorem d_x_Rdr_put_21 : decode b_x_Rdr_put 21 = .ok (.dup, 1) := by decide +kernel
theorem d_x_Rdr_put_22 : decode b_x_Rdr_put 22 = .ok (.getfield 47, 3) := by decide +kernel
theorem d_x_Rdr_put_25 : decode b_x_Rdr_put 25 = .ok (.iconst 1, 1) := by decide +kernel
theorem d_x_Rdr_put_26 : decode b_x_Rdr_put 26 = .ok (.iadd, 1) := by decide +kernel
theorem d_x_Rdr_put_27 : decode b_x_Rdr_put 27 = .ok (.putfield 47, 3) := by decide +kernel
theorem d_x_Rdr_put_30 : decode b_x_Rdr_put 30 = .ok (.aload_n 0, 1) := by decide +kernel
theorem d_x_Rdr_put_31 : decode b_x_Rdr_put 31 = .ok (.getfield 47, 3) := by decide +kernel
theorem d_x_Rdr_put_34 : decode b_x_Rdr_put 34 = .ok (.iconst 1, 1) := by decide +kernel
theorem d_x_Rdr_put_35 : decode b_x_Rdr_put 35 = .ok (.isub, 1) := by decide +kernel
theorem d_x_Rdr_put_36 : decode b_x_Rdr_put 36 = .ok (.ireturn, 1) := by decide +kernel
theorem d_x_Rdr_need_0 : decode b_x_Rdr_need 0 = .ok (.aload_n 0, 1) := by decide +kernel
theorem d_x_Rdr_need_1 : decode b_x_Rdr_need 1 = .ok (.aload_n 0, 1) := by decide +kernel
theorem d_x_Rdr_need_2 : decode b_x_Rdr_need 2 = .ok (.getfield 35, 3) := by decide +kernel
theorem d_x_Rdr_need_5 : decode b_x_Rdr_need 5 = .ok (.ifCond .ne 11, 3) := by decide +kernel
theorem d_x_Rdr_need_8 : decode b_x_Rdr_need 8 = .ok (.aload_n 0, 1) := by decide +kernel
theorem d_x_Rdr_need_9 : decode b_x_Rdr_need 9 = .ok (.iload_n 1, 1) := by decide +kernel
theorem d_x_Rdr_need_10 : decode b_x_Rdr_need 10 = .ok (.invokevirtual 50, 3) := by decide +kernel
theorem d_x_Rdr_need_13 : decode b_x_Rdr_need 13 = .ok (.ifCond .ne 7, 3) := by decide +kernel
theorem d_x_Rdr_need_16 : decode b_x_Rdr_need 16 = .ok (.iconst 1, 1) := by decide +kernel
theorem d_x_Rdr_need_17 : decode b_x_Rdr_need 17 = .ok (.goto 4, 3) := by decide +kernel
theorem d_x_Rdr_need_20 : decode b_x_Rdr_need 20 = .ok (.iconst 0, 1) := by decide +kernel
theorem d_x_Rdr_need_21 : decode b_x_Rdr_need 21 = .ok (.putfield 35, 3) := by decide +kernel
theorem d_x_Rdr_need_24 : decode b_x_Rdr_need 24 = .ok (.return_, 1) := by decide +kernel
theorem d_x_Rdr_formula_0 : decode b_x_Rdr_formula 0 = .ok (.aload_n 0, 1) := by decide +kernel
theorem d_x_Rdr_formula_1 : decode b_x_Rdr_formula 1 = .ok (.iload_n 1, 1) := by decide +kernel
theorem d_x_Rdr_formula_2 : decode b_x_Rdr_formula 2 = .ok (.invokevirtual 54, 3) := by decide +kernel
theorem d_x_Rdr_formula_5 : decode b_x_Rdr_formula 5 = .ok (.aload_n 0, 1) := by decide +kernel
theorem d_x_Rdr_formula_6 : decode b_x_Rdr_formula 6 = .ok (.bipush 63, 2) := by decide +kernel
theorem d_x_Rdr_formula_8 : decode b_x_Rdr_formula 8 = .ok (.invokevirtual 50, 3) := by decide +kernel
theorem d_x_Rdr_formula_11 : decode b_x_Rdr_formula 11 = .ok (.ifCond .ne 4, 3) := by decide +kernel
theorem d_x_Rdr_formula_14 : decode b_x_Rdr_formula 14 = .ok (.return_, 1) := by decide +kernel
theorem d_x_Rdr_formula_15 : decode b_x_Rdr_formula 15 = .ok (.aload_n 0, 1) := by decide +kernel
theorem d_x_Rdr_formula_16 : decode b_x_Rdr_formula 16 = .ok (.getstatic 58, 3) := by decide +kernel
theorem d_x_Rdr_formula_19 : decode b_x_Rdr_formula 19 = .ok (.iconst 0, 1) := by decide +kernel
theorem d_x_Rdr_formula_20 : decode b_x_Rdr_formula 20 = .ok (.invokevirtual 62, 3) := by decide +kernel
theorem d_x_Rdr_formula_23 : decode b_x_Rdr_formula 23 = .ok (.istore_n 2, 1) := by decide +kernel
theorem d_x_Rdr_formula_24 : decode b_x_Rdr_formula 24 = .ok (.aload_n 0, 1) := by decide +kernel
theorem d_x_Rdr_formula_25 : decode b_x_Rdr_formula 25 = .ok (.iload_n 1, 1) := by decide +kernel
theorem d_x_Rdr_formula_26 : decode b_x_Rdr_formula 26 = .ok (.invokevirtual 66, 3) := by decide +kernel
theorem d_x_Rdr_formula_29 : decode b_x_Rdr_formula 29 = .ok (.aload_n 0, 1) := by decide +kernel
theorem d_x_Rdr_formula_30 : decode b_x_Rdr_formula 30 = .ok (.bipush 58, 2) := by decide +kernel
theorem d_x_Rdr_formula_32 : decode b_x_Rdr_formula 32 = .ok (.invokevirtual 69, 3) := by decide +kernel
theorem d_x_Rdr_formula_35 : decode b_x_Rdr_formula 35 = .ok (.aload_n 0, 1) := by decide +kernel
theorem d_x_Rdr_formula_36 : decode b_x_Rdr_formula 36 = .ok (.getstatic 73, 3) := by decide +kernel
theorem d_x_Rdr_formula_39 : decode b_x_Rdr_formula 39 = .ok (.iconst 0, 1) := by decide +kernel
theorem d_x_Rdr_formula_40 : decode b_x_Rdr_formula 40 = .ok (.invokevirtual 62, 3) := by decide +kernel
theorem d_x_Rdr_formula_43 : decode b_x_Rdr_formula 43 = .ok (.istore_n 3, 1) := by decide +kernel
theorem d_x_Rdr_formula_44 : decode b_x_Rdr_formula 44 = .ok (.aload_n 0, 1) := by decide +kernel
theorem d_x_Rdr_formula_45 : decode b_x_Rdr_formula 45 = .ok (.getfield 17, 3) := by decide +kernel
theorem d_x_Rdr_formula_48 : decode b_x_Rdr_formula 48 = .ok (.iload_n 2, 1) := by decide +kernel
theorem d_x_Rdr_formula_49 : decode b_x_Rdr_formula 49 = .ok (.aload_n 0, 1) := by decide +kernel
theorem d_x_Rdr_formula_50 : decode b_x_Rdr_formula 50 = .ok (.getfield 47, 3) := by decide +kernel
theorem d_x_Rdr_formula_53 : decode b_x_Rdr_formula 53 = .ok (.iastore, 1) := by decide +kernel
theorem d_x_Rdr_formula_54 : decode b_x_Rdr_formula 54 = .ok (.aload_n 0, 1) := by decide +kernel
theorem d_x_Rdr_formula_55 : decode b_x_Rdr_formula 55 = .ok (.iload_n 1, 1) := by decide +kernel
theorem d_x_Rdr_formula_56 : decode b_x_Rdr_formula 56 = .ok (.invokevirtual 66, 3) := by decide +kernel
theorem d_x_Rdr_formula_59 : decode b_x_Rdr_formula 59 = .ok (.aload_n 0, 1) := by decide +kernel
theorem d_x_Rdr_formula_60 : decode b_x_Rdr_formula 60 = .ok (.getfield 17, 3) := by decide +kernel
theorem d_x_Rdr_formula_63 : decode b_x_Rdr_formula 63 = .ok (.iload_n 3, 1) := by decide +kernel
theorem d_x_Rdr_formula_64 : decode b_x_Rdr_formula 64 = .ok (.aload_n 0, 1) := by decide +kernel
theorem d_x_Rdr_formula_65 : decode b_x_Rdr_formula 65 = .ok (.getfield 47, 3) := by decide +kernel
theorem d_x_Rdr_formula_68 : decode b_x_Rdr_formula 68 = .ok (.iastore, 1) := by decide +kernel
theorem d_x_Rdr_formula_69 : decode b_x_Rdr_formula 69 = .ok (.return_, 1) := by decide +kernel
theorem d_x_Form_init_0 : decode b_x_Form_init 0 = .ok (.aload_n 0, 1) := by decide +kernel
theorem d_x_Form_init_1 : decode b_x_Form_init 1 = .ok (.invokespecial 1, 3) := by decide +kernel
theorem d_x_Form_init_4 : decode b_x_Form_init 4 = .ok (.aload_n 0, 1) := by decide +kernel
theorem d_x_Form_init_5 : decode b_x_Form_init 5 = .ok (.aload_n 1, 1) := by decide +kernel
theorem d_x_Form_init_6 : decode b_x_Form_init 6 = .ok (.putfield 7, 3) := by decide +kernel
theorem d_x_Form_init_9 : decode b_x_Form_init 9 = .ok (.aload_n 0, 1) := by decide +kernel
theorem d_x_Form_init_10 : decode b_x_Form_init 10 = .ok (.iload 4, 2) := by decide +kernel
theorem d_x_Form_init_12 : decode b_x_Form_init 12 = .ok (.anewarray 13, 3) := by decide +kernel
theorem d_x_Form_init_15 : decode b_x_Form_init 15 = .ok (.putfield 15, 3) := by decide +kernel
theorem d_x_Form_init_18 : decode b_x_Form_init 18 = .ok (.aload_n 0, 1) := by decide +kernel
theorem d_x_Form_init_19 : decode b_x_Form_init 19 = .ok (.iload 4, 2) := by decide +kernel
theorem d_x_Form_init_21 : decode b_x_Form_init 21 = .ok (.newarray .int, 2) := by decide +kernel
theorem d_x_Form_init_23 : decode b_x_Form_init 23 = .ok (.putfield 19, 3) := by decide +kernel
theorem d_x_Form_init_26 : decode b_x_Form_init 26 = .ok (.iconst 0, 1) := by decide +kernel
theorem d_x_Form_init_27 : decode b_x_Form_init 27 = .ok (.istore 5, 2) := by decide +kernel
theorem d_x_Form_init_29 : decode b_x_Form_init 29 = .ok (.iload 5, 2) := by decide +kernel
theorem d_x_Form_init_31 : decode b_x_Form_init 31 = .ok (.iload 4, 2) := by decide +kernel
theorem d_x_Form_init_33 : decode b_x_Form_init 33 = .ok (.if_icmp .ge 31, 3) := by decide +kernel
theorem d_x_Form_init_36 : decode b_x_Form_init 36 = .ok (.aload_n 0, 1) := by decide +kernel
theorem d_x_Form_init_37 : decode b_x_Form_init 37 = .ok (.getfield 15, 3) := by decide +kernel
theorem d_x_Form_init_40 : decode b_x_Form_init 40 = .ok (.iload 5, 2) := by decide +kernel
theorem d_x_Form_init_42 : decode b_x_Form_init 42 = .ok (.aload_n 2, 1) := by decide +kernel
theorem d_x_Form_init_43 : decode b_x_Form_init 43 = .ok (.iload 5, 2) := by decide +kernel
theorem d_x_Form_init_45 : decode b_x_Form_init 45 = .ok (.aaload, 1) := by decide +kernel
theorem d_x_Form_init_46 : decode b_x_Form_init 46 = .ok (.aastore, 1) := by decide +kernel
theorem d_x_Form_init_47 : decode b_x_Form_init 47 = .ok (.aload_n 0, 1) := by decide +kernel
theorem d_x_Form_init_48 : decode b_x_Form_init 48 = .ok (.getfield 19, 3) := by decide +kernel
theorem d_x_Form_init_51 : decode b_x_Form_init 51 = .ok (.iload 5, 2) := by decide +kernel
theorem d_x_Form_init_53 : decode b_x_Form_init 53 = .ok (.aload_n 3, 1) := by decide +kernel
theorem d_x_Form_init_54 : decode b_x_Form_init 54 = .ok (.iload 5, 2) := by decide +kernel
theorem d_x_Form_init_56 : decode b_x_Form_init 56 = .ok (.iaload, 1) := by decide +kernel
theorem d_x_Form_init_57 : decode b_x_Form_init 57 = .ok (.iastore, 1) := by decide +kernel
theorem d_x_Form_init_58 : decode b_x_Form_init 58 = .ok (.iinc 5 1, 3) := by decide +kernel
theorem d_x_Form_init_61 : decode b_x_Form_init 61 = .ok (.goto (-32), 3) := by decide +kernel
theorem d_x_Form_init_64 : decode b_x_Form_init 64 = .ok (.return_, 1) := by decide +kernel
theorem d_x_NS_set_0 : decode b_x_NS_set 0 = .ok (.aload_n 0, 1) := by decide +kernel
theorem d_x_NS_set_1 : decode b_x_NS_set 1 = .ok (.iload_n 1, 1) := by decide +kernel
theorem d_x_NS_set_2 : decode b_x_NS_set 2 = .ok (.invokevirtual 59, 3) := by decide +kernel
theorem d_x_NS_set_5 : decode b_x_NS_set 5 = .ok (.astore 4, 2) := by decide +kernel
theorem d_x_NS_set_7 : decode b_x_NS_set 7 = .ok (.aload 4, 2) := by decide +kernel
theorem d_x_NS_set_9 : decode b_x_NS_set 9 = .ok (.ifnull 12, 3) := by decide +kernel
theorem d_x_NS_set_12 : decode b_x_NS_set 12 = .ok (.iload_n 3, 1) := by decide +kernel
theorem d_x_NS_set_13 : decode b_x_NS_set 13 = .ok (.ifCond .lt 8, 3) := by decide +kernel
theorem d_x_NS_set_16 : decode b_x_NS_set 16 = .ok (.iload_n 3, 1) := by decide +kernel
theorem d_x_NS_set_17 : decode b_x_NS_set 17 = .ok (.iconst 2, 1) := by decide +kernel
theorem d_x_NS_set_18 : decode b_x_NS_set 18 = .ok (.if_icmp .le 5, 3) := by decide +kernel
theorem d_x_NS_set_21 : decode b_x_NS_set 21 = .ok (.iconst 0, 1) := by decide +kernel
theorem d_x_NS_set_22 : decode b_x_NS_set 22 = .ok (.ireturn, 1) := by decide +kernel
theorem d_x_NS_set_23 : decode b_x_NS_set 23 = .ok (.aload 4, 2) := by decide +kernel
theorem d_x_NS_set_25 : decode b_x_NS_set 25 = .ok (.getfield 77, 3) := by decide +kernel
theorem d_x_NS_set_28 : decode b_x_NS_set 28 = .ok (.ifCond .eq 23, 3) := by decide +kernel
theorem d_x_NS_set_31 : decode b_x_NS_set 31 = .ok (.aload 4, 2) := by decide +kernel
theorem d_x_NS_set_33 : decode b_x_NS_set 33 = .ok (.getfield 108, 3) := by decide +kernel
theorem d_x_NS_set_36 : decode b_x_NS_set 36 = .ok (.iload_n 2, 1) := by decide +kernel
theorem d_x_NS_set_37 : decode b_x_NS_set 37 = .ok (.if_icmp .ne 14, 3) := by decide +kernel
theorem d_x_NS_set_40 : decode b_x_NS_set 40 = .ok (.aload 4, 2) := by decide +kernel
theorem d_x_NS_set_42 : decode b_x_NS_set 42 = .ok (.getfield 95, 3) := by decide +kernel
theorem d_x_NS_set_45 : decode b_x_NS_set 45 = .ok (.iload_n 3, 1) := by decide +kernel
theorem d_x_NS_set_46 : decode b_x_NS_set 46 = .ok (.if_icmp .ne 5, 3) := by decide +kernel
theorem d_x_NS_set_49 : decode b_x_NS_set 49 = .ok (.iconst 1, 1) := by decide +kernel
theorem d_x_NS_set_50 : decode b_x_NS_set 50 = .ok (.ireturn, 1) := by decide +kernel
theorem d_x_NS_set_51 : decode b_x_NS_set 51 = .ok (.aload_n 0, 1) := by decide +kernel
theorem d_x_NS_set_52 : decode b_x_NS_set 52 = .ok (.aload 4, 2) := by decide +kernel
theorem d_x_NS_set_54 : decode b_x_NS_set 54 = .ok (.getfield 77, 3) := by decide +kernel
theorem d_x_NS_set_57 : decode b_x_NS_set 57 = .ok (.ifCond .eq 11, 3) := by decide +kernel
theorem d_x_NS_set_60 : decode b_x_NS_set 60 = .ok (.aload 4, 2) := by decide +kernel
theorem d_x_NS_set_62 : decode b_x_NS_set 62 = .ok (.getfield 95, 3) := by decide +kernel
theorem d_x_NS_set_65 : decode b_x_NS_set 65 = .ok (.goto 4, 3) := by decide +kernel
theorem d_x_NS_set_68 : decode b_x_NS_set 68 = .ok (.iconst 2, 1) := by decide +kernel
theorem d_x_NS_set_69 : decode b_x_NS_set 69 = .ok (.invokevirtual 98, 3) := by decide +kernel
theorem d_x_NS_set_72 : decode b_x_NS_set 72 = .ok (.aload 4, 2) := by decide +kernel
theorem d_x_NS_set_74 : decode b_x_NS_set 74 = .ok (.getfield 77, 3) := by decide +kernel
theorem d_x_NS_set_77 : decode b_x_NS_set 77 = .ok (.ifCond .eq 12, 3) := by decide +kernel
theorem d_x_NS_set_80 : decode b_x_NS_set 80 = .ok (.aload 4, 2) := by decide +kernel
theorem d_x_NS_set_82 : decode b_x_NS_set 82 = .ok (.getfield 108, 3) := by decide +kernel
theorem d_x_NS_set_85 : decode b_x_NS_set 85 = .ok (.iload_n 2, 1) := by decide +kernel
theorem d_x_NS_set_86 : decode b_x_NS_set 86 = .ok (.if_icmp .eq 12, 3) := by decide +kernel
theorem d_x_NS_set_89 : decode b_x_NS_set 89 = .ok (.aload 4, 2) := by decide +kernel
theorem d_x_NS_set_91 : decode b_x_NS_set 91 = .ok (.aload_n 0, 1) := by decide +kernel
theorem d_x_NS_set_92 : decode b_x_NS_set 92 = .ok (.getfield 29, 3) := by decide +kernel
theorem d_x_NS_set_95 : decode b_x_NS_set 95 = .ok (.putfield 111, 3) := by decide +kernel
theorem d_x_NS_set_98 : decode b_x_NS_set 98 = .ok (.aload 4, 2) := by decide +kernel
theorem d_x_NS_set_100 : decode b_x_NS_set 100 = .ok (.iconst 1, 1) := by decide +kernel
theorem d_x_NS_set_101 : decode b_x_NS_set 101 = .ok (.putfield 77, 3) := by decide +kernel
theorem d_x_NS_set_104 : decode b_x_NS_set 104 = .ok (.aload 4, 2) := by decide +kernel
theorem d_x_NS_set_106 : decode b_x_NS_set 106 = .ok (.iload_n 2, 1) := by decide +kernel
theorem d_x_NS_set_107 : decode b_x_NS_set 107 = .ok (.putfield 108, 3) := by decide +kernel
theorem d_x_NS_set_110 : decode b_x_NS_set 110 = .ok (.aload 4, 2) := by decide +kernel
theorem d_x_NS_set_112 : decode b_x_NS_set 112 = .ok (.iload_n 3, 1) := by decide +kernel
theorem d_x_NS_set_113 : decode b_x_NS_set 113 = .ok (.putfield 95, 3) := by decide +kernel
theorem d_x_NS_set_116 : decode b_x_NS_set 116 = .ok (.aload 4, 2) := by decide +kernel
theorem d_x_NS_set_118 : decode b_x_NS_set 118 = .ok (.aconst_null, 1) := by decide +kernel
theorem d_x_NS_set_119 : decode b_x_NS_set 119 = .ok (.putfield 101, 3) := by decide +kernel
theorem d_x_NS_set_122 : decode b_x_NS_set 122 = .ok (.iconst 1, 1) := by decide +kernel
theorem d_x_NS_set_123 : decode b_x_NS_set 123 = .ok (.ireturn, 1) := by decide +kernel
theorem d_x_NS_bring_0 : decode b_x_NS_bring 0 = .ok (.aload_n 1, 1) := by decide +kernel
theorem d_x_NS_bring_1 : decode b_x_NS_bring 1 = .ok (.getfield 77, 3) := by decide +kernel
theorem d_x_NS_bring_4 : decode b_x_NS_bring 4 = .ok (.ifCond .ne 31, 3) := by decide +kernel
theorem d_x_NS_bring_7 : decode b_x_NS_bring 7 = .ok (.aload_n 1, 1) := by decide +kernel
theorem d_x_NS_bring_8 : decode b_x_NS_bring 8 = .ok (.getfield 114, 3) := by decide +kernel
theorem d_x_NS_bring_11 : decode b_x_NS_bring 11 = .ok (.ifCond .ne 24, 3) := by decide +kernel
theorem d_x_NS_bring_14 : decode b_x_NS_bring 14 = .ok (.aload_n 1, 1) := by decide +kernel
theorem d_x_NS_bring_15 : decode b_x_NS_bring 15 = .ok (.getfield 101, 3) := by decide +kernel
theorem d_x_NS_bring_18 : decode b_x_NS_bring 18 = .ok (.ifnull 18, 3) := by decide +kernel
theorem d_x_NS_bring_21 : decode b_x_NS_bring 21 = .ok (.aload_n 1, 1) := by decide +kernel
theorem d_x_NS_bring_22 : decode b_x_NS_bring 22 = .ok (.getfield 101, 3) := by decide +kernel
theorem d_x_NS_bring_25 : decode b_x_NS_bring 25 = .ok (.getfield 117, 3) := by decide +kernel
theorem d_x_NS_bring_28 : decode b_x_NS_bring 28 = .ok (.aload_n 0, 1) := by decide +kernel
theorem d_x_NS_bring_29 : decode b_x_NS_bring 29 = .ok (.getfield 29, 3) := by decide +kernel
theorem d_x_NS_bring_32 : decode b_x_NS_bring 32 = .ok (.if_icmp .ne 4, 3) := by decide +kernel
theorem d_x_NS_bring_35 : decode b_x_NS_bring 35 = .ok (.return_, 1) := by decide +kernel
theorem d_x_NS_bring_36 : decode b_x_NS_bring 36 = .ok (.aload_n 1, 1) := by decide +kernel
theorem d_x_NS_bring_37 : decode b_x_NS_bring 37 = .ok (.iconst 1, 1) := by decide +kernel
theorem d_x_NS_bring_38 : decode b_x_NS_bring 38 = .ok (.putfield 114, 3) := by decide +kernel
theorem d_x_NS_bring_41 : decode b_x_NS_bring 41 = .ok (.aload_n 1, 1) := by decide +kernel
theorem d_x_NS_bring_42 : decode b_x_NS_bring 42 = .ok (.getfield 101, 3) := by decide +kernel
theorem d_x_NS_bring_45 : decode b_x_NS_bring 45 = .ok (.ifnull 59, 3) := by decide +kernel
theorem d_x_NS_bring_48 : decode b_x_NS_bring 48 = .ok (.aload_n 0, 1) := by decide +kernel
theorem d_x_NS_bring_49 : decode b_x_NS_bring 49 = .ok (.getfield 33, 3) := by decide +kernel
theorem d_x_NS_bring_52 : decode b_x_NS_bring 52 = .ok (.aload_n 1, 1) := by decide +kernel
theorem d_x_NS_bring_53 : decode b_x_NS_bring 53 = .ok (.getfield 101, 3) := by decide +kernel
theorem d_x_NS_bring_56 : decode b_x_NS_bring 56 = .ok (.getfield 122, 3) := by decide +kernel
theorem d_x_NS_bring_59 : decode b_x_NS_bring 59 = .ok (.iaload, 1) := by decide +kernel
theorem d_x_NS_bring_60 : decode b_x_NS_bring 60 = .ok (.aload_n 1, 1) := by decide +kernel
theorem d_x_NS_bring_61 : decode b_x_NS_bring 61 = .ok (.getfield 101, 3) := by decide +kernel
theorem d_x_NS_bring_64 : decode b_x_NS_bring 64 = .ok (.getfield 117, 3) := by decide +kernel
theorem d_x_NS_bring_67 : decode b_x_NS_bring 67 = .ok (.if_icmp .gt 37, 3) := by decide +kernel
theorem d_x_NS_bring_70 : decode b_x_NS_bring 70 = .ok (.aload_n 1, 1) := by decide +kernel
theorem d_x_NS_bring_71 : decode b_x_NS_bring 71 = .ok (.dup, 1) := by decide +kernel
theorem d_x_NS_bring_72 : decode b_x_NS_bring 72 = .ok (.getfield 123, 3) := by decide +kernel
theorem d_x_NS_bring_75 : decode b_x_NS_bring 75 = .ok (.iconst 1, 1) := by decide +kernel
theorem d_x_NS_bring_76 : decode b_x_NS_bring 76 = .ok (.iadd, 1) := by decide +kernel
theorem d_x_NS_bring_77 : decode b_x_NS_bring 77 = .ok (.putfield 123, 3) := by decide +kernel
theorem d_x_NS_bring_80 : decode b_x_NS_bring 80 = .ok (.aload_n 0, 1) := by decide +kernel
theorem d_x_NS_bring_81 : decode b_x_NS_bring 81 = .ok (.dup, 1) := by decide +kernel
theorem d_x_NS_bring_82 : decode b_x_NS_bring 82 = .ok (.getfield 126, 3) := by decide +kernel
theorem d_x_NS_bring_85 : decode b_x_NS_bring 85 = .ok (.iconst 1, 1) := by decide +kernel
theorem d_x_NS_bring_86 : decode b_x_NS_bring 86 = .ok (.iadd, 1) := by decide +kernel
theorem d_x_NS_bring_87 : decode b_x_NS_bring 87 = .ok (.putfield 126, 3) := by decide +kernel
theorem d_x_NS_bring_90 : decode b_x_NS_bring 90 = .ok (.aload_n 1, 1) := by decide +kernel
theorem d_x_NS_bring_91 : decode b_x_NS_bring 91 = .ok (.getfield 101, 3) := by decide +kernel
theorem d_x_NS_bring_94 : decode b_x_NS_bring 94 = .ok (.aload_n 0, 1) := by decide +kernel
theorem d_x_NS_bring_95 : decode b_x_NS_bring 95 = .ok (.getfield 29, 3) := by decide +kernel
theorem d_x_NS_bring_98 : decode b_x_NS_bring 98 = .ok (.putfield 117, 3) := by decide +kernel
theorem d_x_NS_bring_101 : decode b_x_NS_bring 101 = .ok (.goto 74, 3) := by decide +kernel
theorem d_x_NS_bring_104 : decode b_x_NS_bring 104 = .ok (.aload_n 1, 1) := by decide +kernel
theorem d_x_NS_bring_105 : decode b_x_NS_bring 105 = .ok (.getfield 101, 3) := by decide +kernel
theorem d_x_NS_bring_108 : decode b_x_NS_bring 108 = .ok (.ifnull 62, 3) := by decide +kernel
theorem d_x_NS_bring_111 : decode b_x_NS_bring 111 = .ok (.aload_n 1, 1) := by decide +kernel
theorem d_x_NS_bring_112 : decode b_x_NS_bring 112 = .ok (.getfield 105, 3) := by decide +kernel
theorem d_x_NS_bring_115 : decode b_x_NS_bring 115 = .ok (.aload_n 1, 1) := by decide +kernel
theorem d_x_NS_bring_116 : decode b_x_NS_bring 116 = .ok (.getfield 101, 3) := by decide +kernel
theorem d_x_NS_bring_119 : decode b_x_NS_bring 119 = .ok (.getfield 117, 3) := by decide +kernel
theorem d_x_NS_bring_122 : decode b_x_NS_bring 122 = .ok (.if_icmp .gt 48, 3) := by decide +kernel
theorem d_x_NS_bring_125 : decode b_x_NS_bring 125 = .ok (.aload_n 0, 1) := by decide +kernel
theorem d_x_NS_bring_126 : decode b_x_NS_bring 126 = .ok (.aload_n 1, 1) := by decide +kernel
theorem d_x_NS_bring_127 : decode b_x_NS_bring 127 = .ok (.getfield 101, 3) := by decide +kernel
theorem d_x_NS_bring_130 : decode b_x_NS_bring 130 = .ok (.invokevirtual 127, 3) := by decide +kernel
theorem d_x_NS_bring_133 : decode b_x_NS_bring 133 = .ok (.ifCond .eq 37, 3) := by decide +kernel
theorem d_x_NS_bring_136 : decode b_x_NS_bring 136 = .ok (.aload_n 1, 1) := by decide +kernel
theorem d_x_NS_bring_137 : decode b_x_NS_bring 137 = .ok (.dup, 1) := by decide +kernel
theorem d_x_NS_bring_138 : decode b_x_NS_bring 138 = .ok (.getfield 131, 3) := by decide +kernel
theorem d_x_NS_bring_141 : decode b_x_NS_bring 141 = .ok (.iconst 1, 1) := by decide +kernel
theorem d_x_NS_bring_142 : decode b_x_NS_bring 142 = .ok (.iadd, 1) := by decide +kernel
theorem d_x_NS_bring_143 : decode b_x_NS_bring 143 = .ok (.putfield 131, 3) := by decide +kernel
theorem d_x_NS_bring_146 : decode b_x_NS_bring 146 = .ok (.aload_n 0, 1) := by decide +kernel
theorem d_x_NS_bring_147 : decode b_x_NS_bring 147 = .ok (.dup, 1) := by decide +kernel
theorem d_x_NS_bring_148 : decode b_x_NS_bring 148 = .ok (.getfield 134, 3) := by decide +kernel
theorem d_x_NS_bring_151 : decode b_x_NS_bring 151 = .ok (.iconst 1, 1) := by decide +kernel
theorem d_x_NS_bring_152 : decode b_x_NS_bring 152 = .ok (.iadd, 1) := by decide +kernel
theorem d_x_NS_bring_153 : decode b_x_NS_bring 153 = .ok (.putfield 134, 3) := by decide +kernel
theorem d_x_NS_bring_156 : decode b_x_NS_bring 156 = .ok (.aload_n 1, 1) := by decide +kernel
theorem d_x_NS_bring_157 : decode b_x_NS_bring 157 = .ok (.getfield 101, 3) := by decide +kernel
theorem d_x_NS_bring_160 : decode b_x_NS_bring 160 = .ok (.aload_n 0, 1) := by decide +kernel
theorem d_x_NS_bring_161 : decode b_x_NS_bring 161 = .ok (.getfield 29, 3) := by decide +kernel
theorem d_x_NS_bring_164 : decode b_x_NS_bring 164 = .ok (.putfield 117, 3) := by decide +kernel
theorem d_x_NS_bring_167 : decode b_x_NS_bring 167 = .ok (.goto 8, 3) := by decide +kernel
theorem d_x_NS_bring_170 : decode b_x_NS_bring 170 = .ok (.aload_n 0, 1) := by decide +kernel
theorem d_x_NS_bring_171 : decode b_x_NS_bring 171 = .ok (.aload_n 1, 1) := by decide +kernel
theorem d_x_NS_bring_172 : decode b_x_NS_bring 172 = .ok (.invokevirtual 135, 3) := by decide +kernel
theorem d_x_NS_bring_175 : decode b_x_NS_bring 175 = .ok (.aload_n 1, 1) := by decide +kernel
theorem d_x_NS_bring_176 : decode b_x_NS_bring 176 = .ok (.iconst 0, 1) := by decide +kernel
theorem d_x_NS_bring_177 : decode b_x_NS_bring 177 = .ok (.putfield 114, 3) := by decide +kernel
theorem d_x_NS_bring_180 : decode b_x_NS_bring 180 = .ok (.return_, 1) := by decide +kernel
theorem d_x_Cell_sinceWhen_0 : decode b_x_Cell_sinceWhen 0 = .ok (.aload_n 0, 1) := by decide +kernel
theorem d_x_Cell_sinceWhen_1 : decode b_x_Cell_sinceWhen 1 = .ok (.getfield 7, 3) := by decide +kernel
theorem d_x_Cell_sinceWhen_4 : decode b_x_Cell_sinceWhen 4 = .ok (.ifCond .eq 10, 3) := by decide +kernel
theorem d_x_Cell_sinceWhen_7 : decode b_x_Cell_sinceWhen 7 = .ok (.aload_n 0, 1) := by decide +kernel
theorem d_x_Cell_sinceWhen_8 : decode b_x_Cell_sinceWhen 8 = .ok (.getfield 17, 3) := by decide +kernel
theorem d_x_Cell_sinceWhen_11 : decode b_x_Cell_sinceWhen 11 = .ok (.goto 21, 3) := by decide +kernel
theorem d_x_Cell_sinceWhen_14 : decode b_x_Cell_sinceWhen 14 = .ok (.aload_n 0, 1) := by decide +kernel
theorem d_x_Cell_sinceWhen_15 : decode b_x_Cell_sinceWhen 15 = .ok (.getfield 20, 3) := by decide +kernel
theorem d_x_Cell_sinceWhen_18 : decode b_x_Cell_sinceWhen 18 = .ok (.ifnonnull 7, 3) := by decide +kernel
theorem d_x_Cell_sinceWhen_21 : decode b_x_Cell_sinceWhen 21 = .ok (.iconst 0, 1) := by decide +kernel
theorem d_x_Cell_sinceWhen_22 : decode b_x_Cell_sinceWhen 22 = .ok (.goto 10, 3) := by decide +kernel
theorem d_x_Cell_sinceWhen_25 : decode b_x_Cell_sinceWhen 25 = .ok (.aload_n 0, 1) := by decide +kernel
theorem d_x_Cell_sinceWhen_26 : decode b_x_Cell_sinceWhen 26 = .ok (.getfield 20, 3) := by decide +kernel
theorem d_x_Cell_sinceWhen_29 : decode b_x_Cell_sinceWhen 29 = .ok (.getfield 24, 3) := by decide +kernel
theorem d_x_Cell_sinceWhen_32 : decode b_x_Cell_sinceWhen 32 = .ok (.ireturn, 1) := by decide +kernel
theorem d_x_Cell_steady_0 : decode b_x_Cell_steady 0 = .ok (.aload_n 0, 1) := by decide +kernel
theorem d_x_Cell_steady_1 : decode b_x_Cell_steady 1 = .ok (.getfield 7, 3) := by decide +kernel
theorem d_x_Cell_steady_4 : decode b_x_Cell_steady 4 = .ok (.ifCond .eq 10, 3) := by decide +kernel
theorem d_x_Cell_steady_7 : decode b_x_Cell_steady 7 = .ok (.aload_n 0, 1) := by decide +kernel
theorem d_x_Cell_steady_8 : decode b_x_Cell_steady 8 = .ok (.getfield 27, 3) := by decide +kernel
theorem d_x_Cell_steady_11 : decode b_x_Cell_steady 11 = .ok (.goto 21, 3) := by decide +kernel
theorem d_x_Cell_steady_14 : decode b_x_Cell_steady 14 = .ok (.aload_n 0, 1) := by decide +kernel
theorem d_x_Cell_steady_15 : decode b_x_Cell_steady 15 = .ok (.getfield 20, 3) := by decide +kernel
theorem d_x_Cell_steady_18 : decode b_x_Cell_steady 18 = .ok (.ifnonnull 7, 3) := by decide +kernel
theorem d_x_Cell_steady_21 : decode b_x_Cell_steady 21 = .ok (.iconst 0, 1) := by decide +kernel
theorem d_x_Cell_steady_22 : decode b_x_Cell_steady 22 = .ok (.goto 10, 3) := by decide +kernel
theorem d_x_Cell_steady_25 : decode b_x_Cell_steady 25 = .ok (.aload_n 0, 1) := by decide +kernel
theorem d_x_Cell_steady_26 : decode b_x_Cell_steady 26 = .ok (.getfield 20, 3) := by decide +kernel
theorem d_x_Cell_steady_29 : decode b_x_Cell_steady 29 = .ok (.getfield 30, 3) := by decide +kernel
theorem d_x_Cell_steady_32 : decode b_x_Cell_steady 32 = .ok (.ireturn, 1) := by decide +kernel
theorem d_x_NS_unchanged_0 : decode b_x_NS_unchanged 0 = .ok (.iconst 2, 1) := by decide +kernel
theorem d_x_NS_unchanged_1 : decode b_x_NS_unchanged 1 = .ok (.istore_n 2, 1) := by decide +kernel
theorem d_x_NS_unchanged_2 : decode b_x_NS_unchanged 2 = .ok (.iconst 0, 1) := by decide +kernel
theorem d_x_NS_unchanged_3 : decode b_x_NS_unchanged 3 = .ok (.istore_n 3, 1) := by decide +kernel
theorem d_x_NS_unchanged_4 : decode b_x_NS_unchanged 4 = .ok (.iload_n 3, 1) := by decide +kernel
theorem d_x_NS_unchanged_5 : decode b_x_NS_unchanged 5 = .ok (.aload_n 1, 1) := by decide +kernel
theorem d_x_NS_unchanged_6 : decode b_x_NS_unchanged 6 = .ok (.getfield 139, 3) := by decide +kernel
theorem d_x_NS_unchanged_9 : decode b_x_NS_unchanged 9 = .ok (.if_icmp .ge 55, 3) := by decide +kernel
theorem d_x_NS_unchanged_12 : decode b_x_NS_unchanged 12 = .ok (.aload_n 1, 1) := by decide +kernel
theorem d_x_NS_unchanged_13 : decode b_x_NS_unchanged 13 = .ok (.getfield 142, 3) := by decide +kernel
theorem d_x_NS_unchanged_16 : decode b_x_NS_unchanged 16 = .ok (.iload_n 3, 1) := by decide +kernel
theorem d_x_NS_unchanged_17 : decode b_x_NS_unchanged 17 = .ok (.aaload, 1) := by decide +kernel
theorem d_x_NS_unchanged_18 : decode b_x_NS_unchanged 18 = .ok (.astore 4, 2) := by decide +kernel
theorem d_x_NS_unchanged_20 : decode b_x_NS_unchanged 20 = .ok (.aload_n 0, 1) := by decide +kernel
theorem d_x_NS_unchanged_21 : decode b_x_NS_unchanged 21 = .ok (.aload 4, 2) := by decide +kernel
theorem d_x_NS_unchanged_23 : decode b_x_NS_unchanged 23 = .ok (.invokevirtual 145, 3) := by decide +kernel
theorem d_x_NS_unchanged_26 : decode b_x_NS_unchanged 26 = .ok (.aload 4, 2) := by decide +kernel
theorem d_x_NS_unchanged_28 : decode b_x_NS_unchanged 28 = .ok (.getfield 114, 3) := by decide +kernel
theorem d_x_NS_unchanged_31 : decode b_x_NS_unchanged 31 = .ok (.ifCond .ne 15, 3) := by decide +kernel
theorem d_x_NS_unchanged_34 : decode b_x_NS_unchanged 34 = .ok (.aload 4, 2) := by decide +kernel
theorem d_x_NS_unchanged_36 : decode b_x_NS_unchanged 36 = .ok (.invokevirtual 148, 3) := by decide +kernel
theorem d_x_NS_unchanged_39 : decode b_x_NS_unchanged 39 = .ok (.aload_n 1, 1) := by decide +kernel
theorem d_x_NS_unchanged_40 : decode b_x_NS_unchanged 40 = .ok (.getfield 117, 3) := by decide +kernel
theorem d_x_NS_unchanged_43 : decode b_x_NS_unchanged 43 = .ok (.if_icmp .le 5, 3) := by decide +kernel
theorem d_x_NS_unchanged_46 : decode b_x_NS_unchanged 46 = .ok (.iconst 0, 1) := by decide +kernel
theorem d_x_NS_unchanged_47 : decode b_x_NS_unchanged 47 = .ok (.ireturn, 1) := by decide +kernel
theorem d_x_NS_unchanged_48 : decode b_x_NS_unchanged 48 = .ok (.iload_n 2, 1) := by decide +kernel
theorem d_x_NS_unchanged_49 : decode b_x_NS_unchanged 49 = .ok (.aload 4, 2) := by decide +kernel
theorem d_x_NS_unchanged_51 : decode b_x_NS_unchanged 51 = .ok (.invokevirtual 151, 3) := by decide +kernel
theorem d_x_NS_unchanged_54 : decode b_x_NS_unchanged 54 = .ok (.invokestatic 154, 3) := by decide +kernel
theorem d_x_NS_unchanged_57 : decode b_x_NS_unchanged 57 = .ok (.istore_n 2, 1) := by decide +kernel
theorem d_x_NS_unchanged_58 : decode b_x_NS_unchanged 58 = .ok (.iinc 3 1, 3) := by decide +kernel
theorem d_x_NS_unchanged_61 : decode b_x_NS_unchanged 61 = .ok (.goto (-57), 3) := by decide +kernel
theorem d_x_NS_unchanged_64 : decode b_x_NS_unchanged 64 = .ok (.aload_n 1, 1) := by decide +kernel
theorem d_x_NS_unchanged_65 : decode b_x_NS_unchanged 65 = .ok (.iload_n 2, 1) := by decide +kernel
theorem d_x_NS_unchanged_66 : decode b_x_NS_unchanged 66 = .ok (.putfield 122, 3) := by decide +kernel
theorem d_x_NS_unchanged_69 : decode b_x_NS_unchanged 69 = .ok (.iconst 1, 1) := by decide +kernel
theorem d_x_NS_unchanged_70 : decode b_x_NS_unchanged 70 = .ok (.ireturn, 1) := by decide +kernel
theorem d_x_Note_init_0 : decode b_x_Note_init 0 = .ok (.aload_n 0, 1) := by decide +kernel
theorem d_x_Note_init_1 : decode b_x_Note_init 1 = .ok (.invokespecial 3, 3) := by decide +kernel
theorem d_x_Note_init_4 : decode b_x_Note_init 4 = .ok (.aload_n 0, 1) := by decide +kernel
theorem d_x_Note_init_5 : decode b_x_Note_init 5 = .ok (.bipush 12, 2) := by decide +kernel
theorem d_x_Note_init_7 : decode b_x_Note_init 7 = .ok (.anewarray 9, 3) := by decide +kernel
theorem d_x_Note_init_10 : decode b_x_Note_init 10 = .ok (.putfield 11, 3) := by decide +kernel
theorem d_x_Note_init_13 : decode b_x_Note_init 13 = .ok (.return_, 1) := by decide +kernel
theorem d_x_NS_workOut_0 : decode b_x_NS_workOut 0 = .ok (.aload_n 1, 1) := by decide +kernel
theorem d_x_NS_workOut_1 : decode b_x_NS_workOut 1 = .ok (.getfield 114, 3) := by decide +kernel
theorem d_x_NS_workOut_4 : decode b_x_NS_workOut 4 = .ok (.istore_n 2, 1) := by decide +kernel
theorem d_x_NS_workOut_5 : decode b_x_NS_workOut 5 = .ok (.aload_n 1, 1) := by decide +kernel
theorem d_x_NS_workOut_6 : decode b_x_NS_workOut 6 = .ok (.iconst 1, 1) := by decide +kernel
theorem d_x_NS_workOut_7 : decode b_x_NS_workOut 7 = .ok (.putfield 114, 3) := by decide +kernel
theorem d_x_NS_workOut_10 : decode b_x_NS_workOut 10 = .ok (.aload_n 1, 1) := by decide +kernel
theorem d_x_NS_workOut_11 : decode b_x_NS_workOut 11 = .ok (.dup, 1) := by decide +kernel
theorem d_x_NS_workOut_12 : decode b_x_NS_workOut 12 = .ok (.getfield 160, 3) := by decide +kernel
theorem d_x_NS_workOut_15 : decode b_x_NS_workOut 15 = .ok (.iconst 1, 1) := by decide +kernel
theorem d_x_NS_workOut_16 : decode b_x_NS_workOut 16 = .ok (.iadd, 1) := by decide +kernel
theorem d_x_NS_workOut_17 : decode b_x_NS_workOut 17 = .ok (.putfield 160, 3) := by decide +kernel
theorem d_x_NS_workOut_20 : decode b_x_NS_workOut 20 = .ok (.aload_n 0, 1) := by decide +kernel
theorem d_x_NS_workOut_21 : decode b_x_NS_workOut 21 = .ok (.dup, 1) := by decide +kernel
theorem d_x_NS_workOut_22 : decode b_x_NS_workOut 22 = .ok (.getfield 163, 3) := by decide +kernel
theorem d_x_NS_workOut_25 : decode b_x_NS_workOut 25 = .ok (.iconst 1, 1) := by decide +kernel
theorem d_x_NS_workOut_26 : decode b_x_NS_workOut 26 = .ok (.iadd, 1) := by decide +kernel
theorem d_x_NS_workOut_27 : decode b_x_NS_workOut 27 = .ok (.putfield 163, 3) := by decide +kernel
theorem d_x_NS_workOut_30 : decode b_x_NS_workOut 30 = .ok (.aload_n 1, 1) := by decide +kernel
theorem d_x_NS_workOut_31 : decode b_x_NS_workOut 31 = .ok (.getfield 101, 3) := by decide +kernel
theorem d_x_NS_workOut_34 : decode b_x_NS_workOut 34 = .ok (.astore_n 3, 1) := by decide +kernel
theorem d_x_NS_workOut_35 : decode b_x_NS_workOut 35 = .ok (.new 118, 3) := by decide +kernel
theorem d_x_NS_workOut_38 : decode b_x_NS_workOut 38 = .ok (.dup, 1) := by decide +kernel
theorem d_x_NS_workOut_39 : decode b_x_NS_workOut 39 = .ok (.invokespecial 164, 3) := by decide +kernel
theorem d_x_NS_workOut_42 : decode b_x_NS_workOut 42 = .ok (.astore 4, 2) := by decide +kernel
theorem d_x_NS_workOut_44 : decode b_x_NS_workOut 44 = .ok (.aload 4, 2) := by decide +kernel
theorem d_x_NS_workOut_46 : decode b_x_NS_workOut 46 = .ok (.iconst 2, 1) := by decide +kernel
theorem d_x_NS_workOut_47 : decode b_x_NS_workOut 47 = .ok (.putfield 122, 3) := by decide +kernel
theorem d_x_NS_workOut_50 : decode b_x_NS_workOut 50 = .ok (.aload 4, 2) := by decide +kernel
theorem d_x_NS_workOut_52 : decode b_x_NS_workOut 52 = .ok (.aload_n 0, 1) := by decide +kernel
theorem d_x_NS_workOut_53 : decode b_x_NS_workOut 53 = .ok (.aload_n 1, 1) := by decide +kernel
theorem d_x_NS_workOut_54 : decode b_x_NS_workOut 54 = .ok (.getfield 81, 3) := by decide +kernel
theorem d_x_NS_workOut_57 : decode b_x_NS_workOut 57 = .ok (.aload 4, 2) := by decide +kernel
theorem d_x_NS_workOut_59 : decode b_x_NS_workOut 59 = .ok (.invokevirtual 165, 3) := by decide +kernel
theorem d_x_NS_workOut_62 : decode b_x_NS_workOut 62 = .ok (.putfield 169, 3) := by decide +kernel
theorem d_x_NS_workOut_65 : decode b_x_NS_workOut 65 = .ok (.aload 4, 2) := by decide +kernel
theorem d_x_NS_workOut_67 : decode b_x_NS_workOut 67 = .ok (.iconst 1, 1) := by decide +kernel
theorem d_x_NS_workOut_68 : decode b_x_NS_workOut 68 = .ok (.putfield 172, 3) := by decide +kernel
theorem d_x_NS_workOut_71 : decode b_x_NS_workOut 71 = .ok (.aload_n 3, 1) := by decide +kernel
theorem d_x_NS_workOut_72 : decode b_x_NS_workOut 72 = .ok (.ifnull 38, 3) := by decide +kernel
theorem d_x_NS_workOut_75 : decode b_x_NS_workOut 75 = .ok (.aload_n 3, 1) := by decide +kernel
theorem d_x_NS_workOut_76 : decode b_x_NS_workOut 76 = .ok (.getfield 117, 3) := by decide +kernel
theorem d_x_NS_workOut_79 : decode b_x_NS_workOut 79 = .ok (.aload_n 0, 1) := by decide +kernel
theorem d_x_NS_workOut_80 : decode b_x_NS_workOut 80 = .ok (.getfield 29, 3) := by decide +kernel
theorem d_x_NS_workOut_83 : decode b_x_NS_workOut 83 = .ok (.if_icmp .eq 23, 3) := by decide +kernel
theorem d_x_NS_workOut_86 : decode b_x_NS_workOut 86 = .ok (.aload_n 3, 1) := by decide +kernel
theorem d_x_NS_workOut_87 : decode b_x_NS_workOut 87 = .ok (.getfield 172, 3) := by decide +kernel
theorem d_x_NS_workOut_90 : decode b_x_NS_workOut 90 = .ok (.ifCond .eq 20, 3) := by decide +kernel
theorem d_x_NS_workOut_93 : decode b_x_NS_workOut 93 = .ok (.aload_n 3, 1) := by decide +kernel
theorem d_x_NS_workOut_94 : decode b_x_NS_workOut 94 = .ok (.getfield 169, 3) := by decide +kernel
theorem d_x_NS_workOut_97 : decode b_x_NS_workOut 97 = .ok (.aload 4, 2) := by decide +kernel
theorem d_x_NS_workOut_99 : decode b_x_NS_workOut 99 = .ok (.getfield 169, 3) := by decide +kernel
theorem d_x_NS_workOut_102 : decode b_x_NS_workOut 102 = .ok (.lcmp, 1) := by decide +kernel
theorem d_x_NS_workOut_103 : decode b_x_NS_workOut 103 = .ok (.ifCond .ne 7, 3) := by decide +kernel
theorem d_x_NS_workOut_106 : decode b_x_NS_workOut 106 = .ok (.iconst 1, 1) := by decide +kernel
theorem d_x_NS_workOut_107 : decode b_x_NS_workOut 107 = .ok (.goto 4, 3) := by decide +kernel
theorem d_x_NS_workOut_110 : decode b_x_NS_workOut 110 = .ok (.iconst 0, 1) := by decide +kernel
theorem d_x_NS_workOut_111 : decode b_x_NS_workOut 111 = .ok (.istore 5, 2) := by decide +kernel
theorem d_x_NS_workOut_113 : decode b_x_NS_workOut 113 = .ok (.aload 4, 2) := by decide +kernel
theorem d_x_NS_workOut_115 : decode b_x_NS_workOut 115 = .ok (.iload 5, 2) := by decide +kernel
theorem d_x_NS_workOut_117 : decode b_x_NS_workOut 117 = .ok (.ifCond .eq 10, 3) := by decide +kernel
theorem d_x_NS_workOut_120 : decode b_x_NS_workOut 120 = .ok (.aload_n 3, 1) := by decide +kernel
theorem d_x_NS_workOut_121 : decode b_x_NS_workOut 121 = .ok (.getfield 175, 3) := by decide +kernel
theorem d_x_NS_workOut_124 : decode b_x_NS_workOut 124 = .ok (.goto 7, 3) := by decide +kernel
theorem d_x_NS_workOut_127 : decode b_x_NS_workOut 127 = .ok (.aload_n 0, 1) := by decide +kernel
theorem d_x_NS_workOut_128 : decode b_x_NS_workOut 128 = .ok (.getfield 29, 3) := by decide +kernel
theorem d_x_NS_workOut_131 : decode b_x_NS_workOut 131 = .ok (.putfield 175, 3) := by decide +kernel
theorem d_x_NS_workOut_134 : decode b_x_NS_workOut 134 = .ok (.aload 4, 2) := by decide +kernel
theorem d_x_NS_workOut_136 : decode b_x_NS_workOut 136 = .ok (.aload_n 0, 1) := by decide +kernel
theorem d_x_NS_workOut_137 : decode b_x_NS_workOut 137 = .ok (.getfield 29, 3) := by decide +kernel
theorem d_x_NS_workOut_140 : decode b_x_NS_workOut 140 = .ok (.putfield 117, 3) := by decide +kernel
theorem d_x_NS_workOut_143 : decode b_x_NS_workOut 143 = .ok (.aload_n 0, 1) := by decide +kernel
theorem d_x_NS_workOut_144 : decode b_x_NS_workOut 144 = .ok (.dup, 1) := by decide +kernel
theorem d_x_NS_workOut_145 : decode b_x_NS_workOut 145 = .ok (.getfield 176, 3) := by decide +kernel
theorem d_x_NS_workOut_148 : decode b_x_NS_workOut 148 = .ok (.iconst 1, 1) := by decide +kernel
theorem d_x_NS_workOut_149 : decode b_x_NS_workOut 149 = .ok (.iadd, 1) := by decide +kernel
theorem d_x_NS_workOut_150 : decode b_x_NS_workOut 150 = .ok (.putfield 176, 3) := by decide +kernel
theorem d_x_NS_workOut_153 : decode b_x_NS_workOut 153 = .ok (.aload 4, 2) := by decide +kernel
theorem d_x_NS_workOut_155 : decode b_x_NS_workOut 155 = .ok (.aload_n 0, 1) := by decide +kernel
theorem d_x_NS_workOut_156 : decode b_x_NS_workOut 156 = .ok (.getfield 176, 3) := by decide +kernel
theorem d_x_NS_workOut_159 : decode b_x_NS_workOut 159 = .ok (.putfield 179, 3) := by decide +kernel
theorem d_x_NS_workOut_162 : decode b_x_NS_workOut 162 = .ok (.aload_n 1, 1) := by decide +kernel
theorem d_x_NS_workOut_163 : decode b_x_NS_workOut 163 = .ok (.aload 4, 2) := by decide +kernel
theorem d_x_NS_workOut_165 : decode b_x_NS_workOut 165 = .ok (.putfield 101, 3) := by decide +kernel
theorem d_x_NS_workOut_168 : decode b_x_NS_workOut 168 = .ok (.aload_n 1, 1) := by decide +kernel
theorem d_x_NS_workOut_169 : decode b_x_NS_workOut 169 = .ok (.iload_n 2, 1) := by decide +kernel
theorem d_x_NS_workOut_170 : decode b_x_NS_workOut 170 = .ok (.putfield 114, 3) := by decide +kernel
theorem d_x_NS_workOut_173 : decode b_x_NS_workOut 173 = .ok (.return_, 1) := by decide +kernel
theorem d_x_Note_add_0 : decode b_x_Note_add 0 = .ok (.iconst 0, 1) := by decide +kernel
theorem d_x_Note_add_1 : decode b_x_Note_add 1 = .ok (.istore_n 2, 1) := by decide +kernel
theorem d_x_Note_add_2 : decode b_x_Note_add 2 = .ok (.iload_n 2, 1) := by decide +kernel
theorem d_x_Note_add_3 : decode b_x_Note_add 3 = .ok (.aload_n 0, 1) := by decide +kernel
theorem d_x_Note_add_4 : decode b_x_Note_add 4 = .ok (.getfield 17, 3) := by decide +kernel
theorem d_x_Note_add_7 : decode b_x_Note_add 7 = .ok (.if_icmp .ge 20, 3) := by decide +kernel
theorem d_x_Note_add_10 : decode b_x_Note_add 10 = .ok (.aload_n 0, 1) := by decide +kernel
theorem d_x_Note_add_11 : decode b_x_Note_add 11 = .ok (.getfield 11, 3) := by decide +kernel
theorem d_x_Note_add_14 : decode b_x_Note_add 14 = .ok (.iload_n 2, 1) := by decide +kernel
theorem d_x_Note_add_15 : decode b_x_Note_add 15 = .ok (.aaload, 1) := by decide +kernel
theorem d_x_Note_add_16 : decode b_x_Note_add 16 = .ok (.aload_n 1, 1) := by decide +kernel
theorem d_x_Note_add_17 : decode b_x_Note_add 17 = .ok (.if_acmp .ne 4, 3) := by decide +kernel
theorem d_x_Note_add_20 : decode b_x_Note_add 20 = .ok (.return_, 1) := by decide +kernel
theorem d_x_Note_add_21 : decode b_x_Note_add 21 = .ok (.iinc 2 1, 3) := by decide +kernel
theorem d_x_Note_add_24 : decode b_x_Note_add 24 = .ok (.goto (-22), 3) := by decide +kernel
theorem d_x_Note_add_27 : decode b_x_Note_add 27 = .ok (.aload_n 0, 1) := by decide +kernel
theorem d_x_Note_add_28 : decode b_x_Note_add 28 = .ok (.getfield 11, 3) := by decide +kernel
theorem d_x_Note_add_31 : decode b_x_Note_add 31 = .ok (.aload_n 0, 1) := by decide +kernel
theorem d_x_Note_add_32 : decode b_x_Note_add 32 = .ok (.getfield 17, 3) := by decide +kernel
theorem d_x_Note_add_35 : decode b_x_Note_add 35 = .ok (.aload_n 1, 1) := by decide +kernel
theorem d_x_Note_add_36 : decode b_x_Note_add 36 = .ok (.aastore, 1) := by decide +kernel
theorem d_x_Note_add_37 : decode b_x_Note_add 37 = .ok (.aload_n 0, 1) := by decide +kernel
theorem d_x_Note_add_38 : decode b_x_Note_add 38 = .ok (.dup, 1) := by decide +kernel
theorem d_x_Note_add_39 : decode b_x_Note_add 39 = .ok (.getfield 17, 3) := by decide +kernel
theorem d_x_Note_add_42 : decode b_x_Note_add 42 = .ok (.iconst 1, 1) := by decide +kernel
theorem d_x_Note_add_43 : decode b_x_Note_add 43 = .ok (.iadd, 1) := by decide +kernel
theorem d_x_Note_add_44 : decode b_x_Note_add 44 = .ok (.putfield 17, 3) := by decide +kernel
theorem d_x_Note_add_47 : decode b_x_Note_add 47 = .ok (.return_, 1) := by decide +kernel
theorem d_x_NS_given_0 : decode b_x_NS_given 0 = .ok (.aload_n 2, 1) := by decide +kernel
theorem d_x_NS_given_1 : decode b_x_NS_given 1 = .ok (.aload_n 1, 1) := by decide +kernel
theorem d_x_NS_given_2 : decode b_x_NS_given 2 = .ok (.invokevirtual 182, 3) := by decide +kernel
theorem d_x_NS_given_5 : decode b_x_NS_given 5 = .ok (.aload_n 1, 1) := by decide +kernel
theorem d_x_NS_given_6 : decode b_x_NS_given 6 = .ok (.getfield 114, 3) := by decide +kernel
theorem d_x_NS_given_9 : decode b_x_NS_given 9 = .ok (.ifCond .eq 12, 3) := by decide +kernel
theorem d_x_NS_given_12 : decode b_x_NS_given 12 = .ok (.aload_n 2, 1) := by decide +kernel
theorem d_x_NS_given_13 : decode b_x_NS_given 13 = .ok (.iconst 0, 1) := by decide +kernel
theorem d_x_NS_given_14 : decode b_x_NS_given 14 = .ok (.putfield 122, 3) := by decide +kernel
theorem d_x_NS_given_17 : decode b_x_NS_given 17 = .ok (.ldc2_w 185, 3) := by decide +kernel
theorem d_x_NS_given_20 : decode b_x_NS_given 20 = .ok (.lreturn, 1) := by decide +kernel
theorem d_x_NS_given_21 : decode b_x_NS_given 21 = .ok (.aload_n 0, 1) := by decide +kernel
theorem d_x_NS_given_22 : decode b_x_NS_given 22 = .ok (.aload_n 1, 1) := by decide +kernel
theorem d_x_NS_given_23 : decode b_x_NS_given 23 = .ok (.invokevirtual 187, 3) := by decide +kernel
theorem d_x_NS_given_26 : decode b_x_NS_given 26 = .ok (.lstore_n 3, 1) := by decide +kernel
theorem d_x_NS_given_27 : decode b_x_NS_given 27 = .ok (.aload_n 2, 1) := by decide +kernel
theorem d_x_NS_given_28 : decode b_x_NS_given 28 = .ok (.aload_n 2, 1) := by decide +kernel
theorem d_x_NS_given_29 : decode b_x_NS_given 29 = .ok (.getfield 122, 3) := by decide +kernel
theorem d_x_NS_given_32 : decode b_x_NS_given 32 = .ok (.aload_n 1, 1) := by decide +kernel
theorem d_x_NS_given_33 : decode b_x_NS_given 33 = .ok (.invokevirtual 151, 3) := by decide +kernel
theorem d_x_NS_given_36 : decode b_x_NS_given 36 = .ok (.invokestatic 154, 3) := by decide +kernel
theorem d_x_NS_given_39 : decode b_x_NS_given 39 = .ok (.putfield 122, 3) := by decide +kernel
theorem d_x_NS_given_42 : decode b_x_NS_given 42 = .ok (.lload_n 3, 1) := by decide +kernel
theorem d_x_NS_given_43 : decode b_x_NS_given 43 = .ok (.lreturn, 1) := by decide +kernel
theorem d_x_NS_value_0 : decode b_x_NS_value 0 = .ok (.aload_n 1, 1) := by decide +kernel
theorem d_x_NS_value_1 : decode b_x_NS_value 1 = .ok (.getfield 77, 3) := by decide +kernel
theorem d_x_NS_value_4 : decode b_x_NS_value 4 = .ok (.ifCond .eq 9, 3) := by decide +kernel
theorem d_x_NS_value_7 : decode b_x_NS_value 7 = .ok (.aload_n 1, 1) := by decide +kernel
theorem d_x_NS_value_8 : decode b_x_NS_value 8 = .ok (.getfield 108, 3) := by decide +kernel
theorem d_x_NS_value_11 : decode b_x_NS_value 11 = .ok (.i2l, 1) := by decide +kernel
theorem d_x_NS_value_12 : decode b_x_NS_value 12 = .ok (.lreturn, 1) := by decide +kernel
theorem d_x_NS_value_13 : decode b_x_NS_value 13 = .ok (.aload_n 0, 1) := by decide +kernel
theorem d_x_NS_value_14 : decode b_x_NS_value 14 = .ok (.aload_n 1, 1) := by decide +kernel
theorem d_x_NS_value_15 : decode b_x_NS_value 15 = .ok (.invokevirtual 145, 3) := by decide +kernel
theorem d_x_NS_value_18 : decode b_x_NS_value 18 = .ok (.aload_n 1, 1) := by decide +kernel
theorem d_x_NS_value_19 : decode b_x_NS_value 19 = .ok (.getfield 101, 3) := by decide +kernel
theorem d_x_NS_value_22 : decode b_x_NS_value 22 = .ok (.getfield 172, 3) := by decide +kernel
theorem d_x_NS_value_25 : decode b_x_NS_value 25 = .ok (.ifCond .ne 8, 3) := by decide +kernel
theorem d_x_NS_value_28 : decode b_x_NS_value 28 = .ok (.aload_n 0, 1) := by decide +kernel
theorem d_x_NS_value_29 : decode b_x_NS_value 29 = .ok (.aload_n 1, 1) := by decide +kernel
theorem d_x_NS_value_30 : decode b_x_NS_value 30 = .ok (.invokevirtual 135, 3) := by decide +kernel
theorem d_x_NS_value_33 : decode b_x_NS_value 33 = .ok (.aload_n 0, 1) := by decide +kernel
theorem d_x_NS_value_34 : decode b_x_NS_value 34 = .ok (.dup, 1) := by decide +kernel
theorem d_x_NS_value_35 : decode b_x_NS_value 35 = .ok (.getfield 176, 3) := by decide +kernel
theorem d_x_NS_value_38 : decode b_x_NS_value 38 = .ok (.iconst 1, 1) := by decide +kernel
theorem d_x_NS_value_39 : decode b_x_NS_value 39 = .ok (.iadd, 1) := by decide +kernel
theorem d_x_NS_value_40 : decode b_x_NS_value 40 = .ok (.putfield 176, 3) := by decide +kernel
theorem d_x_NS_value_43 : decode b_x_NS_value 43 = .ok (.aload_n 1, 1) := by decide +kernel
theorem d_x_NS_value_44 : decode b_x_NS_value 44 = .ok (.getfield 101, 3) := by decide +kernel
theorem d_x_NS_value_47 : decode b_x_NS_value 47 = .ok (.aload_n 0, 1) := by decide +kernel
theorem d_x_NS_value_48 : decode b_x_NS_value 48 = .ok (.getfield 176, 3) := by decide +kernel
theorem d_x_NS_value_51 : decode b_x_NS_value 51 = .ok (.putfield 179, 3) := by decide +kernel
theorem d_x_NS_value_54 : decode b_x_NS_value 54 = .ok (.aload_n 1, 1) := by decide +kernel
theorem d_x_NS_value_55 : decode b_x_NS_value 55 = .ok (.getfield 101, 3) := by decide +kernel
theorem d_x_NS_value_58 : decode b_x_NS_value 58 = .ok (.getfield 169, 3) := by decide +kernel
theorem d_x_NS_value_61 : decode b_x_NS_value 61 = .ok (.lreturn, 1) := by decide +kernel
theorem d_x_NS_both_0 : decode b_x_NS_both 0 = .ok (.aload_n 0, 1) := by decide +kernel
theorem d_x_NS_both_1 : decode b_x_NS_both 1 = .ok (.invokevirtual 197, 3) := by decide +kernel
theorem d_x_NS_both_4 : decode b_x_NS_both 4 = .ok (.tableswitch 66 3 7 #[36, 42, 48, 66, 54], 36) := by decide +kernel
theorem d_x_NS_both_40 : decode b_x_NS_both 40 = .ok (.lload_n 1, 1) := by decide +kernel
theorem d_x_NS_both_41 : decode b_x_NS_both 41 = .ok (.lload_n 3, 1) := by decide +kernel
theorem d_x_NS_both_42 : decode b_x_NS_both 42 = .ok (.ladd, 1) := by decide +kernel
theorem d_x_NS_both_43 : decode b_x_NS_both 43 = .ok (.l2i, 1) := by decide +kernel
theorem d_x_NS_both_44 : decode b_x_NS_both 44 = .ok (.i2l, 1) := by decide +kernel
theorem d_x_NS_both_45 : decode b_x_NS_both 45 = .ok (.lreturn, 1) := by decide +kernel
theorem d_x_NS_both_46 : decode b_x_NS_both 46 = .ok (.lload_n 1, 1) := by decide +kernel
theorem d_x_NS_both_47 : decode b_x_NS_both 47 = .ok (.lload_n 3, 1) := by decide +kernel
theorem d_x_NS_both_48 : decode b_x_NS_both 48 = .ok (.lsub, 1) := by decide +kernel
theorem d_x_NS_both_49 : decode b_x_NS_both 49 = .ok (.l2i, 1) := by decide +kernel
theorem d_x_NS_both_50 : decode b_x_NS_both 50 = .ok (.i2l, 1) := by decide +kernel
theorem d_x_NS_both_51 : decode b_x_NS_both 51 = .ok (.lreturn, 1) := by decide +kernel
theorem d_x_NS_both_52 : decode b_x_NS_both 52 = .ok (.lload_n 1, 1) := by decide +kernel
theorem d_x_NS_both_53 : decode b_x_NS_both 53 = .ok (.lload_n 3, 1) := by decide +kernel
theorem d_x_NS_both_54 : decode b_x_NS_both 54 = .ok (.lmul, 1) := by decide +kernel
theorem d_x_NS_both_55 : decode b_x_NS_both 55 = .ok (.l2i, 1) := by decide +kernel
theorem d_x_NS_both_56 : decode b_x_NS_both 56 = .ok (.i2l, 1) := by decide +kernel
theorem d_x_NS_both_57 : decode b_x_NS_both 57 = .ok (.lreturn, 1) := by decide +kernel
theorem d_x_NS_both_58 : decode b_x_NS_both 58 = .ok (.lload_n 1, 1) := by decide +kernel
theorem d_x_NS_both_59 : decode b_x_NS_both 59 = .ok (.lload_n 3, 1) := by decide +kernel
theorem d_x_NS_both_60 : decode b_x_NS_both 60 = .ok (.lcmp, 1) := by decide +kernel
theorem d_x_NS_both_61 : decode b_x_NS_both 61 = .ok (.ifCond .ge 7, 3) := by decide +kernel
theorem d_x_NS_both_64 : decode b_x_NS_both 64 = .ok (.lconst 1, 1) := by decide +kernel
theorem d_x_NS_both_65 : decode b_x_NS_both 65 = .ok (.goto 4, 3) := by decide +kernel
theorem d_x_NS_both_68 : decode b_x_NS_both 68 = .ok (.lconst 0, 1) := by decide +kernel
theorem d_x_NS_both_69 : decode b_x_NS_both 69 = .ok (.lreturn, 1) := by decide +kernel
theorem d_x_NS_both_70 : decode b_x_NS_both 70 = .ok (.lload_n 1, 1) := by decide +kernel
theorem d_x_NS_both_71 : decode b_x_NS_both 71 = .ok (.lload_n 3, 1) := by decide +kernel
theorem d_x_NS_both_72 : decode b_x_NS_both 72 = .ok (.lcmp, 1) := by decide +kernel
theorem d_x_NS_both_73 : decode b_x_NS_both 73 = .ok (.ifCond .ne 7, 3) := by decide +kernel
theorem d_x_NS_both_76 : decode b_x_NS_both 76 = .ok (.lconst 1, 1) := by decide +kernel
theorem d_x_NS_both_77 : decode b_x_NS_both 77 = .ok (.goto 4, 3) := by decide +kernel
theorem d_x_NS_both_80 : decode b_x_NS_both 80 = .ok (.lconst 0, 1) := by decide +kernel
theorem d_x_NS_both_81 : decode b_x_NS_both 81 = .ok (.lreturn, 1) := by decide +kernel
theorem d_x_NS_result_0 : decode b_x_NS_result 0 = .ok (.bipush 16, 2) := by decide +kernel
theorem d_x_NS_result_2 : decode b_x_NS_result 2 = .ok (.newarray .long, 2) := by decide +kernel
theorem d_x_NS_result_4 : decode b_x_NS_result 4 = .ok (.astore_n 3, 1) := by decide +kernel
theorem d_x_NS_result_5 : decode b_x_NS_result 5 = .ok (.iconst 0, 1) := by decide +kernel
theorem d_x_NS_result_6 : decode b_x_NS_result 6 = .ok (.istore 4, 2) := by decide +kernel
theorem d_x_NS_result_8 : decode b_x_NS_result 8 = .ok (.iconst 0, 1) := by decide +kernel
theorem d_x_NS_result_9 : decode b_x_NS_result 9 = .ok (.istore 5, 2) := by decide +kernel
theorem d_x_NS_result_11 : decode b_x_NS_result 11 = .ok (.iload 5, 2) := by decide +kernel
theorem d_x_NS_result_13 : decode b_x_NS_result 13 = .ok (.aload_n 1, 1) := by decide +kernel
theorem d_x_NS_result_14 : decode b_x_NS_result 14 = .ok (.getfield 190, 3) := by decide +kernel
theorem d_x_NS_result_17 : decode b_x_NS_result 17 = .ok (.arraylength, 1) := by decide +kernel
theorem d_x_NS_result_18 : decode b_x_NS_result 18 = .ok (.if_icmp .ge 248, 3) := by decide +kernel
theorem d_x_NS_result_21 : decode b_x_NS_result 21 = .ok (.aload_n 1, 1) := by decide +kernel
theorem d_x_NS_result_22 : decode b_x_NS_result 22 = .ok (.getfield 194, 3) := by decide +kernel
theorem d_x_NS_result_25 : decode b_x_NS_result 25 = .ok (.iload 5, 2) := by decide +kernel
theorem d_x_NS_result_27 : decode b_x_NS_result 27 = .ok (.iaload, 1) := by decide +kernel
theorem d_x_NS_result_28 : decode b_x_NS_result 28 = .ok (.istore 6, 2) := by decide +kernel
theorem d_x_NS_result_30 : decode b_x_NS_result 30 = .ok (.aload_n 1, 1) := by decide +kernel
theorem d_x_NS_result_31 : decode b_x_NS_result 31 = .ok (.getfield 190, 3) := by decide +kernel
theorem d_x_NS_result_34 : decode b_x_NS_result 34 = .ok (.iload 5, 2) := by decide +kernel
theorem d_x_NS_result_36 : decode b_x_NS_result 36 = .ok (.aaload, 1) := by decide +kernel
theorem d_x_NS_result_37 : decode b_x_NS_result 37 = .ok (.astore 7, 2) := by decide +kernel
theorem d_x_NS_result_39 : decode b_x_NS_result 39 = .ok (.iinc 5 1, 3) := by decide +kernel
theorem d_x_NS_result_42 : decode b_x_NS_result 42 = .ok (.aload 7, 2) := by decide +kernel
theorem d_x_NS_result_44 : decode b_x_NS_result 44 = .ok (.invokevirtual 197, 3) := by decide +kernel
theorem d_x_NS_result_47 : decode b_x_NS_result 47 = .ok (.tableswitch 192 0 10 #[57, 70, 70, 192, 192, 192, 143, 192, 192, 161, 185], 57) := by decide +kernel
theorem d_x_NS_result_104 : decode b_x_NS_result 104 = .ok (.aload_n 3, 1) := by decide +kernel
theorem d_x_NS_result_105 : decode b_x_NS_result 105 = .ok (.iload 4, 2) := by decide +kernel
theorem d_x_NS_result_107 : decode b_x_NS_result 107 = .ok (.iinc 4 1, 3) := by decide +kernel
theorem d_x_NS_result_110 : decode b_x_NS_result 110 = .ok (.iload 6, 2) := by decide +kernel
theorem d_x_NS_result_112 : decode b_x_NS_result 112 = .ok (.i2l, 1) := by decide +kernel
theorem d_x_NS_result_113 : decode b_x_NS_result 113 = .ok (.lastore, 1) := by decide +kernel
theorem d_x_NS_result_114 : decode b_x_NS_result 114 = .ok (.goto 149, 3) := by decide +kernel
theorem d_x_NS_result_117 : decode b_x_NS_result 117 = .ok (.aload 7, 2) := by decide +kernel
theorem d_x_NS_result_119 : decode b_x_NS_result 119 = .ok (.getstatic 202, 3) := by decide +kernel
theorem d_x_NS_result_122 : decode b_x_NS_result 122 = .ok (.if_acmp .ne 18, 3) := by decide +kernel
theorem d_x_NS_result_125 : decode b_x_NS_result 125 = .ok (.aload_n 0, 1) := by decide +kernel
theorem d_x_NS_result_126 : decode b_x_NS_result 126 = .ok (.aload_n 0, 1) := by decide +kernel
theorem d_x_NS_result_127 : decode b_x_NS_result 127 = .ok (.getfield 11, 3) := by decide +kernel
theorem d_x_NS_result_130 : decode b_x_NS_result 130 = .ok (.iload 6, 2) := by decide +kernel
theorem d_x_NS_result_132 : decode b_x_NS_result 132 = .ok (.aaload, 1) := by decide +kernel
theorem d_x_NS_result_133 : decode b_x_NS_result 133 = .ok (.aload_n 2, 1) := by decide +kernel
theorem d_x_NS_result_134 : decode b_x_NS_result 134 = .ok (.invokevirtual 206, 3) := by decide +kernel
theorem d_x_NS_result_137 : decode b_x_NS_result 137 = .ok (.goto 26, 3) := by decide +kernel
theorem d_x_NS_result_140 : decode b_x_NS_result 140 = .ok (.aload_n 0, 1) := by decide +kernel
theorem d_x_NS_result_141 : decode b_x_NS_result 141 = .ok (.aload_n 0, 1) := by decide +kernel
theorem d_x_NS_result_142 : decode b_x_NS_result 142 = .ok (.getfield 11, 3) := by decide +kernel
theorem d_x_NS_result_145 : decode b_x_NS_result 145 = .ok (.aload_n 3, 1) := by decide +kernel
theorem d_x_NS_result_146 : decode b_x_NS_result 146 = .ok (.iinc 4 (-1), 3) := by decide +kernel
theorem d_x_NS_result_149 : decode b_x_NS_result 149 = .ok (.iload 4, 2) := by decide +kernel
theorem d_x_NS_result_151 : decode b_x_NS_result 151 = .ok (.laload, 1) := by decide +kernel
theorem d_x_NS_result_152 : decode b_x_NS_result 152 = .ok (.l2i, 1) := by decide +kernel
theorem d_x_NS_result_153 : decode b_x_NS_result 153 = .ok (.bipush 12, 2) := by decide +kernel
theorem d_x_NS_result_155 : decode b_x_NS_result 155 = .ok (.invokestatic 210, 3) := by decide +kernel
theorem d_x_NS_result_158 : decode b_x_NS_result 158 = .ok (.aaload, 1) := by decide +kernel
theorem d_x_NS_result_159 : decode b_x_NS_result 159 = .ok (.aload_n 2, 1) := by decide +kernel
theorem d_x_NS_result_160 : decode b_x_NS_result 160 = .ok (.invokevirtual 206, 3) := by decide +kernel
theorem d_x_NS_result_163 : decode b_x_NS_result 163 = .ok (.lstore 8, 2) := by decide +kernel
theorem d_x_NS_result_165 : decode b_x_NS_result 165 = .ok (.lload 8, 2) := by decide +kernel
theorem d_x_NS_result_167 : decode b_x_NS_result 167 = .ok (.ldc2_w 185, 3) := by decide +kernel
theorem d_x_NS_result_170 : decode b_x_NS_result 170 = .ok (.lcmp, 1) := by decide +kernel
theorem d_x_NS_result_171 : decode b_x_NS_result 171 = .ok (.ifCond .ne 7, 3) := by decide +kernel
theorem d_x_NS_result_174 : decode b_x_NS_result 174 = .ok (.ldc2_w 185, 3) := by decide +kernel
theorem d_x_NS_result_177 : decode b_x_NS_result 177 = .ok (.lreturn, 1) := by decide +kernel
theorem d_x_NS_result_178 : decode b_x_NS_result 178 = .ok (.aload_n 3, 1) := by decide +kernel
theorem d_x_NS_result_179 : decode b_x_NS_result 179 = .ok (.iload 4, 2) := by decide +kernel
theorem d_x_NS_result_181 : decode b_x_NS_result 181 = .ok (.iinc 4 1, 3) := by decide +kernel
theorem d_x_NS_result_184 : decode b_x_NS_result 184 = .ok (.lload 8, 2) := by decide +kernel
theorem d_x_NS_result_186 : decode b_x_NS_result 186 = .ok (.lastore, 1) := by decide +kernel
theorem d_x_NS_result_187 : decode b_x_NS_result 187 = .ok (.goto 76, 3) := by decide +kernel
theorem d_x_NS_result_190 : decode b_x_NS_result 190 = .ok (.aload_n 3, 1) := by decide +kernel
theorem d_x_NS_result_191 : decode b_x_NS_result 191 = .ok (.iload 4, 2) := by decide +kernel
theorem d_x_NS_result_193 : decode b_x_NS_result 193 = .ok (.iconst 1, 1) := by decide +kernel
theorem d_x_NS_result_194 : decode b_x_NS_result 194 = .ok (.isub, 1) := by decide +kernel
theorem d_x_NS_result_195 : decode b_x_NS_result 195 = .ok (.aload_n 3, 1) := by decide +kernel
theorem d_x_NS_result_196 : decode b_x_NS_result 196 = .ok (.iload 4, 2) := by decide +kernel
theorem d_x_NS_result_198 : decode b_x_NS_result 198 = .ok (.iconst 1, 1) := by decide +kernel
theorem d_x_NS_result_199 : decode b_x_NS_result 199 = .ok (.isub, 1) := by decide +kernel
theorem d_x_NS_result_200 : decode b_x_NS_result 200 = .ok (.laload, 1) := by decide +kernel
theorem d_x_NS_result_201 : decode b_x_NS_result 201 = .ok (.lneg, 1) := by decide +kernel
theorem d_x_NS_result_202 : decode b_x_NS_result 202 = .ok (.l2i, 1) := by decide +kernel
theorem d_x_NS_result_203 : decode b_x_NS_result 203 = .ok (.i2l, 1) := by decide +kernel
theorem d_x_NS_result_204 : decode b_x_NS_result 204 = .ok (.lastore, 1) := by decide +kernel
theorem d_x_NS_result_205 : decode b_x_NS_result 205 = .ok (.goto 58, 3) := by decide +kernel
theorem d_x_NS_result_208 : decode b_x_NS_result 208 = .ok (.aload_n 3, 1) := by decide +kernel
theorem d_x_NS_result_209 : decode b_x_NS_result 209 = .ok (.iinc 4 (-1), 3) := by decide +kernel
theorem d_x_NS_result_212 : decode b_x_NS_result 212 = .ok (.iload 4, 2) := by decide +kernel
theorem d_x_NS_result_214 : decode b_x_NS_result 214 = .ok (.laload, 1) := by decide +kernel
theorem d_x_NS_result_215 : decode b_x_NS_result 215 = .ok (.lconst 0, 1) := by decide +kernel
theorem d_x_NS_result_216 : decode b_x_NS_result 216 = .ok (.lcmp, 1) := by decide +kernel
theorem d_x_NS_result_217 : decode b_x_NS_result 217 = .ok (.ifCond .eq 8, 3) := by decide +kernel
theorem d_x_NS_result_220 : decode b_x_NS_result 220 = .ok (.iload 5, 2) := by decide +kernel
theorem d_x_NS_result_222 : decode b_x_NS_result 222 = .ok (.goto 5, 3) := by decide +kernel
theorem d_x_NS_result_225 : decode b_x_NS_result 225 = .ok (.iload 6, 2) := by decide +kernel
theorem d_x_NS_result_227 : decode b_x_NS_result 227 = .ok (.istore 5, 2) := by decide +kernel
theorem d_x_NS_result_229 : decode b_x_NS_result 229 = .ok (.goto 34, 3) := by decide +kernel
theorem d_x_NS_result_232 : decode b_x_NS_result 232 = .ok (.iload 6, 2) := by decide +kernel
theorem d_x_NS_result_234 : decode b_x_NS_result 234 = .ok (.istore 5, 2) := by decide +kernel
theorem d_x_NS_result_236 : decode b_x_NS_result 236 = .ok (.goto 27, 3) := by decide +kernel
theorem d_x_NS_result_239 : decode b_x_NS_result 239 = .ok (.iinc 4 (-1), 3) := by decide +kernel
theorem d_x_NS_result_242 : decode b_x_NS_result 242 = .ok (.aload_n 3, 1) := by decide +kernel
theorem d_x_NS_result_243 : decode b_x_NS_result 243 = .ok (.iload 4, 2) := by decide +kernel
theorem d_x_NS_result_245 : decode b_x_NS_result 245 = .ok (.iconst 1, 1) := by decide +kernel
theorem d_x_NS_result_246 : decode b_x_NS_result 246 = .ok (.isub, 1) := by decide +kernel
theorem d_x_NS_result_247 : decode b_x_NS_result 247 = .ok (.aload 7, 2) := by decide +kernel
theorem d_x_NS_result_249 : decode b_x_NS_result 249 = .ok (.aload_n 3, 1) := by decide +kernel
theorem d_x_NS_result_250 : decode b_x_NS_result 250 = .ok (.iload 4, 2) := by decide +kernel
theorem d_x_NS_result_252 : decode b_x_NS_result 252 = .ok (.iconst 1, 1) := by decide +kernel
theorem d_x_NS_result_253 : decode b_x_NS_result 253 = .ok (.isub, 1) := by decide +kernel
theorem d_x_NS_result_254 : decode b_x_NS_result 254 = .ok (.laload, 1) := by decide +kernel
theorem d_x_NS_result_255 : decode b_x_NS_result 255 = .ok (.aload_n 3, 1) := by decide +kernel
theorem d_x_NS_result_256 : decode b_x_NS_result 256 = .ok (.iload 4, 2) := by decide +kernel
theorem d_x_NS_result_258 : decode b_x_NS_result 258 = .ok (.laload, 1) := by decide +kernel
theorem d_x_NS_result_259 : decode b_x_NS_result 259 = .ok (.invokestatic 213, 3) := by decide +kernel
theorem d_x_NS_result_262 : decode b_x_NS_result 262 = .ok (.lastore, 1) := by decide +kernel
theorem d_x_NS_result_263 : decode b_x_NS_result 263 = .ok (.goto (-252), 3) := by decide +kernel
theorem d_x_NS_result_266 : decode b_x_NS_result 266 = .ok (.aload_n 3, 1) := by decide +kernel
theorem d_x_NS_result_267 : decode b_x_NS_result 267 = .ok (.iconst 0, 1) := by decide +kernel
theorem d_x_NS_result_268 : decode b_x_NS_result 268 = .ok (.laload, 1) := by decide +kernel
theorem d_x_NS_result_269 : decode b_x_NS_result 269 = .ok (.lreturn, 1) := by decide +kernel
theorem d_x_NS_held_0 : decode b_x_NS_held 0 = .ok (.iconst 0, 1) := by decide +kernel
theorem d_x_NS_held_1 : decode b_x_NS_held 1 = .ok (.istore_n 1, 1) := by decide +kernel
theorem d_x_NS_held_2 : decode b_x_NS_held 2 = .ok (.iconst 0, 1) := by decide +kernel
theorem d_x_NS_held_3 : decode b_x_NS_held 3 = .ok (.istore_n 2, 1) := by decide +kernel
theorem d_x_NS_held_4 : decode b_x_NS_held 4 = .ok (.iload_n 2, 1) := by decide +kernel
theorem d_x_NS_held_5 : decode b_x_NS_held 5 = .ok (.bipush 12, 2) := by decide +kernel
theorem d_x_NS_held_7 : decode b_x_NS_held 7 = .ok (.if_icmp .ge 44, 3) := by decide +kernel
theorem d_x_NS_held_10 : decode b_x_NS_held 10 = .ok (.iload_n 1, 1) := by decide +kernel
theorem d_x_NS_held_11 : decode b_x_NS_held 11 = .ok (.aload_n 0, 1) := by decide +kernel
theorem d_x_NS_held_12 : decode b_x_NS_held 12 = .ok (.getfield 11, 3) := by decide +kernel
theorem d_x_NS_held_15 : decode b_x_NS_held 15 = .ok (.iload_n 2, 1) := by decide +kernel
theorem d_x_NS_held_16 : decode b_x_NS_held 16 = .ok (.aaload, 1) := by decide +kernel
theorem d_x_NS_held_17 : decode b_x_NS_held 17 = .ok (.getfield 101, 3) := by decide +kernel
theorem d_x_NS_held_20 : decode b_x_NS_held 20 = .ok (.ifnull 22, 3) := by decide +kernel
theorem d_x_NS_held_23 : decode b_x_NS_held 23 = .ok (.aload_n 0, 1) := by decide +kernel
theorem d_x_NS_held_24 : decode b_x_NS_held 24 = .ok (.getfield 11, 3) := by decide +kernel
theorem d_x_NS_held_27 : decode b_x_NS_held 27 = .ok (.iload_n 2, 1) := by decide +kernel
theorem d_x_NS_held_28 : decode b_x_NS_held 28 = .ok (.aaload, 1) := by decide +kernel
theorem d_x_NS_held_29 : decode b_x_NS_held 29 = .ok (.getfield 101, 3) := by decide +kernel
theorem d_x_NS_held_32 : decode b_x_NS_held 32 = .ok (.getfield 172, 3) := by decide +kernel
theorem d_x_NS_held_35 : decode b_x_NS_held 35 = .ok (.ifCond .eq 7, 3) := by decide +kernel
theorem d_x_NS_held_38 : decode b_x_NS_held 38 = .ok (.iconst 1, 1) := by decide +kernel
theorem d_x_NS_held_39 : decode b_x_NS_held 39 = .ok (.goto 4, 3) := by decide +kernel
theorem d_x_NS_held_42 : decode b_x_NS_held 42 = .ok (.iconst 0, 1) := by decide +kernel
theorem d_x_NS_held_43 : decode b_x_NS_held 43 = .ok (.iadd, 1) := by decide +kernel
theorem d_x_NS_held_44 : decode b_x_NS_held 44 = .ok (.istore_n 1, 1) := by decide +kernel
theorem d_x_NS_held_45 : decode b_x_NS_held 45 = .ok (.iinc 2 1, 3) := by decide +kernel
theorem d_x_NS_held_48 : decode b_x_NS_held 48 = .ok (.goto (-44), 3) := by decide +kernel
theorem d_x_NS_held_51 : decode b_x_NS_held 51 = .ok (.iload_n 1, 1) := by decide +kernel
theorem d_x_NS_held_52 : decode b_x_NS_held 52 = .ok (.ireturn, 1) := by decide +kernel
theorem d_x_NS_dropOne_0 : decode b_x_NS_dropOne 0 = .ok (.aconst_null, 1) := by decide +kernel
theorem d_x_NS_dropOne_1 : decode b_x_NS_dropOne 1 = .ok (.astore_n 1, 1) := by decide +kernel
theorem d_x_NS_dropOne_2 : decode b_x_NS_dropOne 2 = .ok (.iconst 0, 1) := by decide +kernel
theorem d_x_NS_dropOne_3 : decode b_x_NS_dropOne 3 = .ok (.istore_n 2, 1) := by decide +kernel
theorem d_x_NS_dropOne_4 : decode b_x_NS_dropOne 4 = .ok (.iload_n 2, 1) := by decide +kernel
theorem d_x_NS_dropOne_5 : decode b_x_NS_dropOne 5 = .ok (.bipush 12, 2) := by decide +kernel
theorem d_x_NS_dropOne_7 : decode b_x_NS_dropOne 7 = .ok (.if_icmp .ge 47, 3) := by decide +kernel
theorem d_x_NS_dropOne_10 : decode b_x_NS_dropOne 10 = .ok (.aload_n 0, 1) := by decide +kernel
theorem d_x_NS_dropOne_11 : decode b_x_NS_dropOne 11 = .ok (.getfield 11, 3) := by decide +kernel
theorem d_x_NS_dropOne_14 : decode b_x_NS_dropOne 14 = .ok (.iload_n 2, 1) := by decide +kernel
theorem d_x_NS_dropOne_15 : decode b_x_NS_dropOne 15 = .ok (.aaload, 1) := by decide +kernel
theorem d_x_NS_dropOne_16 : decode b_x_NS_dropOne 16 = .ok (.getfield 101, 3) := by decide +kernel
theorem d_x_NS_dropOne_19 : decode b_x_NS_dropOne 19 = .ok (.astore_n 3, 1) := by decide +kernel
theorem d_x_NS_dropOne_20 : decode b_x_NS_dropOne 20 = .ok (.aload_n 3, 1) := by decide +kernel
theorem d_x_NS_dropOne_21 : decode b_x_NS_dropOne 21 = .ok (.ifnull 27, 3) := by decide +kernel
theorem d_x_NS_dropOne_24 : decode b_x_NS_dropOne 24 = .ok (.aload_n 3, 1) := by decide +kernel
theorem d_x_NS_dropOne_25 : decode b_x_NS_dropOne 25 = .ok (.getfield 172, 3) := by decide +kernel
theorem d_x_NS_dropOne_28 : decode b_x_NS_dropOne 28 = .ok (.ifCond .eq 20, 3) := by decide +kernel
theorem d_x_NS_dropOne_31 : decode b_x_NS_dropOne 31 = .ok (.aload_n 1, 1) := by decide +kernel
theorem d_x_NS_dropOne_32 : decode b_x_NS_dropOne 32 = .ok (.ifnull 14, 3) := by decide +kernel
theorem d_x_NS_dropOne_35 : decode b_x_NS_dropOne 35 = .ok (.aload_n 3, 1) := by decide +kernel
theorem d_x_NS_dropOne_36 : decode b_x_NS_dropOne 36 = .ok (.getfield 179, 3) := by decide +kernel
theorem d_x_NS_dropOne_39 : decode b_x_NS_dropOne 39 = .ok (.aload_n 1, 1) := by decide +kernel
theorem d_x_NS_dropOne_40 : decode b_x_NS_dropOne 40 = .ok (.getfield 179, 3) := by decide +kernel
theorem d_x_NS_dropOne_43 : decode b_x_NS_dropOne 43 = .ok (.if_icmp .ge 5, 3) := by decide +kernel
theorem d_x_NS_dropOne_46 : decode b_x_NS_dropOne 46 = .ok (.aload_n 3, 1) := by decide +kernel
theorem d_x_NS_dropOne_47 : decode b_x_NS_dropOne 47 = .ok (.astore_n 1, 1) := by decide +kernel
theorem d_x_NS_dropOne_48 : decode b_x_NS_dropOne 48 = .ok (.iinc 2 1, 3) := by decide +kernel
theorem d_x_NS_dropOne_51 : decode b_x_NS_dropOne 51 = .ok (.goto (-47), 3) := by decide +kernel
theorem d_x_NS_dropOne_54 : decode b_x_NS_dropOne 54 = .ok (.aload_n 1, 1) := by decide +kernel
theorem d_x_NS_dropOne_55 : decode b_x_NS_dropOne 55 = .ok (.ifnull 8, 3) := by decide +kernel
theorem d_x_NS_dropOne_58 : decode b_x_NS_dropOne 58 = .ok (.aload_n 1, 1) := by decide +kernel
theorem d_x_NS_dropOne_59 : decode b_x_NS_dropOne 59 = .ok (.iconst 0, 1) := by decide +kernel
theorem d_x_NS_dropOne_60 : decode b_x_NS_dropOne 60 = .ok (.putfield 172, 3) := by decide +kernel
theorem d_x_NS_dropOne_63 : decode b_x_NS_dropOne 63 = .ok (.return_, 1) := by decide +kernel
theorem d_x_NS_revision_0 : decode b_x_NS_revision 0 = .ok (.aload_n 0, 1) := by decide +kernel
theorem d_x_NS_revision_1 : decode b_x_NS_revision 1 = .ok (.getfield 29, 3) := by decide +kernel
theorem d_x_NS_revision_4 : decode b_x_NS_revision 4 = .ok (.ireturn, 1) := by decide +kernel
theorem d_x_NS_changed_0 : decode b_x_NS_changed 0 = .ok (.iload_n 1, 1) := by decide +kernel
theorem d_x_NS_changed_1 : decode b_x_NS_changed 1 = .ok (.ifCond .lt 8, 3) := by decide +kernel
theorem d_x_NS_changed_4 : decode b_x_NS_changed 4 = .ok (.iload_n 1, 1) := by decide +kernel
theorem d_x_NS_changed_5 : decode b_x_NS_changed 5 = .ok (.iconst 2, 1) := by decide +kernel
theorem d_x_NS_changed_6 : decode b_x_NS_changed 6 = .ok (.if_icmp .le 7, 3) := by decide +kernel
theorem d_x_NS_changed_9 : decode b_x_NS_changed 9 = .ok (.iconst (-1), 1) := by decide +kernel
theorem d_x_NS_changed_10 : decode b_x_NS_changed 10 = .ok (.goto 9, 3) := by decide +kernel
theorem d_x_NS_changed_13 : decode b_x_NS_changed 13 = .ok (.aload_n 0, 1) := by decide +kernel
theorem d_x_NS_changed_14 : decode b_x_NS_changed 14 = .ok (.getfield 33, 3) := by decide +kernel
theorem d_x_NS_changed_17 : decode b_x_NS_changed 17 = .ok (.iload_n 1, 1) := by decide +kernel
theorem d_x_NS_changed_18 : decode b_x_NS_changed 18 = .ok (.iaload, 1) := by decide +kernel
theorem d_x_NS_changed_19 : decode b_x_NS_changed 19 = .ok (.ireturn, 1) := by decide +kernel
theorem d_x_NS_note_0 : decode b_x_NS_note 0 = .ok (.aload_n 0, 1) := by decide +kernel
theorem d_x_NS_note_1 : decode b_x_NS_note 1 = .ok (.iload_n 1, 1) := by decide +kernel
theorem d_x_NS_note_2 : decode b_x_NS_note 2 = .ok (.invokevirtual 59, 3) := by decide +kernel
theorem d_x_NS_note_5 : decode b_x_NS_note 5 = .ok (.astore_n 3, 1) := by decide +kernel
theorem d_x_NS_note_6 : decode b_x_NS_note 6 = .ok (.aload_n 3, 1) := by decide +kernel
theorem d_x_NS_note_7 : decode b_x_NS_note 7 = .ok (.ifnonnull 5, 3) := by decide +kernel
theorem d_x_NS_note_10 : decode b_x_NS_note 10 = .ok (.iconst (-1), 1) := by decide +kernel
theorem d_x_NS_note_11 : decode b_x_NS_note 11 = .ok (.ireturn, 1) := by decide +kernel
theorem d_x_NS_note_12 : decode b_x_NS_note 12 = .ok (.aload_n 3, 1) := by decide +kernel
theorem d_x_NS_note_13 : decode b_x_NS_note 13 = .ok (.getfield 101, 3) := by decide +kernel
theorem d_x_NS_note_16 : decode b_x_NS_note 16 = .ok (.astore 4, 2) := by decide +kernel
theorem d_x_NS_note_18 : decode b_x_NS_note 18 = .ok (.iload_n 2, 1) := by decide +kernel
theorem d_x_NS_note_19 : decode b_x_NS_note 19 = .ok (.tableswitch 126 0 7 #[45, 50, 55, 60, 65, 80, 85, 100], 45) := by decide +kernel
theorem d_x_NS_note_64 : decode b_x_NS_note 64 = .ok (.aload_n 3, 1) := by decide +kernel
theorem d_x_NS_note_65 : decode b_x_NS_note 65 = .ok (.getfield 160, 3) := by decide +kernel
theorem d_x_NS_note_68 : decode b_x_NS_note 68 = .ok (.ireturn, 1) := by decide +kernel
theorem d_x_NS_note_69 : decode b_x_NS_note 69 = .ok (.aload_n 3, 1) := by decide +kernel
theorem d_x_NS_note_70 : decode b_x_NS_note 70 = .ok (.getfield 131, 3) := by decide +kernel
theorem d_x_NS_note_73 : decode b_x_NS_note 73 = .ok (.ireturn, 1) := by decide +kernel
theorem d_x_NS_note_74 : decode b_x_NS_note 74 = .ok (.aload_n 3, 1) := by decide +kernel
theorem d_x_NS_note_75 : decode b_x_NS_note 75 = .ok (.getfield 123, 3) := by decide +kernel
theorem d_x_NS_note_78 : decode b_x_NS_note 78 = .ok (.ireturn, 1) := by decide +kernel
theorem d_x_NS_note_79 : decode b_x_NS_note 79 = .ok (.aload_n 3, 1) := by decide +kernel
theorem d_x_NS_note_80 : decode b_x_NS_note 80 = .ok (.invokevirtual 148, 3) := by decide +kernel
theorem d_x_NS_note_83 : decode b_x_NS_note 83 = .ok (.ireturn, 1) := by decide +kernel
theorem d_x_NS_note_84 : decode b_x_NS_note 84 = .ok (.aload 4, 2) := by decide +kernel
theorem d_x_NS_note_86 : decode b_x_NS_note 86 = .ok (.ifnonnull 7, 3) := by decide +kernel
theorem d_x_NS_note_89 : decode b_x_NS_note 89 = .ok (.iconst 0, 1) := by decide +kernel
theorem d_x_NS_note_90 : decode b_x_NS_note 90 = .ok (.goto 8, 3) := by decide +kernel
theorem d_x_NS_note_93 : decode b_x_NS_note 93 = .ok (.aload 4, 2) := by decide +kernel
theorem d_x_NS_note_95 : decode b_x_NS_note 95 = .ok (.getfield 117, 3) := by decide +kernel
theorem d_x_NS_note_98 : decode b_x_NS_note 98 = .ok (.ireturn, 1) := by decide +kernel
theorem d_x_NS_note_99 : decode b_x_NS_note 99 = .ok (.aload_n 3, 1) := by decide +kernel
theorem d_x_NS_note_100 : decode b_x_NS_note 100 = .ok (.invokevirtual 151, 3) := by decide +kernel
theorem d_x_NS_note_103 : decode b_x_NS_note 103 = .ok (.ireturn, 1) := by decide +kernel
theorem d_x_NS_note_104 : decode b_x_NS_note 104 = .ok (.aload 4, 2) := by decide +kernel
theorem d_x_NS_note_106 : decode b_x_NS_note 106 = .ok (.ifnonnull 7, 3) := by decide +kernel
theorem d_x_NS_note_109 : decode b_x_NS_note 109 = .ok (.iconst 0, 1) := by decide +kernel
theorem d_x_NS_note_110 : decode b_x_NS_note 110 = .ok (.goto 8, 3) := by decide +kernel
theorem d_x_NS_note_113 : decode b_x_NS_note 113 = .ok (.aload 4, 2) := by decide +kernel
theorem d_x_NS_note_115 : decode b_x_NS_note 115 = .ok (.getfield 139, 3) := by decide +kernel
theorem d_x_NS_note_118 : decode b_x_NS_note 118 = .ok (.ireturn, 1) := by decide +kernel
theorem d_x_NS_note_119 : decode b_x_NS_note 119 = .ok (.aload_n 3, 1) := by decide +kernel
theorem d_x_NS_note_120 : decode b_x_NS_note 120 = .ok (.getfield 77, 3) := by decide +kernel
theorem d_x_NS_note_123 : decode b_x_NS_note 123 = .ok (.ifCond .ne 16, 3) := by decide +kernel
theorem d_x_NS_note_126 : decode b_x_NS_note 126 = .ok (.aload 4, 2) := by decide +kernel
theorem d_x_NS_note_128 : decode b_x_NS_note 128 = .ok (.ifnull 15, 3) := by decide +kernel
theorem d_x_NS_note_131 : decode b_x_NS_note 131 = .ok (.aload 4, 2) := by decide +kernel
theorem d_x_NS_note_133 : decode b_x_NS_note 133 = .ok (.getfield 172, 3) := by decide +kernel
theorem d_x_NS_note_136 : decode b_x_NS_note 136 = .ok (.ifCond .eq 7, 3) := by decide +kernel
theorem d_x_NS_note_139 : decode b_x_NS_note 139 = .ok (.iconst 1, 1) := by decide +kernel
theorem d_x_NS_note_140 : decode b_x_NS_note 140 = .ok (.goto 4, 3) := by decide +kernel
theorem d_x_NS_note_143 : decode b_x_NS_note 143 = .ok (.iconst 0, 1) := by decide +kernel
theorem d_x_NS_note_144 : decode b_x_NS_note 144 = .ok (.ireturn, 1) := by decide +kernel
theorem d_x_NS_note_145 : decode b_x_NS_note 145 = .ok (.iconst (-1), 1) := by decide +kernel
theorem d_x_NS_note_146 : decode b_x_NS_note 146 = .ok (.ireturn, 1) := by decide +kernel
theorem d_x_NS_read_0 : decode b_x_NS_read 0 = .ok (.aload_n 0, 1) := by decide +kernel
theorem d_x_NS_read_1 : decode b_x_NS_read 1 = .ok (.iload_n 1, 1) := by decide +kernel
theorem d_x_NS_read_2 : decode b_x_NS_read 2 = .ok (.invokevirtual 59, 3) := by decide +kernel
theorem d_x_NS_read_5 : decode b_x_NS_read 5 = .ok (.astore_n 3, 1) := by decide +kernel
theorem d_x_NS_read_6 : decode b_x_NS_read 6 = .ok (.aload_n 3, 1) := by decide +kernel
theorem d_x_NS_read_7 : decode b_x_NS_read 7 = .ok (.ifnull 25, 3) := by decide +kernel
theorem d_x_NS_read_10 : decode b_x_NS_read 10 = .ok (.aload_n 3, 1) := by decide +kernel
theorem d_x_NS_read_11 : decode b_x_NS_read 11 = .ok (.getfield 101, 3) := by decide +kernel
theorem d_x_NS_read_14 : decode b_x_NS_read 14 = .ok (.ifnull 18, 3) := by decide +kernel
theorem d_x_NS_read_17 : decode b_x_NS_read 17 = .ok (.iload_n 2, 1) := by decide +kernel
theorem d_x_NS_read_18 : decode b_x_NS_read 18 = .ok (.ifCond .lt 14, 3) := by decide +kernel
theorem d_x_NS_read_21 : decode b_x_NS_read 21 = .ok (.iload_n 2, 1) := by decide +kernel
theorem d_x_NS_read_22 : decode b_x_NS_read 22 = .ok (.aload_n 3, 1) := by decide +kernel
theorem d_x_NS_read_23 : decode b_x_NS_read 23 = .ok (.getfield 101, 3) := by decide +kernel
theorem d_x_NS_read_26 : decode b_x_NS_read 26 = .ok (.getfield 139, 3) := by decide +kernel
theorem d_x_NS_read_29 : decode b_x_NS_read 29 = .ok (.if_icmp .lt 7, 3) := by decide +kernel
theorem d_x_NS_read_32 : decode b_x_NS_read 32 = .ok (.iconst (-1), 1) := by decide +kernel
theorem d_x_NS_read_33 : decode b_x_NS_read 33 = .ok (.goto 15, 3) := by decide +kernel
theorem d_x_NS_read_36 : decode b_x_NS_read 36 = .ok (.aload_n 3, 1) := by decide +kernel
theorem d_x_NS_read_37 : decode b_x_NS_read 37 = .ok (.getfield 101, 3) := by decide +kernel
theorem d_x_NS_read_40 : decode b_x_NS_read 40 = .ok (.getfield 142, 3) := by decide +kernel
theorem d_x_NS_read_43 : decode b_x_NS_read 43 = .ok (.iload_n 2, 1) := by decide +kernel
theorem d_x_NS_read_44 : decode b_x_NS_read 44 = .ok (.aaload, 1) := by decide +kernel
theorem d_x_NS_read_45 : decode b_x_NS_read 45 = .ok (.getfield 225, 3) := by decide +kernel
theorem d_x_NS_read_48 : decode b_x_NS_read 48 = .ok (.ireturn, 1) := by decide +kernel
theorem d_x_NS_count_0 : decode b_x_NS_count 0 = .ok (.iload_n 1, 1) := by decide +kernel
theorem d_x_NS_count_1 : decode b_x_NS_count 1 = .ok (.tableswitch 51 0 3 #[31, 36, 41, 46], 31) := by decide +kernel
theorem d_x_NS_count_32 : decode b_x_NS_count 32 = .ok (.aload_n 0, 1) := by decide +kernel
theorem d_x_NS_count_33 : decode b_x_NS_count 33 = .ok (.getfield 163, 3) := by decide +kernel
theorem d_x_NS_count_36 : decode b_x_NS_count 36 = .ok (.ireturn, 1) := by decide +kernel
theorem d_x_NS_count_37 : decode b_x_NS_count 37 = .ok (.aload_n 0, 1) := by decide +kernel
theorem d_x_NS_count_38 : decode b_x_NS_count 38 = .ok (.getfield 134, 3) := by decide +kernel
theorem d_x_NS_count_41 : decode b_x_NS_count 41 = .ok (.ireturn, 1) := by decide +kernel
theorem d_x_NS_count_42 : decode b_x_NS_count 42 = .ok (.aload_n 0, 1) := by decide +kernel
theorem d_x_NS_count_43 : decode b_x_NS_count 43 = .ok (.getfield 126, 3) := by decide +kernel
theorem d_x_NS_count_46 : decode b_x_NS_count 46 = .ok (.ireturn, 1) := by decide +kernel
theorem d_x_NS_count_47 : decode b_x_NS_count 47 = .ok (.aload_n 0, 1) := by decide +kernel
theorem d_x_NS_count_48 : decode b_x_NS_count 48 = .ok (.invokevirtual 219, 3) := by decide +kernel
theorem d_x_NS_count_51 : decode b_x_NS_count 51 = .ok (.ireturn, 1) := by decide +kernel
theorem d_x_NS_count_52 : decode b_x_NS_count 52 = .ok (.iconst (-1), 1) := by decide +kernel
theorem d_x_NS_count_53 : decode b_x_NS_count 53 = .ok (.ireturn, 1) := by decide +kernel
theorem d_x_Rdr_one_0 : decode b_x_Rdr_one 0 = .ok (.aload_n 0, 1) := by decide +kernel
theorem d_x_Rdr_one_1 : decode b_x_Rdr_one 1 = .ok (.getfield 35, 3) := by decide +kernel
theorem d_x_Rdr_one_4 : decode b_x_Rdr_one 4 = .ok (.ifCond .ne 8, 3) := by decide +kernel
theorem d_x_Rdr_one_7 : decode b_x_Rdr_one 7 = .ok (.aload_n 0, 1) := by decide +kernel
theorem d_x_Rdr_one_8 : decode b_x_Rdr_one 8 = .ok (.iload_n 1, 1) := by decide +kernel
theorem d_x_Rdr_one_9 : decode b_x_Rdr_one 9 = .ok (.invokevirtual 76, 3) := by decide +kernel
theorem d_x_Rdr_one_12 : decode b_x_Rdr_one 12 = .ok (.return_, 1) := by decide +kernel
theorem d_x_Rdr_comparison_0 : decode b_x_Rdr_comparison 0 = .ok (.aload_n 0, 1) := by decide +kernel
theorem d_x_Rdr_comparison_1 : decode b_x_Rdr_comparison 1 = .ok (.iload_n 1, 1) := by decide +kernel
theorem d_x_Rdr_comparison_2 : decode b_x_Rdr_comparison 2 = .ok (.invokevirtual 79, 3) := by decide +kernel
theorem d_x_Rdr_comparison_5 : decode b_x_Rdr_comparison 5 = .ok (.aload_n 0, 1) := by decide +kernel
theorem d_x_Rdr_comparison_6 : decode b_x_Rdr_comparison 6 = .ok (.invokevirtual 43, 3) := by decide +kernel
theorem d_x_Rdr_comparison_9 : decode b_x_Rdr_comparison 9 = .ok (.bipush 60, 2) := by decide +kernel
theorem d_x_Rdr_comparison_11 : decode b_x_Rdr_comparison 11 = .ok (.if_icmp .ne 9, 3) := by decide +kernel
theorem d_x_Rdr_comparison_14 : decode b_x_Rdr_comparison 14 = .ok (.getstatic 82, 3) := by decide +kernel
theorem d_x_Rdr_comparison_17 : decode b_x_Rdr_comparison 17 = .ok (.goto 6, 3) := by decide +kernel
theorem d_x_Rdr_comparison_20 : decode b_x_Rdr_comparison 20 = .ok (.getstatic 85, 3) := by decide +kernel
theorem d_x_Rdr_comparison_23 : decode b_x_Rdr_comparison 23 = .ok (.astore_n 2, 1) := by decide +kernel
theorem d_x_Rdr_comparison_24 : decode b_x_Rdr_comparison 24 = .ok (.aload_n 0, 1) := by decide +kernel
theorem d_x_Rdr_comparison_25 : decode b_x_Rdr_comparison 25 = .ok (.bipush 60, 2) := by decide +kernel
theorem d_x_Rdr_comparison_27 : decode b_x_Rdr_comparison 27 = .ok (.invokevirtual 50, 3) := by decide +kernel
theorem d_x_Rdr_comparison_30 : decode b_x_Rdr_comparison 30 = .ok (.ifCond .ne 12, 3) := by decide +kernel
theorem d_x_Rdr_comparison_33 : decode b_x_Rdr_comparison 33 = .ok (.aload_n 0, 1) := by decide +kernel
theorem d_x_Rdr_comparison_34 : decode b_x_Rdr_comparison 34 = .ok (.bipush 61, 2) := by decide +kernel
theorem d_x_Rdr_comparison_36 : decode b_x_Rdr_comparison 36 = .ok (.invokevirtual 50, 3) := by decide +kernel
theorem d_x_Rdr_comparison_39 : decode b_x_Rdr_comparison 39 = .ok (.ifCond .eq 15, 3) := by decide +kernel
theorem d_x_Rdr_comparison_42 : decode b_x_Rdr_comparison 42 = .ok (.aload_n 0, 1) := by decide +kernel
theorem d_x_Rdr_comparison_43 : decode b_x_Rdr_comparison 43 = .ok (.iload_n 1, 1) := by decide +kernel
theorem d_x_Rdr_comparison_44 : decode b_x_Rdr_comparison 44 = .ok (.invokevirtual 79, 3) := by decide +kernel
theorem d_x_Rdr_comparison_47 : decode b_x_Rdr_comparison 47 = .ok (.aload_n 0, 1) := by decide +kernel
theorem d_x_Rdr_comparison_48 : decode b_x_Rdr_comparison 48 = .ok (.aload_n 2, 1) := by decide +kernel
theorem d_x_Rdr_comparison_49 : decode b_x_Rdr_comparison 49 = .ok (.iconst 0, 1) := by decide +kernel
theorem d_x_Rdr_comparison_50 : decode b_x_Rdr_comparison 50 = .ok (.invokevirtual 62, 3) := by decide +kernel
theorem d_x_Rdr_comparison_53 : decode b_x_Rdr_comparison 53 = .ok (.pop, 1) := by decide +kernel
theorem d_x_Rdr_comparison_54 : decode b_x_Rdr_comparison 54 = .ok (.return_, 1) := by decide +kernel
theorem d_x_Rdr_sum_0 : decode b_x_Rdr_sum 0 = .ok (.aload_n 0, 1) := by decide +kernel
theorem d_x_Rdr_sum_1 : decode b_x_Rdr_sum 1 = .ok (.iload_n 1, 1) := by decide +kernel
theorem d_x_Rdr_sum_2 : decode b_x_Rdr_sum 2 = .ok (.invokevirtual 88, 3) := by decide +kernel
theorem d_x_Rdr_sum_5 : decode b_x_Rdr_sum 5 = .ok (.aload_n 0, 1) := by decide +kernel
theorem d_x_Rdr_sum_6 : decode b_x_Rdr_sum 6 = .ok (.invokevirtual 43, 3) := by decide +kernel
theorem d_x_Rdr_sum_9 : decode b_x_Rdr_sum 9 = .ok (.bipush 43, 2) := by decide +kernel
theorem d_x_Rdr_sum_11 : decode b_x_Rdr_sum 11 = .ok (.if_icmp .eq 12, 3) := by decide +kernel
theorem d_x_Rdr_sum_14 : decode b_x_Rdr_sum 14 = .ok (.aload_n 0, 1) := by decide +kernel
theorem d_x_Rdr_sum_15 : decode b_x_Rdr_sum 15 = .ok (.invokevirtual 43, 3) := by decide +kernel
theorem d_x_Rdr_sum_18 : decode b_x_Rdr_sum 18 = .ok (.bipush 45, 2) := by decide +kernel
theorem d_x_Rdr_sum_20 : decode b_x_Rdr_sum 20 = .ok (.if_icmp .ne 54, 3) := by decide +kernel
theorem d_x_Rdr_sum_23 : decode b_x_Rdr_sum 23 = .ok (.aload_n 0, 1) := by decide +kernel
theorem d_x_Rdr_sum_24 : decode b_x_Rdr_sum 24 = .ok (.bipush 43, 2) := by decide +kernel
theorem d_x_Rdr_sum_26 : decode b_x_Rdr_sum 26 = .ok (.invokevirtual 50, 3) := by decide +kernel
theorem d_x_Rdr_sum_29 : decode b_x_Rdr_sum 29 = .ok (.ifCond .eq 9, 3) := by decide +kernel
theorem d_x_Rdr_sum_32 : decode b_x_Rdr_sum 32 = .ok (.getstatic 91, 3) := by decide +kernel
theorem d_x_Rdr_sum_35 : decode b_x_Rdr_sum 35 = .ok (.goto 6, 3) := by decide +kernel
theorem d_x_Rdr_sum_38 : decode b_x_Rdr_sum 38 = .ok (.getstatic 94, 3) := by decide +kernel
theorem d_x_Rdr_sum_41 : decode b_x_Rdr_sum 41 = .ok (.astore_n 2, 1) := by decide +kernel
theorem d_x_Rdr_sum_42 : decode b_x_Rdr_sum 42 = .ok (.aload_n 2, 1) := by decide +kernel
theorem d_x_Rdr_sum_43 : decode b_x_Rdr_sum 43 = .ok (.getstatic 94, 3) := by decide +kernel
theorem d_x_Rdr_sum_46 : decode b_x_Rdr_sum 46 = .ok (.if_acmp .ne 13, 3) := by decide +kernel
theorem d_x_Rdr_sum_49 : decode b_x_Rdr_sum 49 = .ok (.aload_n 0, 1) := by decide +kernel
theorem d_x_Rdr_sum_50 : decode b_x_Rdr_sum 50 = .ok (.dup, 1) := by decide +kernel
theorem d_x_Rdr_sum_51 : decode b_x_Rdr_sum 51 = .ok (.getfield 21, 3) := by decide +kernel
theorem d_x_Rdr_sum_54 : decode b_x_Rdr_sum 54 = .ok (.iconst 1, 1) := by decide +kernel
theorem d_x_Rdr_sum_55 : decode b_x_Rdr_sum 55 = .ok (.iadd, 1) := by decide +kernel
theorem d_x_Rdr_sum_56 : decode b_x_Rdr_sum 56 = .ok (.putfield 21, 3) := by decide +kernel
theorem d_x_Rdr_sum_59 : decode b_x_Rdr_sum 59 = .ok (.aload_n 0, 1) := by decide +kernel
theorem d_x_Rdr_sum_60 : decode b_x_Rdr_sum 60 = .ok (.iload_n 1, 1) := by decide +kernel
theorem d_x_Rdr_sum_61 : decode b_x_Rdr_sum 61 = .ok (.invokevirtual 88, 3) := by decide +kernel
theorem d_x_Rdr_sum_64 : decode b_x_Rdr_sum 64 = .ok (.aload_n 0, 1) := by decide +kernel
theorem d_x_Rdr_sum_65 : decode b_x_Rdr_sum 65 = .ok (.aload_n 2, 1) := by decide +kernel
theorem d_x_Rdr_sum_66 : decode b_x_Rdr_sum 66 = .ok (.iconst 0, 1) := by decide +kernel
theorem d_x_Rdr_sum_67 : decode b_x_Rdr_sum 67 = .ok (.invokevirtual 62, 3) := by decide +kernel
theorem d_x_Rdr_sum_70 : decode b_x_Rdr_sum 70 = .ok (.pop, 1) := by decide +kernel
theorem d_x_Rdr_sum_71 : decode b_x_Rdr_sum 71 = .ok (.goto (-66), 3) := by decide +kernel
theorem d_x_Rdr_sum_74 : decode b_x_Rdr_sum 74 = .ok (.return_, 1) := by decide +kernel
theorem d_x_Rdr_product_0 : decode b_x_Rdr_product 0 = .ok (.aload_n 0, 1) := by decide +kernel
theorem d_x_Rdr_product_1 : decode b_x_Rdr_product 1 = .ok (.iload_n 1, 1) := by decide +kernel
theorem d_x_Rdr_product_2 : decode b_x_Rdr_product 2 = .ok (.invokevirtual 97, 3) := by decide +kernel
theorem d_x_Rdr_product_5 : decode b_x_Rdr_product 5 = .ok (.aload_n 0, 1) := by decide +kernel
theorem d_x_Rdr_product_6 : decode b_x_Rdr_product 6 = .ok (.bipush 42, 2) := by decide +kernel
theorem d_x_Rdr_product_8 : decode b_x_Rdr_product 8 = .ok (.invokevirtual 50, 3) := by decide +kernel
theorem d_x_Rdr_product_11 : decode b_x_Rdr_product 11 = .ok (.ifCond .eq 20, 3) := by decide +kernel
theorem d_x_Rdr_product_14 : decode b_x_Rdr_product 14 = .ok (.aload_n 0, 1) := by decide +kernel
theorem d_x_Rdr_product_15 : decode b_x_Rdr_product 15 = .ok (.iload_n 1, 1) := by decide +kernel
theorem d_x_Rdr_product_16 : decode b_x_Rdr_product 16 = .ok (.invokevirtual 97, 3) := by decide +kernel
theorem d_x_Rdr_product_19 : decode b_x_Rdr_product 19 = .ok (.aload_n 0, 1) := by decide +kernel
theorem d_x_Rdr_product_20 : decode b_x_Rdr_product 20 = .ok (.getstatic 100, 3) := by decide +kernel
theorem d_x_Rdr_product_23 : decode b_x_Rdr_product 23 = .ok (.iconst 0, 1) := by decide +kernel
theorem d_x_Rdr_product_24 : decode b_x_Rdr_product 24 = .ok (.invokevirtual 62, 3) := by decide +kernel
theorem d_x_Rdr_product_27 : decode b_x_Rdr_product 27 = .ok (.pop, 1) := by decide +kernel
theorem d_x_Rdr_product_28 : decode b_x_Rdr_product 28 = .ok (.goto (-23), 3) := by decide +kernel
theorem d_x_Rdr_product_31 : decode b_x_Rdr_product 31 = .ok (.return_, 1) := by decide +kernel
theorem d_x_Rdr_unitIn_0 : decode b_x_Rdr_unitIn 0 = .ok (.aload_n 0, 1) := by decide +kernel
theorem d_x_Rdr_unitIn_1 : decode b_x_Rdr_unitIn 1 = .ok (.getfield 35, 3) := by decide +kernel
theorem d_x_Rdr_unitIn_4 : decode b_x_Rdr_unitIn 4 = .ok (.ifCond .ne 8, 3) := by decide +kernel
theorem d_x_Rdr_unitIn_7 : decode b_x_Rdr_unitIn 7 = .ok (.aload_n 0, 1) := by decide +kernel
theorem d_x_Rdr_unitIn_8 : decode b_x_Rdr_unitIn 8 = .ok (.iload_n 1, 1) := by decide +kernel
theorem d_x_Rdr_unitIn_9 : decode b_x_Rdr_unitIn 9 = .ok (.invokevirtual 103, 3) := by decide +kernel
theorem d_x_Rdr_unitIn_12 : decode b_x_Rdr_unitIn 12 = .ok (.return_, 1) := by decide +kernel
theorem d_x_Rdr_unit_0 : decode b_x_Rdr_unit 0 = .ok (.aload_n 0, 1) := by decide +kernel
theorem d_x_Rdr_unit_1 : decode b_x_Rdr_unit 1 = .ok (.invokevirtual 43, 3) := by decide +kernel
theorem d_x_Rdr_unit_4 : decode b_x_Rdr_unit 4 = .ok (.istore_n 2, 1) := by decide +kernel
theorem d_x_Rdr_unit_5 : decode b_x_Rdr_unit 5 = .ok (.iload_n 2, 1) := by decide +kernel
theorem d_x_Rdr_unit_6 : decode b_x_Rdr_unit 6 = .ok (.bipush 65, 2) := by decide +kernel
theorem d_x_Rdr_unit_8 : decode b_x_Rdr_unit 8 = .ok (.if_icmp .lt 34, 3) := by decide +kernel
theorem d_x_Rdr_unit_11 : decode b_x_Rdr_unit 11 = .ok (.iload_n 2, 1) := by decide +kernel
theorem d_x_Rdr_unit_12 : decode b_x_Rdr_unit 12 = .ok (.bipush 76, 2) := by decide +kernel
theorem d_x_Rdr_unit_14 : decode b_x_Rdr_unit 14 = .ok (.if_icmp .gt 28, 3) := by decide +kernel
theorem d_x_Rdr_unit_17 : decode b_x_Rdr_unit 17 = .ok (.aload_n 0, 1) := by decide +kernel
theorem d_x_Rdr_unit_18 : decode b_x_Rdr_unit 18 = .ok (.dup, 1) := by decide +kernel
theorem d_x_Rdr_unit_19 : decode b_x_Rdr_unit 19 = .ok (.getfield 21, 3) := by decide +kernel
theorem d_x_Rdr_unit_22 : decode b_x_Rdr_unit 22 = .ok (.iconst 1, 1) := by decide +kernel
theorem d_x_Rdr_unit_23 : decode b_x_Rdr_unit 23 = .ok (.iadd, 1) := by decide +kernel
theorem d_x_Rdr_unit_24 : decode b_x_Rdr_unit 24 = .ok (.putfield 21, 3) := by decide +kernel
theorem d_x_Rdr_unit_27 : decode b_x_Rdr_unit 27 = .ok (.aload_n 0, 1) := by decide +kernel
theorem d_x_Rdr_unit_28 : decode b_x_Rdr_unit 28 = .ok (.getstatic 106, 3) := by decide +kernel
theorem d_x_Rdr_unit_31 : decode b_x_Rdr_unit 31 = .ok (.iload_n 2, 1) := by decide +kernel
theorem d_x_Rdr_unit_32 : decode b_x_Rdr_unit 32 = .ok (.bipush 65, 2) := by decide +kernel
theorem d_x_Rdr_unit_34 : decode b_x_Rdr_unit 34 = .ok (.isub, 1) := by decide +kernel
theorem d_x_Rdr_unit_35 : decode b_x_Rdr_unit 35 = .ok (.invokevirtual 62, 3) := by decide +kernel
theorem d_x_Rdr_unit_38 : decode b_x_Rdr_unit 38 = .ok (.pop, 1) := by decide +kernel
theorem d_x_Rdr_unit_39 : decode b_x_Rdr_unit 39 = .ok (.goto 174, 3) := by decide +kernel
theorem d_x_Rdr_unit_42 : decode b_x_Rdr_unit 42 = .ok (.iload_n 2, 1) := by decide +kernel
theorem d_x_Rdr_unit_43 : decode b_x_Rdr_unit 43 = .ok (.bipush 48, 2) := by decide +kernel
theorem d_x_Rdr_unit_45 : decode b_x_Rdr_unit 45 = .ok (.if_icmp .lt 79, 3) := by decide +kernel
theorem d_x_Rdr_unit_48 : decode b_x_Rdr_unit 48 = .ok (.iload_n 2, 1) := by decide +kernel
theorem d_x_Rdr_unit_49 : decode b_x_Rdr_unit 49 = .ok (.bipush 57, 2) := by decide +kernel
theorem d_x_Rdr_unit_51 : decode b_x_Rdr_unit 51 = .ok (.if_icmp .gt 73, 3) := by decide +kernel
theorem d_x_Rdr_unit_54 : decode b_x_Rdr_unit 54 = .ok (.iconst 0, 1) := by decide +kernel
theorem d_x_Rdr_unit_55 : decode b_x_Rdr_unit 55 = .ok (.istore_n 3, 1) := by decide +kernel
theorem d_x_Rdr_unit_56 : decode b_x_Rdr_unit 56 = .ok (.iconst 0, 1) := by decide +kernel
theorem d_x_Rdr_unit_57 : decode b_x_Rdr_unit 57 = .ok (.istore 4, 2) := by decide +kernel
theorem d_x_Rdr_unit_59 : decode b_x_Rdr_unit 59 = .ok (.iload 4, 2) := by decide +kernel
theorem d_x_Rdr_unit_61 : decode b_x_Rdr_unit 61 = .ok (.iconst 4, 1) := by decide +kernel
theorem d_x_Rdr_unit_62 : decode b_x_Rdr_unit 62 = .ok (.if_icmp .ge 50, 3) := by decide +kernel
theorem d_x_Rdr_unit_65 : decode b_x_Rdr_unit 65 = .ok (.aload_n 0, 1) := by decide +kernel
theorem d_x_Rdr_unit_66 : decode b_x_Rdr_unit 66 = .ok (.invokevirtual 43, 3) := by decide +kernel
theorem d_x_Rdr_unit_69 : decode b_x_Rdr_unit 69 = .ok (.bipush 48, 2) := by decide +kernel
theorem d_x_Rdr_unit_71 : decode b_x_Rdr_unit 71 = .ok (.if_icmp .lt 41, 3) := by decide +kernel
theorem d_x_Rdr_unit_74 : decode b_x_Rdr_unit 74 = .ok (.aload_n 0, 1) := by decide +kernel
theorem d_x_Rdr_unit_75 : decode b_x_Rdr_unit 75 = .ok (.invokevirtual 43, 3) := by decide +kernel
theorem d_x_Rdr_unit_78 : decode b_x_Rdr_unit 78 = .ok (.bipush 57, 2) := by decide +kernel
theorem d_x_Rdr_unit_80 : decode b_x_Rdr_unit 80 = .ok (.if_icmp .gt 32, 3) := by decide +kernel
theorem d_x_Rdr_unit_83 : decode b_x_Rdr_unit 83 = .ok (.bipush 10, 2) := by decide +kernel
theorem d_x_Rdr_unit_85 : decode b_x_Rdr_unit 85 = .ok (.iload_n 3, 1) := by decide +kernel
theorem d_x_Rdr_unit_86 : decode b_x_Rdr_unit 86 = .ok (.imul, 1) := by decide +kernel
theorem d_x_Rdr_unit_87 : decode b_x_Rdr_unit 87 = .ok (.aload_n 0, 1) := by decide +kernel
theorem d_x_Rdr_unit_88 : decode b_x_Rdr_unit 88 = .ok (.invokevirtual 43, 3) := by decide +kernel
theorem d_x_Rdr_unit_91 : decode b_x_Rdr_unit 91 = .ok (.iadd, 1) := by decide +kernel
theorem d_x_Rdr_unit_92 : decode b_x_Rdr_unit 92 = .ok (.bipush 48, 2) := by decide +kernel
theorem d_x_Rdr_unit_94 : decode b_x_Rdr_unit 94 = .ok (.isub, 1) := by decide +kernel
theorem d_x_Rdr_unit_95 : decode b_x_Rdr_unit 95 = .ok (.istore_n 3, 1) := by decide +kernel
theorem d_x_Rdr_unit_96 : decode b_x_Rdr_unit 96 = .ok (.aload_n 0, 1) := by decide +kernel
theorem d_x_Rdr_unit_97 : decode b_x_Rdr_unit 97 = .ok (.dup, 1) := by decide +kernel
theorem d_x_Rdr_unit_98 : decode b_x_Rdr_unit 98 = .ok (.getfield 21, 3) := by decide +kernel
theorem d_x_Rdr_unit_101 : decode b_x_Rdr_unit 101 = .ok (.iconst 1, 1) := by decide +kernel
theorem d_x_Rdr_unit_102 : decode b_x_Rdr_unit 102 = .ok (.iadd, 1) := by decide +kernel
theorem d_x_Rdr_unit_103 : decode b_x_Rdr_unit 103 = .ok (.putfield 21, 3) := by decide +kernel
theorem d_x_Rdr_unit_106 : decode b_x_Rdr_unit 106 = .ok (.iinc 4 1, 3) := by decide +kernel
theorem d_x_Rdr_unit_109 : decode b_x_Rdr_unit 109 = .ok (.goto (-50), 3) := by decide +kernel
theorem d_x_Rdr_unit_112 : decode b_x_Rdr_unit 112 = .ok (.aload_n 0, 1) := by decide +kernel
theorem d_x_Rdr_unit_113 : decode b_x_Rdr_unit 113 = .ok (.getstatic 109, 3) := by decide +kernel
theorem d_x_Rdr_unit_116 : decode b_x_Rdr_unit 116 = .ok (.iload_n 3, 1) := by decide +kernel
theorem d_x_Rdr_unit_117 : decode b_x_Rdr_unit 117 = .ok (.invokevirtual 62, 3) := by decide +kernel
theorem d_x_Rdr_unit_120 : decode b_x_Rdr_unit 120 = .ok (.pop, 1) := by decide +kernel
theorem d_x_Rdr_unit_121 : decode b_x_Rdr_unit 121 = .ok (.goto 92, 3) := by decide +kernel
theorem d_x_Rdr_unit_124 : decode b_x_Rdr_unit 124 = .ok (.iload_n 1, 1) := by decide +kernel
theorem d_x_Rdr_unit_125 : decode b_x_Rdr_unit 125 = .ok (.iconst 5, 1) := by decide +kernel
theorem d_x_Rdr_unit_126 : decode b_x_Rdr_unit 126 = .ok (.if_icmp .ge 28, 3) := by decide +kernel
theorem d_x_Rdr_unit_129 : decode b_x_Rdr_unit 129 = .ok (.aload_n 0, 1) := by decide +kernel
theorem d_x_Rdr_unit_130 : decode b_x_Rdr_unit 130 = .ok (.bipush 40, 2) := by decide +kernel
theorem d_x_Rdr_unit_132 : decode b_x_Rdr_unit 132 = .ok (.invokevirtual 50, 3) := by decide +kernel
theorem d_x_Rdr_unit_135 : decode b_x_Rdr_unit 135 = .ok (.ifCond .eq 19, 3) := by decide +kernel
theorem d_x_Rdr_unit_138 : decode b_x_Rdr_unit 138 = .ok (.aload_n 0, 1) := by decide +kernel
theorem d_x_Rdr_unit_139 : decode b_x_Rdr_unit 139 = .ok (.iload_n 1, 1) := by decide +kernel
theorem d_x_Rdr_unit_140 : decode b_x_Rdr_unit 140 = .ok (.iconst 1, 1) := by decide +kernel
theorem d_x_Rdr_unit_141 : decode b_x_Rdr_unit 141 = .ok (.iadd, 1) := by decide +kernel
theorem d_x_Rdr_unit_142 : decode b_x_Rdr_unit 142 = .ok (.invokevirtual 66, 3) := by decide +kernel
theorem d_x_Rdr_unit_145 : decode b_x_Rdr_unit 145 = .ok (.aload_n 0, 1) := by decide +kernel
theorem d_x_Rdr_unit_146 : decode b_x_Rdr_unit 146 = .ok (.bipush 41, 2) := by decide +kernel
theorem d_x_Rdr_unit_148 : decode b_x_Rdr_unit 148 = .ok (.invokevirtual 69, 3) := by decide +kernel
theorem d_x_Rdr_unit_151 : decode b_x_Rdr_unit 151 = .ok (.goto 62, 3) := by decide +kernel
theorem d_x_Rdr_unit_154 : decode b_x_Rdr_unit 154 = .ok (.iload_n 1, 1) := by decide +kernel
theorem d_x_Rdr_unit_155 : decode b_x_Rdr_unit 155 = .ok (.iconst 5, 1) := by decide +kernel
theorem d_x_Rdr_unit_156 : decode b_x_Rdr_unit 156 = .ok (.if_icmp .ge 52, 3) := by decide +kernel
theorem d_x_Rdr_unit_159 : decode b_x_Rdr_unit 159 = .ok (.aload_n 0, 1) := by decide +kernel
theorem d_x_Rdr_unit_160 : decode b_x_Rdr_unit 160 = .ok (.bipush 45, 2) := by decide +kernel
theorem d_x_Rdr_unit_162 : decode b_x_Rdr_unit 162 = .ok (.invokevirtual 50, 3) := by decide +kernel
theorem d_x_Rdr_unit_165 : decode b_x_Rdr_unit 165 = .ok (.ifCond .ne 12, 3) := by decide +kernel
theorem d_x_Rdr_unit_168 : decode b_x_Rdr_unit 168 = .ok (.aload_n 0, 1) := by decide +kernel
theorem d_x_Rdr_unit_169 : decode b_x_Rdr_unit 169 = .ok (.bipush 64, 2) := by decide +kernel
theorem d_x_Rdr_unit_171 : decode b_x_Rdr_unit 171 = .ok (.invokevirtual 50, 3) := by decide +kernel
theorem d_x_Rdr_unit_174 : decode b_x_Rdr_unit 174 = .ok (.ifCond .eq 34, 3) := by decide +kernel
theorem d_x_Rdr_unit_177 : decode b_x_Rdr_unit 177 = .ok (.aload_n 0, 1) := by decide +kernel
theorem d_x_Rdr_unit_178 : decode b_x_Rdr_unit 178 = .ok (.iload_n 1, 1) := by decide +kernel
theorem d_x_Rdr_unit_179 : decode b_x_Rdr_unit 179 = .ok (.iconst 1, 1) := by decide +kernel
theorem d_x_Rdr_unit_180 : decode b_x_Rdr_unit 180 = .ok (.iadd, 1) := by decide +kernel
theorem d_x_Rdr_unit_181 : decode b_x_Rdr_unit 181 = .ok (.invokevirtual 97, 3) := by decide +kernel
theorem d_x_Rdr_unit_184 : decode b_x_Rdr_unit 184 = .ok (.aload_n 0, 1) := by decide +kernel
theorem d_x_Rdr_unit_185 : decode b_x_Rdr_unit 185 = .ok (.iload_n 2, 1) := by decide +kernel
theorem d_x_Rdr_unit_186 : decode b_x_Rdr_unit 186 = .ok (.bipush 45, 2) := by decide +kernel
theorem d_x_Rdr_unit_188 : decode b_x_Rdr_unit 188 = .ok (.if_icmp .ne 9, 3) := by decide +kernel
theorem d_x_Rdr_unit_191 : decode b_x_Rdr_unit 191 = .ok (.getstatic 112, 3) := by decide +kernel
theorem d_x_Rdr_unit_194 : decode b_x_Rdr_unit 194 = .ok (.goto 6, 3) := by decide +kernel
theorem d_x_Rdr_unit_197 : decode b_x_Rdr_unit 197 = .ok (.getstatic 115, 3) := by decide +kernel
theorem d_x_Rdr_unit_200 : decode b_x_Rdr_unit 200 = .ok (.iconst 0, 1) := by decide +kernel
theorem d_x_Rdr_unit_201 : decode b_x_Rdr_unit 201 = .ok (.invokevirtual 62, 3) := by decide +kernel
theorem d_x_Rdr_unit_204 : decode b_x_Rdr_unit 204 = .ok (.pop, 1) := by decide +kernel
theorem d_x_Rdr_unit_205 : decode b_x_Rdr_unit 205 = .ok (.goto 8, 3) := by decide +kernel
theorem d_x_Rdr_unit_208 : decode b_x_Rdr_unit 208 = .ok (.aload_n 0, 1) := by decide +kernel
theorem d_x_Rdr_unit_209 : decode b_x_Rdr_unit 209 = .ok (.iconst 1, 1) := by decide +kernel
theorem d_x_Rdr_unit_210 : decode b_x_Rdr_unit 210 = .ok (.putfield 35, 3) := by decide +kernel
theorem d_x_Rdr_unit_213 : decode b_x_Rdr_unit 213 = .ok (.return_, 1) := by decide +kernel
theorem d_x_Mod_init_0 : decode b_x_Mod_init 0 = .ok (.aload_n 0, 1) := by decide +kernel
theorem d_x_Mod_init_1 : decode b_x_Mod_init 1 = .ok (.invokespecial 1, 3) := by decide +kernel
theorem d_x_Mod_init_4 : decode b_x_Mod_init 4 = .ok (.aload_n 0, 1) := by decide +kernel
theorem d_x_Mod_init_5 : decode b_x_Mod_init 5 = .ok (.bipush 30, 2) := by decide +kernel
theorem d_x_Mod_init_7 : decode b_x_Mod_init 7 = .ok (.newarray .int, 2) := by decide +kernel
theorem d_x_Mod_init_9 : decode b_x_Mod_init 9 = .ok (.putfield 7, 3) := by decide +kernel
theorem d_x_Mod_init_12 : decode b_x_Mod_init 12 = .ok (.aload_n 0, 1) := by decide +kernel
theorem d_x_Mod_init_13 : decode b_x_Mod_init 13 = .ok (.iconst 1, 1) := by decide +kernel
theorem d_x_Mod_init_14 : decode b_x_Mod_init 14 = .ok (.putfield 13, 3) := by decide +kernel
theorem d_x_Mod_init_17 : decode b_x_Mod_init 17 = .ok (.aload_n 0, 1) := by decide +kernel
theorem d_x_Mod_init_18 : decode b_x_Mod_init 18 = .ok (.iconst 3, 1) := by decide +kernel
theorem d_x_Mod_init_19 : decode b_x_Mod_init 19 = .ok (.newarray .int, 2) := by decide +kernel
theorem d_x_Mod_init_21 : decode b_x_Mod_init 21 = .ok (.putfield 17, 3) := by decide +kernel
theorem d_x_Mod_init_24 : decode b_x_Mod_init 24 = .ok (.aload_n 0, 1) := by decide +kernel
theorem d_x_Mod_init_25 : decode b_x_Mod_init 25 = .ok (.bipush 12, 2) := by decide +kernel
theorem d_x_Mod_init_27 : decode b_x_Mod_init 27 = .ok (.newarray .boolean, 2) := by decide +kernel
theorem d_x_Mod_init_29 : decode b_x_Mod_init 29 = .ok (.putfield 20, 3) := by decide +kernel
theorem d_x_Mod_init_32 : decode b_x_Mod_init 32 = .ok (.aload_n 0, 1) := by decide +kernel
theorem d_x_Mod_init_33 : decode b_x_Mod_init 33 = .ok (.sipush 360, 3) := by decide +kernel
theorem d_x_Mod_init_36 : decode b_x_Mod_init 36 = .ok (.newarray .int, 2) := by decide +kernel
theorem d_x_Mod_init_38 : decode b_x_Mod_init 38 = .ok (.putfield 24, 3) := by decide +kernel
theorem d_x_Mod_init_41 : decode b_x_Mod_init 41 = .ok (.aload_n 0, 1) := by decide +kernel
theorem d_x_Mod_init_42 : decode b_x_Mod_init 42 = .ok (.bipush 12, 2) := by decide +kernel
theorem d_x_Mod_init_44 : decode b_x_Mod_init 44 = .ok (.newarray .int, 2) := by decide +kernel
theorem d_x_Mod_init_46 : decode b_x_Mod_init 46 = .ok (.putfield 27, 3) := by decide +kernel
theorem d_x_Mod_init_49 : decode b_x_Mod_init 49 = .ok (.aload_n 0, 1) := by decide +kernel
theorem d_x_Mod_init_50 : decode b_x_Mod_init 50 = .ok (.bipush 12, 2) := by decide +kernel
theorem d_x_Mod_init_52 : decode b_x_Mod_init 52 = .ok (.newarray .int, 2) := by decide +kernel
theorem d_x_Mod_init_54 : decode b_x_Mod_init 54 = .ok (.putfield 30, 3) := by decide +kernel
theorem d_x_Mod_init_57 : decode b_x_Mod_init 57 = .ok (.aload_n 0, 1) := by decide +kernel
theorem d_x_Mod_init_58 : decode b_x_Mod_init 58 = .ok (.sipush 480, 3) := by decide +kernel
theorem d_x_Mod_init_61 : decode b_x_Mod_init 61 = .ok (.newarray .int, 2) := by decide +kernel
theorem d_x_Mod_init_63 : decode b_x_Mod_init 63 = .ok (.putfield 33, 3) := by decide +kernel
theorem d_x_Mod_init_66 : decode b_x_Mod_init 66 = .ok (.aload_n 0, 1) := by decide +kernel
theorem d_x_Mod_init_67 : decode b_x_Mod_init 67 = .ok (.sipush 480, 3) := by decide +kernel
theorem d_x_Mod_init_70 : decode b_x_Mod_init 70 = .ok (.newarray .int, 2) := by decide +kernel
theorem d_x_Mod_init_72 : decode b_x_Mod_init 72 = .ok (.putfield 36, 3) := by decide +kernel
theorem d_x_Mod_init_75 : decode b_x_Mod_init 75 = .ok (.aload_n 0, 1) := by decide +kernel
theorem d_x_Mod_init_76 : decode b_x_Mod_init 76 = .ok (.bipush 12, 2) := by decide +kernel
theorem d_x_Mod_init_78 : decode b_x_Mod_init 78 = .ok (.newarray .int, 2) := by decide +kernel
theorem d_x_Mod_init_80 : decode b_x_Mod_init 80 = .ok (.putfield 39, 3) := by decide +kernel
theorem d_x_Mod_init_83 : decode b_x_Mod_init 83 = .ok (.aload_n 0, 1) := by decide +kernel
theorem d_x_Mod_init_84 : decode b_x_Mod_init 84 = .ok (.bipush 12, 2) := by decide +kernel
theorem d_x_Mod_init_86 : decode b_x_Mod_init 86 = .ok (.newarray .int, 2) := by decide +kernel
theorem d_x_Mod_init_88 : decode b_x_Mod_init 88 = .ok (.putfield 42, 3) := by decide +kernel
theorem d_x_Mod_init_91 : decode b_x_Mod_init 91 = .ok (.aload_n 0, 1) := by decide +kernel
theorem d_x_Mod_init_92 : decode b_x_Mod_init 92 = .ok (.bipush 12, 2) := by decide +kernel
theorem d_x_Mod_init_94 : decode b_x_Mod_init 94 = .ok (.newarray .int, 2) := by decide +kernel
theorem d_x_Mod_init_96 : decode b_x_Mod_init 96 = .ok (.putfield 45, 3) := by decide +kernel
theorem d_x_Mod_init_99 : decode b_x_Mod_init 99 = .ok (.aload_n 0, 1) := by decide +kernel
theorem d_x_Mod_init_100 : decode b_x_Mod_init 100 = .ok (.bipush 12, 2) := by decide +kernel
theorem d_x_Mod_init_102 : decode b_x_Mod_init 102 = .ok (.newarray .int, 2) := by decide +kernel
theorem d_x_Mod_init_104 : decode b_x_Mod_init 104 = .ok (.putfield 48, 3) := by decide +kernel
theorem d_x_Mod_init_107 : decode b_x_Mod_init 107 = .ok (.aload_n 0, 1) := by decide +kernel
theorem d_x_Mod_init_108 : decode b_x_Mod_init 108 = .ok (.bipush 12, 2) := by decide +kernel
theorem d_x_Mod_init_110 : decode b_x_Mod_init 110 = .ok (.newarray .boolean, 2) := by decide +kernel
theorem d_x_Mod_init_112 : decode b_x_Mod_init 112 = .ok (.putfield 51, 3) := by decide +kernel
theorem d_x_Mod_init_115 : decode b_x_Mod_init 115 = .ok (.aload_n 0, 1) := by decide +kernel
theorem d_x_Mod_init_116 : decode b_x_Mod_init 116 = .ok (.bipush 12, 2) := by decide +kernel
theorem d_x_Mod_init_118 : decode b_x_Mod_init 118 = .ok (.newarray .boolean, 2) := by decide +kernel
theorem d_x_Mod_init_120 : decode b_x_Mod_init 120 = .ok (.putfield 54, 3) := by decide +kernel
theorem d_x_Mod_init_123 : decode b_x_Mod_init 123 = .ok (.aload_n 0, 1) := by decide +kernel
theorem d_x_Mod_init_124 : decode b_x_Mod_init 124 = .ok (.bipush 12, 2) := by decide +kernel
theorem d_x_Mod_init_126 : decode b_x_Mod_init 126 = .ok (.newarray .long, 2) := by decide +kernel
theorem d_x_Mod_init_128 : decode b_x_Mod_init 128 = .ok (.putfield 57, 3) := by decide +kernel
theorem d_x_Mod_init_131 : decode b_x_Mod_init 131 = .ok (.aload_n 0, 1) := by decide +kernel
theorem d_x_Mod_init_132 : decode b_x_Mod_init 132 = .ok (.bipush 12, 2) := by decide +kernel
theorem d_x_Mod_init_134 : decode b_x_Mod_init 134 = .ok (.newarray .int, 2) := by decide +kernel
theorem d_x_Mod_init_136 : decode b_x_Mod_init 136 = .ok (.putfield 61, 3) := by decide +kernel
theorem d_x_Mod_init_139 : decode b_x_Mod_init 139 = .ok (.aload_n 0, 1) := by decide +kernel
theorem d_x_Mod_init_140 : decode b_x_Mod_init 140 = .ok (.bipush 12, 2) := by decide +kernel
theorem d_x_Mod_init_142 : decode b_x_Mod_init 142 = .ok (.newarray .int, 2) := by decide +kernel
theorem d_x_Mod_init_144 : decode b_x_Mod_init 144 = .ok (.putfield 64, 3) := by decide +kernel
theorem d_x_Mod_init_147 : decode b_x_Mod_init 147 = .ok (.aload_n 0, 1) := by decide +kernel
theorem d_x_Mod_init_148 : decode b_x_Mod_init 148 = .ok (.bipush 12, 2) := by decide +kernel
theorem d_x_Mod_init_150 : decode b_x_Mod_init 150 = .ok (.newarray .int, 2) := by decide +kernel
theorem d_x_Mod_init_152 : decode b_x_Mod_init 152 = .ok (.putfield 67, 3) := by decide +kernel
theorem d_x_Mod_init_155 : decode b_x_Mod_init 155 = .ok (.aload_n 0, 1) := by decide +kernel
theorem d_x_Mod_init_156 : decode b_x_Mod_init 156 = .ok (.bipush 12, 2) := by decide +kernel
theorem d_x_Mod_init_158 : decode b_x_Mod_init 158 = .ok (.newarray .int, 2) := by decide +kernel
theorem d_x_Mod_init_160 : decode b_x_Mod_init 160 = .ok (.putfield 70, 3) := by decide +kernel
theorem d_x_Mod_init_163 : decode b_x_Mod_init 163 = .ok (.aload_n 0, 1) := by decide +kernel
theorem d_x_Mod_init_164 : decode b_x_Mod_init 164 = .ok (.sipush 144, 3) := by decide +kernel
theorem d_x_Mod_init_167 : decode b_x_Mod_init 167 = .ok (.newarray .int, 2) := by decide +kernel
theorem d_x_Mod_init_169 : decode b_x_Mod_init 169 = .ok (.putfield 73, 3) := by decide +kernel
theorem d_x_Mod_init_172 : decode b_x_Mod_init 172 = .ok (.aload_n 0, 1) := by decide +kernel
theorem d_x_Mod_init_173 : decode b_x_Mod_init 173 = .ok (.bipush 12, 2) := by decide +kernel
theorem d_x_Mod_init_175 : decode b_x_Mod_init 175 = .ok (.newarray .int, 2) := by decide +kernel
theorem d_x_Mod_init_177 : decode b_x_Mod_init 177 = .ok (.putfield 76, 3) := by decide +kernel
theorem d_x_Mod_init_180 : decode b_x_Mod_init 180 = .ok (.aload_n 0, 1) := by decide +kernel
theorem d_x_Mod_init_181 : decode b_x_Mod_init 181 = .ok (.bipush 36, 2) := by decide +kernel
theorem d_x_Mod_init_183 : decode b_x_Mod_init 183 = .ok (.newarray .int, 2) := by decide +kernel
theorem d_x_Mod_init_185 : decode b_x_Mod_init 185 = .ok (.putfield 79, 3) := by decide +kernel
theorem d_x_Mod_init_188 : decode b_x_Mod_init 188 = .ok (.aload_n 0, 1) := by decide +kernel
theorem d_x_Mod_init_189 : decode b_x_Mod_init 189 = .ok (.iconst 3, 1) := by decide +kernel
theorem d_x_Mod_init_190 : decode b_x_Mod_init 190 = .ok (.newarray .int, 2) := by decide +kernel
theorem d_x_Mod_init_192 : decode b_x_Mod_init 192 = .ok (.putfield 82, 3) := by decide +kernel
theorem d_x_Mod_init_195 : decode b_x_Mod_init 195 = .ok (.aload_n 0, 1) := by decide +kernel
theorem d_x_Mod_init_196 : decode b_x_Mod_init 196 = .ok (.bipush 12, 2) := by decide +kernel
theorem d_x_Mod_init_198 : decode b_x_Mod_init 198 = .ok (.newarray .int, 2) := by decide +kernel
theorem d_x_Mod_init_200 : decode b_x_Mod_init 200 = .ok (.putfield 85, 3) := by decide +kernel
theorem d_x_Mod_init_203 : decode b_x_Mod_init 203 = .ok (.aload_n 0, 1) := by decide +kernel
theorem d_x_Mod_init_204 : decode b_x_Mod_init 204 = .ok (.bipush 12, 2) := by decide +kernel
theorem d_x_Mod_init_206 : decode b_x_Mod_init 206 = .ok (.newarray .int, 2) := by decide +kernel
theorem d_x_Mod_init_208 : decode b_x_Mod_init 208 = .ok (.putfield 88, 3) := by decide +kernel
theorem d_x_Mod_init_211 : decode b_x_Mod_init 211 = .ok (.aload_n 0, 1) := by decide +kernel
theorem d_x_Mod_init_212 : decode b_x_Mod_init 212 = .ok (.bipush 12, 2) := by decide +kernel
theorem d_x_Mod_init_214 : decode b_x_Mod_init 214 = .ok (.newarray .int, 2) := by decide +kernel
theorem d_x_Mod_init_216 : decode b_x_Mod_init 216 = .ok (.putfield 91, 3) := by decide +kernel
theorem d_x_Mod_init_219 : decode b_x_Mod_init 219 = .ok (.aload_n 0, 1) := by decide +kernel
theorem d_x_Mod_init_220 : decode b_x_Mod_init 220 = .ok (.bipush 12, 2) := by decide +kernel
theorem d_x_Mod_init_222 : decode b_x_Mod_init 222 = .ok (.newarray .int, 2) := by decide +kernel
theorem d_x_Mod_init_224 : decode b_x_Mod_init 224 = .ok (.putfield 94, 3) := by decide +kernel
theorem d_x_Mod_init_227 : decode b_x_Mod_init 227 = .ok (.aload_n 0, 1) := by decide +kernel
theorem d_x_Mod_init_228 : decode b_x_Mod_init 228 = .ok (.sipush 192, 3) := by decide +kernel
theorem d_x_Mod_init_231 : decode b_x_Mod_init 231 = .ok (.newarray .long, 2) := by decide +kernel
theorem d_x_Mod_init_233 : decode b_x_Mod_init 233 = .ok (.putfield 97, 3) := by decide +kernel
theorem d_x_Mod_init_236 : decode b_x_Mod_init 236 = .ok (.aload_n 0, 1) := by decide +kernel
theorem d_x_Mod_init_237 : decode b_x_Mod_init 237 = .ok (.bipush 12, 2) := by decide +kernel
theorem d_x_Mod_init_239 : decode b_x_Mod_init 239 = .ok (.newarray .int, 2) := by decide +kernel
theorem d_x_Mod_init_241 : decode b_x_Mod_init 241 = .ok (.putfield 100, 3) := by decide +kernel
theorem d_x_Mod_init_244 : decode b_x_Mod_init 244 = .ok (.aload_n 0, 1) := by decide +kernel
theorem d_x_Mod_init_245 : decode b_x_Mod_init 245 = .ok (.sipush 144, 3) := by decide +kernel
theorem d_x_Mod_init_248 : decode b_x_Mod_init 248 = .ok (.newarray .int, 2) := by decide +kernel
theorem d_x_Mod_init_250 : decode b_x_Mod_init 250 = .ok (.putfield 103, 3) := by decide +kernel
theorem d_x_Mod_init_253 : decode b_x_Mod_init 253 = .ok (.aload_n 0, 1) := by decide +kernel
theorem d_x_Mod_init_254 : decode b_x_Mod_init 254 = .ok (.bipush 12, 2) := by decide +kernel
theorem d_x_Mod_init_256 : decode b_x_Mod_init 256 = .ok (.newarray .boolean, 2) := by decide +kernel
theorem d_x_Mod_init_258 : decode b_x_Mod_init 258 = .ok (.putfield 106, 3) := by decide +kernel
theorem d_x_Mod_init_261 : decode b_x_Mod_init 261 = .ok (.aload_n 0, 1) := by decide +kernel
theorem d_x_Mod_init_262 : decode b_x_Mod_init 262 = .ok (.bipush 12, 2) := by decide +kernel
theorem d_x_Mod_init_264 : decode b_x_Mod_init 264 = .ok (.newarray .boolean, 2) := by decide +kernel
theorem d_x_Mod_init_266 : decode b_x_Mod_init 266 = .ok (.putfield 109, 3) := by decide +kernel
theorem d_x_Mod_init_269 : decode b_x_Mod_init 269 = .ok (.aload_n 0, 1) := by decide +kernel
theorem d_x_Mod_init_270 : decode b_x_Mod_init 270 = .ok (.bipush 64, 2) := by decide +kernel
theorem d_x_Mod_init_272 : decode b_x_Mod_init 272 = .ok (.newarray .int, 2) := by decide +kernel
theorem d_x_Mod_init_274 : decode b_x_Mod_init 274 = .ok (.putfield 112, 3) := by decide +kernel
theorem d_x_Mod_init_277 : decode b_x_Mod_init 277 = .ok (.aload_n 0, 1) := by decide +kernel
theorem d_x_Mod_init_278 : decode b_x_Mod_init 278 = .ok (.bipush 64, 2) := by decide +kernel
theorem d_x_Mod_init_280 : decode b_x_Mod_init 280 = .ok (.newarray .int, 2) := by decide +kernel
theorem d_x_Mod_init_282 : decode b_x_Mod_init 282 = .ok (.putfield 115, 3) := by decide +kernel
theorem d_x_Mod_init_285 : decode b_x_Mod_init 285 = .ok (.aload_n 0, 1) := by decide +kernel
theorem d_x_Mod_init_286 : decode b_x_Mod_init 286 = .ok (.bipush 40, 2) := by decide +kernel
theorem d_x_Mod_init_288 : decode b_x_Mod_init 288 = .ok (.newarray .int, 2) := by decide +kernel
theorem d_x_Mod_init_290 : decode b_x_Mod_init 290 = .ok (.putfield 118, 3) := by decide +kernel
theorem d_x_Mod_init_293 : decode b_x_Mod_init 293 = .ok (.aload_n 0, 1) := by decide +kernel
theorem d_x_Mod_init_294 : decode b_x_Mod_init 294 = .ok (.bipush 40, 2) := by decide +kernel
theorem d_x_Mod_init_296 : decode b_x_Mod_init 296 = .ok (.newarray .int, 2) := by decide +kernel
theorem d_x_Mod_init_298 : decode b_x_Mod_init 298 = .ok (.putfield 121, 3) := by decide +kernel
theorem d_x_Mod_init_301 : decode b_x_Mod_init 301 = .ok (.aload_n 0, 1) := by decide +kernel
theorem d_x_Mod_init_302 : decode b_x_Mod_init 302 = .ok (.iload_n 1, 1) := by decide +kernel
theorem d_x_Mod_init_303 : decode b_x_Mod_init 303 = .ok (.iconst 1, 1) := by decide +kernel
theorem d_x_Mod_init_304 : decode b_x_Mod_init 304 = .ok (.if_icmp .ge 7, 3) := by decide +kernel
theorem d_x_Mod_init_307 : decode b_x_Mod_init 307 = .ok (.iconst 1, 1) := by decide +kernel
theorem d_x_Mod_init_308 : decode b_x_Mod_init 308 = .ok (.goto 15, 3) := by decide +kernel
theorem d_x_Mod_init_311 : decode b_x_Mod_init 311 = .ok (.iload_n 1, 1) := by decide +kernel
theorem d_x_Mod_init_312 : decode b_x_Mod_init 312 = .ok (.bipush 12, 2) := by decide +kernel
theorem d_x_Mod_init_314 : decode b_x_Mod_init 314 = .ok (.if_icmp .le 8, 3) := by decide +kernel
theorem d_x_Mod_init_317 : decode b_x_Mod_init 317 = .ok (.bipush 12, 2) := by decide +kernel
theorem d_x_Mod_init_319 : decode b_x_Mod_init 319 = .ok (.goto 4, 3) := by decide +kernel
theorem d_x_Mod_init_322 : decode b_x_Mod_init 322 = .ok (.iload_n 1, 1) := by decide +kernel
theorem d_x_Mod_init_323 : decode b_x_Mod_init 323 = .ok (.putfield 124, 3) := by decide +kernel
theorem d_x_Mod_init_326 : decode b_x_Mod_init 326 = .ok (.return_, 1) := by decide +kernel
theorem d_x_Law_cell_0 : decode b_x_Law_cell 0 = .ok (.iload_n 1, 1) := by decide +kernel
theorem d_x_Law_cell_1 : decode b_x_Law_cell 1 = .ok (.aload_n 0, 1) := by decide +kernel
theorem d_x_Law_cell_2 : decode b_x_Law_cell 2 = .ok (.arraylength, 1) := by decide +kernel
theorem d_x_Law_cell_3 : decode b_x_Law_cell 3 = .ok (.if_icmp .ge 9, 3) := by decide +kernel
theorem d_x_Law_cell_6 : decode b_x_Law_cell 6 = .ok (.aload_n 0, 1) := by decide +kernel
theorem d_x_Law_cell_7 : decode b_x_Law_cell 7 = .ok (.iload_n 1, 1) := by decide +kernel
theorem d_x_Law_cell_8 : decode b_x_Law_cell 8 = .ok (.iaload, 1) := by decide +kernel
theorem d_x_Law_cell_9 : decode b_x_Law_cell 9 = .ok (.goto 4, 3) := by decide +kernel
theorem d_x_Law_cell_12 : decode b_x_Law_cell 12 = .ok (.iconst 0, 1) := by decide +kernel
theorem d_x_Law_cell_13 : decode b_x_Law_cell 13 = .ok (.ireturn, 1) := by decide +kernel
theorem d_x_Rdr_read_0 : decode b_x_Rdr_read 0 = .ok (.aload_n 0, 1) := by decide +kernel
theorem d_x_Rdr_read_1 : decode b_x_Rdr_read 1 = .ok (.aload_n 1, 1) := by decide +kernel
theorem d_x_Rdr_read_2 : decode b_x_Rdr_read 2 = .ok (.putfield 25, 3) := by decide +kernel
theorem d_x_Rdr_read_5 : decode b_x_Rdr_read 5 = .ok (.aload_n 0, 1) := by decide +kernel
theorem d_x_Rdr_read_6 : decode b_x_Rdr_read 6 = .ok (.iconst 0, 1) := by decide +kernel
theorem d_x_Rdr_read_7 : decode b_x_Rdr_read 7 = .ok (.putfield 21, 3) := by decide +kernel
theorem d_x_Rdr_read_10 : decode b_x_Rdr_read 10 = .ok (.aload_n 0, 1) := by decide +kernel
theorem d_x_Rdr_read_11 : decode b_x_Rdr_read 11 = .ok (.iconst 0, 1) := by decide +kernel
theorem d_x_Rdr_read_12 : decode b_x_Rdr_read 12 = .ok (.putfield 47, 3) := by decide +kernel
theorem d_x_Rdr_read_15 : decode b_x_Rdr_read 15 = .ok (.aload_n 0, 1) := by decide +kernel
theorem d_x_Rdr_read_16 : decode b_x_Rdr_read 16 = .ok (.iconst 0, 1) := by decide +kernel
theorem d_x_Rdr_read_17 : decode b_x_Rdr_read 17 = .ok (.putfield 35, 3) := by decide +kernel
theorem d_x_Rdr_read_20 : decode b_x_Rdr_read 20 = .ok (.aload_n 0, 1) := by decide +kernel
theorem d_x_Rdr_read_21 : decode b_x_Rdr_read 21 = .ok (.iconst 0, 1) := by decide +kernel
theorem d_x_Rdr_read_22 : decode b_x_Rdr_read 22 = .ok (.invokevirtual 76, 3) := by decide +kernel
theorem d_x_Rdr_read_25 : decode b_x_Rdr_read 25 = .ok (.aload_n 0, 1) := by decide +kernel
theorem d_x_Rdr_read_26 : decode b_x_Rdr_read 26 = .ok (.getfield 35, 3) := by decide +kernel
theorem d_x_Rdr_read_29 : decode b_x_Rdr_read 29 = .ok (.ifCond .ne 17, 3) := by decide +kernel
theorem d_x_Rdr_read_32 : decode b_x_Rdr_read 32 = .ok (.aload_n 0, 1) := by decide +kernel
theorem d_x_Rdr_read_33 : decode b_x_Rdr_read 33 = .ok (.getfield 21, 3) := by decide +kernel
theorem d_x_Rdr_read_36 : decode b_x_Rdr_read 36 = .ok (.aload_n 0, 1) := by decide +kernel
theorem d_x_Rdr_read_37 : decode b_x_Rdr_read 37 = .ok (.getfield 25, 3) := by decide +kernel
theorem d_x_Rdr_read_40 : decode b_x_Rdr_read 40 = .ok (.invokevirtual 29, 3) := by decide +kernel
theorem d_x_Rdr_read_43 : decode b_x_Rdr_read 43 = .ok (.if_icmp .ge 7, 3) := by decide +kernel
theorem d_x_Rdr_read_46 : decode b_x_Rdr_read 46 = .ok (.aconst_null, 1) := by decide +kernel
theorem d_x_Rdr_read_47 : decode b_x_Rdr_read 47 = .ok (.goto 26, 3) := by decide +kernel
theorem d_x_Rdr_read_50 : decode b_x_Rdr_read 50 = .ok (.new 118, 3) := by decide +kernel
theorem d_x_Rdr_read_53 : decode b_x_Rdr_read 53 = .ok (.dup, 1) := by decide +kernel
theorem d_x_Rdr_read_54 : decode b_x_Rdr_read 54 = .ok (.aload_n 0, 1) := by decide +kernel
theorem d_x_Rdr_read_55 : decode b_x_Rdr_read 55 = .ok (.getfield 25, 3) := by decide +kernel
theorem d_x_Rdr_read_58 : decode b_x_Rdr_read 58 = .ok (.aload_n 0, 1) := by decide +kernel
theorem d_x_Rdr_read_59 : decode b_x_Rdr_read 59 = .ok (.getfield 11, 3) := by decide +kernel
theorem d_x_Rdr_read_62 : decode b_x_Rdr_read 62 = .ok (.aload_n 0, 1) := by decide +kernel
theorem d_x_Rdr_read_63 : decode b_x_Rdr_read 63 = .ok (.getfield 17, 3) := by decide +kernel
theorem d_x_Rdr_read_66 : decode b_x_Rdr_read 66 = .ok (.aload_n 0, 1) := by decide +kernel
theorem d_x_Rdr_read_67 : decode b_x_Rdr_read 67 = .ok (.getfield 47, 3) := by decide +kernel
theorem d_x_Rdr_read_70 : decode b_x_Rdr_read 70 = .ok (.invokespecial 120, 3) := by decide +kernel
theorem d_x_Rdr_read_73 : decode b_x_Rdr_read 73 = .ok (.areturn, 1) := by decide +kernel
theorem d_x_NS_define_0 : decode b_x_NS_define 0 = .ok (.aload_n 0, 1) := by decide +kernel
theorem d_x_NS_define_1 : decode b_x_NS_define 1 = .ok (.iload_n 1, 1) := by decide +kernel
theorem d_x_NS_define_2 : decode b_x_NS_define 2 = .ok (.invokevirtual 59, 3) := by decide +kernel
theorem d_x_NS_define_5 : decode b_x_NS_define 5 = .ok (.astore_n 2, 1) := by decide +kernel
theorem d_x_NS_define_6 : decode b_x_NS_define 6 = .ok (.aload_n 0, 1) := by decide +kernel
theorem d_x_NS_define_7 : decode b_x_NS_define 7 = .ok (.getfield 18, 3) := by decide +kernel
theorem d_x_NS_define_10 : decode b_x_NS_define 10 = .ok (.invokevirtual 63, 3) := by decide +kernel
theorem d_x_NS_define_13 : decode b_x_NS_define 13 = .ok (.astore_n 3, 1) := by decide +kernel
theorem d_x_NS_define_14 : decode b_x_NS_define 14 = .ok (.aload_n 0, 1) := by decide +kernel
theorem d_x_NS_define_15 : decode b_x_NS_define 15 = .ok (.getfield 18, 3) := by decide +kernel
theorem d_x_NS_define_18 : decode b_x_NS_define 18 = .ok (.iconst 0, 1) := by decide +kernel
theorem d_x_NS_define_19 : decode b_x_NS_define 19 = .ok (.invokevirtual 67, 3) := by decide +kernel
theorem d_x_NS_define_22 : decode b_x_NS_define 22 = .ok (.aload_n 2, 1) := by decide +kernel
theorem d_x_NS_define_23 : decode b_x_NS_define 23 = .ok (.ifnonnull 5, 3) := by decide +kernel
theorem d_x_NS_define_26 : decode b_x_NS_define 26 = .ok (.iconst (-1), 1) := by decide +kernel
theorem d_x_NS_define_27 : decode b_x_NS_define 27 = .ok (.ireturn, 1) := by decide +kernel
theorem d_x_NS_define_28 : decode b_x_NS_define 28 = .ok (.aload_n 0, 1) := by decide +kernel
theorem d_x_NS_define_29 : decode b_x_NS_define 29 = .ok (.getfield 25, 3) := by decide +kernel
theorem d_x_NS_define_32 : decode b_x_NS_define 32 = .ok (.aload_n 3, 1) := by decide +kernel
theorem d_x_NS_define_33 : decode b_x_NS_define 33 = .ok (.invokevirtual 70, 3) := by decide +kernel
theorem d_x_NS_define_36 : decode b_x_NS_define 36 = .ok (.astore 4, 2) := by decide +kernel
theorem d_x_NS_define_38 : decode b_x_NS_define 38 = .ok (.aload 4, 2) := by decide +kernel
theorem d_x_NS_define_40 : decode b_x_NS_define 40 = .ok (.ifnonnull 13, 3) := by decide +kernel
theorem d_x_NS_define_43 : decode b_x_NS_define 43 = .ok (.iconst 1, 1) := by decide +kernel
theorem d_x_NS_define_44 : decode b_x_NS_define 44 = .ok (.aload_n 0, 1) := by decide +kernel
theorem d_x_NS_define_45 : decode b_x_NS_define 45 = .ok (.getfield 25, 3) := by decide +kernel
theorem d_x_NS_define_48 : decode b_x_NS_define 48 = .ok (.getfield 74, 3) := by decide +kernel
theorem d_x_NS_define_51 : decode b_x_NS_define 51 = .ok (.iadd, 1) := by decide +kernel
theorem d_x_NS_define_52 : decode b_x_NS_define 52 = .ok (.ireturn, 1) := by decide +kernel
theorem d_x_NS_define_53 : decode b_x_NS_define 53 = .ok (.aload_n 2, 1) := by decide +kernel
theorem d_x_NS_define_54 : decode b_x_NS_define 54 = .ok (.getfield 77, 3) := by decide +kernel
theorem d_x_NS_define_57 : decode b_x_NS_define 57 = .ok (.ifCond .ne 19, 3) := by decide +kernel
theorem d_x_NS_define_60 : decode b_x_NS_define 60 = .ok (.aload_n 2, 1) := by decide +kernel
theorem d_x_NS_define_61 : decode b_x_NS_define 61 = .ok (.getfield 81, 3) := by decide +kernel
theorem d_x_NS_define_64 : decode b_x_NS_define 64 = .ok (.getfield 85, 3) := by decide +kernel
theorem d_x_NS_define_67 : decode b_x_NS_define 67 = .ok (.aload_n 3, 1) := by decide +kernel
theorem d_x_NS_define_68 : decode b_x_NS_define 68 = .ok (.invokevirtual 91, 3) := by decide +kernel
theorem d_x_NS_define_71 : decode b_x_NS_define 71 = .ok (.ifCond .eq 5, 3) := by decide +kernel
theorem d_x_NS_define_74 : decode b_x_NS_define 74 = .ok (.iconst 0, 1) := by decide +kernel
theorem d_x_NS_define_75 : decode b_x_NS_define 75 = .ok (.ireturn, 1) := by decide +kernel
theorem d_x_NS_define_76 : decode b_x_NS_define 76 = .ok (.aload_n 0, 1) := by decide +kernel
theorem d_x_NS_define_77 : decode b_x_NS_define 77 = .ok (.aload_n 2, 1) := by decide +kernel
theorem d_x_NS_define_78 : decode b_x_NS_define 78 = .ok (.getfield 77, 3) := by decide +kernel
theorem d_x_NS_define_81 : decode b_x_NS_define 81 = .ok (.ifCond .eq 10, 3) := by decide +kernel
theorem d_x_NS_define_84 : decode b_x_NS_define 84 = .ok (.aload_n 2, 1) := by decide +kernel
theorem d_x_NS_define_85 : decode b_x_NS_define 85 = .ok (.getfield 95, 3) := by decide +kernel
theorem d_x_NS_define_88 : decode b_x_NS_define 88 = .ok (.goto 4, 3) := by decide +kernel
theorem d_x_NS_define_91 : decode b_x_NS_define 91 = .ok (.iconst 2, 1) := by decide +kernel
theorem d_x_NS_define_92 : decode b_x_NS_define 92 = .ok (.invokevirtual 98, 3) := by decide +kernel
theorem d_x_NS_define_95 : decode b_x_NS_define 95 = .ok (.aload_n 2, 1) := by decide +kernel
theorem d_x_NS_define_96 : decode b_x_NS_define 96 = .ok (.getfield 77, 3) := by decide +kernel
theorem d_x_NS_define_99 : decode b_x_NS_define 99 = .ok (.ifCond .eq 8, 3) := by decide +kernel
theorem d_x_NS_define_102 : decode b_x_NS_define 102 = .ok (.aload_n 2, 1) := by decide +kernel
theorem d_x_NS_define_103 : decode b_x_NS_define 103 = .ok (.aconst_null, 1) := by decide +kernel
theorem d_x_NS_define_104 : decode b_x_NS_define 104 = .ok (.putfield 101, 3) := by decide +kernel
theorem d_x_NS_define_107 : decode b_x_NS_define 107 = .ok (.aload_n 2, 1) := by decide +kernel
theorem d_x_NS_define_108 : decode b_x_NS_define 108 = .ok (.iconst 0, 1) := by decide +kernel
theorem d_x_NS_define_109 : decode b_x_NS_define 109 = .ok (.putfield 77, 3) := by decide +kernel
theorem d_x_NS_define_112 : decode b_x_NS_define 112 = .ok (.aload_n 2, 1) := by decide +kernel
theorem d_x_NS_define_113 : decode b_x_NS_define 113 = .ok (.aload 4, 2) := by decide +kernel
theorem d_x_NS_define_115 : decode b_x_NS_define 115 = .ok (.putfield 81, 3) := by decide +kernel
theorem d_x_NS_define_118 : decode b_x_NS_define 118 = .ok (.aload_n 2, 1) := by decide +kernel
theorem d_x_NS_define_119 : decode b_x_NS_define 119 = .ok (.aload_n 0, 1) := by decide +kernel
theorem d_x_NS_define_120 : decode b_x_NS_define 120 = .ok (.getfield 29, 3) := by decide +kernel
theorem d_x_NS_define_123 : decode b_x_NS_define 123 = .ok (.putfield 105, 3) := by decide +kernel
theorem d_x_NS_define_126 : decode b_x_NS_define 126 = .ok (.iconst 0, 1) := by decide +kernel
theorem d_x_NS_define_127 : decode b_x_NS_define 127 = .ok (.ireturn, 1) := by decide +kernel
theorem d_x_NS_ask_0 : decode b_x_NS_ask 0 = .ok (.aload_n 0, 1) := by decide +kernel
theorem d_x_NS_ask_1 : decode b_x_NS_ask 1 = .ok (.iload_n 1, 1) := by decide +kernel
theorem d_x_NS_ask_2 : decode b_x_NS_ask 2 = .ok (.invokevirtual 59, 3) := by decide +kernel
theorem d_x_NS_ask_5 : decode b_x_NS_ask 5 = .ok (.astore_n 2, 1) := by decide +kernel
theorem d_x_NS_ask_6 : decode b_x_NS_ask 6 = .ok (.aload_n 2, 1) := by decide +kernel
theorem d_x_NS_ask_7 : decode b_x_NS_ask 7 = .ok (.ifnonnull 7, 3) := by decide +kernel
theorem d_x_NS_ask_10 : decode b_x_NS_ask 10 = .ok (.ldc2_w 217, 3) := by decide +kernel
theorem d_x_NS_ask_13 : decode b_x_NS_ask 13 = .ok (.lreturn, 1) := by decide +kernel
theorem d_x_NS_ask_14 : decode b_x_NS_ask 14 = .ok (.aload_n 0, 1) := by decide +kernel
theorem d_x_NS_ask_15 : decode b_x_NS_ask 15 = .ok (.iconst 0, 1) := by decide +kernel
theorem d_x_NS_ask_16 : decode b_x_NS_ask 16 = .ok (.putfield 163, 3) := by decide +kernel
theorem d_x_NS_ask_19 : decode b_x_NS_ask 19 = .ok (.aload_n 0, 1) := by decide +kernel
theorem d_x_NS_ask_20 : decode b_x_NS_ask 20 = .ok (.iconst 0, 1) := by decide +kernel
theorem d_x_NS_ask_21 : decode b_x_NS_ask 21 = .ok (.putfield 134, 3) := by decide +kernel
theorem d_x_NS_ask_24 : decode b_x_NS_ask 24 = .ok (.aload_n 0, 1) := by decide +kernel
theorem d_x_NS_ask_25 : decode b_x_NS_ask 25 = .ok (.iconst 0, 1) := by decide +kernel
theorem d_x_NS_ask_26 : decode b_x_NS_ask 26 = .ok (.putfield 126, 3) := by decide +kernel
theorem d_x_NS_ask_29 : decode b_x_NS_ask 29 = .ok (.aload_n 0, 1) := by decide +kernel
theorem d_x_NS_ask_30 : decode b_x_NS_ask 30 = .ok (.aload_n 2, 1) := by decide +kernel
theorem d_x_NS_ask_31 : decode b_x_NS_ask 31 = .ok (.invokevirtual 187, 3) := by decide +kernel
theorem d_x_NS_ask_34 : decode b_x_NS_ask 34 = .ok (.lstore_n 3, 1) := by decide +kernel
theorem d_x_NS_ask_35 : decode b_x_NS_ask 35 = .ok (.aload_n 0, 1) := by decide +kernel
theorem d_x_NS_ask_36 : decode b_x_NS_ask 36 = .ok (.invokevirtual 219, 3) := by decide +kernel
theorem d_x_NS_ask_39 : decode b_x_NS_ask 39 = .ok (.istore 5, 2) := by decide +kernel
theorem d_x_NS_ask_41 : decode b_x_NS_ask 41 = .ok (.iload 5, 2) := by decide +kernel
theorem d_x_NS_ask_43 : decode b_x_NS_ask 43 = .ok (.aload_n 0, 1) := by decide +kernel
theorem d_x_NS_ask_44 : decode b_x_NS_ask 44 = .ok (.getfield 37, 3) := by decide +kernel
theorem d_x_NS_ask_47 : decode b_x_NS_ask 47 = .ok (.if_icmp .le 13, 3) := by decide +kernel
theorem d_x_NS_ask_50 : decode b_x_NS_ask 50 = .ok (.aload_n 0, 1) := by decide +kernel
theorem d_x_NS_ask_51 : decode b_x_NS_ask 51 = .ok (.invokevirtual 222, 3) := by decide +kernel
theorem d_x_NS_ask_54 : decode b_x_NS_ask 54 = .ok (.iinc 5 (-1), 3) := by decide +kernel
theorem d_x_NS_ask_57 : decode b_x_NS_ask 57 = .ok (.goto (-16), 3) := by decide +kernel
theorem d_x_NS_ask_60 : decode b_x_NS_ask 60 = .ok (.lload_n 3, 1) := by decide +kernel
theorem d_x_NS_ask_61 : decode b_x_NS_ask 61 = .ok (.lreturn, 1) := by decide +kernel
