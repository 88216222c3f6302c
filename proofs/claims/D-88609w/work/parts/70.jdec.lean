set_option maxRecDepth 100000
theorem dJ2_size_0 : decode cJ2_size 0 = .ok (.aload_n 0, 1) := by decide +kernel
theorem dJ2_size_1 : decode cJ2_size 1 = .ok (.getfield 48, 3) := by decide +kernel
theorem dJ2_size_4 : decode cJ2_size 4 = .ok (.ireturn, 1) := by decide +kernel
theorem dJ2_add_0 : decode cJ2_add 0 = .ok (.aload_n 0, 1) := by decide +kernel
theorem dJ2_add_1 : decode cJ2_add 1 = .ok (.dup, 1) := by decide +kernel
theorem dJ2_add_2 : decode cJ2_add 2 = .ok (.getfield 63, 3) := by decide +kernel
theorem dJ2_add_5 : decode cJ2_add 5 = .ok (.iconst 1, 1) := by decide +kernel
theorem dJ2_add_6 : decode cJ2_add 6 = .ok (.iadd, 1) := by decide +kernel
theorem dJ2_add_7 : decode cJ2_add 7 = .ok (.putfield 63, 3) := by decide +kernel
theorem dJ2_add_10 : decode cJ2_add 10 = .ok (.aload_n 0, 1) := by decide +kernel
theorem dJ2_add_11 : decode cJ2_add 11 = .ok (.aload_n 1, 1) := by decide +kernel
theorem dJ2_add_12 : decode cJ2_add 12 = .ok (.aload_n 0, 1) := by decide +kernel
theorem dJ2_add_13 : decode cJ2_add 13 = .ok (.getfield 9, 3) := by decide +kernel
theorem dJ2_add_16 : decode cJ2_add 16 = .ok (.aload_n 0, 1) := by decide +kernel
theorem dJ2_add_17 : decode cJ2_add 17 = .ok (.getfield 48, 3) := by decide +kernel
theorem dJ2_add_20 : decode cJ2_add 20 = .ok (.invokevirtual 131, 3) := by decide +kernel
theorem dJ2_add_23 : decode cJ2_add 23 = .ok (.iconst 1, 1) := by decide +kernel
theorem dJ2_add_24 : decode cJ2_add 24 = .ok (.ireturn, 1) := by decide +kernel
theorem dJ2_add_2_0 : decode cJ2_add_2 0 = .ok (.iload_n 3, 1) := by decide +kernel
theorem dJ2_add_2_1 : decode cJ2_add_2 1 = .ok (.aload_n 2, 1) := by decide +kernel
theorem dJ2_add_2_2 : decode cJ2_add_2 2 = .ok (.arraylength, 1) := by decide +kernel
theorem dJ2_add_2_3 : decode cJ2_add_2 3 = .ok (.if_icmp .ne 8, 3) := by decide +kernel
theorem dJ2_add_2_6 : decode cJ2_add_2 6 = .ok (.aload_n 0, 1) := by decide +kernel
theorem dJ2_add_2_7 : decode cJ2_add_2 7 = .ok (.invokevirtual 129, 3) := by decide +kernel
theorem dJ2_add_2_10 : decode cJ2_add_2 10 = .ok (.astore_n 2, 1) := by decide +kernel
theorem dJ2_add_2_11 : decode cJ2_add_2 11 = .ok (.aload_n 2, 1) := by decide +kernel
theorem dJ2_add_2_12 : decode cJ2_add_2 12 = .ok (.iload_n 3, 1) := by decide +kernel
theorem dJ2_add_2_13 : decode cJ2_add_2 13 = .ok (.aload_n 1, 1) := by decide +kernel
theorem dJ2_add_2_14 : decode cJ2_add_2 14 = .ok (.aastore, 1) := by decide +kernel
theorem dJ2_add_2_15 : decode cJ2_add_2 15 = .ok (.aload_n 0, 1) := by decide +kernel
theorem dJ2_add_2_16 : decode cJ2_add_2 16 = .ok (.iload_n 3, 1) := by decide +kernel
theorem dJ2_add_2_17 : decode cJ2_add_2 17 = .ok (.iconst 1, 1) := by decide +kernel
theorem dJ2_add_2_18 : decode cJ2_add_2 18 = .ok (.iadd, 1) := by decide +kernel
theorem dJ2_add_2_19 : decode cJ2_add_2 19 = .ok (.putfield 48, 3) := by decide +kernel
theorem dJ2_add_2_22 : decode cJ2_add_2 22 = .ok (.return_, 1) := by decide +kernel
theorem dJ2_grow_0 : decode cJ2_grow 0 = .ok (.aload_n 0, 1) := by decide +kernel
theorem dJ2_grow_1 : decode cJ2_grow 1 = .ok (.aload_n 0, 1) := by decide +kernel
theorem dJ2_grow_2 : decode cJ2_grow 2 = .ok (.getfield 48, 3) := by decide +kernel
theorem dJ2_grow_5 : decode cJ2_grow 5 = .ok (.iconst 1, 1) := by decide +kernel
theorem dJ2_grow_6 : decode cJ2_grow 6 = .ok (.iadd, 1) := by decide +kernel
theorem dJ2_grow_7 : decode cJ2_grow 7 = .ok (.invokevirtual 69, 3) := by decide +kernel
theorem dJ2_grow_10 : decode cJ2_grow 10 = .ok (.areturn, 1) := by decide +kernel
theorem dJ2_grow_2_0 : decode cJ2_grow_2 0 = .ok (.aload_n 0, 1) := by decide +kernel
theorem dJ2_grow_2_1 : decode cJ2_grow_2 1 = .ok (.getfield 9, 3) := by decide +kernel
theorem dJ2_grow_2_4 : decode cJ2_grow_2 4 = .ok (.arraylength, 1) := by decide +kernel
theorem dJ2_grow_2_5 : decode cJ2_grow_2 5 = .ok (.istore_n 2, 1) := by decide +kernel
theorem dJ2_grow_2_6 : decode cJ2_grow_2 6 = .ok (.iload_n 2, 1) := by decide +kernel
theorem dJ2_grow_2_7 : decode cJ2_grow_2 7 = .ok (.ifCond .gt 13, 3) := by decide +kernel
theorem dJ2_grow_2_10 : decode cJ2_grow_2 10 = .ok (.aload_n 0, 1) := by decide +kernel
theorem dJ2_grow_2_11 : decode cJ2_grow_2 11 = .ok (.getfield 9, 3) := by decide +kernel
theorem dJ2_grow_2_14 : decode cJ2_grow_2 14 = .ok (.getstatic 39, 3) := by decide +kernel
theorem dJ2_grow_2_17 : decode cJ2_grow_2 17 = .ok (.if_acmp .eq 28, 3) := by decide +kernel
theorem dJ2_grow_2_20 : decode cJ2_grow_2 20 = .ok (.iload_n 2, 1) := by decide +kernel
theorem dJ2_grow_2_21 : decode cJ2_grow_2 21 = .ok (.iload_n 1, 1) := by decide +kernel
theorem dJ2_grow_2_22 : decode cJ2_grow_2 22 = .ok (.iload_n 2, 1) := by decide +kernel
theorem dJ2_grow_2_23 : decode cJ2_grow_2 23 = .ok (.isub, 1) := by decide +kernel
theorem dJ2_grow_2_24 : decode cJ2_grow_2 24 = .ok (.iload_n 2, 1) := by decide +kernel
theorem dJ2_grow_2_25 : decode cJ2_grow_2 25 = .ok (.iconst 1, 1) := by decide +kernel
theorem dJ2_grow_2_26 : decode cJ2_grow_2 26 = .ok (.ishr, 1) := by decide +kernel
theorem dJ2_grow_2_27 : decode cJ2_grow_2 27 = .ok (.invokestatic 73, 3) := by decide +kernel
theorem dJ2_grow_2_30 : decode cJ2_grow_2 30 = .ok (.istore_n 3, 1) := by decide +kernel
theorem dJ2_grow_2_31 : decode cJ2_grow_2 31 = .ok (.aload_n 0, 1) := by decide +kernel
theorem dJ2_grow_2_32 : decode cJ2_grow_2 32 = .ok (.aload_n 0, 1) := by decide +kernel
theorem dJ2_grow_2_33 : decode cJ2_grow_2 33 = .ok (.getfield 9, 3) := by decide +kernel
theorem dJ2_grow_2_36 : decode cJ2_grow_2 36 = .ok (.iload_n 3, 1) := by decide +kernel
theorem dJ2_grow_2_37 : decode cJ2_grow_2 37 = .ok (.invokestatic 66, 3) := by decide +kernel
theorem dJ2_grow_2_40 : decode cJ2_grow_2 40 = .ok (.dup_x1, 1) := by decide +kernel
theorem dJ2_grow_2_41 : decode cJ2_grow_2 41 = .ok (.putfield 9, 3) := by decide +kernel
theorem dJ2_grow_2_44 : decode cJ2_grow_2 44 = .ok (.areturn, 1) := by decide +kernel
theorem dJ2_grow_2_45 : decode cJ2_grow_2 45 = .ok (.aload_n 0, 1) := by decide +kernel
theorem dJ2_grow_2_46 : decode cJ2_grow_2 46 = .ok (.bipush 10, 2) := by decide +kernel
theorem dJ2_grow_2_48 : decode cJ2_grow_2 48 = .ok (.iload_n 1, 1) := by decide +kernel
theorem dJ2_grow_2_49 : decode cJ2_grow_2 49 = .ok (.invokestatic 79, 3) := by decide +kernel
theorem dJ2_grow_2_52 : decode cJ2_grow_2 52 = .ok (.anewarray 7, 3) := by decide +kernel
theorem dJ2_grow_2_55 : decode cJ2_grow_2 55 = .ok (.dup_x1, 1) := by decide +kernel
theorem dJ2_grow_2_56 : decode cJ2_grow_2 56 = .ok (.putfield 9, 3) := by decide +kernel
theorem dJ2_grow_2_59 : decode cJ2_grow_2 59 = .ok (.areturn, 1) := by decide +kernel
theorem dJ2_get_0 : decode cJ2_get 0 = .ok (.iload_n 1, 1) := by decide +kernel
theorem dJ2_get_1 : decode cJ2_get 1 = .ok (.aload_n 0, 1) := by decide +kernel
theorem dJ2_get_2 : decode cJ2_get 2 = .ok (.getfield 48, 3) := by decide +kernel
theorem dJ2_get_5 : decode cJ2_get 5 = .ok (.invokestatic 118, 3) := by decide +kernel
theorem dJ2_get_8 : decode cJ2_get 8 = .ok (.pop, 1) := by decide +kernel
theorem dJ2_get_9 : decode cJ2_get 9 = .ok (.aload_n 0, 1) := by decide +kernel
theorem dJ2_get_10 : decode cJ2_get 10 = .ok (.iload_n 1, 1) := by decide +kernel
theorem dJ2_get_11 : decode cJ2_get 11 = .ok (.invokevirtual 123, 3) := by decide +kernel
theorem dJ2_get_14 : decode cJ2_get 14 = .ok (.areturn, 1) := by decide +kernel
theorem dJ2_elementData_0 : decode cJ2_elementData 0 = .ok (.aload_n 0, 1) := by decide +kernel
theorem dJ2_elementData_1 : decode cJ2_elementData 1 = .ok (.getfield 9, 3) := by decide +kernel
theorem dJ2_elementData_4 : decode cJ2_elementData 4 = .ok (.iload_n 1, 1) := by decide +kernel
theorem dJ2_elementData_5 : decode cJ2_elementData 5 = .ok (.aaload, 1) := by decide +kernel
theorem dJ2_elementData_6 : decode cJ2_elementData 6 = .ok (.areturn, 1) := by decide +kernel
theorem dJ2_remove_0 : decode cJ2_remove 0 = .ok (.iload_n 1, 1) := by decide +kernel
theorem dJ2_remove_1 : decode cJ2_remove 1 = .ok (.aload_n 0, 1) := by decide +kernel
theorem dJ2_remove_2 : decode cJ2_remove 2 = .ok (.getfield 48, 3) := by decide +kernel
theorem dJ2_remove_5 : decode cJ2_remove 5 = .ok (.invokestatic 118, 3) := by decide +kernel
theorem dJ2_remove_8 : decode cJ2_remove 8 = .ok (.pop, 1) := by decide +kernel
theorem dJ2_remove_9 : decode cJ2_remove 9 = .ok (.aload_n 0, 1) := by decide +kernel
theorem dJ2_remove_10 : decode cJ2_remove 10 = .ok (.getfield 9, 3) := by decide +kernel
theorem dJ2_remove_13 : decode cJ2_remove 13 = .ok (.astore_n 2, 1) := by decide +kernel
theorem dJ2_remove_14 : decode cJ2_remove 14 = .ok (.aload_n 2, 1) := by decide +kernel
theorem dJ2_remove_15 : decode cJ2_remove 15 = .ok (.iload_n 1, 1) := by decide +kernel
theorem dJ2_remove_16 : decode cJ2_remove 16 = .ok (.aaload, 1) := by decide +kernel
theorem dJ2_remove_17 : decode cJ2_remove 17 = .ok (.astore_n 3, 1) := by decide +kernel
theorem dJ2_remove_18 : decode cJ2_remove 18 = .ok (.aload_n 0, 1) := by decide +kernel
theorem dJ2_remove_19 : decode cJ2_remove 19 = .ok (.aload_n 2, 1) := by decide +kernel
theorem dJ2_remove_20 : decode cJ2_remove 20 = .ok (.iload_n 1, 1) := by decide +kernel
theorem dJ2_remove_21 : decode cJ2_remove 21 = .ok (.invokevirtual 144, 3) := by decide +kernel
theorem dJ2_remove_24 : decode cJ2_remove 24 = .ok (.aload_n 3, 1) := by decide +kernel
theorem dJ2_remove_25 : decode cJ2_remove 25 = .ok (.areturn, 1) := by decide +kernel
theorem dJ2_fastRemove_0 : decode cJ2_fastRemove 0 = .ok (.aload_n 0, 1) := by decide +kernel
theorem dJ2_fastRemove_1 : decode cJ2_fastRemove 1 = .ok (.dup, 1) := by decide +kernel
theorem dJ2_fastRemove_2 : decode cJ2_fastRemove 2 = .ok (.getfield 63, 3) := by decide +kernel
theorem dJ2_fastRemove_5 : decode cJ2_fastRemove 5 = .ok (.iconst 1, 1) := by decide +kernel
theorem dJ2_fastRemove_6 : decode cJ2_fastRemove 6 = .ok (.iadd, 1) := by decide +kernel
theorem dJ2_fastRemove_7 : decode cJ2_fastRemove 7 = .ok (.putfield 63, 3) := by decide +kernel
theorem dJ2_fastRemove_10 : decode cJ2_fastRemove 10 = .ok (.aload_n 0, 1) := by decide +kernel
theorem dJ2_fastRemove_11 : decode cJ2_fastRemove 11 = .ok (.getfield 48, 3) := by decide +kernel
theorem dJ2_fastRemove_14 : decode cJ2_fastRemove 14 = .ok (.iconst 1, 1) := by decide +kernel
theorem dJ2_fastRemove_15 : decode cJ2_fastRemove 15 = .ok (.isub, 1) := by decide +kernel
theorem dJ2_fastRemove_16 : decode cJ2_fastRemove 16 = .ok (.dup, 1) := by decide +kernel
theorem dJ2_fastRemove_17 : decode cJ2_fastRemove 17 = .ok (.istore_n 3, 1) := by decide +kernel
theorem dJ2_fastRemove_18 : decode cJ2_fastRemove 18 = .ok (.iload_n 2, 1) := by decide +kernel
theorem dJ2_fastRemove_19 : decode cJ2_fastRemove 19 = .ok (.if_icmp .le 15, 3) := by decide +kernel
theorem dJ2_fastRemove_22 : decode cJ2_fastRemove 22 = .ok (.aload_n 1, 1) := by decide +kernel
theorem dJ2_fastRemove_23 : decode cJ2_fastRemove 23 = .ok (.iload_n 2, 1) := by decide +kernel
theorem dJ2_fastRemove_24 : decode cJ2_fastRemove 24 = .ok (.iconst 1, 1) := by decide +kernel
theorem dJ2_fastRemove_25 : decode cJ2_fastRemove 25 = .ok (.iadd, 1) := by decide +kernel
theorem dJ2_fastRemove_26 : decode cJ2_fastRemove 26 = .ok (.aload_n 1, 1) := by decide +kernel
theorem dJ2_fastRemove_27 : decode cJ2_fastRemove 27 = .ok (.iload_n 2, 1) := by decide +kernel
theorem dJ2_fastRemove_28 : decode cJ2_fastRemove 28 = .ok (.iload_n 3, 1) := by decide +kernel
theorem dJ2_fastRemove_29 : decode cJ2_fastRemove 29 = .ok (.iload_n 2, 1) := by decide +kernel
theorem dJ2_fastRemove_30 : decode cJ2_fastRemove 30 = .ok (.isub, 1) := by decide +kernel
theorem dJ2_fastRemove_31 : decode cJ2_fastRemove 31 = .ok (.invokestatic 112, 3) := by decide +kernel
theorem dJ2_fastRemove_34 : decode cJ2_fastRemove 34 = .ok (.aload_n 1, 1) := by decide +kernel
theorem dJ2_fastRemove_35 : decode cJ2_fastRemove 35 = .ok (.aload_n 0, 1) := by decide +kernel
theorem dJ2_fastRemove_36 : decode cJ2_fastRemove 36 = .ok (.iload_n 3, 1) := by decide +kernel
theorem dJ2_fastRemove_37 : decode cJ2_fastRemove 37 = .ok (.dup_x1, 1) := by decide +kernel
theorem dJ2_fastRemove_38 : decode cJ2_fastRemove 38 = .ok (.putfield 48, 3) := by decide +kernel
theorem dJ2_fastRemove_41 : decode cJ2_fastRemove 41 = .ok (.aconst_null, 1) := by decide +kernel
theorem dJ2_fastRemove_42 : decode cJ2_fastRemove 42 = .ok (.aastore, 1) := by decide +kernel
theorem dJ2_fastRemove_43 : decode cJ2_fastRemove 43 = .ok (.return_, 1) := by decide +kernel
theorem dJ2_init_0 : decode cJ2_init 0 = .ok (.aload_n 0, 1) := by decide +kernel
theorem dJ2_init_1 : decode cJ2_init 1 = .ok (.invokespecial 1, 3) := by decide +kernel
theorem dJ2_init_4 : decode cJ2_init 4 = .ok (.aload_n 0, 1) := by decide +kernel
theorem dJ2_init_5 : decode cJ2_init 5 = .ok (.getstatic 39, 3) := by decide +kernel
theorem dJ2_init_8 : decode cJ2_init 8 = .ok (.putfield 9, 3) := by decide +kernel
theorem dJ2_init_11 : decode cJ2_init 11 = .ok (.return_, 1) := by decide +kernel
theorem dJ7_newLength_0 : decode cJ7_newLength 0 = .ok (.iload_n 0, 1) := by decide +kernel
theorem dJ7_newLength_1 : decode cJ7_newLength 1 = .ok (.iload_n 1, 1) := by decide +kernel
theorem dJ7_newLength_2 : decode cJ7_newLength 2 = .ok (.iload_n 2, 1) := by decide +kernel
theorem dJ7_newLength_3 : decode cJ7_newLength 3 = .ok (.invokestatic 194, 3) := by decide +kernel
theorem dJ7_newLength_6 : decode cJ7_newLength 6 = .ok (.iadd, 1) := by decide +kernel
theorem dJ7_newLength_7 : decode cJ7_newLength 7 = .ok (.istore_n 3, 1) := by decide +kernel
theorem dJ7_newLength_8 : decode cJ7_newLength 8 = .ok (.iconst 0, 1) := by decide +kernel
theorem dJ7_newLength_9 : decode cJ7_newLength 9 = .ok (.iload_n 3, 1) := by decide +kernel
theorem dJ7_newLength_10 : decode cJ7_newLength 10 = .ok (.if_icmp .ge 11, 3) := by decide +kernel
theorem dJ7_newLength_13 : decode cJ7_newLength 13 = .ok (.iload_n 3, 1) := by decide +kernel
theorem dJ7_newLength_14 : decode cJ7_newLength 14 = .ok (.ldc 200, 2) := by decide +kernel
theorem dJ7_newLength_16 : decode cJ7_newLength 16 = .ok (.if_icmp .gt 5, 3) := by decide +kernel
theorem dJ7_newLength_19 : decode cJ7_newLength 19 = .ok (.iload_n 3, 1) := by decide +kernel
theorem dJ7_newLength_20 : decode cJ7_newLength 20 = .ok (.ireturn, 1) := by decide +kernel
theorem dJ7_newLength_21 : decode cJ7_newLength 21 = .ok (.iload_n 0, 1) := by decide +kernel
theorem dJ7_newLength_22 : decode cJ7_newLength 22 = .ok (.iload_n 1, 1) := by decide +kernel
theorem dJ7_newLength_23 : decode cJ7_newLength 23 = .ok (.invokestatic 201, 3) := by decide +kernel
theorem dJ7_newLength_26 : decode cJ7_newLength 26 = .ok (.ireturn, 1) := by decide +kernel
theorem dJ8_copyOf_0 : decode cJ8_copyOf 0 = .ok (.aload_n 0, 1) := by decide +kernel
theorem dJ8_copyOf_1 : decode cJ8_copyOf 1 = .ok (.iload_n 1, 1) := by decide +kernel
theorem dJ8_copyOf_2 : decode cJ8_copyOf 2 = .ok (.aload_n 0, 1) := by decide +kernel
theorem dJ8_copyOf_3 : decode cJ8_copyOf 3 = .ok (.invokevirtual 86, 3) := by decide +kernel
theorem dJ8_copyOf_6 : decode cJ8_copyOf 6 = .ok (.invokestatic 300, 3) := by decide +kernel
theorem dJ8_copyOf_9 : decode cJ8_copyOf 9 = .ok (.areturn, 1) := by decide +kernel
theorem dJ8_copyOf_2_0 : decode cJ8_copyOf_2 0 = .ok (.aload_n 2, 1) := by decide +kernel
theorem dJ8_copyOf_2_1 : decode cJ8_copyOf_2 1 = .ok (.ldc 110, 2) := by decide +kernel
theorem dJ8_copyOf_2_3 : decode cJ8_copyOf_2 3 = .ok (.if_acmp .ne 10, 3) := by decide +kernel
theorem dJ8_copyOf_2_6 : decode cJ8_copyOf_2 6 = .ok (.iload_n 1, 1) := by decide +kernel
theorem dJ8_copyOf_2_7 : decode cJ8_copyOf_2 7 = .ok (.anewarray 2, 3) := by decide +kernel
theorem dJ8_copyOf_2_10 : decode cJ8_copyOf_2 10 = .ok (.goto 14, 3) := by decide +kernel
theorem dJ8_copyOf_2_13 : decode cJ8_copyOf_2 13 = .ok (.aload_n 2, 1) := by decide +kernel
theorem dJ8_copyOf_2_14 : decode cJ8_copyOf_2 14 = .ok (.invokevirtual 90, 3) := by decide +kernel
theorem dJ8_copyOf_2_17 : decode cJ8_copyOf_2 17 = .ok (.iload_n 1, 1) := by decide +kernel
theorem dJ8_copyOf_2_18 : decode cJ8_copyOf_2 18 = .ok (.invokestatic 95, 3) := by decide +kernel
theorem dJ8_copyOf_2_21 : decode cJ8_copyOf_2 21 = .ok (.checkcast 110, 3) := by decide +kernel
theorem dJ8_copyOf_2_24 : decode cJ8_copyOf_2 24 = .ok (.astore_n 3, 1) := by decide +kernel
theorem dJ8_copyOf_2_25 : decode cJ8_copyOf_2 25 = .ok (.aload_n 0, 1) := by decide +kernel
theorem dJ8_copyOf_2_26 : decode cJ8_copyOf_2 26 = .ok (.iconst 0, 1) := by decide +kernel
theorem dJ8_copyOf_2_27 : decode cJ8_copyOf_2 27 = .ok (.aload_n 3, 1) := by decide +kernel
theorem dJ8_copyOf_2_28 : decode cJ8_copyOf_2 28 = .ok (.iconst 0, 1) := by decide +kernel
theorem dJ8_copyOf_2_29 : decode cJ8_copyOf_2 29 = .ok (.aload_n 0, 1) := by decide +kernel
theorem dJ8_copyOf_2_30 : decode cJ8_copyOf_2 30 = .ok (.arraylength, 1) := by decide +kernel
theorem dJ8_copyOf_2_31 : decode cJ8_copyOf_2 31 = .ok (.iload_n 1, 1) := by decide +kernel
theorem dJ8_copyOf_2_32 : decode cJ8_copyOf_2 32 = .ok (.invokestatic 304, 3) := by decide +kernel
theorem dJ8_copyOf_2_35 : decode cJ8_copyOf_2 35 = .ok (.invokestatic 150, 3) := by decide +kernel
theorem dJ8_copyOf_2_38 : decode cJ8_copyOf_2 38 = .ok (.aload_n 3, 1) := by decide +kernel
theorem dJ8_copyOf_2_39 : decode cJ8_copyOf_2 39 = .ok (.areturn, 1) := by decide +kernel
theorem dJ9_checkIndex_0 : decode cJ9_checkIndex 0 = .ok (.iload_n 0, 1) := by decide +kernel
theorem dJ9_checkIndex_1 : decode cJ9_checkIndex 1 = .ok (.iload_n 1, 1) := by decide +kernel
theorem dJ9_checkIndex_2 : decode cJ9_checkIndex 2 = .ok (.aconst_null, 1) := by decide +kernel
theorem dJ9_checkIndex_3 : decode cJ9_checkIndex 3 = .ok (.invokestatic 105, 3) := by decide +kernel
theorem dJ9_checkIndex_6 : decode cJ9_checkIndex 6 = .ok (.ireturn, 1) := by decide +kernel
theorem dJ10_checkIndex_0 : decode cJ10_checkIndex 0 = .ok (.iload_n 0, 1) := by decide +kernel
theorem dJ10_checkIndex_1 : decode cJ10_checkIndex 1 = .ok (.ifCond .lt 8, 3) := by decide +kernel
theorem dJ10_checkIndex_4 : decode cJ10_checkIndex 4 = .ok (.iload_n 0, 1) := by decide +kernel
theorem dJ10_checkIndex_5 : decode cJ10_checkIndex 5 = .ok (.iload_n 1, 1) := by decide +kernel
theorem dJ10_checkIndex_6 : decode cJ10_checkIndex 6 = .ok (.if_icmp .lt 10, 3) := by decide +kernel
theorem dJ10_checkIndex_9 : decode cJ10_checkIndex 9 = .ok (.aload_n 2, 1) := by decide +kernel
theorem dJ10_checkIndex_10 : decode cJ10_checkIndex 10 = .ok (.iload_n 0, 1) := by decide +kernel
theorem dJ10_checkIndex_11 : decode cJ10_checkIndex 11 = .ok (.iload_n 1, 1) := by decide +kernel
theorem dJ10_checkIndex_12 : decode cJ10_checkIndex 12 = .ok (.invokestatic 95, 3) := by decide +kernel
theorem dJ10_checkIndex_15 : decode cJ10_checkIndex 15 = .ok (.athrow, 1) := by decide +kernel
theorem dJ10_checkIndex_16 : decode cJ10_checkIndex 16 = .ok (.iload_n 0, 1) := by decide +kernel
theorem dJ10_checkIndex_17 : decode cJ10_checkIndex 17 = .ok (.ireturn, 1) := by decide +kernel
theorem dJ1_init_0 : decode cJ1_init 0 = .ok (.aload_n 0, 1) := by decide +kernel
theorem dJ1_init_1 : decode cJ1_init 1 = .ok (.invokespecial 1, 3) := by decide +kernel
theorem dJ1_init_4 : decode cJ1_init 4 = .ok (.aload_n 0, 1) := by decide +kernel
theorem dJ1_init_5 : decode cJ1_init 5 = .ok (.iconst 0, 1) := by decide +kernel
theorem dJ1_init_6 : decode cJ1_init 6 = .ok (.putfield 7, 3) := by decide +kernel
theorem dJ1_init_9 : decode cJ1_init 9 = .ok (.return_, 1) := by decide +kernel
theorem dJ0_init_0 : decode cJ0_init 0 = .ok (.aload_n 0, 1) := by decide +kernel
theorem dJ0_init_1 : decode cJ0_init 1 = .ok (.invokespecial 1, 3) := by decide +kernel
theorem dJ0_init_4 : decode cJ0_init 4 = .ok (.return_, 1) := by decide +kernel
