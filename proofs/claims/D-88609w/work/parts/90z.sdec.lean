set_option maxRecDepth 100000
theorem dX1_lays_0 : decode cX1_lays 0 = .ok (.aload_n 1, 1) := by decide +kernel
theorem dX1_lays_1 : decode cX1_lays 1 = .ok (.iload_n 2, 1) := by decide +kernel
theorem dX1_lays_2 : decode cX1_lays 2 = .ok (.aload_n 0, 1) := by decide +kernel
theorem dX1_lays_3 : decode cX1_lays 3 = .ok (.getfield 98, 3) := by decide +kernel
theorem dX1_lays_6 : decode cX1_lays 6 = .ok (.i2c, 1) := by decide +kernel
theorem dX1_lays_7 : decode cX1_lays 7 = .ok (.castore, 1) := by decide +kernel
theorem dX1_lays_8 : decode cX1_lays 8 = .ok (.iload_n 2, 1) := by decide +kernel
theorem dX1_lays_9 : decode cX1_lays 9 = .ok (.iconst 1, 1) := by decide +kernel
theorem dX1_lays_10 : decode cX1_lays 10 = .ok (.iadd, 1) := by decide +kernel
theorem dX1_lays_11 : decode cX1_lays 11 = .ok (.istore_n 3, 1) := by decide +kernel
theorem dX1_lays_12 : decode cX1_lays 12 = .ok (.aload_n 0, 1) := by decide +kernel
theorem dX1_lays_13 : decode cX1_lays 13 = .ok (.invokevirtual 104, 3) := by decide +kernel
theorem dX1_lays_16 : decode cX1_lays 16 = .ok (.ifnull 13, 3) := by decide +kernel
theorem dX1_lays_19 : decode cX1_lays 19 = .ok (.aload_n 0, 1) := by decide +kernel
theorem dX1_lays_20 : decode cX1_lays 20 = .ok (.invokevirtual 104, 3) := by decide +kernel
theorem dX1_lays_23 : decode cX1_lays 23 = .ok (.aload_n 1, 1) := by decide +kernel
theorem dX1_lays_24 : decode cX1_lays 24 = .ok (.iload_n 3, 1) := by decide +kernel
theorem dX1_lays_25 : decode cX1_lays 25 = .ok (.invokestatic 357, 3) := by decide +kernel
theorem dX1_lays_28 : decode cX1_lays 28 = .ok (.istore_n 3, 1) := by decide +kernel
theorem dX1_lays_29 : decode cX1_lays 29 = .ok (.aload_n 0, 1) := by decide +kernel
theorem dX1_lays_30 : decode cX1_lays 30 = .ok (.invokevirtual 108, 3) := by decide +kernel
theorem dX1_lays_33 : decode cX1_lays 33 = .ok (.ifnull 13, 3) := by decide +kernel
theorem dX1_lays_36 : decode cX1_lays 36 = .ok (.aload_n 0, 1) := by decide +kernel
theorem dX1_lays_37 : decode cX1_lays 37 = .ok (.invokevirtual 108, 3) := by decide +kernel
theorem dX1_lays_40 : decode cX1_lays 40 = .ok (.aload_n 1, 1) := by decide +kernel
theorem dX1_lays_41 : decode cX1_lays 41 = .ok (.iload_n 3, 1) := by decide +kernel
theorem dX1_lays_42 : decode cX1_lays 42 = .ok (.invokestatic 357, 3) := by decide +kernel
theorem dX1_lays_45 : decode cX1_lays 45 = .ok (.istore_n 3, 1) := by decide +kernel
theorem dX1_lays_46 : decode cX1_lays 46 = .ok (.iload_n 3, 1) := by decide +kernel
theorem dX1_lays_47 : decode cX1_lays 47 = .ok (.ireturn, 1) := by decide +kernel
theorem dX1_rowOf_0 : decode cX1_rowOf 0 = .ok (.iload_n 1, 1) := by decide +kernel
theorem dX1_rowOf_1 : decode cX1_rowOf 1 = .ok (.iconst 3, 1) := by decide +kernel
theorem dX1_rowOf_2 : decode cX1_rowOf 2 = .ok (.if_icmp .ne 26, 3) := by decide +kernel
theorem dX1_rowOf_5 : decode cX1_rowOf 5 = .ok (.aload_n 0, 1) := by decide +kernel
theorem dX1_rowOf_6 : decode cX1_rowOf 6 = .ok (.getfield 197, 3) := by decide +kernel
theorem dX1_rowOf_9 : decode cX1_rowOf 9 = .ok (.newarray .byte, 2) := by decide +kernel
theorem dX1_rowOf_11 : decode cX1_rowOf 11 = .ok (.astore_n 3, 1) := by decide +kernel
theorem dX1_rowOf_12 : decode cX1_rowOf 12 = .ok (.aload_n 0, 1) := by decide +kernel
theorem dX1_rowOf_13 : decode cX1_rowOf 13 = .ok (.getfield 200, 3) := by decide +kernel
theorem dX1_rowOf_16 : decode cX1_rowOf 16 = .ok (.iconst 0, 1) := by decide +kernel
theorem dX1_rowOf_17 : decode cX1_rowOf 17 = .ok (.aload_n 3, 1) := by decide +kernel
theorem dX1_rowOf_18 : decode cX1_rowOf 18 = .ok (.iconst 0, 1) := by decide +kernel
theorem dX1_rowOf_19 : decode cX1_rowOf 19 = .ok (.aload_n 0, 1) := by decide +kernel
theorem dX1_rowOf_20 : decode cX1_rowOf 20 = .ok (.getfield 197, 3) := by decide +kernel
theorem dX1_rowOf_23 : decode cX1_rowOf 23 = .ok (.invokestatic 203, 3) := by decide +kernel
theorem dX1_rowOf_26 : decode cX1_rowOf 26 = .ok (.aload_n 3, 1) := by decide +kernel
theorem dX1_rowOf_27 : decode cX1_rowOf 27 = .ok (.areturn, 1) := by decide +kernel
theorem dX1_rowOf_28 : decode cX1_rowOf 28 = .ok (.aload_n 0, 1) := by decide +kernel
theorem dX1_rowOf_29 : decode cX1_rowOf 29 = .ok (.getfield 35, 3) := by decide +kernel
theorem dX1_rowOf_32 : decode cX1_rowOf 32 = .ok (.iload_n 2, 1) := by decide +kernel
theorem dX1_rowOf_33 : decode cX1_rowOf 33 = .ok (.invokevirtual 73, 3) := by decide +kernel
theorem dX1_rowOf_36 : decode cX1_rowOf 36 = .ok (.checkcast 77, 3) := by decide +kernel
theorem dX1_rowOf_39 : decode cX1_rowOf 39 = .ok (.getfield 79, 3) := by decide +kernel
theorem dX1_rowOf_42 : decode cX1_rowOf 42 = .ok (.newarray .char, 2) := by decide +kernel
theorem dX1_rowOf_44 : decode cX1_rowOf 44 = .ok (.astore_n 3, 1) := by decide +kernel
theorem dX1_rowOf_45 : decode cX1_rowOf 45 = .ok (.aload_n 0, 1) := by decide +kernel
theorem dX1_rowOf_46 : decode cX1_rowOf 46 = .ok (.getfield 35, 3) := by decide +kernel
theorem dX1_rowOf_49 : decode cX1_rowOf 49 = .ok (.iload_n 2, 1) := by decide +kernel
theorem dX1_rowOf_50 : decode cX1_rowOf 50 = .ok (.invokevirtual 73, 3) := by decide +kernel
theorem dX1_rowOf_53 : decode cX1_rowOf 53 = .ok (.checkcast 77, 3) := by decide +kernel
theorem dX1_rowOf_56 : decode cX1_rowOf 56 = .ok (.aload_n 3, 1) := by decide +kernel
theorem dX1_rowOf_57 : decode cX1_rowOf 57 = .ok (.iconst 0, 1) := by decide +kernel
theorem dX1_rowOf_58 : decode cX1_rowOf 58 = .ok (.invokestatic 357, 3) := by decide +kernel
theorem dX1_rowOf_61 : decode cX1_rowOf 61 = .ok (.istore 4, 2) := by decide +kernel
theorem dX1_rowOf_63 : decode cX1_rowOf 63 = .ok (.aload_n 3, 1) := by decide +kernel
theorem dX1_rowOf_64 : decode cX1_rowOf 64 = .ok (.areturn, 1) := by decide +kernel
theorem dX1_keep_0 : decode cX1_keep 0 = .ok (.iload_n 1, 1) := by decide +kernel
theorem dX1_keep_1 : decode cX1_keep 1 = .ok (.invokestatic 361, 3) := by decide +kernel
theorem dX1_keep_4 : decode cX1_keep 4 = .ok (.ifCond .eq 38, 3) := by decide +kernel
theorem dX1_keep_7 : decode cX1_keep 7 = .ok (.iload_n 2, 1) := by decide +kernel
theorem dX1_keep_8 : decode cX1_keep 8 = .ok (.i2l, 1) := by decide +kernel
theorem dX1_keep_9 : decode cX1_keep 9 = .ok (.lconst 0, 1) := by decide +kernel
theorem dX1_keep_10 : decode cX1_keep 10 = .ok (.ldc2_w 185, 3) := by decide +kernel
theorem dX1_keep_13 : decode cX1_keep 13 = .ok (.invokestatic 45, 3) := by decide +kernel
theorem dX1_keep_16 : decode cX1_keep 16 = .ok (.ifCond .eq 26, 3) := by decide +kernel
theorem dX1_keep_19 : decode cX1_keep 19 = .ok (.iload_n 2, 1) := by decide +kernel
theorem dX1_keep_20 : decode cX1_keep 20 = .ok (.iconst 2, 1) := by decide +kernel
theorem dX1_keep_21 : decode cX1_keep 21 = .ok (.if_icmp .eq 21, 3) := by decide +kernel
theorem dX1_keep_24 : decode cX1_keep 24 = .ok (.iload_n 2, 1) := by decide +kernel
theorem dX1_keep_25 : decode cX1_keep 25 = .ok (.iconst 1, 1) := by decide +kernel
theorem dX1_keep_26 : decode cX1_keep 26 = .ok (.if_icmp .eq 8, 3) := by decide +kernel
theorem dX1_keep_29 : decode cX1_keep 29 = .ok (.iload_n 2, 1) := by decide +kernel
theorem dX1_keep_30 : decode cX1_keep 30 = .ok (.iconst 4, 1) := by decide +kernel
theorem dX1_keep_31 : decode cX1_keep 31 = .ok (.if_icmp .ne 13, 3) := by decide +kernel
theorem dX1_keep_34 : decode cX1_keep 34 = .ok (.aload_n 0, 1) := by decide +kernel
theorem dX1_keep_35 : decode cX1_keep 35 = .ok (.iload_n 3, 1) := by decide +kernel
theorem dX1_keep_36 : decode cX1_keep 36 = .ok (.invokevirtual 69, 3) := by decide +kernel
theorem dX1_keep_39 : decode cX1_keep 39 = .ok (.ifCond .ne 5, 3) := by decide +kernel
theorem dX1_keep_42 : decode cX1_keep 42 = .ok (.iconst (-1), 1) := by decide +kernel
theorem dX1_keep_43 : decode cX1_keep 43 = .ok (.ireturn, 1) := by decide +kernel
theorem dX1_keep_44 : decode cX1_keep 44 = .ok (.aload_n 0, 1) := by decide +kernel
theorem dX1_keep_45 : decode cX1_keep 45 = .ok (.getfield 352, 3) := by decide +kernel
theorem dX1_keep_48 : decode cX1_keep 48 = .ok (.iload_n 1, 1) := by decide +kernel
theorem dX1_keep_49 : decode cX1_keep 49 = .ok (.aaload, 1) := by decide +kernel
theorem dX1_keep_50 : decode cX1_keep 50 = .ok (.iload_n 2, 1) := by decide +kernel
theorem dX1_keep_51 : decode cX1_keep 51 = .ok (.ifCond .ne 7, 3) := by decide +kernel
theorem dX1_keep_54 : decode cX1_keep 54 = .ok (.aconst_null, 1) := by decide +kernel
theorem dX1_keep_55 : decode cX1_keep 55 = .ok (.goto 25, 3) := by decide +kernel
theorem dX1_keep_58 : decode cX1_keep 58 = .ok (.iload_n 2, 1) := by decide +kernel
theorem dX1_keep_59 : decode cX1_keep 59 = .ok (.iconst 1, 1) := by decide +kernel
theorem dX1_keep_60 : decode cX1_keep 60 = .ok (.if_icmp .ne 14, 3) := by decide +kernel
theorem dX1_keep_63 : decode cX1_keep 63 = .ok (.aload_n 0, 1) := by decide +kernel
theorem dX1_keep_64 : decode cX1_keep 64 = .ok (.getfield 35, 3) := by decide +kernel
theorem dX1_keep_67 : decode cX1_keep 67 = .ok (.iload_n 3, 1) := by decide +kernel
theorem dX1_keep_68 : decode cX1_keep 68 = .ok (.invokevirtual 73, 3) := by decide +kernel
theorem dX1_keep_71 : decode cX1_keep 71 = .ok (.goto 9, 3) := by decide +kernel
theorem dX1_keep_74 : decode cX1_keep 74 = .ok (.aload_n 0, 1) := by decide +kernel
theorem dX1_keep_75 : decode cX1_keep 75 = .ok (.iload_n 2, 1) := by decide +kernel
theorem dX1_keep_76 : decode cX1_keep 76 = .ok (.iload_n 3, 1) := by decide +kernel
theorem dX1_keep_77 : decode cX1_keep 77 = .ok (.invokevirtual 364, 3) := by decide +kernel
theorem dX1_keep_80 : decode cX1_keep 80 = .ok (.putfield 368, 3) := by decide +kernel
theorem dX1_keep_83 : decode cX1_keep 83 = .ok (.iconst 0, 1) := by decide +kernel
theorem dX1_keep_84 : decode cX1_keep 84 = .ok (.ireturn, 1) := by decide +kernel
theorem dX1_make_0 : decode cX1_make 0 = .ok (.iload_n 1, 1) := by decide +kernel
theorem dX1_make_1 : decode cX1_make 1 = .ok (.invokestatic 361, 3) := by decide +kernel
theorem dX1_make_4 : decode cX1_make 4 = .ok (.ifCond .eq 23, 3) := by decide +kernel
theorem dX1_make_7 : decode cX1_make 7 = .ok (.iload_n 2, 1) := by decide +kernel
theorem dX1_make_8 : decode cX1_make 8 = .ok (.i2l, 1) := by decide +kernel
theorem dX1_make_9 : decode cX1_make 9 = .ok (.ldc2_w 324, 3) := by decide +kernel
theorem dX1_make_12 : decode cX1_make 12 = .ok (.ldc2_w 185, 3) := by decide +kernel
theorem dX1_make_15 : decode cX1_make 15 = .ok (.invokestatic 45, 3) := by decide +kernel
theorem dX1_make_18 : decode cX1_make 18 = .ok (.ifCond .eq 9, 3) := by decide +kernel
theorem dX1_make_21 : decode cX1_make 21 = .ok (.iload_n 3, 1) := by decide +kernel
theorem dX1_make_22 : decode cX1_make 22 = .ok (.bipush 60, 2) := by decide +kernel
theorem dX1_make_24 : decode cX1_make 24 = .ok (.if_icmp .le 5, 3) := by decide +kernel
theorem dX1_make_27 : decode cX1_make 27 = .ok (.iconst (-1), 1) := by decide +kernel
theorem dX1_make_28 : decode cX1_make 28 = .ok (.ireturn, 1) := by decide +kernel
theorem dX1_make_29 : decode cX1_make 29 = .ok (.iload_n 2, 1) := by decide +kernel
theorem dX1_make_30 : decode cX1_make 30 = .ok (.iconst 3, 1) := by decide +kernel
theorem dX1_make_31 : decode cX1_make 31 = .ok (.if_icmp .ne 11, 3) := by decide +kernel
theorem dX1_make_34 : decode cX1_make 34 = .ok (.iload_n 3, 1) := by decide +kernel
theorem dX1_make_35 : decode cX1_make 35 = .ok (.newarray .byte, 2) := by decide +kernel
theorem dX1_make_37 : decode cX1_make 37 = .ok (.astore 4, 2) := by decide +kernel
theorem dX1_make_39 : decode cX1_make 39 = .ok (.goto 8, 3) := by decide +kernel
theorem dX1_make_42 : decode cX1_make 42 = .ok (.iload_n 3, 1) := by decide +kernel
theorem dX1_make_43 : decode cX1_make 43 = .ok (.newarray .char, 2) := by decide +kernel
theorem dX1_make_45 : decode cX1_make 45 = .ok (.astore 4, 2) := by decide +kernel
theorem dX1_make_47 : decode cX1_make 47 = .ok (.aload_n 0, 1) := by decide +kernel
theorem dX1_make_48 : decode cX1_make 48 = .ok (.getfield 352, 3) := by decide +kernel
theorem dX1_make_51 : decode cX1_make 51 = .ok (.iload_n 1, 1) := by decide +kernel
theorem dX1_make_52 : decode cX1_make 52 = .ok (.aaload, 1) := by decide +kernel
theorem dX1_make_53 : decode cX1_make 53 = .ok (.aload 4, 2) := by decide +kernel
theorem dX1_make_55 : decode cX1_make 55 = .ok (.putfield 368, 3) := by decide +kernel
theorem dX1_make_58 : decode cX1_make 58 = .ok (.iconst 0, 1) := by decide +kernel
theorem dX1_make_59 : decode cX1_make 59 = .ok (.ireturn, 1) := by decide +kernel
theorem dX1_make_60 : decode cX1_make 60 = .ok (.astore 4, 2) := by decide +kernel
theorem dX1_make_62 : decode cX1_make 62 = .ok (.bipush (-14), 2) := by decide +kernel
theorem dX1_make_64 : decode cX1_make 64 = .ok (.ireturn, 1) := by decide +kernel
theorem dX1_element_0 : decode cX1_element 0 = .ok (.iload_n 1, 1) := by decide +kernel
theorem dX1_element_1 : decode cX1_element 1 = .ok (.invokestatic 361, 3) := by decide +kernel
theorem dX1_element_4 : decode cX1_element 4 = .ok (.ifCond .ne 11, 3) := by decide +kernel
theorem dX1_element_7 : decode cX1_element 7 = .ok (.new 259, 3) := by decide +kernel
theorem dX1_element_10 : decode cX1_element 10 = .ok (.dup, 1) := by decide +kernel
theorem dX1_element_11 : decode cX1_element 11 = .ok (.invokespecial 261, 3) := by decide +kernel
theorem dX1_element_14 : decode cX1_element 14 = .ok (.athrow, 1) := by decide +kernel
theorem dX1_element_15 : decode cX1_element 15 = .ok (.aload_n 0, 1) := by decide +kernel
theorem dX1_element_16 : decode cX1_element 16 = .ok (.getfield 352, 3) := by decide +kernel
theorem dX1_element_19 : decode cX1_element 19 = .ok (.iload_n 1, 1) := by decide +kernel
theorem dX1_element_20 : decode cX1_element 20 = .ok (.aaload, 1) := by decide +kernel
theorem dX1_element_21 : decode cX1_element 21 = .ok (.getfield 368, 3) := by decide +kernel
theorem dX1_element_24 : decode cX1_element 24 = .ok (.astore_n 3, 1) := by decide +kernel
theorem dX1_element_25 : decode cX1_element 25 = .ok (.aload_n 3, 1) := by decide +kernel
theorem dX1_element_26 : decode cX1_element 26 = .ok (.instanceof 374, 3) := by decide +kernel
theorem dX1_element_29 : decode cX1_element 29 = .ok (.ifCond .eq 11, 3) := by decide +kernel
theorem dX1_element_32 : decode cX1_element 32 = .ok (.aload_n 3, 1) := by decide +kernel
theorem dX1_element_33 : decode cX1_element 33 = .ok (.checkcast 374, 3) := by decide +kernel
theorem dX1_element_36 : decode cX1_element 36 = .ok (.iload_n 2, 1) := by decide +kernel
theorem dX1_element_37 : decode cX1_element 37 = .ok (.baload, 1) := by decide +kernel
theorem dX1_element_38 : decode cX1_element 38 = .ok (.i2l, 1) := by decide +kernel
theorem dX1_element_39 : decode cX1_element 39 = .ok (.lreturn, 1) := by decide +kernel
theorem dX1_element_40 : decode cX1_element 40 = .ok (.aload_n 3, 1) := by decide +kernel
theorem dX1_element_41 : decode cX1_element 41 = .ok (.checkcast 375, 3) := by decide +kernel
theorem dX1_element_44 : decode cX1_element 44 = .ok (.iload_n 2, 1) := by decide +kernel
theorem dX1_element_45 : decode cX1_element 45 = .ok (.caload, 1) := by decide +kernel
theorem dX1_element_46 : decode cX1_element 46 = .ok (.i2l, 1) := by decide +kernel
theorem dX1_element_47 : decode cX1_element 47 = .ok (.lreturn, 1) := by decide +kernel
theorem dX1_element_48 : decode cX1_element 48 = .ok (.astore 4, 2) := by decide +kernel
theorem dX1_element_50 : decode cX1_element 50 = .ok (.new 330, 3) := by decide +kernel
theorem dX1_element_53 : decode cX1_element 53 = .ok (.dup, 1) := by decide +kernel
theorem dX1_element_54 : decode cX1_element 54 = .ok (.invokespecial 332, 3) := by decide +kernel
theorem dX1_element_57 : decode cX1_element 57 = .ok (.athrow, 1) := by decide +kernel
theorem dX1_element_58 : decode cX1_element 58 = .ok (.astore 4, 2) := by decide +kernel
theorem dX1_element_60 : decode cX1_element 60 = .ok (.new 330, 3) := by decide +kernel
theorem dX1_element_63 : decode cX1_element 63 = .ok (.dup, 1) := by decide +kernel
theorem dX1_element_64 : decode cX1_element 64 = .ok (.invokespecial 332, 3) := by decide +kernel
theorem dX1_element_67 : decode cX1_element 67 = .ok (.athrow, 1) := by decide +kernel
theorem dX1_element_68 : decode cX1_element 68 = .ok (.astore 4, 2) := by decide +kernel
theorem dX1_element_70 : decode cX1_element 70 = .ok (.new 330, 3) := by decide +kernel
theorem dX1_element_73 : decode cX1_element 73 = .ok (.dup, 1) := by decide +kernel
theorem dX1_element_74 : decode cX1_element 74 = .ok (.invokespecial 332, 3) := by decide +kernel
theorem dX1_element_77 : decode cX1_element 77 = .ok (.athrow, 1) := by decide +kernel
theorem dX1_sortOf_0 : decode cX1_sortOf 0 = .ok (.aload_n 0, 1) := by decide +kernel
theorem dX1_sortOf_1 : decode cX1_sortOf 1 = .ok (.instanceof 374, 3) := by decide +kernel
theorem dX1_sortOf_4 : decode cX1_sortOf 4 = .ok (.ifCond .eq 7, 3) := by decide +kernel
theorem dX1_sortOf_7 : decode cX1_sortOf 7 = .ok (.iconst 3, 1) := by decide +kernel
theorem dX1_sortOf_8 : decode cX1_sortOf 8 = .ok (.goto 23, 3) := by decide +kernel
theorem dX1_sortOf_11 : decode cX1_sortOf 11 = .ok (.aload_n 0, 1) := by decide +kernel
theorem dX1_sortOf_12 : decode cX1_sortOf 12 = .ok (.instanceof 375, 3) := by decide +kernel
theorem dX1_sortOf_15 : decode cX1_sortOf 15 = .ok (.ifCond .eq 7, 3) := by decide +kernel
theorem dX1_sortOf_18 : decode cX1_sortOf 18 = .ok (.iconst 4, 1) := by decide +kernel
theorem dX1_sortOf_19 : decode cX1_sortOf 19 = .ok (.goto 12, 3) := by decide +kernel
theorem dX1_sortOf_22 : decode cX1_sortOf 22 = .ok (.aload_n 0, 1) := by decide +kernel
theorem dX1_sortOf_23 : decode cX1_sortOf 23 = .ok (.ifnonnull 7, 3) := by decide +kernel
theorem dX1_sortOf_26 : decode cX1_sortOf 26 = .ok (.iconst 0, 1) := by decide +kernel
theorem dX1_sortOf_27 : decode cX1_sortOf 27 = .ok (.goto 4, 3) := by decide +kernel
theorem dX1_sortOf_30 : decode cX1_sortOf 30 = .ok (.iconst 1, 1) := by decide +kernel
theorem dX1_sortOf_31 : decode cX1_sortOf 31 = .ok (.ireturn, 1) := by decide +kernel
theorem dX1_copy_0 : decode cX1_copy 0 = .ok (.iload_n 1, 1) := by decide +kernel
theorem dX1_copy_1 : decode cX1_copy 1 = .ok (.invokestatic 361, 3) := by decide +kernel
theorem dX1_copy_4 : decode cX1_copy 4 = .ok (.ifCond .eq 10, 3) := by decide +kernel
theorem dX1_copy_7 : decode cX1_copy 7 = .ok (.iload_n 3, 1) := by decide +kernel
theorem dX1_copy_8 : decode cX1_copy 8 = .ok (.invokestatic 361, 3) := by decide +kernel
theorem dX1_copy_11 : decode cX1_copy 11 = .ok (.ifCond .ne 5, 3) := by decide +kernel
theorem dX1_copy_14 : decode cX1_copy 14 = .ok (.iconst (-1), 1) := by decide +kernel
theorem dX1_copy_15 : decode cX1_copy 15 = .ok (.ireturn, 1) := by decide +kernel
theorem dX1_copy_16 : decode cX1_copy 16 = .ok (.aload_n 0, 1) := by decide +kernel
theorem dX1_copy_17 : decode cX1_copy 17 = .ok (.getfield 352, 3) := by decide +kernel
theorem dX1_copy_20 : decode cX1_copy 20 = .ok (.iload_n 1, 1) := by decide +kernel
theorem dX1_copy_21 : decode cX1_copy 21 = .ok (.aaload, 1) := by decide +kernel
theorem dX1_copy_22 : decode cX1_copy 22 = .ok (.getfield 368, 3) := by decide +kernel
theorem dX1_copy_25 : decode cX1_copy 25 = .ok (.astore 6, 2) := by decide +kernel
theorem dX1_copy_27 : decode cX1_copy 27 = .ok (.aload_n 0, 1) := by decide +kernel
theorem dX1_copy_28 : decode cX1_copy 28 = .ok (.getfield 352, 3) := by decide +kernel
theorem dX1_copy_31 : decode cX1_copy 31 = .ok (.iload_n 3, 1) := by decide +kernel
theorem dX1_copy_32 : decode cX1_copy 32 = .ok (.aaload, 1) := by decide +kernel
theorem dX1_copy_33 : decode cX1_copy 33 = .ok (.getfield 368, 3) := by decide +kernel
theorem dX1_copy_36 : decode cX1_copy 36 = .ok (.astore 7, 2) := by decide +kernel
theorem dX1_copy_38 : decode cX1_copy 38 = .ok (.aload 6, 2) := by decide +kernel
theorem dX1_copy_40 : decode cX1_copy 40 = .ok (.invokestatic 383, 3) := by decide +kernel
theorem dX1_copy_43 : decode cX1_copy 43 = .ok (.istore 8, 2) := by decide +kernel
theorem dX1_copy_45 : decode cX1_copy 45 = .ok (.aload 7, 2) := by decide +kernel
theorem dX1_copy_47 : decode cX1_copy 47 = .ok (.invokestatic 383, 3) := by decide +kernel
theorem dX1_copy_50 : decode cX1_copy 50 = .ok (.istore 9, 2) := by decide +kernel
theorem dX1_copy_52 : decode cX1_copy 52 = .ok (.iload 8, 2) := by decide +kernel
theorem dX1_copy_54 : decode cX1_copy 54 = .ok (.ifCond .eq 8, 3) := by decide +kernel
theorem dX1_copy_57 : decode cX1_copy 57 = .ok (.iload 9, 2) := by decide +kernel
theorem dX1_copy_59 : decode cX1_copy 59 = .ok (.ifCond .ne 6, 3) := by decide +kernel
theorem dX1_copy_62 : decode cX1_copy 62 = .ok (.bipush (-11), 2) := by decide +kernel
theorem dX1_copy_64 : decode cX1_copy 64 = .ok (.ireturn, 1) := by decide +kernel
theorem dX1_copy_65 : decode cX1_copy 65 = .ok (.iload 8, 2) := by decide +kernel
theorem dX1_copy_67 : decode cX1_copy 67 = .ok (.iconst 1, 1) := by decide +kernel
theorem dX1_copy_68 : decode cX1_copy 68 = .ok (.if_icmp .eq 10, 3) := by decide +kernel
theorem dX1_copy_71 : decode cX1_copy 71 = .ok (.iload 8, 2) := by decide +kernel
theorem dX1_copy_73 : decode cX1_copy 73 = .ok (.iload 9, 2) := by decide +kernel
theorem dX1_copy_75 : decode cX1_copy 75 = .ok (.if_icmp .eq 6, 3) := by decide +kernel
theorem dX1_copy_78 : decode cX1_copy 78 = .ok (.bipush (-12), 2) := by decide +kernel
theorem dX1_copy_80 : decode cX1_copy 80 = .ok (.ireturn, 1) := by decide +kernel
theorem dX1_copy_81 : decode cX1_copy 81 = .ok (.aload 6, 2) := by decide +kernel
theorem dX1_copy_83 : decode cX1_copy 83 = .ok (.iload_n 2, 1) := by decide +kernel
theorem dX1_copy_84 : decode cX1_copy 84 = .ok (.aload 7, 2) := by decide +kernel
theorem dX1_copy_86 : decode cX1_copy 86 = .ok (.iload 4, 2) := by decide +kernel
theorem dX1_copy_88 : decode cX1_copy 88 = .ok (.iload 5, 2) := by decide +kernel
theorem dX1_copy_90 : decode cX1_copy 90 = .ok (.invokestatic 203, 3) := by decide +kernel
theorem dX1_copy_93 : decode cX1_copy 93 = .ok (.iload 5, 2) := by decide +kernel
theorem dX1_copy_95 : decode cX1_copy 95 = .ok (.ireturn, 1) := by decide +kernel
theorem dX1_copy_96 : decode cX1_copy 96 = .ok (.astore 10, 2) := by decide +kernel
theorem dX1_copy_98 : decode cX1_copy 98 = .ok (.bipush (-13), 2) := by decide +kernel
theorem dX1_copy_100 : decode cX1_copy 100 = .ok (.ireturn, 1) := by decide +kernel
theorem dX1_weight_0 : decode cX1_weight 0 = .ok (.iload_n 1, 1) := by decide +kernel
theorem dX1_weight_1 : decode cX1_weight 1 = .ok (.invokestatic 361, 3) := by decide +kernel
theorem dX1_weight_4 : decode cX1_weight 4 = .ok (.ifCond .ne 5, 3) := by decide +kernel
theorem dX1_weight_7 : decode cX1_weight 7 = .ok (.iconst (-1), 1) := by decide +kernel
theorem dX1_weight_8 : decode cX1_weight 8 = .ok (.ireturn, 1) := by decide +kernel
theorem dX1_weight_9 : decode cX1_weight 9 = .ok (.aload_n 0, 1) := by decide +kernel
theorem dX1_weight_10 : decode cX1_weight 10 = .ok (.getfield 352, 3) := by decide +kernel
theorem dX1_weight_13 : decode cX1_weight 13 = .ok (.iload_n 1, 1) := by decide +kernel
theorem dX1_weight_14 : decode cX1_weight 14 = .ok (.aaload, 1) := by decide +kernel
theorem dX1_weight_15 : decode cX1_weight 15 = .ok (.getfield 368, 3) := by decide +kernel
theorem dX1_weight_18 : decode cX1_weight 18 = .ok (.checkcast 77, 3) := by decide +kernel
theorem dX1_weight_21 : decode cX1_weight 21 = .ok (.invokevirtual 389, 3) := by decide +kernel
theorem dX1_weight_24 : decode cX1_weight 24 = .ok (.ireturn, 1) := by decide +kernel
theorem dX1_weight_25 : decode cX1_weight 25 = .ok (.astore_n 2, 1) := by decide +kernel
theorem dX1_weight_26 : decode cX1_weight 26 = .ok (.bipush (-11), 2) := by decide +kernel
theorem dX1_weight_28 : decode cX1_weight 28 = .ok (.ireturn, 1) := by decide +kernel
theorem dX1_weight_29 : decode cX1_weight 29 = .ok (.astore_n 2, 1) := by decide +kernel
theorem dX1_weight_30 : decode cX1_weight 30 = .ok (.bipush (-12), 2) := by decide +kernel
theorem dX1_weight_32 : decode cX1_weight 32 = .ok (.ireturn, 1) := by decide +kernel
theorem dX1_toss_0 : decode cX1_toss 0 = .ok (.iload_n 1, 1) := by decide +kernel
theorem dX1_toss_1 : decode cX1_toss 1 = .ok (.invokestatic 361, 3) := by decide +kernel
theorem dX1_toss_4 : decode cX1_toss 4 = .ok (.ifCond .ne 5, 3) := by decide +kernel
theorem dX1_toss_7 : decode cX1_toss 7 = .ok (.iconst (-1), 1) := by decide +kernel
theorem dX1_toss_8 : decode cX1_toss 8 = .ok (.ireturn, 1) := by decide +kernel
theorem dX1_toss_9 : decode cX1_toss 9 = .ok (.aload_n 0, 1) := by decide +kernel
theorem dX1_toss_10 : decode cX1_toss 10 = .ok (.getfield 352, 3) := by decide +kernel
theorem dX1_toss_13 : decode cX1_toss 13 = .ok (.iload_n 1, 1) := by decide +kernel
theorem dX1_toss_14 : decode cX1_toss 14 = .ok (.aaload, 1) := by decide +kernel
theorem dX1_toss_15 : decode cX1_toss 15 = .ok (.getfield 368, 3) := by decide +kernel
theorem dX1_toss_18 : decode cX1_toss 18 = .ok (.ifnonnull 6, 3) := by decide +kernel
theorem dX1_toss_21 : decode cX1_toss 21 = .ok (.bipush (-11), 2) := by decide +kernel
theorem dX1_toss_23 : decode cX1_toss 23 = .ok (.ireturn, 1) := by decide +kernel
theorem dX1_toss_24 : decode cX1_toss 24 = .ok (.aload_n 0, 1) := by decide +kernel
theorem dX1_toss_25 : decode cX1_toss 25 = .ok (.getfield 352, 3) := by decide +kernel
theorem dX1_toss_28 : decode cX1_toss 28 = .ok (.iload_n 1, 1) := by decide +kernel
theorem dX1_toss_29 : decode cX1_toss 29 = .ok (.aaload, 1) := by decide +kernel
theorem dX1_toss_30 : decode cX1_toss 30 = .ok (.getfield 368, 3) := by decide +kernel
theorem dX1_toss_33 : decode cX1_toss 33 = .ok (.checkcast 77, 3) := by decide +kernel
theorem dX1_toss_36 : decode cX1_toss 36 = .ok (.invokevirtual 392, 3) := by decide +kernel
theorem dX1_toss_39 : decode cX1_toss 39 = .ok (.athrow, 1) := by decide +kernel
theorem dX1_toss_40 : decode cX1_toss 40 = .ok (.astore_n 2, 1) := by decide +kernel
theorem dX1_toss_41 : decode cX1_toss 41 = .ok (.aload_n 2, 1) := by decide +kernel
theorem dX1_toss_42 : decode cX1_toss 42 = .ok (.getfield 398, 3) := by decide +kernel
theorem dX1_toss_45 : decode cX1_toss 45 = .ok (.ireturn, 1) := by decide +kernel
theorem dX1_toss_46 : decode cX1_toss 46 = .ok (.astore_n 2, 1) := by decide +kernel
theorem dX1_toss_47 : decode cX1_toss 47 = .ok (.bipush (-15), 2) := by decide +kernel
theorem dX1_toss_49 : decode cX1_toss 49 = .ok (.ireturn, 1) := by decide +kernel
theorem dX1_toss_50 : decode cX1_toss 50 = .ok (.astore_n 2, 1) := by decide +kernel
theorem dX1_toss_51 : decode cX1_toss 51 = .ok (.bipush (-12), 2) := by decide +kernel
theorem dX1_toss_53 : decode cX1_toss 53 = .ok (.ireturn, 1) := by decide +kernel
theorem dX1_readings_0 : decode cX1_readings 0 = .ok (.iload_n 1, 1) := by decide +kernel
theorem dX1_readings_1 : decode cX1_readings 1 = .ok (.invokestatic 256, 3) := by decide +kernel
theorem dX1_readings_4 : decode cX1_readings 4 = .ok (.ifCond .ne 11, 3) := by decide +kernel
theorem dX1_readings_7 : decode cX1_readings 7 = .ok (.new 259, 3) := by decide +kernel
theorem dX1_readings_10 : decode cX1_readings 10 = .ok (.dup, 1) := by decide +kernel
theorem dX1_readings_11 : decode cX1_readings 11 = .ok (.invokespecial 261, 3) := by decide +kernel
theorem dX1_readings_14 : decode cX1_readings 14 = .ok (.athrow, 1) := by decide +kernel
theorem dX1_readings_15 : decode cX1_readings 15 = .ok (.aload_n 0, 1) := by decide +kernel
theorem dX1_readings_16 : decode cX1_readings 16 = .ok (.iload_n 1, 1) := by decide +kernel
theorem dX1_readings_17 : decode cX1_readings 17 = .ok (.invokevirtual 263, 3) := by decide +kernel
theorem dX1_readings_20 : decode cX1_readings 20 = .ok (.lreturn, 1) := by decide +kernel
theorem dX1_where_0 : decode cX1_where 0 = .ok (.iload_n 1, 1) := by decide +kernel
theorem dX1_where_1 : decode cX1_where 1 = .ok (.i2l, 1) := by decide +kernel
theorem dX1_where_2 : decode cX1_where 2 = .ok (.lconst 0, 1) := by decide +kernel
theorem dX1_where_3 : decode cX1_where 3 = .ok (.ldc2_w 67, 3) := by decide +kernel
theorem dX1_where_6 : decode cX1_where 6 = .ok (.invokestatic 45, 3) := by decide +kernel
theorem dX1_where_9 : decode cX1_where 9 = .ok (.ifCond .ne 5, 3) := by decide +kernel
theorem dX1_where_12 : decode cX1_where 12 = .ok (.iconst (-1), 1) := by decide +kernel
theorem dX1_where_13 : decode cX1_where 13 = .ok (.ireturn, 1) := by decide +kernel
theorem dX1_where_14 : decode cX1_where 14 = .ok (.aload_n 0, 1) := by decide +kernel
theorem dX1_where_15 : decode cX1_where 15 = .ok (.getfield 82, 3) := by decide +kernel
theorem dX1_where_18 : decode cX1_where 18 = .ok (.ifCond .ge 6, 3) := by decide +kernel
theorem dX1_where_21 : decode cX1_where 21 = .ok (.bipush (-2), 2) := by decide +kernel
theorem dX1_where_23 : decode cX1_where 23 = .ok (.ireturn, 1) := by decide +kernel
theorem dX1_where_24 : decode cX1_where 24 = .ok (.iload_n 1, 1) := by decide +kernel
theorem dX1_where_25 : decode cX1_where 25 = .ok (.iconst 1, 1) := by decide +kernel
theorem dX1_where_26 : decode cX1_where 26 = .ok (.if_icmp .ne 8, 3) := by decide +kernel
theorem dX1_where_29 : decode cX1_where 29 = .ok (.aload_n 0, 1) := by decide +kernel
theorem dX1_where_30 : decode cX1_where 30 = .ok (.getfield 82, 3) := by decide +kernel
theorem dX1_where_33 : decode cX1_where 33 = .ok (.ireturn, 1) := by decide +kernel
theorem dX1_where_34 : decode cX1_where 34 = .ok (.iload_n 1, 1) := by decide +kernel
theorem dX1_where_35 : decode cX1_where 35 = .ok (.iconst 2, 1) := by decide +kernel
theorem dX1_where_36 : decode cX1_where 36 = .ok (.if_icmp .ne 16, 3) := by decide +kernel
theorem dX1_where_39 : decode cX1_where 39 = .ok (.aload_n 0, 1) := by decide +kernel
theorem dX1_where_40 : decode cX1_where 40 = .ok (.getfield 85, 3) := by decide +kernel
theorem dX1_where_43 : decode cX1_where 43 = .ok (.aload_n 0, 1) := by decide +kernel
theorem dX1_where_44 : decode cX1_where 44 = .ok (.getfield 82, 3) := by decide +kernel
theorem dX1_where_47 : decode cX1_where 47 = .ok (.aaload, 1) := by decide +kernel
theorem dX1_where_48 : decode cX1_where 48 = .ok (.getfield 89, 3) := by decide +kernel
theorem dX1_where_51 : decode cX1_where 51 = .ok (.ireturn, 1) := by decide +kernel
theorem dX1_where_52 : decode cX1_where 52 = .ok (.aload_n 0, 1) := by decide +kernel
theorem dX1_where_53 : decode cX1_where 53 = .ok (.getfield 82, 3) := by decide +kernel
theorem dX1_where_56 : decode cX1_where 56 = .ok (.bipush 19, 2) := by decide +kernel
theorem dX1_where_58 : decode cX1_where 58 = .ok (.if_icmp .le 11, 3) := by decide +kernel
theorem dX1_where_61 : decode cX1_where 61 = .ok (.new 330, 3) := by decide +kernel
theorem dX1_where_64 : decode cX1_where 64 = .ok (.dup, 1) := by decide +kernel
theorem dX1_where_65 : decode cX1_where 65 = .ok (.invokespecial 332, 3) := by decide +kernel
theorem dX1_where_68 : decode cX1_where 68 = .ok (.athrow, 1) := by decide +kernel
theorem dX1_where_69 : decode cX1_where 69 = .ok (.iconst 0, 1) := by decide +kernel
theorem dX1_where_70 : decode cX1_where 70 = .ok (.istore_n 2, 1) := by decide +kernel
theorem dX1_where_71 : decode cX1_where 71 = .ok (.aload_n 0, 1) := by decide +kernel
theorem dX1_where_72 : decode cX1_where 72 = .ok (.getfield 82, 3) := by decide +kernel
theorem dX1_where_75 : decode cX1_where 75 = .ok (.istore_n 3, 1) := by decide +kernel
theorem dX1_where_76 : decode cX1_where 76 = .ok (.iload_n 3, 1) := by decide +kernel
theorem dX1_where_77 : decode cX1_where 77 = .ok (.ifCond .le 28, 3) := by decide +kernel
theorem dX1_where_80 : decode cX1_where 80 = .ok (.iconst 3, 1) := by decide +kernel
theorem dX1_where_81 : decode cX1_where 81 = .ok (.iload_n 2, 1) := by decide +kernel
theorem dX1_where_82 : decode cX1_where 82 = .ok (.imul, 1) := by decide +kernel
theorem dX1_where_83 : decode cX1_where 83 = .ok (.aload_n 0, 1) := by decide +kernel
theorem dX1_where_84 : decode cX1_where 84 = .ok (.getfield 320, 3) := by decide +kernel
theorem dX1_where_87 : decode cX1_where 87 = .ok (.iload_n 3, 1) := by decide +kernel
theorem dX1_where_88 : decode cX1_where 88 = .ok (.baload, 1) := by decide +kernel
theorem dX1_where_89 : decode cX1_where 89 = .ok (.ifCond .eq 7, 3) := by decide +kernel
theorem dX1_where_92 : decode cX1_where 92 = .ok (.iconst 2, 1) := by decide +kernel
theorem dX1_where_93 : decode cX1_where 93 = .ok (.goto 4, 3) := by decide +kernel
theorem dX1_where_96 : decode cX1_where 96 = .ok (.iconst 1, 1) := by decide +kernel
theorem dX1_where_97 : decode cX1_where 97 = .ok (.iadd, 1) := by decide +kernel
theorem dX1_where_98 : decode cX1_where 98 = .ok (.istore_n 2, 1) := by decide +kernel
theorem dX1_where_99 : decode cX1_where 99 = .ok (.iinc 3 (-1), 3) := by decide +kernel
theorem dX1_where_102 : decode cX1_where 102 = .ok (.goto (-26), 3) := by decide +kernel
theorem dX1_where_105 : decode cX1_where 105 = .ok (.iload_n 2, 1) := by decide +kernel
theorem dX1_where_106 : decode cX1_where 106 = .ok (.ireturn, 1) := by decide +kernel
theorem dX7_weight_0 : decode cX7_weight 0 = .ok (.aload_n 0, 1) := by decide +kernel
theorem dX7_weight_1 : decode cX7_weight 1 = .ok (.getfield 18, 3) := by decide +kernel
theorem dX7_weight_4 : decode cX7_weight 4 = .ok (.bipush 10, 2) := by decide +kernel
theorem dX7_weight_6 : decode cX7_weight 6 = .ok (.iadd, 1) := by decide +kernel
theorem dX7_weight_7 : decode cX7_weight 7 = .ok (.ireturn, 1) := by decide +kernel
theorem dX7_failure_0 : decode cX7_failure 0 = .ok (.aconst_null, 1) := by decide +kernel
theorem dX7_failure_1 : decode cX7_failure 1 = .ok (.areturn, 1) := by decide +kernel
theorem dX8_failure_0 : decode cX8_failure 0 = .ok (.new 19, 3) := by decide +kernel
theorem dX8_failure_3 : decode cX8_failure 3 = .ok (.dup, 1) := by decide +kernel
theorem dX8_failure_4 : decode cX8_failure 4 = .ok (.aload_n 0, 1) := by decide +kernel
theorem dX8_failure_5 : decode cX8_failure 5 = .ok (.getfield 7, 3) := by decide +kernel
theorem dX8_failure_8 : decode cX8_failure 8 = .ok (.invokespecial 21, 3) := by decide +kernel
theorem dX8_failure_11 : decode cX8_failure 11 = .ok (.areturn, 1) := by decide +kernel
theorem dX9_weight_0 : decode cX9_weight 0 = .ok (.aload_n 0, 1) := by decide +kernel
theorem dX9_weight_1 : decode cX9_weight 1 = .ok (.invokespecial 21, 3) := by decide +kernel
theorem dX9_weight_4 : decode cX9_weight 4 = .ok (.aload_n 0, 1) := by decide +kernel
theorem dX9_weight_5 : decode cX9_weight 5 = .ok (.getfield 9, 3) := by decide +kernel
theorem dX9_weight_8 : decode cX9_weight 8 = .ok (.iadd, 1) := by decide +kernel
theorem dX9_weight_9 : decode cX9_weight 9 = .ok (.ireturn, 1) := by decide +kernel
theorem dX11_weight_0 : decode cX11_weight 0 = .ok (.aload_n 0, 1) := by decide +kernel
theorem dX11_weight_1 : decode cX11_weight 1 = .ok (.invokespecial 7, 3) := by decide +kernel
theorem dX11_weight_4 : decode cX11_weight 4 = .ok (.bipush 100, 2) := by decide +kernel
theorem dX11_weight_6 : decode cX11_weight 6 = .ok (.iadd, 1) := by decide +kernel
theorem dX11_weight_7 : decode cX11_weight 7 = .ok (.ireturn, 1) := by decide +kernel
theorem dX13_weight_0 : decode cX13_weight 0 = .ok (.iconst 2, 1) := by decide +kernel
theorem dX13_weight_1 : decode cX13_weight 1 = .ok (.aload_n 0, 1) := by decide +kernel
theorem dX13_weight_2 : decode cX13_weight 2 = .ok (.invokespecial 27, 3) := by decide +kernel
theorem dX13_weight_5 : decode cX13_weight 5 = .ok (.imul, 1) := by decide +kernel
theorem dX13_weight_6 : decode cX13_weight 6 = .ok (.ireturn, 1) := by decide +kernel
theorem dX14_weight_0 : decode cX14_weight 0 = .ok (.aload_n 0, 1) := by decide +kernel
theorem dX14_weight_1 : decode cX14_weight 1 = .ok (.invokespecial 35, 3) := by decide +kernel
theorem dX14_weight_4 : decode cX14_weight 4 = .ok (.sipush 1000, 3) := by decide +kernel
theorem dX14_weight_7 : decode cX14_weight 7 = .ok (.iadd, 1) := by decide +kernel
theorem dX14_weight_8 : decode cX14_weight 8 = .ok (.ireturn, 1) := by decide +kernel
theorem dX14_failure_0 : decode cX14_failure 0 = .ok (.new 39, 3) := by decide +kernel
theorem dX14_failure_3 : decode cX14_failure 3 = .ok (.dup, 1) := by decide +kernel
theorem dX14_failure_4 : decode cX14_failure 4 = .ok (.aload_n 0, 1) := by decide +kernel
theorem dX14_failure_5 : decode cX14_failure 5 = .ok (.getfield 9, 3) := by decide +kernel
theorem dX14_failure_8 : decode cX14_failure 8 = .ok (.invokespecial 41, 3) := by decide +kernel
theorem dX14_failure_11 : decode cX14_failure 11 = .ok (.areturn, 1) := by decide +kernel
theorem dX15_init_0 : decode cX15_init 0 = .ok (.aload_n 0, 1) := by decide +kernel
theorem dX15_init_1 : decode cX15_init 1 = .ok (.invokespecial 1, 3) := by decide +kernel
theorem dX15_init_4 : decode cX15_init 4 = .ok (.aload_n 0, 1) := by decide +kernel
theorem dX15_init_5 : decode cX15_init 5 = .ok (.iload_n 1, 1) := by decide +kernel
theorem dX15_init_6 : decode cX15_init 6 = .ok (.putfield 7, 3) := by decide +kernel
theorem dX15_init_9 : decode cX15_init 9 = .ok (.return_, 1) := by decide +kernel
theorem dX0_readings_0 : decode cX0_readings 0 = .ok (.aload_n 2, 1) := by decide +kernel
theorem dX0_readings_1 : decode cX0_readings 1 = .ok (.iconst 0, 1) := by decide +kernel
theorem dX0_readings_2 : decode cX0_readings 2 = .ok (.aload_n 0, 1) := by decide +kernel
theorem dX0_readings_3 : decode cX0_readings 3 = .ok (.iload_n 1, 1) := by decide +kernel
theorem dX0_readings_4 : decode cX0_readings 4 = .ok (.invokevirtual 7, 3) := by decide +kernel
theorem dX0_readings_7 : decode cX0_readings 7 = .ok (.lastore, 1) := by decide +kernel
theorem dX0_readings_8 : decode cX0_readings 8 = .ok (.goto 6, 3) := by decide +kernel
theorem dX0_readings_11 : decode cX0_readings 11 = .ok (.astore_n 3, 1) := by decide +kernel
theorem dX0_readings_12 : decode cX0_readings 12 = .ok (.iconst 1, 1) := by decide +kernel
theorem dX0_readings_13 : decode cX0_readings 13 = .ok (.ireturn, 1) := by decide +kernel
theorem dX0_readings_14 : decode cX0_readings 14 = .ok (.iconst 0, 1) := by decide +kernel
theorem dX0_readings_15 : decode cX0_readings 15 = .ok (.ireturn, 1) := by decide +kernel
theorem dX0_where_0 : decode cX0_where 0 = .ok (.aload_n 2, 1) := by decide +kernel
theorem dX0_where_1 : decode cX0_where 1 = .ok (.iconst 0, 1) := by decide +kernel
theorem dX0_where_2 : decode cX0_where 2 = .ok (.aload_n 0, 1) := by decide +kernel
theorem dX0_where_3 : decode cX0_where 3 = .ok (.iload_n 1, 1) := by decide +kernel
theorem dX0_where_4 : decode cX0_where 4 = .ok (.invokevirtual 15, 3) := by decide +kernel
theorem dX0_where_7 : decode cX0_where 7 = .ok (.i2l, 1) := by decide +kernel
theorem dX0_where_8 : decode cX0_where 8 = .ok (.lastore, 1) := by decide +kernel
theorem dX0_where_9 : decode cX0_where 9 = .ok (.goto 6, 3) := by decide +kernel
theorem dX0_where_12 : decode cX0_where 12 = .ok (.astore_n 3, 1) := by decide +kernel
theorem dX0_where_13 : decode cX0_where 13 = .ok (.iconst 1, 1) := by decide +kernel
theorem dX0_where_14 : decode cX0_where 14 = .ok (.ireturn, 1) := by decide +kernel
theorem dX0_where_15 : decode cX0_where 15 = .ok (.iconst 0, 1) := by decide +kernel
theorem dX0_where_16 : decode cX0_where 16 = .ok (.ireturn, 1) := by decide +kernel
theorem dX0_element_0 : decode cX0_element 0 = .ok (.aload_n 3, 1) := by decide +kernel
theorem dX0_element_1 : decode cX0_element 1 = .ok (.iconst 0, 1) := by decide +kernel
theorem dX0_element_2 : decode cX0_element 2 = .ok (.aload_n 0, 1) := by decide +kernel
theorem dX0_element_3 : decode cX0_element 3 = .ok (.iload_n 1, 1) := by decide +kernel
theorem dX0_element_4 : decode cX0_element 4 = .ok (.iload_n 2, 1) := by decide +kernel
theorem dX0_element_5 : decode cX0_element 5 = .ok (.invokevirtual 21, 3) := by decide +kernel
theorem dX0_element_8 : decode cX0_element 8 = .ok (.lastore, 1) := by decide +kernel
theorem dX0_element_9 : decode cX0_element 9 = .ok (.goto 11, 3) := by decide +kernel
theorem dX0_element_12 : decode cX0_element 12 = .ok (.astore 4, 2) := by decide +kernel
theorem dX0_element_14 : decode cX0_element 14 = .ok (.iconst 1, 1) := by decide +kernel
theorem dX0_element_15 : decode cX0_element 15 = .ok (.ireturn, 1) := by decide +kernel
theorem dX0_element_16 : decode cX0_element 16 = .ok (.astore 4, 2) := by decide +kernel
theorem dX0_element_18 : decode cX0_element 18 = .ok (.iconst 2, 1) := by decide +kernel
theorem dX0_element_19 : decode cX0_element 19 = .ok (.ireturn, 1) := by decide +kernel
theorem dX0_element_20 : decode cX0_element 20 = .ok (.iconst 0, 1) := by decide +kernel
theorem dX0_element_21 : decode cX0_element 21 = .ok (.ireturn, 1) := by decide +kernel
