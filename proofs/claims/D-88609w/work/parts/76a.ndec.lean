set_option maxRecDepth 100000
theorem dX7_init_0 : decode cX7_init 0 = .ok (.aload_n 0, 1) := by decide +kernel
theorem dX7_init_1 : decode cX7_init 1 = .ok (.invokespecial 3, 3) := by decide +kernel
theorem dX7_init_4 : decode cX7_init 4 = .ok (.aload_n 0, 1) := by decide +kernel
theorem dX7_init_5 : decode cX7_init 5 = .ok (.iload_n 1, 1) := by decide +kernel
theorem dX7_init_6 : decode cX7_init 6 = .ok (.putfield 9, 3) := by decide +kernel
theorem dX7_init_9 : decode cX7_init 9 = .ok (.aload_n 0, 1) := by decide +kernel
theorem dX7_init_10 : decode cX7_init 10 = .ok (.iload_n 2, 1) := by decide +kernel
theorem dX7_init_11 : decode cX7_init 11 = .ok (.putfield 15, 3) := by decide +kernel
theorem dX7_init_14 : decode cX7_init 14 = .ok (.aload_n 0, 1) := by decide +kernel
theorem dX7_init_15 : decode cX7_init 15 = .ok (.iload_n 3, 1) := by decide +kernel
theorem dX7_init_16 : decode cX7_init 16 = .ok (.putfield 18, 3) := by decide +kernel
theorem dX7_init_19 : decode cX7_init 19 = .ok (.aload_n 0, 1) := by decide +kernel
theorem dX7_init_20 : decode cX7_init 20 = .ok (.iload 4, 2) := by decide +kernel
theorem dX7_init_22 : decode cX7_init 22 = .ok (.putfield 21, 3) := by decide +kernel
theorem dX7_init_25 : decode cX7_init 25 = .ok (.return_, 1) := by decide +kernel
theorem dX8_init_0 : decode cX8_init 0 = .ok (.aload_n 0, 1) := by decide +kernel
theorem dX8_init_1 : decode cX8_init 1 = .ok (.iload_n 1, 1) := by decide +kernel
theorem dX8_init_2 : decode cX8_init 2 = .ok (.iload_n 2, 1) := by decide +kernel
theorem dX8_init_3 : decode cX8_init 3 = .ok (.iconst 1, 1) := by decide +kernel
theorem dX8_init_4 : decode cX8_init 4 = .ok (.iconst 1, 1) := by decide +kernel
theorem dX8_init_5 : decode cX8_init 5 = .ok (.invokespecial 1, 3) := by decide +kernel
theorem dX8_init_8 : decode cX8_init 8 = .ok (.aload_n 0, 1) := by decide +kernel
theorem dX8_init_9 : decode cX8_init 9 = .ok (.iload_n 3, 1) := by decide +kernel
theorem dX8_init_10 : decode cX8_init 10 = .ok (.putfield 7, 3) := by decide +kernel
theorem dX8_init_13 : decode cX8_init 13 = .ok (.return_, 1) := by decide +kernel
theorem dX9_init_0 : decode cX9_init 0 = .ok (.aload_n 0, 1) := by decide +kernel
theorem dX9_init_1 : decode cX9_init 1 = .ok (.iload_n 1, 1) := by decide +kernel
theorem dX9_init_2 : decode cX9_init 2 = .ok (.iconst 1, 1) := by decide +kernel
theorem dX9_init_3 : decode cX9_init 3 = .ok (.iload_n 2, 1) := by decide +kernel
theorem dX9_init_4 : decode cX9_init 4 = .ok (.invokespecial 3, 3) := by decide +kernel
theorem dX9_init_7 : decode cX9_init 7 = .ok (.return_, 1) := by decide +kernel
theorem dX10_init_0 : decode cX10_init 0 = .ok (.aload_n 0, 1) := by decide +kernel
theorem dX10_init_1 : decode cX10_init 1 = .ok (.iload_n 1, 1) := by decide +kernel
theorem dX10_init_2 : decode cX10_init 2 = .ok (.iload_n 2, 1) := by decide +kernel
theorem dX10_init_3 : decode cX10_init 3 = .ok (.iconst 1, 1) := by decide +kernel
theorem dX10_init_4 : decode cX10_init 4 = .ok (.aload_n 3, 1) := by decide +kernel
theorem dX10_init_5 : decode cX10_init 5 = .ok (.getfield 3, 3) := by decide +kernel
theorem dX10_init_8 : decode cX10_init 8 = .ok (.iadd, 1) := by decide +kernel
theorem dX10_init_9 : decode cX10_init 9 = .ok (.aload 4, 2) := by decide +kernel
theorem dX10_init_11 : decode cX10_init 11 = .ok (.getfield 3, 3) := by decide +kernel
theorem dX10_init_14 : decode cX10_init 14 = .ok (.iadd, 1) := by decide +kernel
theorem dX10_init_15 : decode cX10_init 15 = .ok (.iconst 1, 1) := by decide +kernel
theorem dX10_init_16 : decode cX10_init 16 = .ok (.aload_n 3, 1) := by decide +kernel
theorem dX10_init_17 : decode cX10_init 17 = .ok (.getfield 9, 3) := by decide +kernel
theorem dX10_init_20 : decode cX10_init 20 = .ok (.aload 4, 2) := by decide +kernel
theorem dX10_init_22 : decode cX10_init 22 = .ok (.getfield 9, 3) := by decide +kernel
theorem dX10_init_25 : decode cX10_init 25 = .ok (.invokestatic 12, 3) := by decide +kernel
theorem dX10_init_28 : decode cX10_init 28 = .ok (.iadd, 1) := by decide +kernel
theorem dX10_init_29 : decode cX10_init 29 = .ok (.invokespecial 18, 3) := by decide +kernel
theorem dX10_init_32 : decode cX10_init 32 = .ok (.aload_n 0, 1) := by decide +kernel
theorem dX10_init_33 : decode cX10_init 33 = .ok (.aload_n 3, 1) := by decide +kernel
theorem dX10_init_34 : decode cX10_init 34 = .ok (.putfield 22, 3) := by decide +kernel
theorem dX10_init_37 : decode cX10_init 37 = .ok (.aload_n 0, 1) := by decide +kernel
theorem dX10_init_38 : decode cX10_init 38 = .ok (.aload 4, 2) := by decide +kernel
theorem dX10_init_40 : decode cX10_init 40 = .ok (.putfield 28, 3) := by decide +kernel
theorem dX10_init_43 : decode cX10_init 43 = .ok (.return_, 1) := by decide +kernel
theorem dX11_init_0 : decode cX11_init 0 = .ok (.aload_n 0, 1) := by decide +kernel
theorem dX11_init_1 : decode cX11_init 1 = .ok (.iload_n 1, 1) := by decide +kernel
theorem dX11_init_2 : decode cX11_init 2 = .ok (.iload_n 2, 1) := by decide +kernel
theorem dX11_init_3 : decode cX11_init 3 = .ok (.aload_n 3, 1) := by decide +kernel
theorem dX11_init_4 : decode cX11_init 4 = .ok (.aload 4, 2) := by decide +kernel
theorem dX11_init_6 : decode cX11_init 6 = .ok (.invokespecial 1, 3) := by decide +kernel
theorem dX11_init_9 : decode cX11_init 9 = .ok (.return_, 1) := by decide +kernel
theorem dX12_init_0 : decode cX12_init 0 = .ok (.aload_n 0, 1) := by decide +kernel
theorem dX12_init_1 : decode cX12_init 1 = .ok (.iload_n 1, 1) := by decide +kernel
theorem dX12_init_2 : decode cX12_init 2 = .ok (.iload_n 2, 1) := by decide +kernel
theorem dX12_init_3 : decode cX12_init 3 = .ok (.iconst 1, 1) := by decide +kernel
theorem dX12_init_4 : decode cX12_init 4 = .ok (.aload_n 3, 1) := by decide +kernel
theorem dX12_init_5 : decode cX12_init 5 = .ok (.getfield 3, 3) := by decide +kernel
theorem dX12_init_8 : decode cX12_init 8 = .ok (.iadd, 1) := by decide +kernel
theorem dX12_init_9 : decode cX12_init 9 = .ok (.iconst 1, 1) := by decide +kernel
theorem dX12_init_10 : decode cX12_init 10 = .ok (.aload_n 3, 1) := by decide +kernel
theorem dX12_init_11 : decode cX12_init 11 = .ok (.getfield 9, 3) := by decide +kernel
theorem dX12_init_14 : decode cX12_init 14 = .ok (.iadd, 1) := by decide +kernel
theorem dX12_init_15 : decode cX12_init 15 = .ok (.invokespecial 12, 3) := by decide +kernel
theorem dX12_init_18 : decode cX12_init 18 = .ok (.aload_n 0, 1) := by decide +kernel
theorem dX12_init_19 : decode cX12_init 19 = .ok (.aload_n 3, 1) := by decide +kernel
theorem dX12_init_20 : decode cX12_init 20 = .ok (.putfield 16, 3) := by decide +kernel
theorem dX12_init_23 : decode cX12_init 23 = .ok (.return_, 1) := by decide +kernel
theorem dX13_init_0 : decode cX13_init 0 = .ok (.aload_n 0, 1) := by decide +kernel
theorem dX13_init_1 : decode cX13_init 1 = .ok (.iload_n 1, 1) := by decide +kernel
theorem dX13_init_2 : decode cX13_init 2 = .ok (.bipush 8, 2) := by decide +kernel
theorem dX13_init_4 : decode cX13_init 4 = .ok (.aload_n 2, 1) := by decide +kernel
theorem dX13_init_5 : decode cX13_init 5 = .ok (.invokespecial 3, 3) := by decide +kernel
theorem dX13_init_8 : decode cX13_init 8 = .ok (.return_, 1) := by decide +kernel
theorem dX14_init_0 : decode cX14_init 0 = .ok (.aload_n 0, 1) := by decide +kernel
theorem dX14_init_1 : decode cX14_init 1 = .ok (.iload_n 1, 1) := by decide +kernel
theorem dX14_init_2 : decode cX14_init 2 = .ok (.bipush 9, 2) := by decide +kernel
theorem dX14_init_4 : decode cX14_init 4 = .ok (.aload_n 3, 1) := by decide +kernel
theorem dX14_init_5 : decode cX14_init 5 = .ok (.invokespecial 3, 3) := by decide +kernel
theorem dX14_init_8 : decode cX14_init 8 = .ok (.aload_n 0, 1) := by decide +kernel
theorem dX14_init_9 : decode cX14_init 9 = .ok (.iload_n 2, 1) := by decide +kernel
theorem dX14_init_10 : decode cX14_init 10 = .ok (.putfield 9, 3) := by decide +kernel
theorem dX14_init_13 : decode cX14_init 13 = .ok (.return_, 1) := by decide +kernel
theorem dX1_made_0 : decode cX1_made 0 = .ok (.iload_n 1, 1) := by decide +kernel
theorem dX1_made_1 : decode cX1_made 1 = .ok (.ifCond .ne 15, 3) := by decide +kernel
theorem dX1_made_4 : decode cX1_made 4 = .ok (.new 1, 3) := by decide +kernel
theorem dX1_made_7 : decode cX1_made 7 = .ok (.dup, 1) := by decide +kernel
theorem dX1_made_8 : decode cX1_made 8 = .ok (.iload_n 0, 1) := by decide +kernel
theorem dX1_made_9 : decode cX1_made 9 = .ok (.iconst 0, 1) := by decide +kernel
theorem dX1_made_10 : decode cX1_made 10 = .ok (.iload 4, 2) := by decide +kernel
theorem dX1_made_12 : decode cX1_made 12 = .ok (.invokespecial 5, 3) := by decide +kernel
theorem dX1_made_15 : decode cX1_made 15 = .ok (.areturn, 1) := by decide +kernel
theorem dX1_made_16 : decode cX1_made 16 = .ok (.iload_n 1, 1) := by decide +kernel
theorem dX1_made_17 : decode cX1_made 17 = .ok (.iconst 1, 1) := by decide +kernel
theorem dX1_made_18 : decode cX1_made 18 = .ok (.if_icmp .ne 14, 3) := by decide +kernel
theorem dX1_made_21 : decode cX1_made 21 = .ok (.new 9, 3) := by decide +kernel
theorem dX1_made_24 : decode cX1_made 24 = .ok (.dup, 1) := by decide +kernel
theorem dX1_made_25 : decode cX1_made 25 = .ok (.iload_n 0, 1) := by decide +kernel
theorem dX1_made_26 : decode cX1_made 26 = .ok (.iload 4, 2) := by decide +kernel
theorem dX1_made_28 : decode cX1_made 28 = .ok (.invokespecial 11, 3) := by decide +kernel
theorem dX1_made_31 : decode cX1_made 31 = .ok (.areturn, 1) := by decide +kernel
theorem dX1_made_32 : decode cX1_made 32 = .ok (.iload_n 1, 1) := by decide +kernel
theorem dX1_made_33 : decode cX1_made 33 = .ok (.iconst 5, 1) := by decide +kernel
theorem dX1_made_34 : decode cX1_made 34 = .ok (.if_icmp .ge 15, 3) := by decide +kernel
theorem dX1_made_37 : decode cX1_made 37 = .ok (.new 14, 3) := by decide +kernel
theorem dX1_made_40 : decode cX1_made 40 = .ok (.dup, 1) := by decide +kernel
theorem dX1_made_41 : decode cX1_made 41 = .ok (.iload_n 0, 1) := by decide +kernel
theorem dX1_made_42 : decode cX1_made 42 = .ok (.iload_n 1, 1) := by decide +kernel
theorem dX1_made_43 : decode cX1_made 43 = .ok (.aload_n 2, 1) := by decide +kernel
theorem dX1_made_44 : decode cX1_made 44 = .ok (.aload_n 3, 1) := by decide +kernel
theorem dX1_made_45 : decode cX1_made 45 = .ok (.invokespecial 16, 3) := by decide +kernel
theorem dX1_made_48 : decode cX1_made 48 = .ok (.areturn, 1) := by decide +kernel
theorem dX1_made_49 : decode cX1_made 49 = .ok (.iload_n 1, 1) := by decide +kernel
theorem dX1_made_50 : decode cX1_made 50 = .ok (.bipush 6, 2) := by decide +kernel
theorem dX1_made_52 : decode cX1_made 52 = .ok (.if_icmp .gt 15, 3) := by decide +kernel
theorem dX1_made_55 : decode cX1_made 55 = .ok (.new 19, 3) := by decide +kernel
theorem dX1_made_58 : decode cX1_made 58 = .ok (.dup, 1) := by decide +kernel
theorem dX1_made_59 : decode cX1_made 59 = .ok (.iload_n 0, 1) := by decide +kernel
theorem dX1_made_60 : decode cX1_made 60 = .ok (.iload_n 1, 1) := by decide +kernel
theorem dX1_made_61 : decode cX1_made 61 = .ok (.aload_n 2, 1) := by decide +kernel
theorem dX1_made_62 : decode cX1_made 62 = .ok (.aload_n 3, 1) := by decide +kernel
theorem dX1_made_63 : decode cX1_made 63 = .ok (.invokespecial 21, 3) := by decide +kernel
theorem dX1_made_66 : decode cX1_made 66 = .ok (.areturn, 1) := by decide +kernel
theorem dX1_made_67 : decode cX1_made 67 = .ok (.iload_n 1, 1) := by decide +kernel
theorem dX1_made_68 : decode cX1_made 68 = .ok (.bipush 7, 2) := by decide +kernel
theorem dX1_made_70 : decode cX1_made 70 = .ok (.if_icmp .ne 15, 3) := by decide +kernel
theorem dX1_made_73 : decode cX1_made 73 = .ok (.new 22, 3) := by decide +kernel
theorem dX1_made_76 : decode cX1_made 76 = .ok (.dup, 1) := by decide +kernel
theorem dX1_made_77 : decode cX1_made 77 = .ok (.iload_n 0, 1) := by decide +kernel
theorem dX1_made_78 : decode cX1_made 78 = .ok (.bipush 7, 2) := by decide +kernel
theorem dX1_made_80 : decode cX1_made 80 = .ok (.aload_n 2, 1) := by decide +kernel
theorem dX1_made_81 : decode cX1_made 81 = .ok (.invokespecial 24, 3) := by decide +kernel
theorem dX1_made_84 : decode cX1_made 84 = .ok (.areturn, 1) := by decide +kernel
theorem dX1_made_85 : decode cX1_made 85 = .ok (.iload_n 1, 1) := by decide +kernel
theorem dX1_made_86 : decode cX1_made 86 = .ok (.bipush 8, 2) := by decide +kernel
theorem dX1_made_88 : decode cX1_made 88 = .ok (.if_icmp .ne 15, 3) := by decide +kernel
theorem dX1_made_91 : decode cX1_made 91 = .ok (.new 27, 3) := by decide +kernel
theorem dX1_made_94 : decode cX1_made 94 = .ok (.dup, 1) := by decide +kernel
theorem dX1_made_95 : decode cX1_made 95 = .ok (.iload_n 0, 1) := by decide +kernel
theorem dX1_made_96 : decode cX1_made 96 = .ok (.aload_n 2, 1) := by decide +kernel
theorem dX1_made_97 : decode cX1_made 97 = .ok (.invokespecial 29, 3) := by decide +kernel
theorem dX1_made_100 : decode cX1_made 100 = .ok (.goto 14, 3) := by decide +kernel
theorem dX1_made_103 : decode cX1_made 103 = .ok (.new 32, 3) := by decide +kernel
theorem dX1_made_106 : decode cX1_made 106 = .ok (.dup, 1) := by decide +kernel
theorem dX1_made_107 : decode cX1_made 107 = .ok (.iload_n 0, 1) := by decide +kernel
theorem dX1_made_108 : decode cX1_made 108 = .ok (.iload 4, 2) := by decide +kernel
theorem dX1_made_110 : decode cX1_made 110 = .ok (.aload_n 2, 1) := by decide +kernel
theorem dX1_made_111 : decode cX1_made 111 = .ok (.invokespecial 34, 3) := by decide +kernel
theorem dX1_made_114 : decode cX1_made 114 = .ok (.areturn, 1) := by decide +kernel
