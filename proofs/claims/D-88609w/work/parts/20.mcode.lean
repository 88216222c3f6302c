set_option maxRecDepth 100000
def kX6_thrown : am_C := (0, .aload_n 0, 1, []) ::
  (1, .getfield 82, 3, []) ::
  (4, .ireturn, 1, []) ::
  []
theorem kX6_thrown_ok : ∀ q ∈ kX6_thrown, am_cok cX6_thrown q := am_cok_all (by decide +kernel)
def kX6_leaf_26 : am_C := (26, .invokestatic 88, 3, []) ::
  (29, .ifCond .ne 5, 3, [34]) ::
  (32, .iconst (-1), 1, []) ::
  (33, .ireturn, 1, []) ::
  (34, .aload_n 0, 1, []) ::
  (35, .getfield 85, 3, []) ::
  (38, .bipush 120, 2, []) ::
  (40, .if_icmp .ne 6, 3, [46]) ::
  (43, .bipush (-2), 2, []) ::
  (45, .ireturn, 1, []) ::
  (46, .aload_n 0, 1, []) ::
  (47, .aload_n 0, 1, []) ::
  (48, .getfield 85, 3, []) ::
  (51, .iload_n 1, 1, []) ::
  (52, .iload_n 2, 1, []) ::
  (53, .bipush (-2), 2, []) ::
  (55, .bipush (-2), 2, []) ::
  (57, .invokevirtual 98, 3, []) ::
  (60, .aload_n 0, 1, []) ::
  (61, .dup, 1, []) ::
  (62, .getfield 85, 3, []) ::
  (65, .iconst 1, 1, []) ::
  (66, .iadd, 1, []) ::
  (67, .putfield 85, 3, []) ::
  (70, .aload_n 0, 1, []) ::
  (71, .getfield 85, 3, []) ::
  (74, .iconst 1, 1, []) ::
  (75, .isub, 1, []) ::
  (76, .ireturn, 1, []) ::
  []
def kX6_leaf_23 : am_C := (23, .ldc2_w 96, 3, []) ::
  kX6_leaf_26
def kX6_leaf : am_C := (0, .iload_n 1, 1, []) ::
  (1, .i2l, 1, []) ::
  (2, .lconst 0, 1, []) ::
  (3, .lconst 1, 1, []) ::
  (4, .invokestatic 88, 3, []) ::
  (7, .ifCond .eq 25, 3, [32]) ::
  (10, .iload_n 2, 1, []) ::
  (11, .i2l, 1, []) ::
  (12, .lconst 0, 1, []) ::
  (13, .iload_n 1, 1, []) ::
  (14, .ifCond .ne 9, 3, [23]) ::
  (17, .ldc2_w 94, 3, []) ::
  (20, .goto 6, 3, [26]) ::
  kX6_leaf_23
theorem kX6_leaf_ok : ∀ q ∈ kX6_leaf, am_cok cX6_leaf q := am_cok_all (by decide +kernel)
def kX6_in : am_C := (0, .lload_n 0, 1, []) ::
  (1, .lload_n 2, 1, []) ::
  (2, .lcmp, 1, []) ::
  (3, .ifCond .lt 14, 3, [17]) ::
  (6, .lload_n 0, 1, []) ::
  (7, .lload 4, 2, []) ::
  (9, .lcmp, 1, []) ::
  (10, .ifCond .gt 7, 3, [17]) ::
  (13, .iconst 1, 1, []) ::
  (14, .goto 4, 3, [18]) ::
  (17, .iconst 0, 1, []) ::
  (18, .ireturn, 1, []) ::
  []
theorem kX6_in_ok : ∀ q ∈ kX6_in, am_cok cX6_in q := am_cok_all (by decide +kernel)
def kX6_sets_127 : am_C := (127, .iadd, 1, []) ::
  (128, .iastore, 1, []) ::
  (129, .return_, 1, []) ::
  []
def kX6_sets_125 : am_C := (125, .iload 7, 2, []) ::
  kX6_sets_127
def kX6_sets_105 : am_C := (105, .istore 7, 2, []) ::
  (107, .aload_n 0, 1, []) ::
  (108, .getfield 25, 3, []) ::
  (111, .iload_n 1, 1, []) ::
  (112, .iconst 1, 1, []) ::
  (113, .iload 6, 2, []) ::
  (115, .iload 7, 2, []) ::
  (117, .if_icmp .le 8, 3, [125]) ::
  (120, .iload 6, 2, []) ::
  (122, .goto 5, 3, [127]) ::
  kX6_sets_125
def kX6_sets_98 : am_C := (98, .aload_n 0, 1, []) ::
  (99, .getfield 25, 3, []) ::
  (102, .iload 5, 2, []) ::
  (104, .iaload, 1, []) ::
  kX6_sets_105
def kX6_sets_87 : am_C := (87, .istore 6, 2, []) ::
  (89, .iload 5, 2, []) ::
  (91, .ifCond .ge 7, 3, [98]) ::
  (94, .iconst 0, 1, []) ::
  (95, .goto 10, 3, [105]) ::
  kX6_sets_98
def kX6_sets_80 : am_C := (80, .aload_n 0, 1, []) ::
  (81, .getfield 25, 3, []) ::
  (84, .iload 4, 2, []) ::
  (86, .iaload, 1, []) ::
  kX6_sets_87
def kX6_sets_69 : am_C := (69, .iadd, 1, []) ::
  (70, .iastore, 1, []) ::
  (71, .iload 4, 2, []) ::
  (73, .ifCond .ge 7, 3, [80]) ::
  (76, .iconst 0, 1, []) ::
  (77, .goto 10, 3, [87]) ::
  kX6_sets_80
def kX6_sets_62 : am_C := (62, .aload_n 0, 1, []) ::
  (63, .getfield 22, 3, []) ::
  (66, .iload 5, 2, []) ::
  (68, .iaload, 1, []) ::
  kX6_sets_69
def kX6_sets_52 : am_C := (52, .iadd, 1, []) ::
  (53, .iload 5, 2, []) ::
  (55, .ifCond .ge 7, 3, [62]) ::
  (58, .iconst 0, 1, []) ::
  (59, .goto 10, 3, [69]) ::
  kX6_sets_62
def kX6_sets_45 : am_C := (45, .aload_n 0, 1, []) ::
  (46, .getfield 22, 3, []) ::
  (49, .iload 4, 2, []) ::
  (51, .iaload, 1, []) ::
  kX6_sets_52
def kX6_sets : am_C := (0, .aload_n 0, 1, []) ::
  (1, .getfield 7, 3, []) ::
  (4, .iload_n 1, 1, []) ::
  (5, .iload_n 2, 1, []) ::
  (6, .iastore, 1, []) ::
  (7, .aload_n 0, 1, []) ::
  (8, .getfield 13, 3, []) ::
  (11, .iload_n 1, 1, []) ::
  (12, .iload_n 3, 1, []) ::
  (13, .iastore, 1, []) ::
  (14, .aload_n 0, 1, []) ::
  (15, .getfield 16, 3, []) ::
  (18, .iload_n 1, 1, []) ::
  (19, .iload 4, 2, []) ::
  (21, .iastore, 1, []) ::
  (22, .aload_n 0, 1, []) ::
  (23, .getfield 19, 3, []) ::
  (26, .iload_n 1, 1, []) ::
  (27, .iload 5, 2, []) ::
  (29, .iastore, 1, []) ::
  (30, .aload_n 0, 1, []) ::
  (31, .getfield 22, 3, []) ::
  (34, .iload_n 1, 1, []) ::
  (35, .iconst 1, 1, []) ::
  (36, .iload 4, 2, []) ::
  (38, .ifCond .ge 7, 3, [45]) ::
  (41, .iconst 0, 1, []) ::
  (42, .goto 10, 3, [52]) ::
  kX6_sets_45
theorem kX6_sets_ok : ∀ q ∈ kX6_sets, am_cok cX6_sets q := am_cok_all (by decide +kernel)
def kX6_node_150 : am_C := (150, .invokevirtual 98, 3, []) ::
  (153, .aload_n 0, 1, []) ::
  (154, .dup, 1, []) ::
  (155, .getfield 85, 3, []) ::
  (158, .iconst 1, 1, []) ::
  (159, .iadd, 1, []) ::
  (160, .putfield 85, 3, []) ::
  (163, .aload_n 0, 1, []) ::
  (164, .getfield 85, 3, []) ::
  (167, .iconst 1, 1, []) ::
  (168, .isub, 1, []) ::
  (169, .ireturn, 1, []) ::
  []
def kX6_node_148 : am_C := (148, .bipush (-2), 2, []) ::
  kX6_node_150
def kX6_node_136 : am_C := (136, .iload_n 2, 1, []) ::
  (137, .iload_n 1, 1, []) ::
  (138, .invokestatic 108, 3, []) ::
  (141, .ifCond .eq 7, 3, [148]) ::
  (144, .iload_n 3, 1, []) ::
  (145, .goto 5, 3, [150]) ::
  kX6_node_148
def kX6_node_134 : am_C := (134, .bipush (-2), 2, []) ::
  kX6_node_136
def kX6_node_109 : am_C := (109, .iadd, 1, []) ::
  (110, .bipush 40, 2, []) ::
  (112, .if_icmp .le 6, 3, [118]) ::
  (115, .bipush (-3), 2, []) ::
  (117, .ireturn, 1, []) ::
  (118, .aload_n 0, 1, []) ::
  (119, .aload_n 0, 1, []) ::
  (120, .getfield 85, 3, []) ::
  (123, .iload_n 1, 1, []) ::
  (124, .iload_n 1, 1, []) ::
  (125, .bipush 9, 2, []) ::
  (127, .if_icmp .ne 7, 3, [134]) ::
  (130, .iload_n 3, 1, []) ::
  (131, .goto 5, 3, [136]) ::
  kX6_node_134
def kX6_node_108 : am_C := (108, .iconst 0, 1, []) ::
  kX6_node_109
def kX6_node_63 : am_C := (63, .istore 4, 2, []) ::
  (65, .iload 4, 2, []) ::
  (67, .ifCond .ne 5, 3, [72]) ::
  (70, .iconst (-1), 1, []) ::
  (71, .ireturn, 1, []) ::
  (72, .aload_n 0, 1, []) ::
  (73, .getfield 85, 3, []) ::
  (76, .bipush 120, 2, []) ::
  (78, .if_icmp .ne 6, 3, [84]) ::
  (81, .bipush (-2), 2, []) ::
  (83, .ireturn, 1, []) ::
  (84, .iconst 1, 1, []) ::
  (85, .aload_n 0, 1, []) ::
  (86, .getfield 22, 3, []) ::
  (89, .iload_n 2, 1, []) ::
  (90, .iaload, 1, []) ::
  (91, .iadd, 1, []) ::
  (92, .iload_n 1, 1, []) ::
  (93, .invokestatic 108, 3, []) ::
  (96, .ifCond .eq 12, 3, [108]) ::
  (99, .aload_n 0, 1, []) ::
  (100, .getfield 22, 3, []) ::
  (103, .iload_n 3, 1, []) ::
  (104, .iaload, 1, []) ::
  (105, .goto 4, 3, [109]) ::
  kX6_node_108
def kX6_node_62 : am_C := (62, .iconst 0, 1, []) ::
  kX6_node_63
def kX6_node_58 : am_C := (58, .iconst 1, 1, []) ::
  (59, .goto 4, 3, [63]) ::
  kX6_node_62
def kX6_node_50 : am_C := (50, .aload_n 0, 1, []) ::
  (51, .iload_n 3, 1, []) ::
  (52, .invokevirtual 104, 3, []) ::
  (55, .ifCond .eq 7, 3, [62]) ::
  kX6_node_58
def kX6_node_43 : am_C := (43, .iload_n 1, 1, []) ::
  (44, .invokestatic 108, 3, []) ::
  (47, .ifCond .eq 11, 3, [58]) ::
  kX6_node_50
def kX6_node_40 : am_C := (40, .goto 18, 3, [58]) ::
  kX6_node_43
def kX6_node_22 : am_C := (22, .iload_n 1, 1, []) ::
  (23, .bipush 9, 2, []) ::
  (25, .if_icmp .ne 18, 3, [43]) ::
  (28, .iload_n 3, 1, []) ::
  (29, .i2l, 1, []) ::
  (30, .lconst 0, 1, []) ::
  (31, .ldc2_w 94, 3, []) ::
  (34, .invokestatic 88, 3, []) ::
  (37, .ifCond .eq 25, 3, [62]) ::
  kX6_node_40
def kX6_node_14 : am_C := (14, .aload_n 0, 1, []) ::
  (15, .iload_n 2, 1, []) ::
  (16, .invokevirtual 104, 3, []) ::
  (19, .ifCond .eq 43, 3, [62]) ::
  kX6_node_22
def kX6_node : am_C := (0, .iload_n 1, 1, []) ::
  (1, .i2l, 1, []) ::
  (2, .ldc2_w 102, 3, []) ::
  (5, .ldc2_w 94, 3, []) ::
  (8, .invokestatic 88, 3, []) ::
  (11, .ifCond .eq 51, 3, [62]) ::
  kX6_node_14
theorem kX6_node_ok : ∀ q ∈ kX6_node, am_cok cX6_node q := am_cok_all (by decide +kernel)
def kX6_isNode : am_C := (0, .iload_n 1, 1, []) ::
  (1, .i2l, 1, []) ::
  (2, .lconst 0, 1, []) ::
  (3, .aload_n 0, 1, []) ::
  (4, .getfield 85, 3, []) ::
  (7, .iconst 1, 1, []) ::
  (8, .isub, 1, []) ::
  (9, .i2l, 1, []) ::
  (10, .invokestatic 88, 3, []) ::
  (13, .ireturn, 1, []) ::
  []
theorem kX6_isNode_ok : ∀ q ∈ kX6_isNode, am_cok cX6_isNode q := am_cok_all (by decide +kernel)
def kX6_isTwo : am_C := (0, .iload_n 0, 1, []) ::
  (1, .iconst 2, 1, []) ::
  (2, .if_icmp .lt 13, 3, [15]) ::
  (5, .iload_n 0, 1, []) ::
  (6, .bipush 6, 2, []) ::
  (8, .if_icmp .gt 7, 3, [15]) ::
  (11, .iconst 1, 1, []) ::
  (12, .goto 4, 3, [16]) ::
  (15, .iconst 0, 1, []) ::
  (16, .ireturn, 1, []) ::
  []
theorem kX6_isTwo_ok : ∀ q ∈ kX6_isTwo, am_cok cX6_isTwo q := am_cok_all (by decide +kernel)
def kX6_undo_34 : am_C := (34, .aload_n 0, 1, []) ::
  (35, .dup, 1, []) ::
  (36, .getfield 85, 3, []) ::
  (39, .iconst 1, 1, []) ::
  (40, .isub, 1, []) ::
  (41, .putfield 85, 3, []) ::
  (44, .aload_n 0, 1, []) ::
  (45, .getfield 85, 3, []) ::
  (48, .ireturn, 1, []) ::
  []
def kX6_undo_31 : am_C := (31, .bipush (-3), 2, []) ::
  (33, .ireturn, 1, []) ::
  kX6_undo_34
def kX6_undo_16 : am_C := (16, .aload_n 0, 1, []) ::
  (17, .getfield 76, 3, []) ::
  (20, .iconst 0, 1, []) ::
  (21, .iaload, 1, []) ::
  (22, .aload_n 0, 1, []) ::
  (23, .getfield 85, 3, []) ::
  (26, .iconst 1, 1, []) ::
  (27, .isub, 1, []) ::
  (28, .if_icmp .ne 6, 3, [34]) ::
  kX6_undo_31
def kX6_undo : am_C := (0, .aload_n 0, 1, []) ::
  (1, .getfield 85, 3, []) ::
  (4, .ifCond .ne 5, 3, [9]) ::
  (7, .iconst (-1), 1, []) ::
  (8, .ireturn, 1, []) ::
  (9, .aload_n 0, 1, []) ::
  (10, .getfield 111, 3, []) ::
  (13, .ifCond .eq 21, 3, [34]) ::
  kX6_undo_16
theorem kX6_undo_ok : ∀ q ∈ kX6_undo, am_cok cX6_undo q := am_cok_all (by decide +kernel)
def kX6_means_29 : am_C := (29, .istore_n 3, 1, []) ::
  (30, .aload_n 0, 1, []) ::
  (31, .getfield 28, 3, []) ::
  (34, .iload_n 1, 1, []) ::
  (35, .iload_n 2, 1, []) ::
  (36, .bastore, 1, []) ::
  (37, .iload_n 3, 1, []) ::
  (38, .ireturn, 1, []) ::
  []
def kX6_means_28 : am_C := (28, .iconst 0, 1, []) ::
  kX6_means_29
def kX6_means : am_C := (0, .iload_n 1, 1, []) ::
  (1, .i2l, 1, []) ::
  (2, .lconst 0, 1, []) ::
  (3, .ldc2_w 94, 3, []) ::
  (6, .invokestatic 88, 3, []) ::
  (9, .ifCond .ne 5, 3, [14]) ::
  (12, .iconst (-1), 1, []) ::
  (13, .ireturn, 1, []) ::
  (14, .aload_n 0, 1, []) ::
  (15, .getfield 28, 3, []) ::
  (18, .iload_n 1, 1, []) ::
  (19, .baload, 1, []) ::
  (20, .iload_n 2, 1, []) ::
  (21, .if_icmp .eq 7, 3, [28]) ::
  (24, .iconst 1, 1, []) ::
  (25, .goto 4, 3, [29]) ::
  kX6_means_28
theorem kX6_means_ok : ∀ q ∈ kX6_means, am_cok cX6_means q := am_cok_all (by decide +kernel)
def kX6_look : am_C := (0, .aload_n 0, 1, []) ::
  (1, .iload_n 1, 1, []) ::
  (2, .invokevirtual 104, 3, []) ::
  (5, .ifCond .eq 15, 3, [20]) ::
  (8, .iload_n 2, 1, []) ::
  (9, .i2l, 1, []) ::
  (10, .lconst 0, 1, []) ::
  (11, .ldc2_w 118, 3, []) ::
  (14, .invokestatic 88, 3, []) ::
  (17, .ifCond .ne 5, 3, [22]) ::
  (20, .iconst (-1), 1, []) ::
  (21, .ireturn, 1, []) ::
  (22, .iload_n 2, 1, []) ::
  (23, .tableswitch 79 0 5 #[37, 44, 51, 58, 65, 72], 37, [102, 60, 67, 74, 81, 88, 95]) ::
  (60, .aload_n 0, 1, []) ::
  (61, .getfield 7, 3, []) ::
  (64, .iload_n 1, 1, []) ::
  (65, .iaload, 1, []) ::
  (66, .ireturn, 1, []) ::
  (67, .aload_n 0, 1, []) ::
  (68, .getfield 13, 3, []) ::
  (71, .iload_n 1, 1, []) ::
  (72, .iaload, 1, []) ::
  (73, .ireturn, 1, []) ::
  (74, .aload_n 0, 1, []) ::
  (75, .getfield 16, 3, []) ::
  (78, .iload_n 1, 1, []) ::
  (79, .iaload, 1, []) ::
  (80, .ireturn, 1, []) ::
  (81, .aload_n 0, 1, []) ::
  (82, .getfield 19, 3, []) ::
  (85, .iload_n 1, 1, []) ::
  (86, .iaload, 1, []) ::
  (87, .ireturn, 1, []) ::
  (88, .aload_n 0, 1, []) ::
  (89, .getfield 22, 3, []) ::
  (92, .iload_n 1, 1, []) ::
  (93, .iaload, 1, []) ::
  (94, .ireturn, 1, []) ::
  (95, .aload_n 0, 1, []) ::
  (96, .getfield 25, 3, []) ::
  (99, .iload_n 1, 1, []) ::
  (100, .iaload, 1, []) ::
  (101, .ireturn, 1, []) ::
  (102, .aload_n 0, 1, []) ::
  (103, .iload_n 1, 1, []) ::
  (104, .invokevirtual 115, 3, []) ::
  (107, .ifCond .eq 7, 3, [114]) ::
  (110, .iconst 1, 1, []) ::
  (111, .goto 4, 3, [115]) ::
  (114, .iconst 0, 1, []) ::
  (115, .ireturn, 1, []) ::
  []
theorem kX6_look_ok : ∀ q ∈ kX6_look, am_cok cX6_look q := am_cok_all (by decide +kernel)
def kX6_isRight_67 : am_C := (67, .istore_n 2, 1, []) ::
  (68, .iload_n 2, 1, []) ::
  (69, .ifCond .eq 33, 3, [102]) ::
  (72, .aload_n 0, 1, []) ::
  (73, .aload_n 0, 1, []) ::
  (74, .getfield 16, 3, []) ::
  (77, .iload_n 1, 1, []) ::
  (78, .iaload, 1, []) ::
  (79, .invokevirtual 115, 3, []) ::
  (82, .ifCond .eq 20, 3, [102]) ::
  (85, .aload_n 0, 1, []) ::
  (86, .aload_n 0, 1, []) ::
  (87, .getfield 19, 3, []) ::
  (90, .iload_n 1, 1, []) ::
  (91, .iaload, 1, []) ::
  (92, .invokevirtual 115, 3, []) ::
  (95, .ifCond .eq 7, 3, [102]) ::
  (98, .iconst 1, 1, []) ::
  (99, .goto 4, 3, [103]) ::
  (102, .iconst 0, 1, []) ::
  (103, .ireturn, 1, []) ::
  []
def kX6_isRight_66 : am_C := (66, .iconst 0, 1, []) ::
  kX6_isRight_67
def kX6_isRight_62 : am_C := (62, .iconst 1, 1, []) ::
  (63, .goto 4, 3, [67]) ::
  kX6_isRight_66
def kX6_isRight_48 : am_C := (48, .aload_n 0, 1, []) ::
  (49, .getfield 28, 3, []) ::
  (52, .aload_n 0, 1, []) ::
  (53, .getfield 13, 3, []) ::
  (56, .iload_n 1, 1, []) ::
  (57, .iaload, 1, []) ::
  (58, .baload, 1, []) ::
  (59, .ifCond .eq 7, 3, [66]) ::
  kX6_isRight_62
def kX6_isRight_37 : am_C := (37, .aload_n 0, 1, []) ::
  (38, .getfield 7, 3, []) ::
  (41, .iload_n 1, 1, []) ::
  (42, .iaload, 1, []) ::
  (43, .bipush 9, 2, []) ::
  (45, .if_icmp .ne 17, 3, [62]) ::
  kX6_isRight_48
def kX6_isRight_33 : am_C := (33, .iconst 0, 1, []) ::
  (34, .goto 33, 3, [67]) ::
  kX6_isRight_37
def kX6_isRight : am_C := (0, .iload_n 1, 1, []) ::
  (1, .ifCond .ge 5, 3, [6]) ::
  (4, .iconst 1, 1, []) ::
  (5, .ireturn, 1, []) ::
  (6, .aload_n 0, 1, []) ::
  (7, .getfield 7, 3, []) ::
  (10, .iload_n 1, 1, []) ::
  (11, .iaload, 1, []) ::
  (12, .ifCond .ne 25, 3, [37]) ::
  (15, .aload_n 0, 1, []) ::
  (16, .getfield 28, 3, []) ::
  (19, .aload_n 0, 1, []) ::
  (20, .getfield 13, 3, []) ::
  (23, .iload_n 1, 1, []) ::
  (24, .iaload, 1, []) ::
  (25, .baload, 1, []) ::
  (26, .ifCond .ne 7, 3, [33]) ::
  (29, .iconst 1, 1, []) ::
  (30, .goto 37, 3, [67]) ::
  kX6_isRight_33
theorem kX6_isRight_ok : ∀ q ∈ kX6_isRight, am_cok cX6_isRight q := am_cok_all (by decide +kernel)
def kX6_alike : am_C := (0, .aload_n 0, 1, []) ::
  (1, .iload_n 1, 1, []) ::
  (2, .invokevirtual 104, 3, []) ::
  (5, .ifCond .eq 11, 3, [16]) ::
  (8, .aload_n 0, 1, []) ::
  (9, .iload_n 2, 1, []) ::
  (10, .invokevirtual 104, 3, []) ::
  (13, .ifCond .ne 7, 3, [20]) ::
  (16, .iconst (-1), 1, []) ::
  (17, .goto 17, 3, [34]) ::
  (20, .aload_n 0, 1, []) ::
  (21, .iload_n 1, 1, []) ::
  (22, .iload_n 2, 1, []) ::
  (23, .invokevirtual 120, 3, []) ::
  (26, .ifCond .eq 7, 3, [33]) ::
  (29, .iconst 1, 1, []) ::
  (30, .goto 4, 3, [34]) ::
  (33, .iconst 0, 1, []) ::
  (34, .ireturn, 1, []) ::
  []
theorem kX6_alike_ok : ∀ q ∈ kX6_alike, am_cok cX6_alike q := am_cok_all (by decide +kernel)
def kX6_areAlike_8 : am_C := (8, .iload_n 1, 1, []) ::
  (9, .ifCond .ge 11, 3, [20]) ::
  (12, .iload_n 2, 1, []) ::
  (13, .ifCond .ge 7, 3, [20]) ::
  (16, .iconst 1, 1, []) ::
  (17, .goto 4, 3, [21]) ::
  (20, .iconst 0, 1, []) ::
  (21, .ireturn, 1, []) ::
  (22, .aload_n 0, 1, []) ::
  (23, .getfield 7, 3, []) ::
  (26, .iload_n 1, 1, []) ::
  (27, .iaload, 1, []) ::
  (28, .aload_n 0, 1, []) ::
  (29, .getfield 7, 3, []) ::
  (32, .iload_n 2, 1, []) ::
  (33, .iaload, 1, []) ::
  (34, .if_icmp .ne 75, 3, [109]) ::
  (37, .aload_n 0, 1, []) ::
  (38, .getfield 13, 3, []) ::
  (41, .iload_n 1, 1, []) ::
  (42, .iaload, 1, []) ::
  (43, .aload_n 0, 1, []) ::
  (44, .getfield 13, 3, []) ::
  (47, .iload_n 2, 1, []) ::
  (48, .iaload, 1, []) ::
  (49, .if_icmp .ne 60, 3, [109]) ::
  (52, .aload_n 0, 1, []) ::
  (53, .getfield 22, 3, []) ::
  (56, .iload_n 1, 1, []) ::
  (57, .iaload, 1, []) ::
  (58, .aload_n 0, 1, []) ::
  (59, .getfield 22, 3, []) ::
  (62, .iload_n 2, 1, []) ::
  (63, .iaload, 1, []) ::
  (64, .if_icmp .ne 45, 3, [109]) ::
  (67, .aload_n 0, 1, []) ::
  (68, .aload_n 0, 1, []) ::
  (69, .getfield 16, 3, []) ::
  (72, .iload_n 1, 1, []) ::
  (73, .iaload, 1, []) ::
  (74, .aload_n 0, 1, []) ::
  (75, .getfield 16, 3, []) ::
  (78, .iload_n 2, 1, []) ::
  (79, .iaload, 1, []) ::
  (80, .invokevirtual 120, 3, []) ::
  (83, .ifCond .eq 26, 3, [109]) ::
  (86, .aload_n 0, 1, []) ::
  (87, .aload_n 0, 1, []) ::
  (88, .getfield 19, 3, []) ::
  (91, .iload_n 1, 1, []) ::
  (92, .iaload, 1, []) ::
  (93, .aload_n 0, 1, []) ::
  (94, .getfield 19, 3, []) ::
  (97, .iload_n 2, 1, []) ::
  (98, .iaload, 1, []) ::
  (99, .invokevirtual 120, 3, []) ::
  (102, .ifCond .eq 7, 3, [109]) ::
  (105, .iconst 1, 1, []) ::
  (106, .goto 4, 3, [110]) ::
  (109, .iconst 0, 1, []) ::
  (110, .ireturn, 1, []) ::
  []
def kX6_areAlike_4 : am_C := (4, .iload_n 2, 1, []) ::
  (5, .ifCond .ge 17, 3, [22]) ::
  kX6_areAlike_8
def kX6_areAlike : am_C := (0, .iload_n 1, 1, []) ::
  (1, .ifCond .lt 7, 3, [8]) ::
  kX6_areAlike_4
theorem kX6_areAlike_ok : ∀ q ∈ kX6_areAlike, am_cok cX6_areAlike q := am_cok_all (by decide +kernel)
def kX6_times : am_C := (0, .aload_n 0, 1, []) ::
  (1, .iload_n 1, 1, []) ::
  (2, .invokevirtual 104, 3, []) ::
  (5, .ifCond .eq 20, 3, [25]) ::
  (8, .aload_n 0, 1, []) ::
  (9, .iload_n 2, 1, []) ::
  (10, .invokevirtual 104, 3, []) ::
  (13, .ifCond .eq 12, 3, [25]) ::
  (16, .aload_n 0, 1, []) ::
  (17, .iload_n 1, 1, []) ::
  (18, .iload_n 2, 1, []) ::
  (19, .invokevirtual 124, 3, []) ::
  (22, .goto 4, 3, [26]) ::
  (25, .iconst (-1), 1, []) ::
  (26, .ireturn, 1, []) ::
  []
theorem kX6_times_ok : ∀ q ∈ kX6_times, am_cok cX6_times q := am_cok_all (by decide +kernel)
def kX6_has_20 : am_C := (20, .aload_n 0, 1, []) ::
  (21, .aload_n 0, 1, []) ::
  (22, .getfield 16, 3, []) ::
  (25, .iload_n 1, 1, []) ::
  (26, .iaload, 1, []) ::
  (27, .iload_n 2, 1, []) ::
  (28, .invokevirtual 124, 3, []) ::
  (31, .iadd, 1, []) ::
  (32, .aload_n 0, 1, []) ::
  (33, .aload_n 0, 1, []) ::
  (34, .getfield 19, 3, []) ::
  (37, .iload_n 1, 1, []) ::
  (38, .iaload, 1, []) ::
  (39, .iload_n 2, 1, []) ::
  (40, .invokevirtual 124, 3, []) ::
  (43, .iadd, 1, []) ::
  (44, .ireturn, 1, []) ::
  []
def kX6_has_19 : am_C := (19, .iconst 0, 1, []) ::
  kX6_has_20
def kX6_has : am_C := (0, .iload_n 1, 1, []) ::
  (1, .ifCond .ge 5, 3, [6]) ::
  (4, .iconst 0, 1, []) ::
  (5, .ireturn, 1, []) ::
  (6, .aload_n 0, 1, []) ::
  (7, .iload_n 1, 1, []) ::
  (8, .iload_n 2, 1, []) ::
  (9, .invokevirtual 120, 3, []) ::
  (12, .ifCond .eq 7, 3, [19]) ::
  (15, .iconst 1, 1, []) ::
  (16, .goto 4, 3, [20]) ::
  kX6_has_19
theorem kX6_has_ok : ∀ q ∈ kX6_has, am_cok cX6_has q := am_cok_all (by decide +kernel)
def kX6_keeps_36 : am_C := (36, .istore 4, 2, []) ::
  (38, .aload_n 0, 1, []) ::
  (39, .getfield 32, 3, []) ::
  (42, .bipush 10, 2, []) ::
  (44, .iload_n 1, 1, []) ::
  (45, .imul, 1, []) ::
  (46, .iload_n 2, 1, []) ::
  (47, .iadd, 1, []) ::
  (48, .iload_n 3, 1, []) ::
  (49, .bastore, 1, []) ::
  (50, .iload 4, 2, []) ::
  (52, .ireturn, 1, []) ::
  []
def kX6_keeps_35 : am_C := (35, .iconst 0, 1, []) ::
  kX6_keeps_36
def kX6_keeps : am_C := (0, .iload_n 1, 1, []) ::
  (1, .invokestatic 128, 3, []) ::
  (4, .ifCond .eq 10, 3, [14]) ::
  (7, .iload_n 2, 1, []) ::
  (8, .invokestatic 131, 3, []) ::
  (11, .ifCond .ne 5, 3, [16]) ::
  (14, .iconst (-1), 1, []) ::
  (15, .ireturn, 1, []) ::
  (16, .aload_n 0, 1, []) ::
  (17, .getfield 32, 3, []) ::
  (20, .bipush 10, 2, []) ::
  (22, .iload_n 1, 1, []) ::
  (23, .imul, 1, []) ::
  (24, .iload_n 2, 1, []) ::
  (25, .iadd, 1, []) ::
  (26, .baload, 1, []) ::
  (27, .iload_n 3, 1, []) ::
  (28, .if_icmp .eq 7, 3, [35]) ::
  (31, .iconst 1, 1, []) ::
  (32, .goto 4, 3, [36]) ::
  kX6_keeps_35
theorem kX6_keeps_ok : ∀ q ∈ kX6_keeps, am_cok cX6_keeps q := am_cok_all (by decide +kernel)
def kX6_isStyle : am_C := (0, .iload_n 0, 1, []) ::
  (1, .i2l, 1, []) ::
  (2, .lconst 0, 1, []) ::
  (3, .ldc2_w 92, 3, []) ::
  (6, .invokestatic 88, 3, []) ::
  (9, .ireturn, 1, []) ::
  []
theorem kX6_isStyle_ok : ∀ q ∈ kX6_isStyle, am_cok cX6_isStyle q := am_cok_all (by decide +kernel)
def kX6_mayKeep : am_C := (0, .iload_n 0, 1, []) ::
  (1, .iconst 2, 1, []) ::
  (2, .if_icmp .lt 19, 3, [21]) ::
  (5, .iload_n 0, 1, []) ::
  (6, .bipush 9, 2, []) ::
  (8, .if_icmp .gt 13, 3, [21]) ::
  (11, .iload_n 0, 1, []) ::
  (12, .bipush 8, 2, []) ::
  (14, .if_icmp .eq 7, 3, [21]) ::
  (17, .iconst 1, 1, []) ::
  (18, .goto 4, 3, [22]) ::
  (21, .iconst 0, 1, []) ::
  (22, .ireturn, 1, []) ::
  []
theorem kX6_mayKeep_ok : ∀ q ∈ kX6_mayKeep, am_cok cX6_mayKeep q := am_cok_all (by decide +kernel)
def kX6_words : am_C := (0, .iload_n 1, 1, []) ::
  (1, .invokestatic 128, 3, []) ::
  (4, .ifCond .eq 11, 3, [15]) ::
  (7, .aload_n 0, 1, []) ::
  (8, .iload_n 2, 1, []) ::
  (9, .invokevirtual 104, 3, []) ::
  (12, .ifCond .ne 5, 3, [17]) ::
  (15, .iconst (-1), 1, []) ::
  (16, .ireturn, 1, []) ::
  (17, .aload_n 0, 1, []) ::
  (18, .iload_n 1, 1, []) ::
  (19, .iload_n 2, 1, []) ::
  (20, .invokevirtual 141, 3, []) ::
  (23, .istore_n 3, 1, []) ::
  (24, .iload_n 3, 1, []) ::
  (25, .bipush 80, 2, []) ::
  (27, .if_icmp .le 8, 3, [35]) ::
  (30, .bipush (-5), 2, []) ::
  (32, .goto 4, 3, [36]) ::
  (35, .iload_n 3, 1, []) ::
  (36, .ireturn, 1, []) ::
  []
theorem kX6_words_ok : ∀ q ∈ kX6_words, am_cok cX6_words q := am_cok_all (by decide +kernel)
def kX6_length_35 : am_C := (35, .iadd, 1, []) ::
  (36, .aload_n 0, 1, []) ::
  (37, .iload_n 1, 1, []) ::
  (38, .aload_n 0, 1, []) ::
  (39, .getfield 16, 3, []) ::
  (42, .iload_n 2, 1, []) ::
  (43, .iaload, 1, []) ::
  (44, .invokevirtual 141, 3, []) ::
  (47, .iadd, 1, []) ::
  (48, .aload_n 0, 1, []) ::
  (49, .iload_n 1, 1, []) ::
  (50, .aload_n 0, 1, []) ::
  (51, .getfield 19, 3, []) ::
  (54, .iload_n 2, 1, []) ::
  (55, .iaload, 1, []) ::
  (56, .invokevirtual 141, 3, []) ::
  (59, .iadd, 1, []) ::
  (60, .ireturn, 1, []) ::
  []
def kX6_length_34 : am_C := (34, .iconst 0, 1, []) ::
  kX6_length_35
def kX6_length : am_C := (0, .iload_n 2, 1, []) ::
  (1, .ifCond .ge 5, 3, [6]) ::
  (4, .iconst 0, 1, []) ::
  (5, .ireturn, 1, []) ::
  (6, .aload_n 0, 1, []) ::
  (7, .iload_n 2, 1, []) ::
  (8, .invokevirtual 138, 3, []) ::
  (11, .aload_n 0, 1, []) ::
  (12, .getfield 32, 3, []) ::
  (15, .bipush 10, 2, []) ::
  (17, .iload_n 1, 1, []) ::
  (18, .imul, 1, []) ::
  (19, .aload_n 0, 1, []) ::
  (20, .getfield 7, 3, []) ::
  (23, .iload_n 2, 1, []) ::
  (24, .iaload, 1, []) ::
  (25, .iadd, 1, []) ::
  (26, .baload, 1, []) ::
  (27, .ifCond .eq 7, 3, [34]) ::
  (30, .iconst 2, 1, []) ::
  (31, .goto 4, 3, [35]) ::
  kX6_length_34
theorem kX6_length_ok : ∀ q ∈ kX6_length, am_cok cX6_length q := am_cok_all (by decide +kernel)
def kX6_own : am_C := (0, .aload_n 0, 1, []) ::
  (1, .getfield 7, 3, []) ::
  (4, .iload_n 1, 1, []) ::
  (5, .iaload, 1, []) ::
  (6, .iconst 1, 1, []) ::
  (7, .if_icmp .ne 15, 3, [22]) ::
  (10, .aload_n 0, 1, []) ::
  (11, .getfield 13, 3, []) ::
  (14, .iload_n 1, 1, []) ::
  (15, .iaload, 1, []) ::
  (16, .invokestatic 134, 3, []) ::
  (19, .goto 30, 3, [49]) ::
  (22, .aload_n 0, 1, []) ::
  (23, .getfield 7, 3, []) ::
  (26, .iload_n 1, 1, []) ::
  (27, .iaload, 1, []) ::
  (28, .bipush 8, 2, []) ::
  (30, .if_icmp .eq 14, 3, [44]) ::
  (33, .aload_n 0, 1, []) ::
  (34, .getfield 7, 3, []) ::
  (37, .iload_n 1, 1, []) ::
  (38, .iaload, 1, []) ::
  (39, .bipush 9, 2, []) ::
  (41, .if_icmp .ne 7, 3, [48]) ::
  (44, .iconst 2, 1, []) ::
  (45, .goto 4, 3, [49]) ::
  (48, .iconst 1, 1, []) ::
  (49, .ireturn, 1, []) ::
  []
theorem kX6_own_ok : ∀ q ∈ kX6_own, am_cok cX6_own q := am_cok_all (by decide +kernel)
def kX6_digits : am_C := (0, .iload_n 0, 1, []) ::
  (1, .bipush 10, 2, []) ::
  (3, .if_icmp .ge 7, 3, [10]) ::
  (6, .iconst 1, 1, []) ::
  (7, .goto 25, 3, [32]) ::
  (10, .iload_n 0, 1, []) ::
  (11, .bipush 100, 2, []) ::
  (13, .if_icmp .ge 7, 3, [20]) ::
  (16, .iconst 2, 1, []) ::
  (17, .goto 15, 3, [32]) ::
  (20, .iload_n 0, 1, []) ::
  (21, .sipush 1000, 3, []) ::
  (24, .if_icmp .ge 7, 3, [31]) ::
  (27, .iconst 3, 1, []) ::
  (28, .goto 4, 3, [32]) ::
  (31, .iconst 4, 1, []) ::
  (32, .ireturn, 1, []) ::
  []
theorem kX6_digits_ok : ∀ q ∈ kX6_digits, am_cok cX6_digits q := am_cok_all (by decide +kernel)
def kX6_word : am_C := (0, .iload_n 1, 1, []) ::
  (1, .invokestatic 128, 3, []) ::
  (4, .ifCond .eq 15, 3, [19]) ::
  (7, .aload_n 0, 1, []) ::
  (8, .iload_n 2, 1, []) ::
  (9, .invokevirtual 104, 3, []) ::
  (12, .ifCond .eq 7, 3, [19]) ::
  (15, .iload_n 3, 1, []) ::
  (16, .ifCond .ge 5, 3, [21]) ::
  (19, .iconst (-1), 1, []) ::
  (20, .ireturn, 1, []) ::
  (21, .aload_n 0, 1, []) ::
  (22, .iload_n 1, 1, []) ::
  (23, .iload_n 2, 1, []) ::
  (24, .invokevirtual 141, 3, []) ::
  (27, .istore 4, 2, []) ::
  (29, .iload 4, 2, []) ::
  (31, .bipush 80, 2, []) ::
  (33, .if_icmp .le 6, 3, [39]) ::
  (36, .bipush (-5), 2, []) ::
  (38, .ireturn, 1, []) ::
  (39, .iload_n 3, 1, []) ::
  (40, .iload 4, 2, []) ::
  (42, .if_icmp .lt 6, 3, [48]) ::
  (45, .bipush (-2), 2, []) ::
  (47, .ireturn, 1, []) ::
  (48, .aload_n 0, 1, []) ::
  (49, .iload_n 1, 1, []) ::
  (50, .iload_n 2, 1, []) ::
  (51, .invokevirtual 164, 3, []) ::
  (54, .aload_n 0, 1, []) ::
  (55, .getfield 53, 3, []) ::
  (58, .iload_n 3, 1, []) ::
  (59, .iaload, 1, []) ::
  (60, .ireturn, 1, []) ::
  []
theorem kX6_word_ok : ∀ q ∈ kX6_word, am_cok cX6_word q := am_cok_all (by decide +kernel)
def kX6_sayAll : am_C := (0, .aload_n 0, 1, []) ::
  (1, .iconst 0, 1, []) ::
  (2, .putfield 144, 3, []) ::
  (5, .aload_n 0, 1, []) ::
  (6, .iconst (-1), 1, []) ::
  (7, .putfield 56, 3, []) ::
  (10, .aload_n 0, 1, []) ::
  (11, .iload_n 1, 1, []) ::
  (12, .iload_n 2, 1, []) ::
  (13, .invokevirtual 160, 3, []) ::
  (16, .return_, 1, []) ::
  []
theorem kX6_sayAll_ok : ∀ q ∈ kX6_sayAll, am_cok cX6_sayAll q := am_cok_all (by decide +kernel)
def kX6_say_270 : am_C := (270, .iload_n 3, 1, []) ::
  (271, .ifCond .eq 9, 3, [280]) ::
  (274, .aload_n 0, 1, []) ::
  (275, .bipush 30, 2, []) ::
  (277, .invokevirtual 156, 3, []) ::
  (280, .return_, 1, []) ::
  []
def kX6_say_264 : am_C := (264, .aload_n 0, 1, []) ::
  (265, .bipush 27, 2, []) ::
  (267, .invokevirtual 156, 3, []) ::
  kX6_say_270
def kX6_say_242 : am_C := (242, .aload_n 0, 1, []) ::
  (243, .iload_n 1, 1, []) ::
  (244, .aload_n 0, 1, []) ::
  (245, .getfield 16, 3, []) ::
  (248, .iload_n 2, 1, []) ::
  (249, .iaload, 1, []) ::
  (250, .invokevirtual 160, 3, []) ::
  (253, .aload_n 0, 1, []) ::
  (254, .getfield 7, 3, []) ::
  (257, .iload_n 2, 1, []) ::
  (258, .iaload, 1, []) ::
  (259, .bipush 8, 2, []) ::
  (261, .if_icmp .ne 9, 3, [270]) ::
  kX6_say_264
def kX6_say_236 : am_C := (236, .aload_n 0, 1, []) ::
  (237, .bipush 28, 2, []) ::
  (239, .invokevirtual 156, 3, []) ::
  kX6_say_242
def kX6_say_222 : am_C := (222, .invokevirtual 156, 3, []) ::
  (225, .aload_n 0, 1, []) ::
  (226, .getfield 7, 3, []) ::
  (229, .iload_n 2, 1, []) ::
  (230, .iaload, 1, []) ::
  (231, .bipush 9, 2, []) ::
  (233, .if_icmp .ne 9, 3, [242]) ::
  kX6_say_236
def kX6_say_216 : am_C := (216, .aload_n 0, 1, []) ::
  (217, .getfield 13, 3, []) ::
  (220, .iload_n 2, 1, []) ::
  (221, .iaload, 1, []) ::
  kX6_say_222
def kX6_say_200 : am_C := (200, .aload_n 0, 1, []) ::
  (201, .getfield 7, 3, []) ::
  (204, .iload_n 2, 1, []) ::
  (205, .iaload, 1, []) ::
  (206, .bipush 8, 2, []) ::
  (208, .if_icmp .ne 8, 3, [216]) ::
  (211, .bipush 26, 2, []) ::
  (213, .goto 9, 3, [222]) ::
  kX6_say_216
def kX6_say_183 : am_C := (183, .aload_n 0, 1, []) ::
  (184, .aload_n 0, 1, []) ::
  (185, .getfield 7, 3, []) ::
  (188, .iload_n 2, 1, []) ::
  (189, .iaload, 1, []) ::
  (190, .bipush 7, 2, []) ::
  (192, .if_icmp .ne 8, 3, [200]) ::
  (195, .bipush 25, 2, []) ::
  (197, .goto 25, 3, [222]) ::
  kX6_say_200
def kX6_say_161 : am_C := (161, .aload_n 0, 1, []) ::
  (162, .getfield 7, 3, []) ::
  (165, .iload_n 2, 1, []) ::
  (166, .iaload, 1, []) ::
  (167, .ifCond .ne 16, 3, [183]) ::
  (170, .aload_n 0, 1, []) ::
  (171, .aload_n 0, 1, []) ::
  (172, .getfield 13, 3, []) ::
  (175, .iload_n 2, 1, []) ::
  (176, .iaload, 1, []) ::
  (177, .invokevirtual 156, 3, []) ::
  (180, .goto 90, 3, [270]) ::
  kX6_say_183
def kX6_say_121 : am_C := (121, .iload 5, 2, []) ::
  (123, .ifCond .le 35, 3, [158]) ::
  (126, .aload_n 0, 1, []) ::
  (127, .bipush 10, 2, []) ::
  (129, .aload_n 0, 1, []) ::
  (130, .getfield 13, 3, []) ::
  (133, .iload_n 2, 1, []) ::
  (134, .iaload, 1, []) ::
  (135, .iload 4, 2, []) ::
  (137, .idiv, 1, []) ::
  (138, .bipush 10, 2, []) ::
  (140, .irem, 1, []) ::
  (141, .iadd, 1, []) ::
  (142, .invokevirtual 156, 3, []) ::
  (145, .iload 4, 2, []) ::
  (147, .bipush 10, 2, []) ::
  (149, .idiv, 1, []) ::
  (150, .istore 4, 2, []) ::
  (152, .iinc 5 (-1), 3, []) ::
  (155, .goto (-34), 3, [121]) ::
  (158, .goto 112, 3, [270]) ::
  kX6_say_161
def kX6_say_83 : am_C := (83, .iload 5, 2, []) ::
  (85, .aload_n 0, 1, []) ::
  (86, .getfield 13, 3, []) ::
  (89, .iload_n 2, 1, []) ::
  (90, .iaload, 1, []) ::
  (91, .invokestatic 134, 3, []) ::
  (94, .if_icmp .ge 16, 3, [110]) ::
  (97, .iload 4, 2, []) ::
  (99, .bipush 10, 2, []) ::
  (101, .imul, 1, []) ::
  (102, .istore 4, 2, []) ::
  (104, .iinc 5 1, 3, []) ::
  (107, .goto (-24), 3, [83]) ::
  (110, .aload_n 0, 1, []) ::
  (111, .getfield 13, 3, []) ::
  (114, .iload_n 2, 1, []) ::
  (115, .iaload, 1, []) ::
  (116, .invokestatic 134, 3, []) ::
  (119, .istore 5, 2, []) ::
  kX6_say_121
def kX6_say_67 : am_C := (67, .aload_n 0, 1, []) ::
  (68, .getfield 7, 3, []) ::
  (71, .iload_n 2, 1, []) ::
  (72, .iaload, 1, []) ::
  (73, .iconst 1, 1, []) ::
  (74, .if_icmp .ne 87, 3, [161]) ::
  (77, .iconst 1, 1, []) ::
  (78, .istore 4, 2, []) ::
  (80, .iconst 1, 1, []) ::
  (81, .istore 5, 2, []) ::
  kX6_say_83
def kX6_say_17 : am_C := (17, .aload_n 0, 1, []) ::
  (18, .getfield 7, 3, []) ::
  (21, .iload_n 2, 1, []) ::
  (22, .iaload, 1, []) ::
  (23, .invokestatic 108, 3, []) ::
  (26, .ifCond .eq 41, 3, [67]) ::
  (29, .aload_n 0, 1, []) ::
  (30, .iload_n 1, 1, []) ::
  (31, .aload_n 0, 1, []) ::
  (32, .getfield 16, 3, []) ::
  (35, .iload_n 2, 1, []) ::
  (36, .iaload, 1, []) ::
  (37, .invokevirtual 160, 3, []) ::
  (40, .aload_n 0, 1, []) ::
  (41, .bipush 18, 2, []) ::
  (43, .aload_n 0, 1, []) ::
  (44, .getfield 7, 3, []) ::
  (47, .iload_n 2, 1, []) ::
  (48, .iaload, 1, []) ::
  (49, .iadd, 1, []) ::
  (50, .invokevirtual 156, 3, []) ::
  (53, .aload_n 0, 1, []) ::
  (54, .iload_n 1, 1, []) ::
  (55, .aload_n 0, 1, []) ::
  (56, .getfield 19, 3, []) ::
  (59, .iload_n 2, 1, []) ::
  (60, .iaload, 1, []) ::
  (61, .invokevirtual 160, 3, []) ::
  (64, .goto 206, 3, [270]) ::
  kX6_say_67
def kX6_say_11 : am_C := (11, .aload_n 0, 1, []) ::
  (12, .bipush 29, 2, []) ::
  (14, .invokevirtual 156, 3, []) ::
  kX6_say_17
def kX6_say : am_C := (0, .aload_n 0, 1, []) ::
  (1, .iload_n 1, 1, []) ::
  (2, .iload_n 2, 1, []) ::
  (3, .invokevirtual 153, 3, []) ::
  (6, .istore_n 3, 1, []) ::
  (7, .iload_n 3, 1, []) ::
  (8, .ifCond .eq 9, 3, [17]) ::
  kX6_say_11
theorem kX6_say_ok : ∀ q ∈ kX6_say, am_cok cX6_say q := am_cok_all (by decide +kernel)
def kX6_keepsIt_19 : am_C := (19, .aload_n 0, 1, []) ::
  (20, .getfield 32, 3, []) ::
  (23, .bipush 10, 2, []) ::
  (25, .iload_n 1, 1, []) ::
  (26, .imul, 1, []) ::
  (27, .aload_n 0, 1, []) ::
  (28, .getfield 7, 3, []) ::
  (31, .iload_n 2, 1, []) ::
  (32, .iaload, 1, []) ::
  (33, .iadd, 1, []) ::
  (34, .baload, 1, []) ::
  (35, .ireturn, 1, []) ::
  (36, .aload_n 0, 1, []) ::
  (37, .dup, 1, []) ::
  (38, .getfield 147, 3, []) ::
  (41, .iconst 1, 1, []) ::
  (42, .iadd, 1, []) ::
  (43, .putfield 147, 3, []) ::
  (46, .aload_n 0, 1, []) ::
  (47, .getfield 56, 3, []) ::
  (50, .aload_n 0, 1, []) ::
  (51, .getfield 150, 3, []) ::
  (54, .aload_n 0, 1, []) ::
  (55, .getfield 147, 3, []) ::
  (58, .isub, 1, []) ::
  (59, .ishr, 1, []) ::
  (60, .iconst 1, 1, []) ::
  (61, .iand, 1, []) ::
  (62, .iconst 1, 1, []) ::
  (63, .if_icmp .ne 7, 3, [70]) ::
  (66, .iconst 1, 1, []) ::
  (67, .goto 4, 3, [71]) ::
  (70, .iconst 0, 1, []) ::
  (71, .ireturn, 1, []) ::
  []
def kX6_keepsIt_7 : am_C := (7, .aload_n 0, 1, []) ::
  (8, .getfield 7, 3, []) ::
  (11, .iload_n 2, 1, []) ::
  (12, .iaload, 1, []) ::
  (13, .invokestatic 131, 3, []) ::
  (16, .ifCond .ne 20, 3, [36]) ::
  kX6_keepsIt_19
def kX6_keepsIt : am_C := (0, .aload_n 0, 1, []) ::
  (1, .getfield 56, 3, []) ::
  (4, .ifCond .lt 15, 3, [19]) ::
  kX6_keepsIt_7
theorem kX6_keepsIt_ok : ∀ q ∈ kX6_keepsIt, am_cok cX6_keepsIt q := am_cok_all (by decide +kernel)
def kX6_says : am_C := (0, .aload_n 0, 1, []) ::
  (1, .getfield 53, 3, []) ::
  (4, .aload_n 0, 1, []) ::
  (5, .getfield 144, 3, []) ::
  (8, .iload_n 1, 1, []) ::
  (9, .iastore, 1, []) ::
  (10, .aload_n 0, 1, []) ::
  (11, .dup, 1, []) ::
  (12, .getfield 144, 3, []) ::
  (15, .iconst 1, 1, []) ::
  (16, .iadd, 1, []) ::
  (17, .putfield 144, 3, []) ::
  (20, .return_, 1, []) ::
  []
theorem kX6_says_ok : ∀ q ∈ kX6_says, am_cok cX6_says q := am_cok_all (by decide +kernel)
def kX6_sound_159 : am_C := (159, .iload 6, 2, []) ::
  (161, .ifCond .eq 7, 3, [168]) ::
  (164, .iconst 1, 1, []) ::
  (165, .goto 4, 3, [169]) ::
  (168, .iconst 0, 1, []) ::
  (169, .ireturn, 1, []) ::
  []
def kX6_sound_151 : am_C := (151, .istore 6, 2, []) ::
  (153, .iinc 7 1, 3, []) ::
  (156, .goto (-39), 3, [117]) ::
  kX6_sound_159
def kX6_sound_150 : am_C := (150, .iconst 0, 1, []) ::
  kX6_sound_151
def kX6_sound_129 : am_C := (129, .aload_n 0, 1, []) ::
  (130, .getfield 60, 3, []) ::
  (133, .iload 7, 2, []) ::
  (135, .iaload, 1, []) ::
  (136, .aload_n 0, 1, []) ::
  (137, .getfield 53, 3, []) ::
  (140, .iload 7, 2, []) ::
  (142, .iaload, 1, []) ::
  (143, .if_icmp .ne 7, 3, [150]) ::
  (146, .iconst 1, 1, []) ::
  (147, .goto 4, 3, [151]) ::
  kX6_sound_150
def kX6_sound_124 : am_C := (124, .iload 6, 2, []) ::
  (126, .ifCond .eq 33, 3, [159]) ::
  kX6_sound_129
def kX6_sound_117 : am_C := (117, .iload 7, 2, []) ::
  (119, .iload 4, 2, []) ::
  (121, .if_icmp .ge 38, 3, [159]) ::
  kX6_sound_124
def kX6_sound_112 : am_C := (112, .istore 6, 2, []) ::
  (114, .iconst 0, 1, []) ::
  (115, .istore 7, 2, []) ::
  kX6_sound_117
def kX6_sound_111 : am_C := (111, .iconst 0, 1, []) ::
  kX6_sound_112
def kX6_sound_67 : am_C := (67, .iload 6, 2, []) ::
  (69, .iload 4, 2, []) ::
  (71, .if_icmp .ge 23, 3, [94]) ::
  (74, .aload_n 0, 1, []) ::
  (75, .getfield 60, 3, []) ::
  (78, .iload 6, 2, []) ::
  (80, .aload_n 0, 1, []) ::
  (81, .getfield 53, 3, []) ::
  (84, .iload 6, 2, []) ::
  (86, .iaload, 1, []) ::
  (87, .iastore, 1, []) ::
  (88, .iinc 6 1, 3, []) ::
  (91, .goto (-24), 3, [67]) ::
  (94, .aload_n 0, 1, []) ::
  (95, .iload_n 1, 1, []) ::
  (96, .iload_n 3, 1, []) ::
  (97, .invokevirtual 164, 3, []) ::
  (100, .iload 4, 2, []) ::
  (102, .iload 5, 2, []) ::
  (104, .if_icmp .ne 7, 3, [111]) ::
  (107, .iconst 1, 1, []) ::
  (108, .goto 4, 3, [112]) ::
  kX6_sound_111
def kX6_sound : am_C := (0, .iload_n 1, 1, []) ::
  (1, .invokestatic 128, 3, []) ::
  (4, .ifCond .eq 19, 3, [23]) ::
  (7, .aload_n 0, 1, []) ::
  (8, .iload_n 2, 1, []) ::
  (9, .invokevirtual 104, 3, []) ::
  (12, .ifCond .eq 11, 3, [23]) ::
  (15, .aload_n 0, 1, []) ::
  (16, .iload_n 3, 1, []) ::
  (17, .invokevirtual 104, 3, []) ::
  (20, .ifCond .ne 5, 3, [25]) ::
  (23, .iconst (-1), 1, []) ::
  (24, .ireturn, 1, []) ::
  (25, .aload_n 0, 1, []) ::
  (26, .iload_n 1, 1, []) ::
  (27, .iload_n 2, 1, []) ::
  (28, .invokevirtual 141, 3, []) ::
  (31, .istore 4, 2, []) ::
  (33, .aload_n 0, 1, []) ::
  (34, .iload_n 1, 1, []) ::
  (35, .iload_n 3, 1, []) ::
  (36, .invokevirtual 141, 3, []) ::
  (39, .istore 5, 2, []) ::
  (41, .iload 4, 2, []) ::
  (43, .bipush 80, 2, []) ::
  (45, .if_icmp .gt 10, 3, [55]) ::
  (48, .iload 5, 2, []) ::
  (50, .bipush 80, 2, []) ::
  (52, .if_icmp .le 6, 3, [58]) ::
  (55, .bipush (-5), 2, []) ::
  (57, .ireturn, 1, []) ::
  (58, .aload_n 0, 1, []) ::
  (59, .iload_n 1, 1, []) ::
  (60, .iload_n 2, 1, []) ::
  (61, .invokevirtual 164, 3, []) ::
  (64, .iconst 0, 1, []) ::
  (65, .istore 6, 2, []) ::
  kX6_sound_67
theorem kX6_sound_ok : ∀ q ∈ kX6_sound, am_cok cX6_sound q := am_cok_all (by decide +kernel)
def kX6_clear_149 : am_C := (149, .iload 4, 2, []) ::
  (151, .iload_n 3, 1, []) ::
  (152, .if_icmp .ge 21, 3, [173]) ::
  (155, .aload_n 0, 1, []) ::
  (156, .iload_n 3, 1, []) ::
  (157, .iload 4, 2, []) ::
  (159, .invokevirtual 179, 3, []) ::
  (162, .ifCond .eq 5, 3, [167]) ::
  (165, .iconst 0, 1, []) ::
  (166, .ireturn, 1, []) ::
  (167, .iinc 4 1, 3, []) ::
  (170, .goto (-21), 3, [149]) ::
  (173, .iinc 3 1, 3, []) ::
  (176, .goto (-38), 3, [138]) ::
  (179, .iconst 1, 1, []) ::
  (180, .ireturn, 1, []) ::
  []
def kX6_clear_138 : am_C := (138, .iload_n 3, 1, []) ::
  (139, .aload_n 0, 1, []) ::
  (140, .getfield 167, 3, []) ::
  (143, .if_icmp .ge 36, 3, [179]) ::
  (146, .iconst 0, 1, []) ::
  (147, .istore 4, 2, []) ::
  kX6_clear_149
def kX6_clear_96 : am_C := (96, .iload 4, 2, []) ::
  (98, .aload_n 0, 1, []) ::
  (99, .getfield 144, 3, []) ::
  (102, .if_icmp .ge 28, 3, [130]) ::
  (105, .aload_n 0, 1, []) ::
  (106, .getfield 63, 3, []) ::
  (109, .bipush 20, 2, []) ::
  (111, .iload_n 3, 1, []) ::
  (112, .imul, 1, []) ::
  (113, .iload 4, 2, []) ::
  (115, .iadd, 1, []) ::
  (116, .aload_n 0, 1, []) ::
  (117, .getfield 53, 3, []) ::
  (120, .iload 4, 2, []) ::
  (122, .iaload, 1, []) ::
  (123, .iastore, 1, []) ::
  (124, .iinc 4 1, 3, []) ::
  (127, .goto (-31), 3, [96]) ::
  (130, .iinc 3 1, 3, []) ::
  (133, .goto (-67), 3, [66]) ::
  (136, .iconst 0, 1, []) ::
  (137, .istore_n 3, 1, []) ::
  kX6_clear_138
def kX6_clear_66 : am_C := (66, .iload_n 3, 1, []) ::
  (67, .aload_n 0, 1, []) ::
  (68, .getfield 167, 3, []) ::
  (71, .if_icmp .ge 65, 3, [136]) ::
  (74, .aload_n 0, 1, []) ::
  (75, .iload_n 1, 1, []) ::
  (76, .bipush 120, 2, []) ::
  (78, .iload_n 3, 1, []) ::
  (79, .iadd, 1, []) ::
  (80, .invokevirtual 164, 3, []) ::
  (83, .aload_n 0, 1, []) ::
  (84, .getfield 66, 3, []) ::
  (87, .iload_n 3, 1, []) ::
  (88, .aload_n 0, 1, []) ::
  (89, .getfield 144, 3, []) ::
  (92, .iastore, 1, []) ::
  (93, .iconst 0, 1, []) ::
  (94, .istore 4, 2, []) ::
  kX6_clear_96
def kX6_clear_48 : am_C := (48, .iload_n 3, 1, []) ::
  (49, .iload_n 2, 1, []) ::
  (50, .if_icmp .gt 14, 3, [64]) ::
  (53, .aload_n 0, 1, []) ::
  (54, .iload_n 3, 1, []) ::
  (55, .invokevirtual 176, 3, []) ::
  (58, .iinc 3 1, 3, []) ::
  (61, .goto (-13), 3, [48]) ::
  (64, .iconst 0, 1, []) ::
  (65, .istore_n 3, 1, []) ::
  kX6_clear_66
def kX6_clear : am_C := (0, .iload_n 1, 1, []) ::
  (1, .invokestatic 128, 3, []) ::
  (4, .ifCond .eq 15, 3, [19]) ::
  (7, .iload_n 2, 1, []) ::
  (8, .i2l, 1, []) ::
  (9, .lconst 1, 1, []) ::
  (10, .ldc2_w 174, 3, []) ::
  (13, .invokestatic 88, 3, []) ::
  (16, .ifCond .ne 5, 3, [21]) ::
  (19, .iconst (-1), 1, []) ::
  (20, .ireturn, 1, []) ::
  (21, .aload_n 0, 1, []) ::
  (22, .iconst 0, 1, []) ::
  (23, .putfield 167, 3, []) ::
  (26, .aload_n 0, 1, []) ::
  (27, .iconst 0, 1, []) ::
  (28, .iconst 0, 1, []) ::
  (29, .bipush (-2), 2, []) ::
  (31, .bipush (-2), 2, []) ::
  (33, .invokevirtual 170, 3, []) ::
  (36, .aload_n 0, 1, []) ::
  (37, .iconst 1, 1, []) ::
  (38, .iconst 1, 1, []) ::
  (39, .bipush (-2), 2, []) ::
  (41, .bipush (-2), 2, []) ::
  (43, .invokevirtual 170, 3, []) ::
  (46, .iconst 2, 1, []) ::
  (47, .istore_n 3, 1, []) ::
  kX6_clear_48
theorem kX6_clear_ok : ∀ q ∈ kX6_clear, am_cok cX6_clear q := am_cok_all (by decide +kernel)
def kX6_adds : am_C := (0, .aload_n 0, 1, []) ::
  (1, .bipush 120, 2, []) ::
  (3, .aload_n 0, 1, []) ::
  (4, .getfield 167, 3, []) ::
  (7, .iadd, 1, []) ::
  (8, .iload_n 1, 1, []) ::
  (9, .iload_n 2, 1, []) ::
  (10, .iload_n 3, 1, []) ::
  (11, .iload 4, 2, []) ::
  (13, .invokevirtual 98, 3, []) ::
  (16, .aload_n 0, 1, []) ::
  (17, .dup, 1, []) ::
  (18, .getfield 167, 3, []) ::
  (21, .iconst 1, 1, []) ::
  (22, .iadd, 1, []) ::
  (23, .putfield 167, 3, []) ::
  (26, .return_, 1, []) ::
  []
theorem kX6_adds_ok : ∀ q ∈ kX6_adds, am_cok cX6_adds q := am_cok_all (by decide +kernel)
def kX6_grows_121 : am_C := (121, .iinc 4 1, 3, []) ::
  (124, .goto (-59), 3, [65]) ::
  (127, .iinc 3 1, 3, []) ::
  (130, .goto (-122), 3, [8]) ::
  (133, .return_, 1, []) ::
  []
def kX6_grows_104 : am_C := (104, .aload_n 0, 1, []) ::
  (105, .iload 5, 2, []) ::
  (107, .bipush (-2), 2, []) ::
  (109, .iload_n 3, 1, []) ::
  (110, .iload 4, 2, []) ::
  (112, .invokevirtual 170, 3, []) ::
  (115, .iinc 5 1, 3, []) ::
  (118, .goto (-41), 3, [77]) ::
  kX6_grows_121
def kX6_grows_84 : am_C := (84, .aload_n 0, 1, []) ::
  (85, .getfield 22, 3, []) ::
  (88, .iload_n 3, 1, []) ::
  (89, .iaload, 1, []) ::
  (90, .aload_n 0, 1, []) ::
  (91, .getfield 22, 3, []) ::
  (94, .iload 4, 2, []) ::
  (96, .iaload, 1, []) ::
  (97, .iadd, 1, []) ::
  (98, .iload_n 1, 1, []) ::
  (99, .iconst 1, 1, []) ::
  (100, .isub, 1, []) ::
  (101, .if_icmp .ne 20, 3, [121]) ::
  kX6_grows_104
def kX6_grows_77 : am_C := (77, .iload 5, 2, []) ::
  (79, .bipush 6, 2, []) ::
  (81, .if_icmp .gt 40, 3, [121]) ::
  kX6_grows_84
def kX6_grows_65 : am_C := (65, .iload 4, 2, []) ::
  (67, .bipush 120, 2, []) ::
  (69, .iload_n 2, 1, []) ::
  (70, .iadd, 1, []) ::
  (71, .if_icmp .ge 56, 3, [127]) ::
  (74, .iconst 2, 1, []) ::
  (75, .istore 5, 2, []) ::
  kX6_grows_77
def kX6_grows_61 : am_C := (61, .bipush 120, 2, []) ::
  (63, .istore 4, 2, []) ::
  kX6_grows_65
def kX6_grows_28 : am_C := (28, .aload_n 0, 1, []) ::
  (29, .bipush 7, 2, []) ::
  (31, .bipush (-2), 2, []) ::
  (33, .iload_n 3, 1, []) ::
  (34, .bipush (-2), 2, []) ::
  (36, .invokevirtual 170, 3, []) ::
  (39, .aload_n 0, 1, []) ::
  (40, .bipush 8, 2, []) ::
  (42, .bipush (-2), 2, []) ::
  (44, .iload_n 3, 1, []) ::
  (45, .bipush (-2), 2, []) ::
  (47, .invokevirtual 170, 3, []) ::
  (50, .aload_n 0, 1, []) ::
  (51, .bipush 9, 2, []) ::
  (53, .bipush 9, 2, []) ::
  (55, .iload_n 3, 1, []) ::
  (56, .bipush (-2), 2, []) ::
  (58, .invokevirtual 170, 3, []) ::
  kX6_grows_61
def kX6_grows_8 : am_C := (8, .iload_n 3, 1, []) ::
  (9, .bipush 120, 2, []) ::
  (11, .iload_n 2, 1, []) ::
  (12, .iadd, 1, []) ::
  (13, .if_icmp .ge 120, 3, [133]) ::
  (16, .aload_n 0, 1, []) ::
  (17, .getfield 22, 3, []) ::
  (20, .iload_n 3, 1, []) ::
  (21, .iaload, 1, []) ::
  (22, .iload_n 1, 1, []) ::
  (23, .iconst 1, 1, []) ::
  (24, .isub, 1, []) ::
  (25, .if_icmp .ne 36, 3, [61]) ::
  kX6_grows_28
def kX6_grows : am_C := (0, .aload_n 0, 1, []) ::
  (1, .getfield 167, 3, []) ::
  (4, .istore_n 2, 1, []) ::
  (5, .bipush 120, 2, []) ::
  (7, .istore_n 3, 1, []) ::
  kX6_grows_8
theorem kX6_grows_ok : ∀ q ∈ kX6_grows, am_cok cX6_grows q := am_cok_all (by decide +kernel)
def kX6_isSame_71 : am_C := (71, .istore_n 3, 1, []) ::
  (72, .iinc 4 1, 3, []) ::
  (75, .goto (-51), 3, [24]) ::
  (78, .iload_n 3, 1, []) ::
  (79, .ireturn, 1, []) ::
  []
def kX6_isSame_70 : am_C := (70, .iconst 0, 1, []) ::
  kX6_isSame_71
def kX6_isSame_24 : am_C := (24, .iload 4, 2, []) ::
  (26, .aload_n 0, 1, []) ::
  (27, .getfield 66, 3, []) ::
  (30, .iload_n 1, 1, []) ::
  (31, .iaload, 1, []) ::
  (32, .if_icmp .ge 46, 3, [78]) ::
  (35, .iload_n 3, 1, []) ::
  (36, .ifCond .eq 42, 3, [78]) ::
  (39, .aload_n 0, 1, []) ::
  (40, .getfield 63, 3, []) ::
  (43, .bipush 20, 2, []) ::
  (45, .iload_n 1, 1, []) ::
  (46, .imul, 1, []) ::
  (47, .iload 4, 2, []) ::
  (49, .iadd, 1, []) ::
  (50, .iaload, 1, []) ::
  (51, .aload_n 0, 1, []) ::
  (52, .getfield 63, 3, []) ::
  (55, .bipush 20, 2, []) ::
  (57, .iload_n 2, 1, []) ::
  (58, .imul, 1, []) ::
  (59, .iload 4, 2, []) ::
  (61, .iadd, 1, []) ::
  (62, .iaload, 1, []) ::
  (63, .if_icmp .ne 7, 3, [70]) ::
  (66, .iconst 1, 1, []) ::
  (67, .goto 4, 3, [71]) ::
  kX6_isSame_70
def kX6_isSame_20 : am_C := (20, .istore_n 3, 1, []) ::
  (21, .iconst 0, 1, []) ::
  (22, .istore 4, 2, []) ::
  kX6_isSame_24
def kX6_isSame_19 : am_C := (19, .iconst 0, 1, []) ::
  kX6_isSame_20
def kX6_isSame : am_C := (0, .aload_n 0, 1, []) ::
  (1, .getfield 66, 3, []) ::
  (4, .iload_n 1, 1, []) ::
  (5, .iaload, 1, []) ::
  (6, .aload_n 0, 1, []) ::
  (7, .getfield 66, 3, []) ::
  (10, .iload_n 2, 1, []) ::
  (11, .iaload, 1, []) ::
  (12, .if_icmp .ne 7, 3, [19]) ::
  (15, .iconst 1, 1, []) ::
  (16, .goto 4, 3, [20]) ::
  kX6_isSame_19
theorem kX6_isSame_ok : ∀ q ∈ kX6_isSame, am_cok cX6_isSame q := am_cok_all (by decide +kernel)
def kX6_hear_60 : am_C := (60, .iload_n 3, 1, []) ::
  (61, .ifCond .lt 36, 3, [97]) ::
  (64, .aload_n 0, 1, []) ::
  (65, .getfield 35, 3, []) ::
  (68, .aload_n 0, 1, []) ::
  (69, .getfield 184, 3, []) ::
  (72, .iload_n 2, 1, []) ::
  (73, .iconst 5, 1, []) ::
  (74, .iload_n 3, 1, []) ::
  (75, .imul, 1, []) ::
  (76, .ishr, 1, []) ::
  (77, .bipush 31, 2, []) ::
  (79, .iand, 1, []) ::
  (80, .iastore, 1, []) ::
  (81, .aload_n 0, 1, []) ::
  (82, .dup, 1, []) ::
  (83, .getfield 184, 3, []) ::
  (86, .iconst 1, 1, []) ::
  (87, .iadd, 1, []) ::
  (88, .putfield 184, 3, []) ::
  (91, .iinc 3 (-1), 3, []) ::
  (94, .goto (-34), 3, [60]) ::
  (97, .aload_n 0, 1, []) ::
  (98, .getfield 184, 3, []) ::
  (101, .ireturn, 1, []) ::
  []
def kX6_hear_16 : am_C := (16, .iload_n 3, 1, []) ::
  (17, .iload_n 1, 1, []) ::
  (18, .if_icmp .ge 24, 3, [42]) ::
  (21, .iload_n 2, 1, []) ::
  (22, .iconst 5, 1, []) ::
  (23, .iload_n 3, 1, []) ::
  (24, .imul, 1, []) ::
  (25, .ishr, 1, []) ::
  (26, .bipush 31, 2, []) ::
  (28, .iand, 1, []) ::
  (29, .bipush 31, 2, []) ::
  (31, .if_icmp .ne 5, 3, [36]) ::
  (34, .iconst (-1), 1, []) ::
  (35, .ireturn, 1, []) ::
  (36, .iinc 3 1, 3, []) ::
  (39, .goto (-23), 3, [16]) ::
  (42, .aload_n 0, 1, []) ::
  (43, .getfield 184, 3, []) ::
  (46, .iload_n 1, 1, []) ::
  (47, .iadd, 1, []) ::
  (48, .bipush 20, 2, []) ::
  (50, .if_icmp .le 6, 3, [56]) ::
  (53, .bipush (-2), 2, []) ::
  (55, .ireturn, 1, []) ::
  (56, .iload_n 1, 1, []) ::
  (57, .iconst 1, 1, []) ::
  (58, .isub, 1, []) ::
  (59, .istore_n 3, 1, []) ::
  kX6_hear_60
def kX6_hear : am_C := (0, .iload_n 1, 1, []) ::
  (1, .i2l, 1, []) ::
  (2, .lconst 1, 1, []) ::
  (3, .ldc2_w 182, 3, []) ::
  (6, .invokestatic 88, 3, []) ::
  (9, .ifCond .ne 5, 3, [14]) ::
  (12, .iconst (-1), 1, []) ::
  (13, .ireturn, 1, []) ::
  (14, .iconst 0, 1, []) ::
  (15, .istore_n 3, 1, []) ::
  kX6_hear_16
theorem kX6_hear_ok : ∀ q ∈ kX6_hear, am_cok cX6_hear q := am_cok_all (by decide +kernel)
def kX6_listen : am_C := (0, .iload_n 1, 1, []) ::
  (1, .invokestatic 128, 3, []) ::
  (4, .ifCond .eq 11, 3, [15]) ::
  (7, .aload_n 0, 1, []) ::
  (8, .iload_n 2, 1, []) ::
  (9, .invokevirtual 104, 3, []) ::
  (12, .ifCond .ne 5, 3, [17]) ::
  (15, .iconst (-1), 1, []) ::
  (16, .ireturn, 1, []) ::
  (17, .aload_n 0, 1, []) ::
  (18, .iload_n 1, 1, []) ::
  (19, .iload_n 2, 1, []) ::
  (20, .invokevirtual 141, 3, []) ::
  (23, .istore_n 3, 1, []) ::
  (24, .iload_n 3, 1, []) ::
  (25, .bipush 80, 2, []) ::
  (27, .if_icmp .le 6, 3, [33]) ::
  (30, .bipush (-5), 2, []) ::
  (32, .ireturn, 1, []) ::
  (33, .iload_n 3, 1, []) ::
  (34, .bipush 20, 2, []) ::
  (36, .if_icmp .le 6, 3, [42]) ::
  (39, .bipush (-2), 2, []) ::
  (41, .ireturn, 1, []) ::
  (42, .aload_n 0, 1, []) ::
  (43, .iload_n 1, 1, []) ::
  (44, .iload_n 2, 1, []) ::
  (45, .invokevirtual 164, 3, []) ::
  (48, .aload_n 0, 1, []) ::
  (49, .invokevirtual 187, 3, []) ::
  (52, .aload_n 0, 1, []) ::
  (53, .getfield 184, 3, []) ::
  (56, .ireturn, 1, []) ::
  []
theorem kX6_listen_ok : ∀ q ∈ kX6_listen, am_cok cX6_listen q := am_cok_all (by decide +kernel)
def kX6_hears_2 : am_C := (2, .iload_n 1, 1, []) ::
  (3, .aload_n 0, 1, []) ::
  (4, .getfield 144, 3, []) ::
  (7, .if_icmp .ge 21, 3, [28]) ::
  (10, .aload_n 0, 1, []) ::
  (11, .getfield 35, 3, []) ::
  (14, .iload_n 1, 1, []) ::
  (15, .aload_n 0, 1, []) ::
  (16, .getfield 53, 3, []) ::
  (19, .iload_n 1, 1, []) ::
  (20, .iaload, 1, []) ::
  (21, .iastore, 1, []) ::
  (22, .iinc 1 1, 3, []) ::
  (25, .goto (-23), 3, [2]) ::
  (28, .aload_n 0, 1, []) ::
  (29, .aload_n 0, 1, []) ::
  (30, .getfield 144, 3, []) ::
  (33, .putfield 184, 3, []) ::
  (36, .return_, 1, []) ::
  []
def kX6_hears : am_C := (0, .iconst 0, 1, []) ::
  (1, .istore_n 1, 1, []) ::
  kX6_hears_2
theorem kX6_hears_ok : ∀ q ∈ kX6_hears, am_cok cX6_hears q := am_cok_all (by decide +kernel)
def kX6_hush : am_C := (0, .aload_n 0, 1, []) ::
  (1, .getfield 184, 3, []) ::
  (4, .istore_n 1, 1, []) ::
  (5, .aload_n 0, 1, []) ::
  (6, .iconst 0, 1, []) ::
  (7, .putfield 184, 3, []) ::
  (10, .iload_n 1, 1, []) ::
  (11, .ireturn, 1, []) ::
  []
theorem kX6_hush_ok : ∀ q ∈ kX6_hush, am_cok cX6_hush q := am_cok_all (by decide +kernel)
def kX6_ear : am_C := (0, .iload_n 1, 1, []) ::
  (1, .i2l, 1, []) ::
  (2, .lconst 0, 1, []) ::
  (3, .aload_n 0, 1, []) ::
  (4, .getfield 184, 3, []) ::
  (7, .iconst 1, 1, []) ::
  (8, .isub, 1, []) ::
  (9, .i2l, 1, []) ::
  (10, .invokestatic 88, 3, []) ::
  (13, .ifCond .eq 12, 3, [25]) ::
  (16, .aload_n 0, 1, []) ::
  (17, .getfield 35, 3, []) ::
  (20, .iload_n 1, 1, []) ::
  (21, .iaload, 1, []) ::
  (22, .goto 4, 3, [26]) ::
  (25, .iconst (-1), 1, []) ::
  (26, .ireturn, 1, []) ::
  []
theorem kX6_ear_ok : ∀ q ∈ kX6_ear, am_cok cX6_ear q := am_cok_all (by decide +kernel)
def kX6_readings_18 : am_C := (18, .putfield 82, 3, []) ::
  (21, .aload_n 0, 1, []) ::
  (22, .getfield 82, 3, []) ::
  (25, .ifCond .ne 11, 3, [36]) ::
  (28, .aload_n 0, 1, []) ::
  (29, .iload_n 1, 1, []) ::
  (30, .invokevirtual 222, 3, []) ::
  (33, .goto 4, 3, [37]) ::
  (36, .lconst 0, 1, []) ::
  (37, .lreturn, 1, []) ::
  []
def kX6_readings_17 : am_C := (17, .iconst 1, 1, []) ::
  kX6_readings_18
def kX6_readings : am_C := (0, .aload_n 0, 1, []) ::
  (1, .iload_n 1, 1, []) ::
  (2, .i2l, 1, []) ::
  (3, .lconst 0, 1, []) ::
  (4, .ldc2_w 220, 3, []) ::
  (7, .invokestatic 88, 3, []) ::
  (10, .ifCond .eq 7, 3, [17]) ::
  (13, .iconst 0, 1, []) ::
  (14, .goto 4, 3, [18]) ::
  kX6_readings_17
theorem kX6_readings_ok : ∀ q ∈ kX6_readings, am_cok cX6_readings q := am_cok_all (by decide +kernel)
def kX6_counted : am_C := (0, .aload_n 0, 1, []) ::
  (1, .iload_n 1, 1, []) ::
  (2, .invokevirtual 217, 3, []) ::
  (5, .aload_n 0, 1, []) ::
  (6, .getfield 184, 3, []) ::
  (9, .ifCond .ne 7, 3, [16]) ::
  (12, .lconst 0, 1, []) ::
  (13, .goto 12, 3, [25]) ::
  (16, .aload_n 0, 1, []) ::
  (17, .getfield 73, 3, []) ::
  (20, .aload_n 0, 1, []) ::
  (21, .getfield 184, 3, []) ::
  (24, .laload, 1, []) ::
  (25, .lreturn, 1, []) ::
  []
theorem kX6_counted_ok : ∀ q ∈ kX6_counted, am_cok cX6_counted q := am_cok_all (by decide +kernel)
def kX6_reckons_153 : am_C := (153, .lstore 10, 2, []) ::
  (155, .aload_n 0, 1, []) ::
  (156, .getfield 69, 3, []) ::
  (159, .bipush 20, 2, []) ::
  (161, .bipush 21, 2, []) ::
  (163, .iload_n 3, 1, []) ::
  (164, .imul, 1, []) ::
  (165, .iload 4, 2, []) ::
  (167, .iadd, 1, []) ::
  (168, .imul, 1, []) ::
  (169, .iload 7, 2, []) ::
  (171, .iadd, 1, []) ::
  (172, .lload 10, 2, []) ::
  (174, .lastore, 1, []) ::
  (175, .lload 5, 2, []) ::
  (177, .lload 10, 2, []) ::
  (179, .invokestatic 206, 3, []) ::
  (182, .lstore 5, 2, []) ::
  (184, .iinc 7 1, 3, []) ::
  (187, .goto (-149), 3, [38]) ::
  (190, .aload_n 0, 1, []) ::
  (191, .getfield 73, 3, []) ::
  (194, .bipush 21, 2, []) ::
  (196, .iload_n 3, 1, []) ::
  (197, .imul, 1, []) ::
  (198, .iload 4, 2, []) ::
  (200, .iadd, 1, []) ::
  (201, .lload 5, 2, []) ::
  (203, .lastore, 1, []) ::
  (204, .iinc 3 1, 3, []) ::
  (207, .goto (-190), 3, [17]) ::
  (210, .iinc 2 1, 3, []) ::
  (213, .goto (-206), 3, [7]) ::
  (216, .return_, 1, []) ::
  []
def kX6_reckons_142 : am_C := (142, .aload_n 0, 1, []) ::
  (143, .iload 7, 2, []) ::
  (145, .iconst 2, 1, []) ::
  (146, .idiv, 1, []) ::
  (147, .iload_n 3, 1, []) ::
  (148, .iload 4, 2, []) ::
  (150, .invokevirtual 213, 3, []) ::
  kX6_reckons_153
def kX6_reckons_119 : am_C := (119, .iload 8, 2, []) ::
  (121, .ifCond .eq 21, 3, [142]) ::
  (124, .aload_n 0, 1, []) ::
  (125, .iload 7, 2, []) ::
  (127, .iconst 2, 1, []) ::
  (128, .idiv, 1, []) ::
  (129, .iload_n 3, 1, []) ::
  (130, .iconst 1, 1, []) ::
  (131, .iadd, 1, []) ::
  (132, .iload 4, 2, []) ::
  (134, .iconst 1, 1, []) ::
  (135, .isub, 1, []) ::
  (136, .invokevirtual 213, 3, []) ::
  (139, .goto 14, 3, [153]) ::
  kX6_reckons_142
def kX6_reckons_108 : am_C := (108, .istore 9, 2, []) ::
  (110, .iload 9, 2, []) ::
  (112, .ifCond .ne 7, 3, [119]) ::
  (115, .lconst 0, 1, []) ::
  (116, .goto 37, 3, [153]) ::
  kX6_reckons_119
def kX6_reckons_107 : am_C := (107, .iconst 0, 1, []) ::
  kX6_reckons_108
def kX6_reckons_103 : am_C := (103, .iconst 1, 1, []) ::
  (104, .goto 4, 3, [108]) ::
  kX6_reckons_107
def kX6_reckons_89 : am_C := (89, .aload_n 0, 1, []) ::
  (90, .getfield 35, 3, []) ::
  (93, .iload 4, 2, []) ::
  (95, .iconst 1, 1, []) ::
  (96, .isub, 1, []) ::
  (97, .iaload, 1, []) ::
  (98, .bipush 30, 2, []) ::
  (100, .if_icmp .ne 7, 3, [107]) ::
  kX6_reckons_103
def kX6_reckons_78 : am_C := (78, .aload_n 0, 1, []) ::
  (79, .getfield 35, 3, []) ::
  (82, .iload_n 3, 1, []) ::
  (83, .iaload, 1, []) ::
  (84, .bipush 29, 2, []) ::
  (86, .if_icmp .ne 21, 3, [107]) ::
  kX6_reckons_89
def kX6_reckons_73 : am_C := (73, .iload 8, 2, []) ::
  (75, .ifCond .eq 28, 3, [103]) ::
  kX6_reckons_78
def kX6_reckons_58 : am_C := (58, .istore 8, 2, []) ::
  (60, .aload_n 0, 1, []) ::
  (61, .iload 7, 2, []) ::
  (63, .iconst 2, 1, []) ::
  (64, .idiv, 1, []) ::
  (65, .iload 8, 2, []) ::
  (67, .invokevirtual 209, 3, []) ::
  (70, .ifCond .eq 37, 3, [107]) ::
  kX6_reckons_73
def kX6_reckons_57 : am_C := (57, .iconst 0, 1, []) ::
  kX6_reckons_58
def kX6_reckons_38 : am_C := (38, .iload 7, 2, []) ::
  (40, .bipush 20, 2, []) ::
  (42, .if_icmp .ge 148, 3, [190]) ::
  (45, .iload 7, 2, []) ::
  (47, .iconst 2, 1, []) ::
  (48, .irem, 1, []) ::
  (49, .iconst 1, 1, []) ::
  (50, .if_icmp .ne 7, 3, [57]) ::
  (53, .iconst 1, 1, []) ::
  (54, .goto 4, 3, [58]) ::
  kX6_reckons_57
def kX6_reckons_17 : am_C := (17, .iload_n 3, 1, []) ::
  (18, .iload_n 2, 1, []) ::
  (19, .iadd, 1, []) ::
  (20, .aload_n 0, 1, []) ::
  (21, .getfield 184, 3, []) ::
  (24, .if_icmp .gt 186, 3, [210]) ::
  (27, .iload_n 3, 1, []) ::
  (28, .iload_n 2, 1, []) ::
  (29, .iadd, 1, []) ::
  (30, .istore 4, 2, []) ::
  (32, .lconst 0, 1, []) ::
  (33, .lstore 5, 2, []) ::
  (35, .iconst 0, 1, []) ::
  (36, .istore 7, 2, []) ::
  kX6_reckons_38
def kX6_reckons_7 : am_C := (7, .iload_n 2, 1, []) ::
  (8, .aload_n 0, 1, []) ::
  (9, .getfield 184, 3, []) ::
  (12, .if_icmp .gt 204, 3, [216]) ::
  (15, .iconst 0, 1, []) ::
  (16, .istore_n 3, 1, []) ::
  kX6_reckons_17
def kX6_reckons : am_C := (0, .aload_n 0, 1, []) ::
  (1, .iload_n 1, 1, []) ::
  (2, .putfield 192, 3, []) ::
  (5, .iconst 1, 1, []) ::
  (6, .istore_n 2, 1, []) ::
  kX6_reckons_7
theorem kX6_reckons_ok : ∀ q ∈ kX6_reckons, am_cok cX6_reckons q := am_cok_all (by decide +kernel)
def kX6_isLet : am_C := (0, .aload_n 0, 1, []) ::
  (1, .getfield 192, 3, []) ::
  (4, .bipush 8, 2, []) ::
  (6, .if_icmp .ne 22, 3, [28]) ::
  (9, .iload_n 2, 1, []) ::
  (10, .ifCond .eq 10, 3, [20]) ::
  (13, .iload_n 1, 1, []) ::
  (14, .invokestatic 131, 3, []) ::
  (17, .ifCond .eq 7, 3, [24]) ::
  (20, .iconst 1, 1, []) ::
  (21, .goto 30, 3, [51]) ::
  (24, .iconst 0, 1, []) ::
  (25, .goto 26, 3, [51]) ::
  (28, .aload_n 0, 1, []) ::
  (29, .getfield 32, 3, []) ::
  (32, .bipush 10, 2, []) ::
  (34, .aload_n 0, 1, []) ::
  (35, .getfield 192, 3, []) ::
  (38, .imul, 1, []) ::
  (39, .iload_n 1, 1, []) ::
  (40, .iadd, 1, []) ::
  (41, .baload, 1, []) ::
  (42, .iload_n 2, 1, []) ::
  (43, .if_icmp .ne 7, 3, [50]) ::
  (46, .iconst 1, 1, []) ::
  (47, .goto 4, 3, [51]) ::
  (50, .iconst 0, 1, []) ::
  (51, .ireturn, 1, []) ::
  []
theorem kX6_isLet_ok : ∀ q ∈ kX6_isLet, am_cok cX6_isLet q := am_cok_all (by decide +kernel)
def kX6_within_145 : am_C := (145, .lstore 4, 2, []) ::
  (147, .iinc 6 1, 3, []) ::
  (150, .goto (-66), 3, [84]) ::
  (153, .lload 4, 2, []) ::
  (155, .lreturn, 1, []) ::
  (156, .iload_n 1, 1, []) ::
  (157, .bipush 7, 2, []) ::
  (159, .if_icmp .ne 39, 3, [198]) ::
  (162, .aload_n 0, 1, []) ::
  (163, .getfield 35, 3, []) ::
  (166, .iload_n 2, 1, []) ::
  (167, .iaload, 1, []) ::
  (168, .bipush 25, 2, []) ::
  (170, .if_icmp .ne 26, 3, [196]) ::
  (173, .iload_n 3, 1, []) ::
  (174, .iload_n 2, 1, []) ::
  (175, .isub, 1, []) ::
  (176, .iconst 1, 1, []) ::
  (177, .if_icmp .le 19, 3, [196]) ::
  (180, .aload_n 0, 1, []) ::
  (181, .getfield 73, 3, []) ::
  (184, .bipush 21, 2, []) ::
  (186, .iload_n 2, 1, []) ::
  (187, .iconst 1, 1, []) ::
  (188, .iadd, 1, []) ::
  (189, .imul, 1, []) ::
  (190, .iload_n 3, 1, []) ::
  (191, .iadd, 1, []) ::
  (192, .laload, 1, []) ::
  (193, .goto 4, 3, [197]) ::
  (196, .lconst 0, 1, []) ::
  (197, .lreturn, 1, []) ::
  (198, .iload_n 1, 1, []) ::
  (199, .bipush 8, 2, []) ::
  (201, .if_icmp .ne 54, 3, [255]) ::
  (204, .aload_n 0, 1, []) ::
  (205, .getfield 35, 3, []) ::
  (208, .iload_n 2, 1, []) ::
  (209, .iaload, 1, []) ::
  (210, .bipush 26, 2, []) ::
  (212, .if_icmp .ne 41, 3, [253]) ::
  (215, .aload_n 0, 1, []) ::
  (216, .getfield 35, 3, []) ::
  (219, .iload_n 3, 1, []) ::
  (220, .iconst 1, 1, []) ::
  (221, .isub, 1, []) ::
  (222, .iaload, 1, []) ::
  (223, .bipush 27, 2, []) ::
  (225, .if_icmp .ne 28, 3, [253]) ::
  (228, .iload_n 3, 1, []) ::
  (229, .iload_n 2, 1, []) ::
  (230, .isub, 1, []) ::
  (231, .iconst 2, 1, []) ::
  (232, .if_icmp .le 21, 3, [253]) ::
  (235, .aload_n 0, 1, []) ::
  (236, .getfield 73, 3, []) ::
  (239, .bipush 21, 2, []) ::
  (241, .iload_n 2, 1, []) ::
  (242, .iconst 1, 1, []) ::
  (243, .iadd, 1, []) ::
  (244, .imul, 1, []) ::
  (245, .iload_n 3, 1, []) ::
  (246, .iadd, 1, []) ::
  (247, .iconst 1, 1, []) ::
  (248, .isub, 1, []) ::
  (249, .laload, 1, []) ::
  (250, .goto 4, 3, [254]) ::
  (253, .lconst 0, 1, []) ::
  (254, .lreturn, 1, []) ::
  (255, .aload_n 0, 1, []) ::
  (256, .getfield 35, 3, []) ::
  (259, .iload_n 2, 1, []) ::
  (260, .iaload, 1, []) ::
  (261, .bipush 10, 2, []) ::
  (263, .if_icmp .ge 53, 3, [316]) ::
  (266, .aload_n 0, 1, []) ::
  (267, .getfield 28, 3, []) ::
  (270, .aload_n 0, 1, []) ::
  (271, .getfield 35, 3, []) ::
  (274, .iload_n 2, 1, []) ::
  (275, .iaload, 1, []) ::
  (276, .baload, 1, []) ::
  (277, .ifCond .eq 39, 3, [316]) ::
  (280, .iload_n 3, 1, []) ::
  (281, .iload_n 2, 1, []) ::
  (282, .isub, 1, []) ::
  (283, .iconst 2, 1, []) ::
  (284, .if_icmp .le 32, 3, [316]) ::
  (287, .aload_n 0, 1, []) ::
  (288, .getfield 35, 3, []) ::
  (291, .iload_n 2, 1, []) ::
  (292, .iconst 1, 1, []) ::
  (293, .iadd, 1, []) ::
  (294, .iaload, 1, []) ::
  (295, .bipush 28, 2, []) ::
  (297, .if_icmp .ne 19, 3, [316]) ::
  (300, .aload_n 0, 1, []) ::
  (301, .getfield 73, 3, []) ::
  (304, .bipush 21, 2, []) ::
  (306, .iload_n 2, 1, []) ::
  (307, .iconst 2, 1, []) ::
  (308, .iadd, 1, []) ::
  (309, .imul, 1, []) ::
  (310, .iload_n 3, 1, []) ::
  (311, .iadd, 1, []) ::
  (312, .laload, 1, []) ::
  (313, .goto 4, 3, [317]) ::
  (316, .lconst 0, 1, []) ::
  (317, .lreturn, 1, []) ::
  []
def kX6_within_143 : am_C := (143, .lload 4, 2, []) ::
  kX6_within_145
def kX6_within_84 : am_C := (84, .iload 6, 2, []) ::
  (86, .iload_n 3, 1, []) ::
  (87, .iconst 1, 1, []) ::
  (88, .isub, 1, []) ::
  (89, .if_icmp .ge 64, 3, [153]) ::
  (92, .aload_n 0, 1, []) ::
  (93, .getfield 35, 3, []) ::
  (96, .iload 6, 2, []) ::
  (98, .iaload, 1, []) ::
  (99, .bipush 18, 2, []) ::
  (101, .iload_n 1, 1, []) ::
  (102, .iadd, 1, []) ::
  (103, .if_icmp .ne 40, 3, [143]) ::
  (106, .lload 4, 2, []) ::
  (108, .aload_n 0, 1, []) ::
  (109, .getfield 73, 3, []) ::
  (112, .bipush 21, 2, []) ::
  (114, .iload_n 2, 1, []) ::
  (115, .imul, 1, []) ::
  (116, .iload 6, 2, []) ::
  (118, .iadd, 1, []) ::
  (119, .laload, 1, []) ::
  (120, .aload_n 0, 1, []) ::
  (121, .getfield 73, 3, []) ::
  (124, .bipush 21, 2, []) ::
  (126, .iload 6, 2, []) ::
  (128, .iconst 1, 1, []) ::
  (129, .iadd, 1, []) ::
  (130, .imul, 1, []) ::
  (131, .iload_n 3, 1, []) ::
  (132, .iadd, 1, []) ::
  (133, .laload, 1, []) ::
  (134, .invokestatic 202, 3, []) ::
  (137, .invokestatic 206, 3, []) ::
  (140, .goto 5, 3, [145]) ::
  kX6_within_143
def kX6_within : am_C := (0, .iload_n 3, 1, []) ::
  (1, .iload_n 2, 1, []) ::
  (2, .if_icmp .gt 5, 3, [7]) ::
  (5, .lconst 0, 1, []) ::
  (6, .lreturn, 1, []) ::
  (7, .iload_n 1, 1, []) ::
  (8, .ifCond .ne 41, 3, [49]) ::
  (11, .iload_n 3, 1, []) ::
  (12, .iload_n 2, 1, []) ::
  (13, .isub, 1, []) ::
  (14, .iconst 1, 1, []) ::
  (15, .if_icmp .ne 32, 3, [47]) ::
  (18, .aload_n 0, 1, []) ::
  (19, .getfield 35, 3, []) ::
  (22, .iload_n 2, 1, []) ::
  (23, .iaload, 1, []) ::
  (24, .bipush 10, 2, []) ::
  (26, .if_icmp .ge 21, 3, [47]) ::
  (29, .aload_n 0, 1, []) ::
  (30, .getfield 28, 3, []) ::
  (33, .aload_n 0, 1, []) ::
  (34, .getfield 35, 3, []) ::
  (37, .iload_n 2, 1, []) ::
  (38, .iaload, 1, []) ::
  (39, .baload, 1, []) ::
  (40, .ifCond .ne 7, 3, [47]) ::
  (43, .lconst 1, 1, []) ::
  (44, .goto 4, 3, [48]) ::
  (47, .lconst 0, 1, []) ::
  (48, .lreturn, 1, []) ::
  (49, .iload_n 1, 1, []) ::
  (50, .iconst 1, 1, []) ::
  (51, .if_icmp .ne 18, 3, [69]) ::
  (54, .aload_n 0, 1, []) ::
  (55, .iload_n 2, 1, []) ::
  (56, .iload_n 3, 1, []) ::
  (57, .invokevirtual 199, 3, []) ::
  (60, .ifCond .eq 7, 3, [67]) ::
  (63, .lconst 1, 1, []) ::
  (64, .goto 4, 3, [68]) ::
  (67, .lconst 0, 1, []) ::
  (68, .lreturn, 1, []) ::
  (69, .iload_n 1, 1, []) ::
  (70, .invokestatic 108, 3, []) ::
  (73, .ifCond .eq 83, 3, [156]) ::
  (76, .lconst 0, 1, []) ::
  (77, .lstore 4, 2, []) ::
  (79, .iload_n 2, 1, []) ::
  (80, .iconst 1, 1, []) ::
  (81, .iadd, 1, []) ::
  (82, .istore 6, 2, []) ::
  kX6_within_84
theorem kX6_within_ok : ∀ q ∈ kX6_within, am_cok cX6_within q := am_cok_all (by decide +kernel)
def kX6_isNumber_41 : am_C := (41, .iload 4, 2, []) ::
  (43, .iload_n 2, 1, []) ::
  (44, .if_icmp .ge 31, 3, [75]) ::
  (47, .iload_n 3, 1, []) ::
  (48, .ifCond .eq 27, 3, [75]) ::
  (51, .aload_n 0, 1, []) ::
  (52, .getfield 35, 3, []) ::
  (55, .iload 4, 2, []) ::
  (57, .iaload, 1, []) ::
  (58, .i2l, 1, []) ::
  (59, .ldc2_w 195, 3, []) ::
  (62, .ldc2_w 197, 3, []) ::
  (65, .invokestatic 88, 3, []) ::
  (68, .istore_n 3, 1, []) ::
  (69, .iinc 4 1, 3, []) ::
  (72, .goto (-31), 3, [41]) ::
  (75, .iload_n 3, 1, []) ::
  (76, .ireturn, 1, []) ::
  []
def kX6_isNumber_37 : am_C := (37, .istore_n 3, 1, []) ::
  (38, .iload_n 1, 1, []) ::
  (39, .istore 4, 2, []) ::
  kX6_isNumber_41
def kX6_isNumber_36 : am_C := (36, .iconst 0, 1, []) ::
  kX6_isNumber_37
def kX6_isNumber_32 : am_C := (32, .iconst 1, 1, []) ::
  (33, .goto 4, 3, [37]) ::
  kX6_isNumber_36
def kX6_isNumber_25 : am_C := (25, .iload_n 2, 1, []) ::
  (26, .iload_n 1, 1, []) ::
  (27, .isub, 1, []) ::
  (28, .iconst 1, 1, []) ::
  (29, .if_icmp .ne 7, 3, [36]) ::
  kX6_isNumber_32
def kX6_isNumber_14 : am_C := (14, .aload_n 0, 1, []) ::
  (15, .getfield 35, 3, []) ::
  (18, .iload_n 1, 1, []) ::
  (19, .iaload, 1, []) ::
  (20, .bipush 10, 2, []) ::
  (22, .if_icmp .ne 10, 3, [32]) ::
  kX6_isNumber_25
def kX6_isNumber_7 : am_C := (7, .iload_n 2, 1, []) ::
  (8, .iload_n 1, 1, []) ::
  (9, .isub, 1, []) ::
  (10, .iconst 4, 1, []) ::
  (11, .if_icmp .gt 25, 3, [36]) ::
  kX6_isNumber_14
def kX6_isNumber : am_C := (0, .iload_n 2, 1, []) ::
  (1, .iload_n 1, 1, []) ::
  (2, .isub, 1, []) ::
  (3, .iconst 1, 1, []) ::
  (4, .if_icmp .lt 32, 3, [36]) ::
  kX6_isNumber_7
theorem kX6_isNumber_ok : ∀ q ∈ kX6_isNumber, am_cok cX6_isNumber q := am_cok_all (by decide +kernel)
def kX6_times_2_22 : am_C := (22, .lload_n 0, 1, []) ::
  (23, .lload_n 2, 1, []) ::
  (24, .lmul, 1, []) ::
  (25, .lreturn, 1, []) ::
  []
def kX6_times_2_16 : am_C := (16, .ldc2_w 190, 3, []) ::
  (19, .goto 6, 3, [25]) ::
  kX6_times_2_22
def kX6_times_2_6 : am_C := (6, .lload_n 2, 1, []) ::
  (7, .ldc2_w 190, 3, []) ::
  (10, .lload_n 0, 1, []) ::
  (11, .ldiv, 1, []) ::
  (12, .lcmp, 1, []) ::
  (13, .ifCond .le 9, 3, [22]) ::
  kX6_times_2_16
def kX6_times_2 : am_C := (0, .lload_n 0, 1, []) ::
  (1, .lconst 0, 1, []) ::
  (2, .lcmp, 1, []) ::
  (3, .ifCond .eq 19, 3, [22]) ::
  kX6_times_2_6
theorem kX6_times_2_ok : ∀ q ∈ kX6_times_2, am_cok cX6_times_2 q := am_cok_all (by decide +kernel)
def kX6_plus : am_C := (0, .lload_n 0, 1, []) ::
  (1, .lload_n 2, 1, []) ::
  (2, .ladd, 1, []) ::
  (3, .ldc2_w 190, 3, []) ::
  (6, .lcmp, 1, []) ::
  (7, .ifCond .le 9, 3, [16]) ::
  (10, .ldc2_w 190, 3, []) ::
  (13, .goto 6, 3, [19]) ::
  (16, .lload_n 0, 1, []) ::
  (17, .lload_n 2, 1, []) ::
  (18, .ladd, 1, []) ::
  (19, .lreturn, 1, []) ::
  []
theorem kX6_plus_ok : ∀ q ∈ kX6_plus, am_cok cX6_plus q := am_cok_all (by decide +kernel)
def kX6_write : am_C := (0, .iload_n 1, 1, []) ::
  (1, .i2l, 1, []) ::
  (2, .lconst 0, 1, []) ::
  (3, .ldc2_w 220, 3, []) ::
  (6, .invokestatic 88, 3, []) ::
  (9, .ifCond .eq 9, 3, [18]) ::
  (12, .lload_n 2, 1, []) ::
  (13, .lconst 0, 1, []) ::
  (14, .lcmp, 1, []) ::
  (15, .ifCond .ge 5, 3, [20]) ::
  (18, .iconst (-1), 1, []) ::
  (19, .ireturn, 1, []) ::
  (20, .lload_n 2, 1, []) ::
  (21, .aload_n 0, 1, []) ::
  (22, .iload_n 1, 1, []) ::
  (23, .invokevirtual 222, 3, []) ::
  (26, .lcmp, 1, []) ::
  (27, .ifCond .lt 6, 3, [33]) ::
  (30, .bipush (-4), 2, []) ::
  (32, .ireturn, 1, []) ::
  (33, .aload_n 0, 1, []) ::
  (34, .iconst 0, 1, []) ::
  (35, .putfield 226, 3, []) ::
  (38, .aload_n 0, 1, []) ::
  (39, .iconst 0, 1, []) ::
  (40, .aload_n 0, 1, []) ::
  (41, .getfield 184, 3, []) ::
  (44, .lload_n 2, 1, []) ::
  (45, .invokevirtual 233, 3, []) ::
  (48, .istore 4, 2, []) ::
  (50, .aload_n 0, 1, []) ::
  (51, .getfield 85, 3, []) ::
  (54, .aload_n 0, 1, []) ::
  (55, .getfield 226, 3, []) ::
  (58, .iadd, 1, []) ::
  (59, .bipush 120, 2, []) ::
  (61, .if_icmp .le 6, 3, [67]) ::
  (64, .bipush (-2), 2, []) ::
  (66, .ireturn, 1, []) ::
  (67, .aload_n 0, 1, []) ::
  (68, .iload 4, 2, []) ::
  (70, .invokevirtual 241, 3, []) ::
  (73, .ireturn, 1, []) ::
  []
theorem kX6_write_ok : ∀ q ∈ kX6_write, am_cok cX6_write q := am_cok_all (by decide +kernel)
def kX6_takes_172 : am_C := (172, .iload 11, 2, []) ::
  (174, .iload 9, 2, []) ::
  (176, .if_icmp .ge 27, 3, [203]) ::
  (179, .bipush 10, 2, []) ::
  (181, .iload 10, 2, []) ::
  (183, .imul, 1, []) ::
  (184, .aload_n 0, 1, []) ::
  (185, .getfield 35, 3, []) ::
  (188, .iload 11, 2, []) ::
  (190, .iaload, 1, []) ::
  (191, .iadd, 1, []) ::
  (192, .bipush 10, 2, []) ::
  (194, .isub, 1, []) ::
  (195, .istore 10, 2, []) ::
  (197, .iinc 11 1, 3, []) ::
  (200, .goto (-28), 3, [172]) ::
  (203, .aload_n 0, 1, []) ::
  (204, .iconst 1, 1, []) ::
  (205, .iload 10, 2, []) ::
  (207, .bipush (-2), 2, []) ::
  (209, .bipush (-2), 2, []) ::
  (211, .invokevirtual 229, 3, []) ::
  (214, .ireturn, 1, []) ::
  (215, .aload_n 0, 1, []) ::
  (216, .bipush 7, 2, []) ::
  (218, .bipush (-2), 2, []) ::
  (220, .aload_n 0, 1, []) ::
  (221, .iload 8, 2, []) ::
  (223, .iconst 1, 1, []) ::
  (224, .iadd, 1, []) ::
  (225, .iload 9, 2, []) ::
  (227, .lload 5, 2, []) ::
  (229, .invokevirtual 233, 3, []) ::
  (232, .bipush (-2), 2, []) ::
  (234, .invokevirtual 229, 3, []) ::
  (237, .ireturn, 1, []) ::
  (238, .aload_n 0, 1, []) ::
  (239, .bipush 8, 2, []) ::
  (241, .bipush (-2), 2, []) ::
  (243, .aload_n 0, 1, []) ::
  (244, .iload 8, 2, []) ::
  (246, .iconst 1, 1, []) ::
  (247, .iadd, 1, []) ::
  (248, .iload 9, 2, []) ::
  (250, .iconst 1, 1, []) ::
  (251, .isub, 1, []) ::
  (252, .lload 5, 2, []) ::
  (254, .invokevirtual 233, 3, []) ::
  (257, .bipush (-2), 2, []) ::
  (259, .invokevirtual 229, 3, []) ::
  (262, .ireturn, 1, []) ::
  (263, .aload_n 0, 1, []) ::
  (264, .bipush 9, 2, []) ::
  (266, .aload_n 0, 1, []) ::
  (267, .getfield 35, 3, []) ::
  (270, .iload 8, 2, []) ::
  (272, .iaload, 1, []) ::
  (273, .aload_n 0, 1, []) ::
  (274, .iload 8, 2, []) ::
  (276, .iconst 2, 1, []) ::
  (277, .iadd, 1, []) ::
  (278, .iload 9, 2, []) ::
  (280, .lload 5, 2, []) ::
  (282, .invokevirtual 233, 3, []) ::
  (285, .bipush (-2), 2, []) ::
  (287, .invokevirtual 229, 3, []) ::
  (290, .ireturn, 1, []) ::
  (291, .aload_n 0, 1, []) ::
  (292, .iload 7, 2, []) ::
  (294, .iconst 2, 1, []) ::
  (295, .idiv, 1, []) ::
  (296, .iload 8, 2, []) ::
  (298, .iload 9, 2, []) ::
  (300, .lload 5, 2, []) ::
  (302, .invokevirtual 237, 3, []) ::
  (305, .ireturn, 1, []) ::
  []
def kX6_takes_89 : am_C := (89, .istore 9, 2, []) ::
  (91, .iload 7, 2, []) ::
  (93, .iconst 2, 1, []) ::
  (94, .idiv, 1, []) ::
  (95, .tableswitch 196 0 9 #[53, 70, 196, 196, 196, 196, 196, 120, 143, 168], 53, [291, 148, 165, 291, 291, 291, 291, 291, 215, 238, 263]) ::
  (148, .aload_n 0, 1, []) ::
  (149, .iconst 0, 1, []) ::
  (150, .aload_n 0, 1, []) ::
  (151, .getfield 35, 3, []) ::
  (154, .iload 8, 2, []) ::
  (156, .iaload, 1, []) ::
  (157, .bipush (-2), 2, []) ::
  (159, .bipush (-2), 2, []) ::
  (161, .invokevirtual 229, 3, []) ::
  (164, .ireturn, 1, []) ::
  (165, .iconst 0, 1, []) ::
  (166, .istore 10, 2, []) ::
  (168, .iload 8, 2, []) ::
  (170, .istore 11, 2, []) ::
  kX6_takes_172
def kX6_takes_88 : am_C := (88, .iload_n 2, 1, []) ::
  kX6_takes_89
def kX6_takes_72 : am_C := (72, .istore 8, 2, []) ::
  (74, .iload 7, 2, []) ::
  (76, .iconst 2, 1, []) ::
  (77, .irem, 1, []) ::
  (78, .iconst 1, 1, []) ::
  (79, .if_icmp .ne 9, 3, [88]) ::
  (82, .iload_n 2, 1, []) ::
  (83, .iconst 1, 1, []) ::
  (84, .isub, 1, []) ::
  (85, .goto 4, 3, [89]) ::
  kX6_takes_88
def kX6_takes_71 : am_C := (71, .iload_n 1, 1, []) ::
  kX6_takes_72
def kX6_takes_6 : am_C := (6, .lload 5, 2, []) ::
  (8, .aload_n 0, 1, []) ::
  (9, .getfield 69, 3, []) ::
  (12, .bipush 20, 2, []) ::
  (14, .bipush 21, 2, []) ::
  (16, .iload_n 1, 1, []) ::
  (17, .imul, 1, []) ::
  (18, .iload_n 2, 1, []) ::
  (19, .iadd, 1, []) ::
  (20, .imul, 1, []) ::
  (21, .iload 7, 2, []) ::
  (23, .iadd, 1, []) ::
  (24, .laload, 1, []) ::
  (25, .lcmp, 1, []) ::
  (26, .ifCond .lt 31, 3, [57]) ::
  (29, .lload 5, 2, []) ::
  (31, .aload_n 0, 1, []) ::
  (32, .getfield 69, 3, []) ::
  (35, .bipush 20, 2, []) ::
  (37, .bipush 21, 2, []) ::
  (39, .iload_n 1, 1, []) ::
  (40, .imul, 1, []) ::
  (41, .iload_n 2, 1, []) ::
  (42, .iadd, 1, []) ::
  (43, .imul, 1, []) ::
  (44, .iload 7, 2, []) ::
  (46, .iadd, 1, []) ::
  (47, .laload, 1, []) ::
  (48, .lsub, 1, []) ::
  (49, .lstore 5, 2, []) ::
  (51, .iinc 7 1, 3, []) ::
  (54, .goto (-48), 3, [6]) ::
  (57, .iload 7, 2, []) ::
  (59, .iconst 2, 1, []) ::
  (60, .irem, 1, []) ::
  (61, .iconst 1, 1, []) ::
  (62, .if_icmp .ne 9, 3, [71]) ::
  (65, .iload_n 1, 1, []) ::
  (66, .iconst 1, 1, []) ::
  (67, .iadd, 1, []) ::
  (68, .goto 4, 3, [72]) ::
  kX6_takes_71
def kX6_takes : am_C := (0, .lload_n 3, 1, []) ::
  (1, .lstore 5, 2, []) ::
  (3, .iconst 0, 1, []) ::
  (4, .istore 7, 2, []) ::
  kX6_takes_6
theorem kX6_takes_ok : ∀ q ∈ kX6_takes, am_cok cX6_takes q := am_cok_all (by decide +kernel)
def kX6_makes : am_C := (0, .aload_n 0, 1, []) ::
  (1, .sipush 400, 3, []) ::
  (4, .aload_n 0, 1, []) ::
  (5, .getfield 226, 3, []) ::
  (8, .iadd, 1, []) ::
  (9, .iload_n 1, 1, []) ::
  (10, .iload_n 2, 1, []) ::
  (11, .iload_n 3, 1, []) ::
  (12, .iload 4, 2, []) ::
  (14, .invokevirtual 98, 3, []) ::
  (17, .aload_n 0, 1, []) ::
  (18, .dup, 1, []) ::
  (19, .getfield 226, 3, []) ::
  (22, .iconst 1, 1, []) ::
  (23, .iadd, 1, []) ::
  (24, .putfield 226, 3, []) ::
  (27, .sipush 400, 3, []) ::
  (30, .aload_n 0, 1, []) ::
  (31, .getfield 226, 3, []) ::
  (34, .iadd, 1, []) ::
  (35, .iconst 1, 1, []) ::
  (36, .isub, 1, []) ::
  (37, .ireturn, 1, []) ::
  []
theorem kX6_makes_ok : ∀ q ∈ kX6_makes, am_cok cX6_makes q := am_cok_all (by decide +kernel)
def kX6_takesTwo_107 : am_C := (107, .lsub, 1, []) ::
  (108, .lstore 6, 2, []) ::
  (110, .iinc 8 1, 3, []) ::
  (113, .goto (-104), 3, [9]) ::
  (116, .aload_n 0, 1, []) ::
  (117, .getfield 73, 3, []) ::
  (120, .bipush 21, 2, []) ::
  (122, .iload 8, 2, []) ::
  (124, .iconst 1, 1, []) ::
  (125, .iadd, 1, []) ::
  (126, .imul, 1, []) ::
  (127, .iload_n 3, 1, []) ::
  (128, .iadd, 1, []) ::
  (129, .laload, 1, []) ::
  (130, .lstore 9, 2, []) ::
  (132, .aload_n 0, 1, []) ::
  (133, .iload_n 2, 1, []) ::
  (134, .iload 8, 2, []) ::
  (136, .lload 6, 2, []) ::
  (138, .lload 9, 2, []) ::
  (140, .ldiv, 1, []) ::
  (141, .invokevirtual 233, 3, []) ::
  (144, .istore 11, 2, []) ::
  (146, .aload_n 0, 1, []) ::
  (147, .iload_n 1, 1, []) ::
  (148, .bipush (-2), 2, []) ::
  (150, .iload 11, 2, []) ::
  (152, .aload_n 0, 1, []) ::
  (153, .iload 8, 2, []) ::
  (155, .iconst 1, 1, []) ::
  (156, .iadd, 1, []) ::
  (157, .iload_n 3, 1, []) ::
  (158, .lload 6, 2, []) ::
  (160, .lload 9, 2, []) ::
  (162, .lrem, 1, []) ::
  (163, .invokevirtual 233, 3, []) ::
  (166, .invokevirtual 229, 3, []) ::
  (169, .ireturn, 1, []) ::
  []
def kX6_takesTwo_106 : am_C := (106, .lconst 0, 1, []) ::
  kX6_takesTwo_107
def kX6_takesTwo_58 : am_C := (58, .lload 6, 2, []) ::
  (60, .aload_n 0, 1, []) ::
  (61, .getfield 35, 3, []) ::
  (64, .iload 8, 2, []) ::
  (66, .iaload, 1, []) ::
  (67, .bipush 18, 2, []) ::
  (69, .iload_n 1, 1, []) ::
  (70, .iadd, 1, []) ::
  (71, .if_icmp .ne 35, 3, [106]) ::
  (74, .aload_n 0, 1, []) ::
  (75, .getfield 73, 3, []) ::
  (78, .bipush 21, 2, []) ::
  (80, .iload_n 2, 1, []) ::
  (81, .imul, 1, []) ::
  (82, .iload 8, 2, []) ::
  (84, .iadd, 1, []) ::
  (85, .laload, 1, []) ::
  (86, .aload_n 0, 1, []) ::
  (87, .getfield 73, 3, []) ::
  (90, .bipush 21, 2, []) ::
  (92, .iload 8, 2, []) ::
  (94, .iconst 1, 1, []) ::
  (95, .iadd, 1, []) ::
  (96, .imul, 1, []) ::
  (97, .iload_n 3, 1, []) ::
  (98, .iadd, 1, []) ::
  (99, .laload, 1, []) ::
  (100, .invokestatic 202, 3, []) ::
  (103, .goto 4, 3, [107]) ::
  kX6_takesTwo_106
def kX6_takesTwo_23 : am_C := (23, .lload 6, 2, []) ::
  (25, .aload_n 0, 1, []) ::
  (26, .getfield 73, 3, []) ::
  (29, .bipush 21, 2, []) ::
  (31, .iload_n 2, 1, []) ::
  (32, .imul, 1, []) ::
  (33, .iload 8, 2, []) ::
  (35, .iadd, 1, []) ::
  (36, .laload, 1, []) ::
  (37, .aload_n 0, 1, []) ::
  (38, .getfield 73, 3, []) ::
  (41, .bipush 21, 2, []) ::
  (43, .iload 8, 2, []) ::
  (45, .iconst 1, 1, []) ::
  (46, .iadd, 1, []) ::
  (47, .imul, 1, []) ::
  (48, .iload_n 3, 1, []) ::
  (49, .iadd, 1, []) ::
  (50, .laload, 1, []) ::
  (51, .invokestatic 202, 3, []) ::
  (54, .lcmp, 1, []) ::
  (55, .ifCond .lt 61, 3, [116]) ::
  kX6_takesTwo_58
def kX6_takesTwo_9 : am_C := (9, .aload_n 0, 1, []) ::
  (10, .getfield 35, 3, []) ::
  (13, .iload 8, 2, []) ::
  (15, .iaload, 1, []) ::
  (16, .bipush 18, 2, []) ::
  (18, .iload_n 1, 1, []) ::
  (19, .iadd, 1, []) ::
  (20, .if_icmp .ne 38, 3, [58]) ::
  kX6_takesTwo_23
def kX6_takesTwo : am_C := (0, .lload 4, 2, []) ::
  (2, .lstore 6, 2, []) ::
  (4, .iload_n 2, 1, []) ::
  (5, .iconst 1, 1, []) ::
  (6, .iadd, 1, []) ::
  (7, .istore 8, 2, []) ::
  kX6_takesTwo_9
theorem kX6_takesTwo_ok : ∀ q ∈ kX6_takesTwo, am_cok cX6_takesTwo q := am_cok_all (by decide +kernel)
def kX6_copies_49 : am_C := (49, .istore_n 3, 1, []) ::
  (50, .aload_n 0, 1, []) ::
  (51, .aload_n 0, 1, []) ::
  (52, .getfield 85, 3, []) ::
  (55, .aload_n 0, 1, []) ::
  (56, .getfield 7, 3, []) ::
  (59, .iload_n 1, 1, []) ::
  (60, .iaload, 1, []) ::
  (61, .aload_n 0, 1, []) ::
  (62, .getfield 13, 3, []) ::
  (65, .iload_n 1, 1, []) ::
  (66, .iaload, 1, []) ::
  (67, .iload_n 2, 1, []) ::
  (68, .iload_n 3, 1, []) ::
  (69, .invokevirtual 98, 3, []) ::
  (72, .aload_n 0, 1, []) ::
  (73, .dup, 1, []) ::
  (74, .getfield 85, 3, []) ::
  (77, .iconst 1, 1, []) ::
  (78, .iadd, 1, []) ::
  (79, .putfield 85, 3, []) ::
  (82, .aload_n 0, 1, []) ::
  (83, .getfield 85, 3, []) ::
  (86, .iconst 1, 1, []) ::
  (87, .isub, 1, []) ::
  (88, .ireturn, 1, []) ::
  []
def kX6_copies_39 : am_C := (39, .aload_n 0, 1, []) ::
  (40, .aload_n 0, 1, []) ::
  (41, .getfield 19, 3, []) ::
  (44, .iload_n 1, 1, []) ::
  (45, .iaload, 1, []) ::
  (46, .invokevirtual 241, 3, []) ::
  kX6_copies_49
def kX6_copies_24 : am_C := (24, .istore_n 2, 1, []) ::
  (25, .aload_n 0, 1, []) ::
  (26, .getfield 19, 3, []) ::
  (29, .iload_n 1, 1, []) ::
  (30, .iaload, 1, []) ::
  (31, .ifCond .ge 8, 3, [39]) ::
  (34, .bipush (-2), 2, []) ::
  (36, .goto 13, 3, [49]) ::
  kX6_copies_39
def kX6_copies_14 : am_C := (14, .aload_n 0, 1, []) ::
  (15, .aload_n 0, 1, []) ::
  (16, .getfield 16, 3, []) ::
  (19, .iload_n 1, 1, []) ::
  (20, .iaload, 1, []) ::
  (21, .invokevirtual 241, 3, []) ::
  kX6_copies_24
def kX6_copies : am_C := (0, .aload_n 0, 1, []) ::
  (1, .getfield 16, 3, []) ::
  (4, .iload_n 1, 1, []) ::
  (5, .iaload, 1, []) ::
  (6, .ifCond .ge 8, 3, [14]) ::
  (9, .bipush (-2), 2, []) ::
  (11, .goto 13, 3, [24]) ::
  kX6_copies_14
theorem kX6_copies_ok : ∀ q ∈ kX6_copies, am_cok cX6_copies q := am_cok_all (by decide +kernel)
def kX6_place_20 : am_C := (20, .ldc2_w 244, 3, []) ::
  (23, .lreturn, 1, []) ::
  (24, .aload_n 0, 1, []) ::
  (25, .iload_n 1, 1, []) ::
  (26, .invokevirtual 222, 3, []) ::
  (29, .lconst 0, 1, []) ::
  (30, .lcmp, 1, []) ::
  (31, .ifCond .ne 7, 3, [38]) ::
  (34, .ldc2_w 255, 3, []) ::
  (37, .lreturn, 1, []) ::
  (38, .aload_n 0, 1, []) ::
  (39, .iload_n 2, 1, []) ::
  (40, .iconst 0, 1, []) ::
  (41, .aload_n 0, 1, []) ::
  (42, .getfield 184, 3, []) ::
  (45, .invokevirtual 252, 3, []) ::
  (48, .lstore_n 3, 1, []) ::
  (49, .lload_n 3, 1, []) ::
  (50, .lconst 0, 1, []) ::
  (51, .lcmp, 1, []) ::
  (52, .ifCond .ge 9, 3, [61]) ::
  (55, .ldc2_w 255, 3, []) ::
  (58, .goto 4, 3, [62]) ::
  (61, .lload_n 3, 1, []) ::
  (62, .lreturn, 1, []) ::
  []
def kX6_place_12 : am_C := (12, .aload_n 0, 1, []) ::
  (13, .iload_n 2, 1, []) ::
  (14, .invokevirtual 104, 3, []) ::
  (17, .ifCond .ne 7, 3, [24]) ::
  kX6_place_20
def kX6_place : am_C := (0, .iload_n 1, 1, []) ::
  (1, .i2l, 1, []) ::
  (2, .lconst 0, 1, []) ::
  (3, .ldc2_w 220, 3, []) ::
  (6, .invokestatic 88, 3, []) ::
  (9, .ifCond .eq 11, 3, [20]) ::
  kX6_place_12
theorem kX6_place_ok : ∀ q ∈ kX6_place, am_cok cX6_place q := am_cok_all (by decide +kernel)
def kX6_rank_149 : am_C := (149, .iinc 4 1, 3, []) ::
  (152, .goto (-126), 3, [26]) ::
  (155, .ldc2_w 244, 3, []) ::
  (158, .lreturn, 1, []) ::
  []
def kX6_rank_146 : am_C := (146, .lload 5, 2, []) ::
  (148, .lreturn, 1, []) ::
  kX6_rank_149
def kX6_rank_139 : am_C := (139, .lload 5, 2, []) ::
  (141, .lconst 0, 1, []) ::
  (142, .lcmp, 1, []) ::
  (143, .ifCond .lt 6, 3, [149]) ::
  kX6_rank_146
def kX6_rank_111 : am_C := (111, .lload 5, 2, []) ::
  (113, .aload_n 0, 1, []) ::
  (114, .getfield 69, 3, []) ::
  (117, .bipush 20, 2, []) ::
  (119, .bipush 21, 2, []) ::
  (121, .iload_n 2, 1, []) ::
  (122, .imul, 1, []) ::
  (123, .iload_n 3, 1, []) ::
  (124, .iadd, 1, []) ::
  (125, .imul, 1, []) ::
  (126, .iload 7, 2, []) ::
  (128, .iadd, 1, []) ::
  (129, .laload, 1, []) ::
  (130, .ladd, 1, []) ::
  (131, .lstore 5, 2, []) ::
  (133, .iinc 7 1, 3, []) ::
  (136, .goto (-39), 3, [97]) ::
  kX6_rank_139
def kX6_rank_104 : am_C := (104, .lload 5, 2, []) ::
  (106, .lconst 0, 1, []) ::
  (107, .lcmp, 1, []) ::
  (108, .ifCond .lt 31, 3, [139]) ::
  kX6_rank_111
def kX6_rank_97 : am_C := (97, .iload 7, 2, []) ::
  (99, .iload 4, 2, []) ::
  (101, .if_icmp .ge 38, 3, [139]) ::
  kX6_rank_104
def kX6_rank_92 : am_C := (92, .lstore 5, 2, []) ::
  (94, .iconst 0, 1, []) ::
  (95, .istore 7, 2, []) ::
  kX6_rank_97
def kX6_rank_85 : am_C := (85, .aload_n 0, 1, []) ::
  (86, .iload_n 1, 1, []) ::
  (87, .iload_n 2, 1, []) ::
  (88, .iload_n 3, 1, []) ::
  (89, .invokevirtual 246, 3, []) ::
  kX6_rank_92
def kX6_rank_63 : am_C := (63, .iload 4, 2, []) ::
  (65, .iconst 2, 1, []) ::
  (66, .irem, 1, []) ::
  (67, .iconst 1, 1, []) ::
  (68, .if_icmp .ne 17, 3, [85]) ::
  (71, .aload_n 0, 1, []) ::
  (72, .iload_n 1, 1, []) ::
  (73, .iload_n 2, 1, []) ::
  (74, .iconst 1, 1, []) ::
  (75, .iadd, 1, []) ::
  (76, .iload_n 3, 1, []) ::
  (77, .iconst 1, 1, []) ::
  (78, .isub, 1, []) ::
  (79, .invokevirtual 246, 3, []) ::
  (82, .goto 10, 3, [92]) ::
  kX6_rank_85
def kX6_rank_26 : am_C := (26, .iload 4, 2, []) ::
  (28, .iconst 2, 1, []) ::
  (29, .aload_n 0, 1, []) ::
  (30, .getfield 7, 3, []) ::
  (33, .iload_n 1, 1, []) ::
  (34, .iaload, 1, []) ::
  (35, .imul, 1, []) ::
  (36, .iconst 2, 1, []) ::
  (37, .iadd, 1, []) ::
  (38, .if_icmp .ge 117, 3, [155]) ::
  (41, .aload_n 0, 1, []) ::
  (42, .getfield 69, 3, []) ::
  (45, .bipush 20, 2, []) ::
  (47, .bipush 21, 2, []) ::
  (49, .iload_n 2, 1, []) ::
  (50, .imul, 1, []) ::
  (51, .iload_n 3, 1, []) ::
  (52, .iadd, 1, []) ::
  (53, .imul, 1, []) ::
  (54, .iload 4, 2, []) ::
  (56, .iadd, 1, []) ::
  (57, .laload, 1, []) ::
  (58, .lconst 0, 1, []) ::
  (59, .lcmp, 1, []) ::
  (60, .ifCond .le 89, 3, [149]) ::
  kX6_rank_63
def kX6_rank : am_C := (0, .aload_n 0, 1, []) ::
  (1, .getfield 22, 3, []) ::
  (4, .iload_n 1, 1, []) ::
  (5, .iaload, 1, []) ::
  (6, .iload_n 3, 1, []) ::
  (7, .iload_n 2, 1, []) ::
  (8, .isub, 1, []) ::
  (9, .if_icmp .le 7, 3, [16]) ::
  (12, .ldc2_w 244, 3, []) ::
  (15, .lreturn, 1, []) ::
  (16, .iconst 2, 1, []) ::
  (17, .aload_n 0, 1, []) ::
  (18, .getfield 7, 3, []) ::
  (21, .iload_n 1, 1, []) ::
  (22, .iaload, 1, []) ::
  (23, .imul, 1, []) ::
  (24, .istore 4, 2, []) ::
  kX6_rank_26
theorem kX6_rank_ok : ∀ q ∈ kX6_rank, am_cok cX6_rank q := am_cok_all (by decide +kernel)
def kX6_inner_192 : am_C := (192, .invokevirtual 252, 3, []) ::
  (195, .lreturn, 1, []) ::
  []
def kX6_inner_191 : am_C := (191, .iload_n 3, 1, []) ::
  kX6_inner_192
def kX6_inner_36 : am_C := (36, .iload 5, 2, []) ::
  (38, .iload_n 3, 1, []) ::
  (39, .if_icmp .ge 27, 3, [66]) ::
  (42, .bipush 10, 2, []) ::
  (44, .iload 4, 2, []) ::
  (46, .imul, 1, []) ::
  (47, .aload_n 0, 1, []) ::
  (48, .getfield 35, 3, []) ::
  (51, .iload 5, 2, []) ::
  (53, .iaload, 1, []) ::
  (54, .iadd, 1, []) ::
  (55, .bipush 10, 2, []) ::
  (57, .isub, 1, []) ::
  (58, .istore 4, 2, []) ::
  (60, .iinc 5 1, 3, []) ::
  (63, .goto (-27), 3, [36]) ::
  (66, .iload 4, 2, []) ::
  (68, .aload_n 0, 1, []) ::
  (69, .getfield 13, 3, []) ::
  (72, .iload_n 1, 1, []) ::
  (73, .iaload, 1, []) ::
  (74, .if_icmp .ne 7, 3, [81]) ::
  (77, .lconst 0, 1, []) ::
  (78, .goto 6, 3, [84]) ::
  (81, .ldc2_w 244, 3, []) ::
  (84, .lreturn, 1, []) ::
  (85, .aload_n 0, 1, []) ::
  (86, .getfield 7, 3, []) ::
  (89, .iload_n 1, 1, []) ::
  (90, .iaload, 1, []) ::
  (91, .ifCond .ne 26, 3, [117]) ::
  (94, .aload_n 0, 1, []) ::
  (95, .getfield 35, 3, []) ::
  (98, .iload_n 2, 1, []) ::
  (99, .iaload, 1, []) ::
  (100, .aload_n 0, 1, []) ::
  (101, .getfield 13, 3, []) ::
  (104, .iload_n 1, 1, []) ::
  (105, .iaload, 1, []) ::
  (106, .if_icmp .ne 7, 3, [113]) ::
  (109, .lconst 0, 1, []) ::
  (110, .goto 6, 3, [116]) ::
  (113, .ldc2_w 244, 3, []) ::
  (116, .lreturn, 1, []) ::
  (117, .aload_n 0, 1, []) ::
  (118, .getfield 7, 3, []) ::
  (121, .iload_n 1, 1, []) ::
  (122, .iaload, 1, []) ::
  (123, .bipush 9, 2, []) ::
  (125, .if_icmp .ne 39, 3, [164]) ::
  (128, .aload_n 0, 1, []) ::
  (129, .getfield 35, 3, []) ::
  (132, .iload_n 2, 1, []) ::
  (133, .iaload, 1, []) ::
  (134, .aload_n 0, 1, []) ::
  (135, .getfield 13, 3, []) ::
  (138, .iload_n 1, 1, []) ::
  (139, .iaload, 1, []) ::
  (140, .if_icmp .ne 20, 3, [160]) ::
  (143, .aload_n 0, 1, []) ::
  (144, .aload_n 0, 1, []) ::
  (145, .getfield 16, 3, []) ::
  (148, .iload_n 1, 1, []) ::
  (149, .iaload, 1, []) ::
  (150, .iload_n 2, 1, []) ::
  (151, .iconst 2, 1, []) ::
  (152, .iadd, 1, []) ::
  (153, .iload_n 3, 1, []) ::
  (154, .invokevirtual 252, 3, []) ::
  (157, .goto 6, 3, [163]) ::
  (160, .ldc2_w 244, 3, []) ::
  (163, .lreturn, 1, []) ::
  (164, .aload_n 0, 1, []) ::
  (165, .aload_n 0, 1, []) ::
  (166, .getfield 16, 3, []) ::
  (169, .iload_n 1, 1, []) ::
  (170, .iaload, 1, []) ::
  (171, .iload_n 2, 1, []) ::
  (172, .iconst 1, 1, []) ::
  (173, .iadd, 1, []) ::
  (174, .aload_n 0, 1, []) ::
  (175, .getfield 7, 3, []) ::
  (178, .iload_n 1, 1, []) ::
  (179, .iaload, 1, []) ::
  (180, .bipush 8, 2, []) ::
  (182, .if_icmp .ne 9, 3, [191]) ::
  (185, .iload_n 3, 1, []) ::
  (186, .iconst 1, 1, []) ::
  (187, .isub, 1, []) ::
  (188, .goto 4, 3, [192]) ::
  kX6_inner_191
def kX6_inner : am_C := (0, .aload_n 0, 1, []) ::
  (1, .getfield 7, 3, []) ::
  (4, .iload_n 1, 1, []) ::
  (5, .iaload, 1, []) ::
  (6, .invokestatic 108, 3, []) ::
  (9, .ifCond .eq 11, 3, [20]) ::
  (12, .aload_n 0, 1, []) ::
  (13, .iload_n 1, 1, []) ::
  (14, .iload_n 2, 1, []) ::
  (15, .iload_n 3, 1, []) ::
  (16, .invokevirtual 249, 3, []) ::
  (19, .lreturn, 1, []) ::
  (20, .aload_n 0, 1, []) ::
  (21, .getfield 7, 3, []) ::
  (24, .iload_n 1, 1, []) ::
  (25, .iaload, 1, []) ::
  (26, .iconst 1, 1, []) ::
  (27, .if_icmp .ne 58, 3, [85]) ::
  (30, .iconst 0, 1, []) ::
  (31, .istore 4, 2, []) ::
  (33, .iload_n 2, 1, []) ::
  (34, .istore 5, 2, []) ::
  kX6_inner_36
theorem kX6_inner_ok : ∀ q ∈ kX6_inner, am_cok cX6_inner q := am_cok_all (by decide +kernel)
def kX6_innerTwo_167 : am_C := (167, .iinc 6 1, 3, []) ::
  (170, .goto (-162), 3, [8]) ::
  (173, .ldc2_w 244, 3, []) ::
  (176, .lreturn, 1, []) ::
  []
def kX6_innerTwo_124 : am_C := (124, .lstore 11, 2, []) ::
  (126, .lload 11, 2, []) ::
  (128, .lconst 0, 1, []) ::
  (129, .lcmp, 1, []) ::
  (130, .ifCond .lt 15, 3, [145]) ::
  (133, .lload 4, 2, []) ::
  (135, .lload 9, 2, []) ::
  (137, .lload 7, 2, []) ::
  (139, .lmul, 1, []) ::
  (140, .ladd, 1, []) ::
  (141, .lload 11, 2, []) ::
  (143, .ladd, 1, []) ::
  (144, .lreturn, 1, []) ::
  (145, .lload 4, 2, []) ::
  (147, .aload_n 0, 1, []) ::
  (148, .getfield 73, 3, []) ::
  (151, .bipush 21, 2, []) ::
  (153, .iload_n 2, 1, []) ::
  (154, .imul, 1, []) ::
  (155, .iload 6, 2, []) ::
  (157, .iadd, 1, []) ::
  (158, .laload, 1, []) ::
  (159, .lload 7, 2, []) ::
  (161, .invokestatic 202, 3, []) ::
  (164, .ladd, 1, []) ::
  (165, .lstore 4, 2, []) ::
  kX6_innerTwo_167
def kX6_innerTwo_121 : am_C := (121, .ldc2_w 244, 3, []) ::
  kX6_innerTwo_124
def kX6_innerTwo_94 : am_C := (94, .lstore 9, 2, []) ::
  (96, .lload 9, 2, []) ::
  (98, .lconst 0, 1, []) ::
  (99, .lcmp, 1, []) ::
  (100, .ifCond .lt 21, 3, [121]) ::
  (103, .aload_n 0, 1, []) ::
  (104, .aload_n 0, 1, []) ::
  (105, .getfield 19, 3, []) ::
  (108, .iload_n 1, 1, []) ::
  (109, .iaload, 1, []) ::
  (110, .iload 6, 2, []) ::
  (112, .iconst 1, 1, []) ::
  (113, .iadd, 1, []) ::
  (114, .iload_n 3, 1, []) ::
  (115, .invokevirtual 252, 3, []) ::
  (118, .goto 6, 3, [124]) ::
  kX6_innerTwo_121
def kX6_innerTwo_91 : am_C := (91, .ldc2_w 244, 3, []) ::
  kX6_innerTwo_94
def kX6_innerTwo_75 : am_C := (75, .aload_n 0, 1, []) ::
  (76, .aload_n 0, 1, []) ::
  (77, .getfield 16, 3, []) ::
  (80, .iload_n 1, 1, []) ::
  (81, .iaload, 1, []) ::
  (82, .iload_n 2, 1, []) ::
  (83, .iload 6, 2, []) ::
  (85, .invokevirtual 252, 3, []) ::
  (88, .goto 6, 3, [94]) ::
  kX6_innerTwo_91
def kX6_innerTwo_58 : am_C := (58, .aload_n 0, 1, []) ::
  (59, .getfield 73, 3, []) ::
  (62, .bipush 21, 2, []) ::
  (64, .iload_n 2, 1, []) ::
  (65, .imul, 1, []) ::
  (66, .iload 6, 2, []) ::
  (68, .iadd, 1, []) ::
  (69, .laload, 1, []) ::
  (70, .lconst 0, 1, []) ::
  (71, .lcmp, 1, []) ::
  (72, .ifCond .le 19, 3, [91]) ::
  kX6_innerTwo_75
def kX6_innerTwo_35 : am_C := (35, .aload_n 0, 1, []) ::
  (36, .getfield 73, 3, []) ::
  (39, .bipush 21, 2, []) ::
  (41, .iload 6, 2, []) ::
  (43, .iconst 1, 1, []) ::
  (44, .iadd, 1, []) ::
  (45, .imul, 1, []) ::
  (46, .iload_n 3, 1, []) ::
  (47, .iadd, 1, []) ::
  (48, .laload, 1, []) ::
  (49, .lstore 7, 2, []) ::
  (51, .lload 7, 2, []) ::
  (53, .lconst 0, 1, []) ::
  (54, .lcmp, 1, []) ::
  (55, .ifCond .le 36, 3, [91]) ::
  kX6_innerTwo_58
def kX6_innerTwo_8 : am_C := (8, .iload 6, 2, []) ::
  (10, .iload_n 3, 1, []) ::
  (11, .iconst 1, 1, []) ::
  (12, .isub, 1, []) ::
  (13, .if_icmp .ge 160, 3, [173]) ::
  (16, .aload_n 0, 1, []) ::
  (17, .getfield 35, 3, []) ::
  (20, .iload 6, 2, []) ::
  (22, .iaload, 1, []) ::
  (23, .bipush 18, 2, []) ::
  (25, .aload_n 0, 1, []) ::
  (26, .getfield 7, 3, []) ::
  (29, .iload_n 1, 1, []) ::
  (30, .iaload, 1, []) ::
  (31, .iadd, 1, []) ::
  (32, .if_icmp .ne 135, 3, [167]) ::
  kX6_innerTwo_35
def kX6_innerTwo : am_C := (0, .lconst 0, 1, []) ::
  (1, .lstore 4, 2, []) ::
  (3, .iload_n 2, 1, []) ::
  (4, .iconst 1, 1, []) ::
  (5, .iadd, 1, []) ::
  (6, .istore 6, 2, []) ::
  kX6_innerTwo_8
theorem kX6_innerTwo_ok : ∀ q ∈ kX6_innerTwo, am_cok cX6_innerTwo q := am_cok_all (by decide +kernel)
def kX6_doubt_240 : am_C := (240, .istore 7, 2, []) ::
  (242, .goto (-135), 3, [107]) ::
  (245, .iload 8, 2, []) ::
  (247, .ireturn, 1, []) ::
  []
def kX6_doubt_233 : am_C := (233, .aload_n 0, 1, []) ::
  (234, .getfield 19, 3, []) ::
  (237, .iload 7, 2, []) ::
  (239, .iaload, 1, []) ::
  kX6_doubt_240
def kX6_doubt_216 : am_C := (216, .istore 6, 2, []) ::
  (218, .iload 10, 2, []) ::
  (220, .ifCond .eq 13, 3, [233]) ::
  (223, .aload_n 0, 1, []) ::
  (224, .getfield 16, 3, []) ::
  (227, .iload 7, 2, []) ::
  (229, .iaload, 1, []) ::
  (230, .goto 10, 3, [240]) ::
  kX6_doubt_233
def kX6_doubt_209 : am_C := (209, .aload_n 0, 1, []) ::
  (210, .getfield 19, 3, []) ::
  (213, .iload 6, 2, []) ::
  (215, .iaload, 1, []) ::
  kX6_doubt_216
def kX6_doubt_185 : am_C := (185, .iadd, 1, []) ::
  (186, .istore 8, 2, []) ::
  (188, .iload 9, 2, []) ::
  (190, .iconst 3, 1, []) ::
  (191, .imul, 1, []) ::
  (192, .istore 9, 2, []) ::
  (194, .iload 10, 2, []) ::
  (196, .ifCond .eq 13, 3, [209]) ::
  (199, .aload_n 0, 1, []) ::
  (200, .getfield 16, 3, []) ::
  (203, .iload 6, 2, []) ::
  (205, .iaload, 1, []) ::
  (206, .goto 10, 3, [216]) ::
  kX6_doubt_209
def kX6_doubt_181 : am_C := (181, .iconst 2, 1, []) ::
  (182, .iload 9, 2, []) ::
  (184, .imul, 1, []) ::
  kX6_doubt_185
def kX6_doubt_167 : am_C := (167, .istore 10, 2, []) ::
  (169, .iload 8, 2, []) ::
  (171, .iload 10, 2, []) ::
  (173, .ifCond .eq 8, 3, [181]) ::
  (176, .iload 9, 2, []) ::
  (178, .goto 7, 3, [185]) ::
  kX6_doubt_181
def kX6_doubt_166 : am_C := (166, .iconst 0, 1, []) ::
  kX6_doubt_167
def kX6_doubt_107 : am_C := (107, .aload_n 0, 1, []) ::
  (108, .getfield 7, 3, []) ::
  (111, .iload 6, 2, []) ::
  (113, .iaload, 1, []) ::
  (114, .aload_n 0, 1, []) ::
  (115, .getfield 7, 3, []) ::
  (118, .iload 7, 2, []) ::
  (120, .iaload, 1, []) ::
  (121, .if_icmp .ne 124, 3, [245]) ::
  (124, .aload_n 0, 1, []) ::
  (125, .getfield 13, 3, []) ::
  (128, .iload 6, 2, []) ::
  (130, .iaload, 1, []) ::
  (131, .aload_n 0, 1, []) ::
  (132, .getfield 13, 3, []) ::
  (135, .iload 7, 2, []) ::
  (137, .iaload, 1, []) ::
  (138, .if_icmp .ne 107, 3, [245]) ::
  (141, .aload_n 0, 1, []) ::
  (142, .aload_n 0, 1, []) ::
  (143, .getfield 16, 3, []) ::
  (146, .iload 6, 2, []) ::
  (148, .iaload, 1, []) ::
  (149, .aload_n 0, 1, []) ::
  (150, .getfield 16, 3, []) ::
  (153, .iload 7, 2, []) ::
  (155, .iaload, 1, []) ::
  (156, .invokevirtual 120, 3, []) ::
  (159, .ifCond .ne 7, 3, [166]) ::
  (162, .iconst 1, 1, []) ::
  (163, .goto 4, 3, [167]) ::
  kX6_doubt_166
def kX6_doubt_47 : am_C := (47, .lload_n 2, 1, []) ::
  (48, .aload_n 0, 1, []) ::
  (49, .iload_n 1, 1, []) ::
  (50, .invokevirtual 222, 3, []) ::
  (53, .lcmp, 1, []) ::
  (54, .ifCond .ge 14, 3, [68]) ::
  (57, .lload 4, 2, []) ::
  (59, .aload_n 0, 1, []) ::
  (60, .iload_n 1, 1, []) ::
  (61, .invokevirtual 222, 3, []) ::
  (64, .lcmp, 1, []) ::
  (65, .ifCond .lt 6, 3, [71]) ::
  (68, .bipush (-4), 2, []) ::
  (70, .ireturn, 1, []) ::
  (71, .aload_n 0, 1, []) ::
  (72, .iconst 0, 1, []) ::
  (73, .putfield 226, 3, []) ::
  (76, .aload_n 0, 1, []) ::
  (77, .iconst 0, 1, []) ::
  (78, .aload_n 0, 1, []) ::
  (79, .getfield 184, 3, []) ::
  (82, .lload_n 2, 1, []) ::
  (83, .invokevirtual 233, 3, []) ::
  (86, .istore 6, 2, []) ::
  (88, .aload_n 0, 1, []) ::
  (89, .iconst 0, 1, []) ::
  (90, .aload_n 0, 1, []) ::
  (91, .getfield 184, 3, []) ::
  (94, .lload 4, 2, []) ::
  (96, .invokevirtual 233, 3, []) ::
  (99, .istore 7, 2, []) ::
  (101, .iconst 0, 1, []) ::
  (102, .istore 8, 2, []) ::
  (104, .iconst 1, 1, []) ::
  (105, .istore 9, 2, []) ::
  kX6_doubt_107
def kX6_doubt_44 : am_C := (44, .bipush (-2), 2, []) ::
  (46, .ireturn, 1, []) ::
  kX6_doubt_47
def kX6_doubt_34 : am_C := (34, .lload_n 2, 1, []) ::
  (35, .aload_n 0, 1, []) ::
  (36, .iload_n 1, 1, []) ::
  (37, .invokevirtual 222, 3, []) ::
  (40, .lcmp, 1, []) ::
  (41, .ifCond .ge 6, 3, [47]) ::
  kX6_doubt_44
def kX6_doubt : am_C := (0, .iload_n 1, 1, []) ::
  (1, .i2l, 1, []) ::
  (2, .lconst 0, 1, []) ::
  (3, .ldc2_w 220, 3, []) ::
  (6, .invokestatic 88, 3, []) ::
  (9, .ifCond .eq 16, 3, [25]) ::
  (12, .lload_n 2, 1, []) ::
  (13, .lconst 0, 1, []) ::
  (14, .lcmp, 1, []) ::
  (15, .ifCond .lt 10, 3, [25]) ::
  (18, .lload 4, 2, []) ::
  (20, .lconst 0, 1, []) ::
  (21, .lcmp, 1, []) ::
  (22, .ifCond .ge 5, 3, [27]) ::
  (25, .iconst (-1), 1, []) ::
  (26, .ireturn, 1, []) ::
  (27, .lload_n 2, 1, []) ::
  (28, .lload 4, 2, []) ::
  (30, .lcmp, 1, []) ::
  (31, .ifCond .ne 16, 3, [47]) ::
  kX6_doubt_34
theorem kX6_doubt_ok : ∀ q ∈ kX6_doubt, am_cok cX6_doubt q := am_cok_all (by decide +kernel)
def kX6_fewest_141 : am_C := (141, .iload 4, 2, []) ::
  (143, .iload_n 3, 1, []) ::
  (144, .if_icmp .ge 23, 3, [167]) ::
  (147, .aload_n 0, 1, []) ::
  (148, .getfield 35, 3, []) ::
  (151, .iload 4, 2, []) ::
  (153, .aload_n 0, 1, []) ::
  (154, .getfield 60, 3, []) ::
  (157, .iload 4, 2, []) ::
  (159, .iaload, 1, []) ::
  (160, .iastore, 1, []) ::
  (161, .iinc 4 1, 3, []) ::
  (164, .goto (-23), 3, [141]) ::
  (167, .aload_n 0, 1, []) ::
  (168, .iload_n 3, 1, []) ::
  (169, .putfield 184, 3, []) ::
  (172, .bipush (-2), 2, []) ::
  (174, .ireturn, 1, []) ::
  []
def kX6_fewest_126 : am_C := (126, .iinc 5 1, 3, []) ::
  (129, .goto (-37), 3, [92]) ::
  (132, .iinc 4 1, 3, []) ::
  (135, .goto (-52), 3, [83]) ::
  (138, .iconst 0, 1, []) ::
  (139, .istore 4, 2, []) ::
  kX6_fewest_141
def kX6_fewest_121 : am_C := (121, .aload_n 0, 1, []) ::
  (122, .getfield 184, 3, []) ::
  (125, .ireturn, 1, []) ::
  kX6_fewest_126
def kX6_fewest_110 : am_C := (110, .aload_n 0, 1, []) ::
  (111, .iload_n 1, 1, []) ::
  (112, .iload 5, 2, []) ::
  (114, .iload_n 2, 1, []) ::
  (115, .invokevirtual 263, 3, []) ::
  (118, .ifCond .eq 8, 3, [126]) ::
  kX6_fewest_121
def kX6_fewest_92 : am_C := (92, .iload 5, 2, []) ::
  (94, .iconst 1, 1, []) ::
  (95, .iload_n 2, 1, []) ::
  (96, .ishl, 1, []) ::
  (97, .if_icmp .ge 35, 3, [132]) ::
  (100, .iload 5, 2, []) ::
  (102, .invokestatic 260, 3, []) ::
  (105, .iload 4, 2, []) ::
  (107, .if_icmp .ne 19, 3, [126]) ::
  kX6_fewest_110
def kX6_fewest_83 : am_C := (83, .iload 4, 2, []) ::
  (85, .iload_n 2, 1, []) ::
  (86, .if_icmp .gt 52, 3, [138]) ::
  (89, .iconst 0, 1, []) ::
  (90, .istore 5, 2, []) ::
  kX6_fewest_92
def kX6_fewest_54 : am_C := (54, .iload 4, 2, []) ::
  (56, .iload_n 3, 1, []) ::
  (57, .if_icmp .ge 23, 3, [80]) ::
  (60, .aload_n 0, 1, []) ::
  (61, .getfield 60, 3, []) ::
  (64, .iload 4, 2, []) ::
  (66, .aload_n 0, 1, []) ::
  (67, .getfield 35, 3, []) ::
  (70, .iload 4, 2, []) ::
  (72, .iaload, 1, []) ::
  (73, .iastore, 1, []) ::
  (74, .iinc 4 1, 3, []) ::
  (77, .goto (-23), 3, [54]) ::
  (80, .iconst 0, 1, []) ::
  (81, .istore 4, 2, []) ::
  kX6_fewest_83
def kX6_fewest_30 : am_C := (30, .aload_n 0, 1, []) ::
  (31, .iload_n 1, 1, []) ::
  (32, .invokevirtual 115, 3, []) ::
  (35, .ifCond .eq 8, 3, [43]) ::
  (38, .bipush (-5), 2, []) ::
  (40, .goto 5, 3, [45]) ::
  (43, .bipush (-3), 2, []) ::
  (45, .ireturn, 1, []) ::
  (46, .aload_n 0, 1, []) ::
  (47, .getfield 184, 3, []) ::
  (50, .istore_n 3, 1, []) ::
  (51, .iconst 0, 1, []) ::
  (52, .istore 4, 2, []) ::
  kX6_fewest_54
def kX6_fewest_24 : am_C := (24, .iload_n 2, 1, []) ::
  (25, .bipush 8, 2, []) ::
  (27, .if_icmp .le 19, 3, [46]) ::
  kX6_fewest_30
def kX6_fewest : am_C := (0, .aload_n 0, 1, []) ::
  (1, .iload_n 1, 1, []) ::
  (2, .invokevirtual 104, 3, []) ::
  (5, .ifCond .ne 5, 3, [10]) ::
  (8, .iconst (-1), 1, []) ::
  (9, .ireturn, 1, []) ::
  (10, .aload_n 0, 1, []) ::
  (11, .iload_n 1, 1, []) ::
  (12, .invokevirtual 257, 3, []) ::
  (15, .istore_n 2, 1, []) ::
  (16, .aload_n 0, 1, []) ::
  (17, .iload_n 1, 1, []) ::
  (18, .invokevirtual 115, 3, []) ::
  (21, .ifCond .eq 9, 3, [30]) ::
  kX6_fewest_24
theorem kX6_fewest_ok : ∀ q ∈ kX6_fewest, am_cok cX6_fewest q := am_cok_all (by decide +kernel)
def kX6_keepable_25 : am_C := (25, .aload_n 0, 1, []) ::
  (26, .aload_n 0, 1, []) ::
  (27, .getfield 16, 3, []) ::
  (30, .iload_n 1, 1, []) ::
  (31, .iaload, 1, []) ::
  (32, .invokevirtual 257, 3, []) ::
  (35, .iadd, 1, []) ::
  (36, .aload_n 0, 1, []) ::
  (37, .aload_n 0, 1, []) ::
  (38, .getfield 19, 3, []) ::
  (41, .iload_n 1, 1, []) ::
  (42, .iaload, 1, []) ::
  (43, .invokevirtual 257, 3, []) ::
  (46, .iadd, 1, []) ::
  (47, .ireturn, 1, []) ::
  []
def kX6_keepable_24 : am_C := (24, .iconst 0, 1, []) ::
  kX6_keepable_25
def kX6_keepable : am_C := (0, .iload_n 1, 1, []) ::
  (1, .ifCond .ge 7, 3, [8]) ::
  (4, .iconst 0, 1, []) ::
  (5, .goto 42, 3, [47]) ::
  (8, .aload_n 0, 1, []) ::
  (9, .getfield 7, 3, []) ::
  (12, .iload_n 1, 1, []) ::
  (13, .iaload, 1, []) ::
  (14, .invokestatic 131, 3, []) ::
  (17, .ifCond .eq 7, 3, [24]) ::
  (20, .iconst 1, 1, []) ::
  (21, .goto 4, 3, [25]) ::
  kX6_keepable_24
theorem kX6_keepable_ok : ∀ q ∈ kX6_keepable, am_cok cX6_keepable q := am_cok_all (by decide +kernel)
def kX6_bits_4 : am_C := (4, .iload_n 2, 1, []) ::
  (5, .bipush 8, 2, []) ::
  (7, .if_icmp .ge 17, 3, [24]) ::
  (10, .iload_n 1, 1, []) ::
  (11, .iload_n 0, 1, []) ::
  (12, .iload_n 2, 1, []) ::
  (13, .ishr, 1, []) ::
  (14, .iconst 1, 1, []) ::
  (15, .iand, 1, []) ::
  (16, .iadd, 1, []) ::
  (17, .istore_n 1, 1, []) ::
  (18, .iinc 2 1, 3, []) ::
  (21, .goto (-17), 3, [4]) ::
  (24, .iload_n 1, 1, []) ::
  (25, .ireturn, 1, []) ::
  []
def kX6_bits : am_C := (0, .iconst 0, 1, []) ::
  (1, .istore_n 1, 1, []) ::
  (2, .iconst 0, 1, []) ::
  (3, .istore_n 2, 1, []) ::
  kX6_bits_4
theorem kX6_bits_ok : ∀ q ∈ kX6_bits, am_cok cX6_bits q := am_cok_all (by decide +kernel)
def kX6_isOnly : am_C := (0, .aload_n 0, 1, []) ::
  (1, .iconst 0, 1, []) ::
  (2, .putfield 144, 3, []) ::
  (5, .aload_n 0, 1, []) ::
  (6, .iload_n 2, 1, []) ::
  (7, .putfield 56, 3, []) ::
  (10, .aload_n 0, 1, []) ::
  (11, .iconst 0, 1, []) ::
  (12, .putfield 147, 3, []) ::
  (15, .aload_n 0, 1, []) ::
  (16, .iload_n 3, 1, []) ::
  (17, .putfield 150, 3, []) ::
  (20, .aload_n 0, 1, []) ::
  (21, .iconst 0, 1, []) ::
  (22, .iload_n 1, 1, []) ::
  (23, .invokevirtual 160, 3, []) ::
  (26, .aload_n 0, 1, []) ::
  (27, .iconst (-1), 1, []) ::
  (28, .putfield 56, 3, []) ::
  (31, .aload_n 0, 1, []) ::
  (32, .getfield 144, 3, []) ::
  (35, .bipush 20, 2, []) ::
  (37, .if_icmp .le 5, 3, [42]) ::
  (40, .iconst 0, 1, []) ::
  (41, .ireturn, 1, []) ::
  (42, .aload_n 0, 1, []) ::
  (43, .invokevirtual 187, 3, []) ::
  (46, .aload_n 0, 1, []) ::
  (47, .bipush 8, 2, []) ::
  (49, .invokevirtual 222, 3, []) ::
  (52, .lconst 1, 1, []) ::
  (53, .lcmp, 1, []) ::
  (54, .ifCond .ne 7, 3, [61]) ::
  (57, .iconst 1, 1, []) ::
  (58, .goto 4, 3, [62]) ::
  (61, .iconst 0, 1, []) ::
  (62, .ireturn, 1, []) ::
  []
theorem kX6_isOnly_ok : ∀ q ∈ kX6_isOnly, am_cok cX6_isOnly q := am_cok_all (by decide +kernel)
def kX6_walk : am_C := (0, .aload_n 0, 1, []) ::
  (1, .iload_n 1, 1, []) ::
  (2, .invokevirtual 104, 3, []) ::
  (5, .ifCond .ne 5, 3, [10]) ::
  (8, .iconst (-1), 1, []) ::
  (9, .ireturn, 1, []) ::
  (10, .aload_n 0, 1, []) ::
  (11, .iconst 1, 1, []) ::
  (12, .putfield 111, 3, []) ::
  (15, .aload_n 0, 1, []) ::
  (16, .getfield 76, 3, []) ::
  (19, .iconst 0, 1, []) ::
  (20, .iload_n 1, 1, []) ::
  (21, .iastore, 1, []) ::
  (22, .aload_n 0, 1, []) ::
  (23, .iconst 0, 1, []) ::
  (24, .putfield 267, 3, []) ::
  (27, .iconst 0, 1, []) ::
  (28, .ireturn, 1, []) ::
  []
theorem kX6_walk_ok : ∀ q ∈ kX6_walk, am_cok cX6_walk q := am_cok_all (by decide +kernel)
def kX6_go_119 : am_C := (119, .aload_n 0, 1, []) ::
  (120, .getfield 76, 3, []) ::
  (123, .aload_n 0, 1, []) ::
  (124, .getfield 267, 3, []) ::
  (127, .iaload, 1, []) ::
  (128, .ireturn, 1, []) ::
  []
def kX6_go_101 : am_C := (101, .aload_n 0, 1, []) ::
  (102, .iconst 1, 1, []) ::
  (103, .aload_n 0, 1, []) ::
  (104, .getfield 79, 3, []) ::
  (107, .aload_n 0, 1, []) ::
  (108, .getfield 267, 3, []) ::
  (111, .iconst 1, 1, []) ::
  (112, .iadd, 1, []) ::
  (113, .iaload, 1, []) ::
  (114, .isub, 1, []) ::
  (115, .invokevirtual 272, 3, []) ::
  (118, .istore_n 2, 1, []) ::
  kX6_go_119
def kX6_go_86 : am_C := (86, .aload_n 0, 1, []) ::
  (87, .dup, 1, []) ::
  (88, .getfield 267, 3, []) ::
  (91, .iconst 1, 1, []) ::
  (92, .isub, 1, []) ::
  (93, .putfield 267, 3, []) ::
  (96, .iload_n 1, 1, []) ::
  (97, .iconst 3, 1, []) ::
  (98, .if_icmp .ne 21, 3, [119]) ::
  kX6_go_101
def kX6_go_83 : am_C := (83, .bipush (-3), 2, []) ::
  (85, .ireturn, 1, []) ::
  kX6_go_86
def kX6_go_64 : am_C := (64, .aload_n 0, 1, []) ::
  (65, .getfield 19, 3, []) ::
  (68, .aload_n 0, 1, []) ::
  (69, .getfield 76, 3, []) ::
  (72, .aload_n 0, 1, []) ::
  (73, .getfield 267, 3, []) ::
  (76, .iconst 1, 1, []) ::
  (77, .isub, 1, []) ::
  (78, .iaload, 1, []) ::
  (79, .iaload, 1, []) ::
  (80, .ifCond .ge 6, 3, [86]) ::
  kX6_go_83
def kX6_go : am_C := (0, .iload_n 1, 1, []) ::
  (1, .i2l, 1, []) ::
  (2, .lconst 0, 1, []) ::
  (3, .ldc2_w 270, 3, []) ::
  (6, .invokestatic 88, 3, []) ::
  (9, .ifCond .ne 5, 3, [14]) ::
  (12, .iconst (-1), 1, []) ::
  (13, .ireturn, 1, []) ::
  (14, .aload_n 0, 1, []) ::
  (15, .getfield 111, 3, []) ::
  (18, .ifCond .ne 6, 3, [24]) ::
  (21, .bipush (-2), 2, []) ::
  (23, .ireturn, 1, []) ::
  (24, .iload_n 1, 1, []) ::
  (25, .iconst 2, 1, []) ::
  (26, .if_icmp .ge 26, 3, [52]) ::
  (29, .aload_n 0, 1, []) ::
  (30, .iload_n 1, 1, []) ::
  (31, .invokevirtual 272, 3, []) ::
  (34, .ifCond .eq 15, 3, [49]) ::
  (37, .aload_n 0, 1, []) ::
  (38, .getfield 76, 3, []) ::
  (41, .aload_n 0, 1, []) ::
  (42, .getfield 267, 3, []) ::
  (45, .iaload, 1, []) ::
  (46, .goto 5, 3, [51]) ::
  (49, .bipush (-3), 2, []) ::
  (51, .ireturn, 1, []) ::
  (52, .aload_n 0, 1, []) ::
  (53, .getfield 267, 3, []) ::
  (56, .ifCond .eq 27, 3, [83]) ::
  (59, .iload_n 1, 1, []) ::
  (60, .iconst 3, 1, []) ::
  (61, .if_icmp .ne 25, 3, [86]) ::
  kX6_go_64
theorem kX6_go_ok : ∀ q ∈ kX6_go, am_cok cX6_go q := am_cok_all (by decide +kernel)
def kX6_down_74 : am_C := (74, .iload_n 2, 1, []) ::
  (75, .ifCond .lt 7, 3, [82]) ::
  (78, .iconst 1, 1, []) ::
  (79, .goto 4, 3, [83]) ::
  (82, .iconst 0, 1, []) ::
  (83, .ireturn, 1, []) ::
  []
def kX6_down_40 : am_C := (40, .aload_n 0, 1, []) ::
  (41, .getfield 76, 3, []) ::
  (44, .aload_n 0, 1, []) ::
  (45, .getfield 267, 3, []) ::
  (48, .iconst 1, 1, []) ::
  (49, .iadd, 1, []) ::
  (50, .iload_n 2, 1, []) ::
  (51, .iastore, 1, []) ::
  (52, .aload_n 0, 1, []) ::
  (53, .getfield 79, 3, []) ::
  (56, .aload_n 0, 1, []) ::
  (57, .getfield 267, 3, []) ::
  (60, .iconst 1, 1, []) ::
  (61, .iadd, 1, []) ::
  (62, .iload_n 1, 1, []) ::
  (63, .iastore, 1, []) ::
  (64, .aload_n 0, 1, []) ::
  (65, .dup, 1, []) ::
  (66, .getfield 267, 3, []) ::
  (69, .iconst 1, 1, []) ::
  (70, .iadd, 1, []) ::
  (71, .putfield 267, 3, []) ::
  kX6_down_74
def kX6_down_35 : am_C := (35, .istore_n 2, 1, []) ::
  (36, .iload_n 2, 1, []) ::
  (37, .ifCond .lt 37, 3, [74]) ::
  kX6_down_40
def kX6_down_21 : am_C := (21, .aload_n 0, 1, []) ::
  (22, .getfield 19, 3, []) ::
  (25, .aload_n 0, 1, []) ::
  (26, .getfield 76, 3, []) ::
  (29, .aload_n 0, 1, []) ::
  (30, .getfield 267, 3, []) ::
  (33, .iaload, 1, []) ::
  (34, .iaload, 1, []) ::
  kX6_down_35
def kX6_down : am_C := (0, .iload_n 1, 1, []) ::
  (1, .ifCond .ne 20, 3, [21]) ::
  (4, .aload_n 0, 1, []) ::
  (5, .getfield 16, 3, []) ::
  (8, .aload_n 0, 1, []) ::
  (9, .getfield 76, 3, []) ::
  (12, .aload_n 0, 1, []) ::
  (13, .getfield 267, 3, []) ::
  (16, .iaload, 1, []) ::
  (17, .iaload, 1, []) ::
  (18, .goto 17, 3, [35]) ::
  kX6_down_21
theorem kX6_down_ok : ∀ q ∈ kX6_down, am_cok cX6_down q := am_cok_all (by decide +kernel)
def kX6_where_78 : am_C := (78, .iload_n 3, 1, []) ::
  (79, .ifCond .le 22, 3, [101]) ::
  (82, .iconst 3, 1, []) ::
  (83, .iload_n 2, 1, []) ::
  (84, .imul, 1, []) ::
  (85, .aload_n 0, 1, []) ::
  (86, .getfield 79, 3, []) ::
  (89, .iload_n 3, 1, []) ::
  (90, .iaload, 1, []) ::
  (91, .iadd, 1, []) ::
  (92, .iconst 1, 1, []) ::
  (93, .iadd, 1, []) ::
  (94, .istore_n 2, 1, []) ::
  (95, .iinc 3 (-1), 3, []) ::
  (98, .goto (-20), 3, [78]) ::
  (101, .iload_n 2, 1, []) ::
  (102, .ireturn, 1, []) ::
  []
def kX6_where : am_C := (0, .aload_n 0, 1, []) ::
  (1, .iconst 0, 1, []) ::
  (2, .putfield 82, 3, []) ::
  (5, .iload_n 1, 1, []) ::
  (6, .i2l, 1, []) ::
  (7, .lconst 0, 1, []) ::
  (8, .ldc2_w 102, 3, []) ::
  (11, .invokestatic 88, 3, []) ::
  (14, .ifCond .ne 5, 3, [19]) ::
  (17, .iconst (-1), 1, []) ::
  (18, .ireturn, 1, []) ::
  (19, .aload_n 0, 1, []) ::
  (20, .getfield 111, 3, []) ::
  (23, .ifCond .ne 6, 3, [29]) ::
  (26, .bipush (-2), 2, []) ::
  (28, .ireturn, 1, []) ::
  (29, .iload_n 1, 1, []) ::
  (30, .ifCond .le 25, 3, [55]) ::
  (33, .iload_n 1, 1, []) ::
  (34, .iconst 1, 1, []) ::
  (35, .if_icmp .ne 10, 3, [45]) ::
  (38, .aload_n 0, 1, []) ::
  (39, .getfield 267, 3, []) ::
  (42, .goto 12, 3, [54]) ::
  (45, .aload_n 0, 1, []) ::
  (46, .getfield 76, 3, []) ::
  (49, .aload_n 0, 1, []) ::
  (50, .getfield 267, 3, []) ::
  (53, .iaload, 1, []) ::
  (54, .ireturn, 1, []) ::
  (55, .aload_n 0, 1, []) ::
  (56, .getfield 267, 3, []) ::
  (59, .bipush 19, 2, []) ::
  (61, .if_icmp .le 10, 3, [71]) ::
  (64, .aload_n 0, 1, []) ::
  (65, .iconst 1, 1, []) ::
  (66, .putfield 82, 3, []) ::
  (69, .iconst 0, 1, []) ::
  (70, .ireturn, 1, []) ::
  (71, .iconst 0, 1, []) ::
  (72, .istore_n 2, 1, []) ::
  (73, .aload_n 0, 1, []) ::
  (74, .getfield 267, 3, []) ::
  (77, .istore_n 3, 1, []) ::
  kX6_where_78
theorem kX6_where_ok : ∀ q ∈ kX6_where, am_cok cX6_where q := am_cok_all (by decide +kernel)
def kX6_lead_87 : am_C := (87, .iload 4, 2, []) ::
  (89, .ifCond .le 24, 3, [113]) ::
  (92, .aload_n 0, 1, []) ::
  (93, .iload 4, 2, []) ::
  (95, .iconst 3, 1, []) ::
  (96, .irem, 1, []) ::
  (97, .iconst 1, 1, []) ::
  (98, .isub, 1, []) ::
  (99, .invokevirtual 272, 3, []) ::
  (102, .istore 5, 2, []) ::
  (104, .iload 4, 2, []) ::
  (106, .iconst 3, 1, []) ::
  (107, .idiv, 1, []) ::
  (108, .istore 4, 2, []) ::
  (110, .goto (-23), 3, [87]) ::
  (113, .aload_n 0, 1, []) ::
  (114, .getfield 76, 3, []) ::
  (117, .aload_n 0, 1, []) ::
  (118, .getfield 267, 3, []) ::
  (121, .iaload, 1, []) ::
  (122, .ireturn, 1, []) ::
  []
def kX6_lead_69 : am_C := (69, .iload_n 2, 1, []) ::
  (70, .ifCond .lt 7, 3, [77]) ::
  (73, .iload_n 3, 1, []) ::
  (74, .ifCond .ge 5, 3, [79]) ::
  (77, .iconst (-1), 1, []) ::
  (78, .ireturn, 1, []) ::
  (79, .aload_n 0, 1, []) ::
  (80, .iconst 0, 1, []) ::
  (81, .putfield 267, 3, []) ::
  (84, .iload_n 1, 1, []) ::
  (85, .istore 4, 2, []) ::
  kX6_lead_87
def kX6_lead_61 : am_C := (61, .istore_n 2, 1, []) ::
  (62, .iload_n 3, 1, []) ::
  (63, .iconst 3, 1, []) ::
  (64, .idiv, 1, []) ::
  (65, .istore_n 3, 1, []) ::
  (66, .goto (-47), 3, [19]) ::
  kX6_lead_69
def kX6_lead_59 : am_C := (59, .bipush (-2), 2, []) ::
  kX6_lead_61
def kX6_lead_43 : am_C := (43, .iload_n 3, 1, []) ::
  (44, .iconst 3, 1, []) ::
  (45, .irem, 1, []) ::
  (46, .iconst 2, 1, []) ::
  (47, .if_icmp .ne 12, 3, [59]) ::
  (50, .aload_n 0, 1, []) ::
  (51, .getfield 19, 3, []) ::
  (54, .iload_n 2, 1, []) ::
  (55, .iaload, 1, []) ::
  (56, .goto 5, 3, [61]) ::
  kX6_lead_59
def kX6_lead_27 : am_C := (27, .iload_n 3, 1, []) ::
  (28, .iconst 3, 1, []) ::
  (29, .irem, 1, []) ::
  (30, .iconst 1, 1, []) ::
  (31, .if_icmp .ne 12, 3, [43]) ::
  (34, .aload_n 0, 1, []) ::
  (35, .getfield 16, 3, []) ::
  (38, .iload_n 2, 1, []) ::
  (39, .iaload, 1, []) ::
  (40, .goto 21, 3, [61]) ::
  kX6_lead_43
def kX6_lead_23 : am_C := (23, .iload_n 3, 1, []) ::
  (24, .ifCond .le 45, 3, [69]) ::
  kX6_lead_27
def kX6_lead_19 : am_C := (19, .iload_n 2, 1, []) ::
  (20, .ifCond .lt 49, 3, [69]) ::
  kX6_lead_23
def kX6_lead : am_C := (0, .aload_n 0, 1, []) ::
  (1, .getfield 111, 3, []) ::
  (4, .ifCond .ne 6, 3, [10]) ::
  (7, .bipush (-2), 2, []) ::
  (9, .ireturn, 1, []) ::
  (10, .aload_n 0, 1, []) ::
  (11, .getfield 76, 3, []) ::
  (14, .iconst 0, 1, []) ::
  (15, .iaload, 1, []) ::
  (16, .istore_n 2, 1, []) ::
  (17, .iload_n 1, 1, []) ::
  (18, .istore_n 3, 1, []) ::
  kX6_lead_19
theorem kX6_lead_ok : ∀ q ∈ kX6_lead, am_cok cX6_lead q := am_cok_all (by decide +kernel)
def kX6_glance : am_C := (0, .iload_n 1, 1, []) ::
  (1, .invokestatic 128, 3, []) ::
  (4, .ifCond .eq 15, 3, [19]) ::
  (7, .iload_n 2, 1, []) ::
  (8, .i2l, 1, []) ::
  (9, .lconst 0, 1, []) ::
  (10, .ldc2_w 94, 3, []) ::
  (13, .invokestatic 88, 3, []) ::
  (16, .ifCond .ne 5, 3, [21]) ::
  (19, .iconst (-1), 1, []) ::
  (20, .ireturn, 1, []) ::
  (21, .aload_n 0, 1, []) ::
  (22, .getfield 111, 3, []) ::
  (25, .ifCond .ne 6, 3, [31]) ::
  (28, .bipush (-2), 2, []) ::
  (30, .ireturn, 1, []) ::
  (31, .aload_n 0, 1, []) ::
  (32, .iload_n 1, 1, []) ::
  (33, .aload_n 0, 1, []) ::
  (34, .getfield 76, 3, []) ::
  (37, .aload_n 0, 1, []) ::
  (38, .getfield 267, 3, []) ::
  (41, .iaload, 1, []) ::
  (42, .iload_n 2, 1, []) ::
  (43, .invokevirtual 275, 3, []) ::
  (46, .istore_n 3, 1, []) ::
  (47, .iload_n 3, 1, []) ::
  (48, .bipush 80, 2, []) ::
  (50, .if_icmp .le 8, 3, [58]) ::
  (53, .bipush (-5), 2, []) ::
  (55, .goto 4, 3, [59]) ::
  (58, .iload_n 3, 1, []) ::
  (59, .ireturn, 1, []) ::
  []
theorem kX6_glance_ok : ∀ q ∈ kX6_glance, am_cok cX6_glance q := am_cok_all (by decide +kernel)
def kX6_glanced_41 : am_C := (41, .iadd, 1, []) ::
  (42, .aload_n 0, 1, []) ::
  (43, .iload_n 1, 1, []) ::
  (44, .aload_n 0, 1, []) ::
  (45, .getfield 16, 3, []) ::
  (48, .iload_n 2, 1, []) ::
  (49, .iaload, 1, []) ::
  (50, .iload_n 3, 1, []) ::
  (51, .iconst 1, 1, []) ::
  (52, .isub, 1, []) ::
  (53, .invokevirtual 275, 3, []) ::
  (56, .iadd, 1, []) ::
  (57, .aload_n 0, 1, []) ::
  (58, .iload_n 1, 1, []) ::
  (59, .aload_n 0, 1, []) ::
  (60, .getfield 19, 3, []) ::
  (63, .iload_n 2, 1, []) ::
  (64, .iaload, 1, []) ::
  (65, .iload_n 3, 1, []) ::
  (66, .iconst 1, 1, []) ::
  (67, .isub, 1, []) ::
  (68, .invokevirtual 275, 3, []) ::
  (71, .iadd, 1, []) ::
  (72, .ireturn, 1, []) ::
  []
def kX6_glanced_40 : am_C := (40, .iconst 0, 1, []) ::
  kX6_glanced_41
def kX6_glanced : am_C := (0, .iload_n 2, 1, []) ::
  (1, .ifCond .ge 5, 3, [6]) ::
  (4, .iconst 0, 1, []) ::
  (5, .ireturn, 1, []) ::
  (6, .iload_n 3, 1, []) ::
  (7, .ifCond .ge 5, 3, [12]) ::
  (10, .iconst 1, 1, []) ::
  (11, .ireturn, 1, []) ::
  (12, .aload_n 0, 1, []) ::
  (13, .iload_n 2, 1, []) ::
  (14, .invokevirtual 138, 3, []) ::
  (17, .aload_n 0, 1, []) ::
  (18, .getfield 32, 3, []) ::
  (21, .bipush 10, 2, []) ::
  (23, .iload_n 1, 1, []) ::
  (24, .imul, 1, []) ::
  (25, .aload_n 0, 1, []) ::
  (26, .getfield 7, 3, []) ::
  (29, .iload_n 2, 1, []) ::
  (30, .iaload, 1, []) ::
  (31, .iadd, 1, []) ::
  (32, .baload, 1, []) ::
  (33, .ifCond .eq 7, 3, [40]) ::
  (36, .iconst 2, 1, []) ::
  (37, .goto 4, 3, [41]) ::
  kX6_glanced_40
theorem kX6_glanced_ok : ∀ q ∈ kX6_glanced, am_cok cX6_glanced q := am_cok_all (by decide +kernel)
def kX6_changed : am_C := (0, .aload_n 0, 1, []) ::
  (1, .iload_n 1, 1, []) ::
  (2, .invokevirtual 104, 3, []) ::
  (5, .ifCond .eq 20, 3, [25]) ::
  (8, .aload_n 0, 1, []) ::
  (9, .iload_n 2, 1, []) ::
  (10, .invokevirtual 104, 3, []) ::
  (13, .ifCond .eq 12, 3, [25]) ::
  (16, .aload_n 0, 1, []) ::
  (17, .iload_n 1, 1, []) ::
  (18, .iload_n 2, 1, []) ::
  (19, .invokevirtual 279, 3, []) ::
  (22, .goto 4, 3, [26]) ::
  (25, .iconst (-1), 1, []) ::
  (26, .ireturn, 1, []) ::
  []
theorem kX6_changed_ok : ∀ q ∈ kX6_changed, am_cok cX6_changed q := am_cok_all (by decide +kernel)
def kX6_difference_39 : am_C := (39, .istore 4, 2, []) ::
  (41, .iload 4, 2, []) ::
  (43, .iload_n 3, 1, []) ::
  (44, .if_icmp .ge 8, 3, [52]) ::
  (47, .iload 4, 2, []) ::
  (49, .goto 4, 3, [53]) ::
  (52, .iload_n 3, 1, []) ::
  (53, .ireturn, 1, []) ::
  []
def kX6_difference_38 : am_C := (38, .iload_n 3, 1, []) ::
  kX6_difference_39
def kX6_difference : am_C := (0, .aload_n 0, 1, []) ::
  (1, .getfield 22, 3, []) ::
  (4, .iload_n 1, 1, []) ::
  (5, .iaload, 1, []) ::
  (6, .aload_n 0, 1, []) ::
  (7, .getfield 22, 3, []) ::
  (10, .iload_n 2, 1, []) ::
  (11, .iaload, 1, []) ::
  (12, .iadd, 1, []) ::
  (13, .istore_n 3, 1, []) ::
  (14, .aload_n 0, 1, []) ::
  (15, .getfield 7, 3, []) ::
  (18, .iload_n 1, 1, []) ::
  (19, .iaload, 1, []) ::
  (20, .aload_n 0, 1, []) ::
  (21, .getfield 7, 3, []) ::
  (24, .iload_n 2, 1, []) ::
  (25, .iaload, 1, []) ::
  (26, .if_icmp .ne 12, 3, [38]) ::
  (29, .aload_n 0, 1, []) ::
  (30, .iload_n 1, 1, []) ::
  (31, .iload_n 2, 1, []) ::
  (32, .invokevirtual 282, 3, []) ::
  (35, .goto 4, 3, [39]) ::
  kX6_difference_38
theorem kX6_difference_ok : ∀ q ∈ kX6_difference, am_cok cX6_difference q := am_cok_all (by decide +kernel)
def kX6_inside_51 : am_C := (51, .iadd, 1, []) ::
  (52, .aload_n 0, 1, []) ::
  (53, .getfield 19, 3, []) ::
  (56, .iload_n 1, 1, []) ::
  (57, .iaload, 1, []) ::
  (58, .ifCond .ge 7, 3, [65]) ::
  (61, .iconst 0, 1, []) ::
  (62, .goto 19, 3, [81]) ::
  (65, .aload_n 0, 1, []) ::
  (66, .aload_n 0, 1, []) ::
  (67, .getfield 19, 3, []) ::
  (70, .iload_n 1, 1, []) ::
  (71, .iaload, 1, []) ::
  (72, .aload_n 0, 1, []) ::
  (73, .getfield 19, 3, []) ::
  (76, .iload_n 2, 1, []) ::
  (77, .iaload, 1, []) ::
  (78, .invokevirtual 279, 3, []) ::
  (81, .iadd, 1, []) ::
  (82, .ireturn, 1, []) ::
  []
def kX6_inside_35 : am_C := (35, .aload_n 0, 1, []) ::
  (36, .aload_n 0, 1, []) ::
  (37, .getfield 16, 3, []) ::
  (40, .iload_n 1, 1, []) ::
  (41, .iaload, 1, []) ::
  (42, .aload_n 0, 1, []) ::
  (43, .getfield 16, 3, []) ::
  (46, .iload_n 2, 1, []) ::
  (47, .iaload, 1, []) ::
  (48, .invokevirtual 279, 3, []) ::
  kX6_inside_51
def kX6_inside_20 : am_C := (20, .istore_n 3, 1, []) ::
  (21, .iload_n 3, 1, []) ::
  (22, .aload_n 0, 1, []) ::
  (23, .getfield 16, 3, []) ::
  (26, .iload_n 1, 1, []) ::
  (27, .iaload, 1, []) ::
  (28, .ifCond .ge 7, 3, [35]) ::
  (31, .iconst 0, 1, []) ::
  (32, .goto 19, 3, [51]) ::
  kX6_inside_35
def kX6_inside_19 : am_C := (19, .iconst 0, 1, []) ::
  kX6_inside_20
def kX6_inside : am_C := (0, .aload_n 0, 1, []) ::
  (1, .getfield 13, 3, []) ::
  (4, .iload_n 1, 1, []) ::
  (5, .iaload, 1, []) ::
  (6, .aload_n 0, 1, []) ::
  (7, .getfield 13, 3, []) ::
  (10, .iload_n 2, 1, []) ::
  (11, .iaload, 1, []) ::
  (12, .if_icmp .eq 7, 3, [19]) ::
  (15, .iconst 1, 1, []) ::
  (16, .goto 4, 3, [20]) ::
  kX6_inside_19
theorem kX6_inside_ok : ∀ q ∈ kX6_inside, am_cok cX6_inside q := am_cok_all (by decide +kernel)
def kX6_exchanged : am_C := (0, .aload_n 0, 1, []) ::
  (1, .iload_n 1, 1, []) ::
  (2, .invokevirtual 104, 3, []) ::
  (5, .ifCond .eq 20, 3, [25]) ::
  (8, .aload_n 0, 1, []) ::
  (9, .iload_n 2, 1, []) ::
  (10, .invokevirtual 104, 3, []) ::
  (13, .ifCond .eq 12, 3, [25]) ::
  (16, .aload_n 0, 1, []) ::
  (17, .iload_n 1, 1, []) ::
  (18, .iload_n 2, 1, []) ::
  (19, .invokevirtual 285, 3, []) ::
  (22, .goto 4, 3, [26]) ::
  (25, .iconst (-1), 1, []) ::
  (26, .ireturn, 1, []) ::
  []
theorem kX6_exchanged_ok : ∀ q ∈ kX6_exchanged, am_cok cX6_exchanged q := am_cok_all (by decide +kernel)
def kX6_wholes_68 : am_C := (68, .aload_n 0, 1, []) ::
  (69, .getfield 19, 3, []) ::
  (72, .iload_n 1, 1, []) ::
  (73, .iaload, 1, []) ::
  (74, .ifCond .ge 7, 3, [81]) ::
  (77, .iconst 0, 1, []) ::
  (78, .goto 19, 3, [97]) ::
  (81, .aload_n 0, 1, []) ::
  (82, .aload_n 0, 1, []) ::
  (83, .getfield 19, 3, []) ::
  (86, .iload_n 1, 1, []) ::
  (87, .iaload, 1, []) ::
  (88, .aload_n 0, 1, []) ::
  (89, .getfield 19, 3, []) ::
  (92, .iload_n 2, 1, []) ::
  (93, .iaload, 1, []) ::
  (94, .invokevirtual 285, 3, []) ::
  (97, .iadd, 1, []) ::
  (98, .ireturn, 1, []) ::
  []
def kX6_wholes_52 : am_C := (52, .aload_n 0, 1, []) ::
  (53, .aload_n 0, 1, []) ::
  (54, .getfield 16, 3, []) ::
  (57, .iload_n 1, 1, []) ::
  (58, .iaload, 1, []) ::
  (59, .aload_n 0, 1, []) ::
  (60, .getfield 16, 3, []) ::
  (63, .iload_n 2, 1, []) ::
  (64, .iaload, 1, []) ::
  (65, .invokevirtual 285, 3, []) ::
  kX6_wholes_68
def kX6_wholes : am_C := (0, .aload_n 0, 1, []) ::
  (1, .getfield 7, 3, []) ::
  (4, .iload_n 1, 1, []) ::
  (5, .iaload, 1, []) ::
  (6, .aload_n 0, 1, []) ::
  (7, .getfield 7, 3, []) ::
  (10, .iload_n 2, 1, []) ::
  (11, .iaload, 1, []) ::
  (12, .if_icmp .ne 25, 3, [37]) ::
  (15, .aload_n 0, 1, []) ::
  (16, .iload_n 1, 1, []) ::
  (17, .iload_n 2, 1, []) ::
  (18, .invokevirtual 282, 3, []) ::
  (21, .aload_n 0, 1, []) ::
  (22, .getfield 22, 3, []) ::
  (25, .iload_n 1, 1, []) ::
  (26, .iaload, 1, []) ::
  (27, .aload_n 0, 1, []) ::
  (28, .getfield 22, 3, []) ::
  (31, .iload_n 2, 1, []) ::
  (32, .iaload, 1, []) ::
  (33, .iadd, 1, []) ::
  (34, .if_icmp .le 5, 3, [39]) ::
  (37, .iconst 1, 1, []) ::
  (38, .ireturn, 1, []) ::
  (39, .aload_n 0, 1, []) ::
  (40, .getfield 16, 3, []) ::
  (43, .iload_n 1, 1, []) ::
  (44, .iaload, 1, []) ::
  (45, .ifCond .ge 7, 3, [52]) ::
  (48, .iconst 0, 1, []) ::
  (49, .goto 19, 3, [68]) ::
  kX6_wholes_52
theorem kX6_wholes_ok : ∀ q ∈ kX6_wholes, am_cok cX6_wholes q := am_cok_all (by decide +kernel)
def kX6_count : am_C := (0, .iload_n 1, 1, []) ::
  (1, .ifCond .ne 10, 3, [11]) ::
  (4, .aload_n 0, 1, []) ::
  (5, .getfield 85, 3, []) ::
  (8, .goto 28, 3, [36]) ::
  (11, .iload_n 1, 1, []) ::
  (12, .iconst 1, 1, []) ::
  (13, .if_icmp .ne 10, 3, [23]) ::
  (16, .aload_n 0, 1, []) ::
  (17, .getfield 184, 3, []) ::
  (20, .goto 16, 3, [36]) ::
  (23, .iload_n 1, 1, []) ::
  (24, .iconst 2, 1, []) ::
  (25, .if_icmp .ne 10, 3, [35]) ::
  (28, .aload_n 0, 1, []) ::
  (29, .invokevirtual 288, 3, []) ::
  (32, .goto 4, 3, [36]) ::
  (35, .iconst (-1), 1, []) ::
  (36, .ireturn, 1, []) ::
  []
theorem kX6_count_ok : ∀ q ∈ kX6_count, am_cok cX6_count q := am_cok_all (by decide +kernel)
def kX6_functions_25 : am_C := (25, .iadd, 1, []) ::
  (26, .istore_n 1, 1, []) ::
  (27, .iinc 2 1, 3, []) ::
  (30, .goto (-26), 3, [4]) ::
  (33, .iload_n 1, 1, []) ::
  (34, .ireturn, 1, []) ::
  []
def kX6_functions_24 : am_C := (24, .iconst 0, 1, []) ::
  kX6_functions_25
def kX6_functions_4 : am_C := (4, .iload_n 2, 1, []) ::
  (5, .bipush 10, 2, []) ::
  (7, .if_icmp .ge 26, 3, [33]) ::
  (10, .iload_n 1, 1, []) ::
  (11, .aload_n 0, 1, []) ::
  (12, .getfield 28, 3, []) ::
  (15, .iload_n 2, 1, []) ::
  (16, .baload, 1, []) ::
  (17, .ifCond .eq 7, 3, [24]) ::
  (20, .iconst 1, 1, []) ::
  (21, .goto 4, 3, [25]) ::
  kX6_functions_24
def kX6_functions : am_C := (0, .iconst 0, 1, []) ::
  (1, .istore_n 1, 1, []) ::
  (2, .iconst 0, 1, []) ::
  (3, .istore_n 2, 1, []) ::
  kX6_functions_4
theorem kX6_functions_ok : ∀ q ∈ kX6_functions, am_cok cX6_functions q := am_cok_all (by decide +kernel)
def kX6_keep_117 : am_C := (117, .iload 5, 2, []) ::
  (119, .aload_n 0, 1, []) ::
  (120, .getfield 184, 3, []) ::
  (123, .if_icmp .ge 28, 3, [151]) ::
  (126, .aload_n 0, 1, []) ::
  (127, .getfield 50, 3, []) ::
  (130, .bipush 60, 2, []) ::
  (132, .iload_n 1, 1, []) ::
  (133, .imul, 1, []) ::
  (134, .iload 5, 2, []) ::
  (136, .iadd, 1, []) ::
  (137, .aload_n 0, 1, []) ::
  (138, .getfield 35, 3, []) ::
  (141, .iload 5, 2, []) ::
  (143, .iaload, 1, []) ::
  (144, .iastore, 1, []) ::
  (145, .iinc 5 1, 3, []) ::
  (148, .goto (-31), 3, [117]) ::
  (151, .goto 29, 3, [180]) ::
  (154, .iload_n 2, 1, []) ::
  (155, .iconst 4, 1, []) ::
  (156, .if_icmp .ne 24, 3, [180]) ::
  (159, .aload_n 0, 1, []) ::
  (160, .iconst 0, 1, []) ::
  (161, .putfield 292, 3, []) ::
  (164, .aload_n 0, 1, []) ::
  (165, .iload_n 1, 1, []) ::
  (166, .iload_n 3, 1, []) ::
  (167, .invokevirtual 295, 3, []) ::
  (170, .aload_n 0, 1, []) ::
  (171, .getfield 47, 3, []) ::
  (174, .iload_n 1, 1, []) ::
  (175, .aload_n 0, 1, []) ::
  (176, .getfield 292, 3, []) ::
  (179, .iastore, 1, []) ::
  (180, .iconst 0, 1, []) ::
  (181, .ireturn, 1, []) ::
  []
def kX6_keep_32 : am_C := (32, .istore 4, 2, []) ::
  (34, .iload_n 1, 1, []) ::
  (35, .invokestatic 298, 3, []) ::
  (38, .ifCond .eq 8, 3, [46]) ::
  (41, .iload 4, 2, []) ::
  (43, .ifCond .ne 5, 3, [48]) ::
  (46, .iconst (-1), 1, []) ::
  (47, .ireturn, 1, []) ::
  (48, .aload_n 0, 1, []) ::
  (49, .getfield 38, 3, []) ::
  (52, .iload_n 1, 1, []) ::
  (53, .iload_n 2, 1, []) ::
  (54, .iastore, 1, []) ::
  (55, .iload_n 2, 1, []) ::
  (56, .iconst 1, 1, []) ::
  (57, .if_icmp .ne 42, 3, [99]) ::
  (60, .aload_n 0, 1, []) ::
  (61, .getfield 41, 3, []) ::
  (64, .iload_n 1, 1, []) ::
  (65, .aload_n 0, 1, []) ::
  (66, .getfield 7, 3, []) ::
  (69, .iload_n 3, 1, []) ::
  (70, .iaload, 1, []) ::
  (71, .iastore, 1, []) ::
  (72, .aload_n 0, 1, []) ::
  (73, .getfield 44, 3, []) ::
  (76, .iload_n 1, 1, []) ::
  (77, .aload_n 0, 1, []) ::
  (78, .getfield 13, 3, []) ::
  (81, .iload_n 3, 1, []) ::
  (82, .iaload, 1, []) ::
  (83, .iastore, 1, []) ::
  (84, .aload_n 0, 1, []) ::
  (85, .getfield 47, 3, []) ::
  (88, .iload_n 1, 1, []) ::
  (89, .aload_n 0, 1, []) ::
  (90, .getfield 22, 3, []) ::
  (93, .iload_n 3, 1, []) ::
  (94, .iaload, 1, []) ::
  (95, .iastore, 1, []) ::
  (96, .goto 84, 3, [180]) ::
  (99, .iload_n 2, 1, []) ::
  (100, .iconst 3, 1, []) ::
  (101, .if_icmp .ne 53, 3, [154]) ::
  (104, .aload_n 0, 1, []) ::
  (105, .getfield 47, 3, []) ::
  (108, .iload_n 1, 1, []) ::
  (109, .aload_n 0, 1, []) ::
  (110, .getfield 184, 3, []) ::
  (113, .iastore, 1, []) ::
  (114, .iconst 0, 1, []) ::
  (115, .istore 5, 2, []) ::
  kX6_keep_117
def kX6_keep_31 : am_C := (31, .iconst 0, 1, []) ::
  kX6_keep_32
def kX6_keep_27 : am_C := (27, .iconst 1, 1, []) ::
  (28, .goto 4, 3, [32]) ::
  kX6_keep_31
def kX6_keep_19 : am_C := (19, .aload_n 0, 1, []) ::
  (20, .iload_n 3, 1, []) ::
  (21, .invokevirtual 104, 3, []) ::
  (24, .ifCond .eq 7, 3, [31]) ::
  kX6_keep_27
def kX6_keep_14 : am_C := (14, .iload_n 2, 1, []) ::
  (15, .iconst 4, 1, []) ::
  (16, .if_icmp .ne 15, 3, [31]) ::
  kX6_keep_19
def kX6_keep_9 : am_C := (9, .iload_n 2, 1, []) ::
  (10, .iconst 1, 1, []) ::
  (11, .if_icmp .eq 8, 3, [19]) ::
  kX6_keep_14
def kX6_keep_4 : am_C := (4, .iload_n 2, 1, []) ::
  (5, .iconst 3, 1, []) ::
  (6, .if_icmp .eq 21, 3, [27]) ::
  kX6_keep_9
def kX6_keep : am_C := (0, .iload_n 2, 1, []) ::
  (1, .ifCond .eq 26, 3, [27]) ::
  kX6_keep_4
theorem kX6_keep_ok : ∀ q ∈ kX6_keep, am_cok cX6_keep q := am_cok_all (by decide +kernel)
def kX6_isShelf : am_C := (0, .iload_n 0, 1, []) ::
  (1, .i2l, 1, []) ::
  (2, .lconst 0, 1, []) ::
  (3, .ldc2_w 92, 3, []) ::
  (6, .invokestatic 88, 3, []) ::
  (9, .ireturn, 1, []) ::
  []
theorem kX6_isShelf_ok : ∀ q ∈ kX6_isShelf, am_cok cX6_isShelf q := am_cok_all (by decide +kernel)
def kX6_kinds_50 : am_C := (50, .aload_n 0, 1, []) ::
  (51, .getfield 19, 3, []) ::
  (54, .iload_n 2, 1, []) ::
  (55, .iaload, 1, []) ::
  (56, .ifCond .lt 14, 3, [70]) ::
  (59, .aload_n 0, 1, []) ::
  (60, .iload_n 1, 1, []) ::
  (61, .aload_n 0, 1, []) ::
  (62, .getfield 19, 3, []) ::
  (65, .iload_n 2, 1, []) ::
  (66, .iaload, 1, []) ::
  (67, .invokevirtual 295, 3, []) ::
  (70, .return_, 1, []) ::
  []
def kX6_kinds_39 : am_C := (39, .aload_n 0, 1, []) ::
  (40, .iload_n 1, 1, []) ::
  (41, .aload_n 0, 1, []) ::
  (42, .getfield 16, 3, []) ::
  (45, .iload_n 2, 1, []) ::
  (46, .iaload, 1, []) ::
  (47, .invokevirtual 295, 3, []) ::
  kX6_kinds_50
def kX6_kinds : am_C := (0, .aload_n 0, 1, []) ::
  (1, .getfield 50, 3, []) ::
  (4, .bipush 60, 2, []) ::
  (6, .iload_n 1, 1, []) ::
  (7, .imul, 1, []) ::
  (8, .aload_n 0, 1, []) ::
  (9, .getfield 292, 3, []) ::
  (12, .iadd, 1, []) ::
  (13, .aload_n 0, 1, []) ::
  (14, .getfield 7, 3, []) ::
  (17, .iload_n 2, 1, []) ::
  (18, .iaload, 1, []) ::
  (19, .iastore, 1, []) ::
  (20, .aload_n 0, 1, []) ::
  (21, .dup, 1, []) ::
  (22, .getfield 292, 3, []) ::
  (25, .iconst 1, 1, []) ::
  (26, .iadd, 1, []) ::
  (27, .putfield 292, 3, []) ::
  (30, .aload_n 0, 1, []) ::
  (31, .getfield 16, 3, []) ::
  (34, .iload_n 2, 1, []) ::
  (35, .iaload, 1, []) ::
  (36, .ifCond .lt 14, 3, [50]) ::
  kX6_kinds_39
theorem kX6_kinds_ok : ∀ q ∈ kX6_kinds, am_cok cX6_kinds q := am_cok_all (by decide +kernel)
def kX6_make_53 : am_C := (53, .iload 4, 2, []) ::
  (55, .iload_n 3, 1, []) ::
  (56, .if_icmp .ge 22, 3, [78]) ::
  (59, .aload_n 0, 1, []) ::
  (60, .getfield 50, 3, []) ::
  (63, .bipush 60, 2, []) ::
  (65, .iload_n 1, 1, []) ::
  (66, .imul, 1, []) ::
  (67, .iload 4, 2, []) ::
  (69, .iadd, 1, []) ::
  (70, .iconst 0, 1, []) ::
  (71, .iastore, 1, []) ::
  (72, .iinc 4 1, 3, []) ::
  (75, .goto (-22), 3, [53]) ::
  (78, .iconst 0, 1, []) ::
  (79, .ireturn, 1, []) ::
  []
def kX6_make : am_C := (0, .iload_n 1, 1, []) ::
  (1, .invokestatic 298, 3, []) ::
  (4, .ifCond .eq 23, 3, [27]) ::
  (7, .iload_n 2, 1, []) ::
  (8, .i2l, 1, []) ::
  (9, .ldc2_w 270, 3, []) ::
  (12, .ldc2_w 174, 3, []) ::
  (15, .invokestatic 88, 3, []) ::
  (18, .ifCond .eq 9, 3, [27]) ::
  (21, .iload_n 3, 1, []) ::
  (22, .bipush 60, 2, []) ::
  (24, .if_icmp .le 5, 3, [29]) ::
  (27, .iconst (-1), 1, []) ::
  (28, .ireturn, 1, []) ::
  (29, .iload_n 3, 1, []) ::
  (30, .ifCond .ge 6, 3, [36]) ::
  (33, .bipush (-14), 2, []) ::
  (35, .ireturn, 1, []) ::
  (36, .aload_n 0, 1, []) ::
  (37, .getfield 38, 3, []) ::
  (40, .iload_n 1, 1, []) ::
  (41, .iload_n 2, 1, []) ::
  (42, .iastore, 1, []) ::
  (43, .aload_n 0, 1, []) ::
  (44, .getfield 47, 3, []) ::
  (47, .iload_n 1, 1, []) ::
  (48, .iload_n 3, 1, []) ::
  (49, .iastore, 1, []) ::
  (50, .iconst 0, 1, []) ::
  (51, .istore 4, 2, []) ::
  kX6_make_53
theorem kX6_make_ok : ∀ q ∈ kX6_make, am_cok cX6_make q := am_cok_all (by decide +kernel)
def kX6_element_45 : am_C := (45, .putfield 82, 3, []) ::
  (48, .aload_n 0, 1, []) ::
  (49, .getfield 82, 3, []) ::
  (52, .ifCond .ne 18, 3, [70]) ::
  (55, .aload_n 0, 1, []) ::
  (56, .getfield 50, 3, []) ::
  (59, .bipush 60, 2, []) ::
  (61, .iload_n 1, 1, []) ::
  (62, .imul, 1, []) ::
  (63, .iload_n 2, 1, []) ::
  (64, .iadd, 1, []) ::
  (65, .iaload, 1, []) ::
  (66, .i2l, 1, []) ::
  (67, .goto 4, 3, [71]) ::
  (70, .lconst 0, 1, []) ::
  (71, .lreturn, 1, []) ::
  []
def kX6_element_44 : am_C := (44, .iconst 0, 1, []) ::
  kX6_element_45
def kX6_element_40 : am_C := (40, .iconst 2, 1, []) ::
  (41, .goto 4, 3, [45]) ::
  kX6_element_44
def kX6_element_22 : am_C := (22, .iload_n 2, 1, []) ::
  (23, .i2l, 1, []) ::
  (24, .lconst 0, 1, []) ::
  (25, .aload_n 0, 1, []) ::
  (26, .getfield 47, 3, []) ::
  (29, .iload_n 1, 1, []) ::
  (30, .iaload, 1, []) ::
  (31, .iconst 1, 1, []) ::
  (32, .isub, 1, []) ::
  (33, .i2l, 1, []) ::
  (34, .invokestatic 88, 3, []) ::
  (37, .ifCond .ne 7, 3, [44]) ::
  kX6_element_40
def kX6_element_12 : am_C := (12, .aload_n 0, 1, []) ::
  (13, .getfield 38, 3, []) ::
  (16, .iload_n 1, 1, []) ::
  (17, .iaload, 1, []) ::
  (18, .iconst 3, 1, []) ::
  (19, .if_icmp .lt 21, 3, [40]) ::
  kX6_element_22
def kX6_element : am_C := (0, .aload_n 0, 1, []) ::
  (1, .iload_n 1, 1, []) ::
  (2, .invokestatic 298, 3, []) ::
  (5, .ifCond .ne 7, 3, [12]) ::
  (8, .iconst 1, 1, []) ::
  (9, .goto 36, 3, [45]) ::
  kX6_element_12
theorem kX6_element_ok : ∀ q ∈ kX6_element, am_cok cX6_element q := am_cok_all (by decide +kernel)
def kX6_copy_149 : am_C := (149, .iload 6, 2, []) ::
  (151, .iload 5, 2, []) ::
  (153, .if_icmp .ge 31, 3, [184]) ::
  (156, .aload_n 0, 1, []) ::
  (157, .getfield 50, 3, []) ::
  (160, .bipush 60, 2, []) ::
  (162, .iload_n 3, 1, []) ::
  (163, .imul, 1, []) ::
  (164, .iload 4, 2, []) ::
  (166, .iadd, 1, []) ::
  (167, .iload 6, 2, []) ::
  (169, .iadd, 1, []) ::
  (170, .aload_n 0, 1, []) ::
  (171, .getfield 60, 3, []) ::
  (174, .iload 6, 2, []) ::
  (176, .iaload, 1, []) ::
  (177, .iastore, 1, []) ::
  (178, .iinc 6 1, 3, []) ::
  (181, .goto (-32), 3, [149]) ::
  (184, .iload 5, 2, []) ::
  (186, .ireturn, 1, []) ::
  []
def kX6_copy_112 : am_C := (112, .iload 6, 2, []) ::
  (114, .iload 5, 2, []) ::
  (116, .if_icmp .ge 30, 3, [146]) ::
  (119, .aload_n 0, 1, []) ::
  (120, .getfield 60, 3, []) ::
  (123, .iload 6, 2, []) ::
  (125, .aload_n 0, 1, []) ::
  (126, .getfield 50, 3, []) ::
  (129, .bipush 60, 2, []) ::
  (131, .iload_n 1, 1, []) ::
  (132, .imul, 1, []) ::
  (133, .iload_n 2, 1, []) ::
  (134, .iadd, 1, []) ::
  (135, .iload 6, 2, []) ::
  (137, .iadd, 1, []) ::
  (138, .iaload, 1, []) ::
  (139, .iastore, 1, []) ::
  (140, .iinc 6 1, 3, []) ::
  (143, .goto (-31), 3, [112]) ::
  (146, .iconst 0, 1, []) ::
  (147, .istore 6, 2, []) ::
  kX6_copy_149
def kX6_copy : am_C := (0, .iload_n 1, 1, []) ::
  (1, .invokestatic 298, 3, []) ::
  (4, .ifCond .eq 10, 3, [14]) ::
  (7, .iload_n 3, 1, []) ::
  (8, .invokestatic 298, 3, []) ::
  (11, .ifCond .ne 5, 3, [16]) ::
  (14, .iconst (-1), 1, []) ::
  (15, .ireturn, 1, []) ::
  (16, .aload_n 0, 1, []) ::
  (17, .getfield 38, 3, []) ::
  (20, .iload_n 1, 1, []) ::
  (21, .iaload, 1, []) ::
  (22, .ifCond .eq 12, 3, [34]) ::
  (25, .aload_n 0, 1, []) ::
  (26, .getfield 38, 3, []) ::
  (29, .iload_n 3, 1, []) ::
  (30, .iaload, 1, []) ::
  (31, .ifCond .ne 6, 3, [37]) ::
  (34, .bipush (-11), 2, []) ::
  (36, .ireturn, 1, []) ::
  (37, .aload_n 0, 1, []) ::
  (38, .getfield 38, 3, []) ::
  (41, .iload_n 1, 1, []) ::
  (42, .iaload, 1, []) ::
  (43, .iconst 3, 1, []) ::
  (44, .if_icmp .lt 18, 3, [62]) ::
  (47, .aload_n 0, 1, []) ::
  (48, .getfield 38, 3, []) ::
  (51, .iload_n 1, 1, []) ::
  (52, .iaload, 1, []) ::
  (53, .aload_n 0, 1, []) ::
  (54, .getfield 38, 3, []) ::
  (57, .iload_n 3, 1, []) ::
  (58, .iaload, 1, []) ::
  (59, .if_icmp .eq 6, 3, [65]) ::
  (62, .bipush (-12), 2, []) ::
  (64, .ireturn, 1, []) ::
  (65, .iload 5, 2, []) ::
  (67, .ifCond .lt 39, 3, [106]) ::
  (70, .iload_n 2, 1, []) ::
  (71, .ifCond .lt 35, 3, [106]) ::
  (74, .iload 4, 2, []) ::
  (76, .ifCond .lt 30, 3, [106]) ::
  (79, .iload_n 2, 1, []) ::
  (80, .aload_n 0, 1, []) ::
  (81, .getfield 47, 3, []) ::
  (84, .iload_n 1, 1, []) ::
  (85, .iaload, 1, []) ::
  (86, .iload 5, 2, []) ::
  (88, .isub, 1, []) ::
  (89, .if_icmp .gt 17, 3, [106]) ::
  (92, .iload 4, 2, []) ::
  (94, .aload_n 0, 1, []) ::
  (95, .getfield 47, 3, []) ::
  (98, .iload_n 3, 1, []) ::
  (99, .iaload, 1, []) ::
  (100, .iload 5, 2, []) ::
  (102, .isub, 1, []) ::
  (103, .if_icmp .le 6, 3, [109]) ::
  (106, .bipush (-13), 2, []) ::
  (108, .ireturn, 1, []) ::
  (109, .iconst 0, 1, []) ::
  (110, .istore 6, 2, []) ::
  kX6_copy_112
theorem kX6_copy_ok : ∀ q ∈ kX6_copy, am_cok cX6_copy q := am_cok_all (by decide +kernel)
def kX6_weight : am_C := (0, .aload_n 0, 1, []) ::
  (1, .iload_n 1, 1, []) ::
  (2, .invokevirtual 301, 3, []) ::
  (5, .istore_n 2, 1, []) ::
  (6, .iload_n 2, 1, []) ::
  (7, .ifCond .eq 5, 3, [12]) ::
  (10, .iload_n 2, 1, []) ::
  (11, .ireturn, 1, []) ::
  (12, .aload_n 0, 1, []) ::
  (13, .getfield 47, 3, []) ::
  (16, .iload_n 1, 1, []) ::
  (17, .iaload, 1, []) ::
  (18, .bipush 10, 2, []) ::
  (20, .iadd, 1, []) ::
  (21, .istore_n 3, 1, []) ::
  (22, .aload_n 0, 1, []) ::
  (23, .getfield 41, 3, []) ::
  (26, .iload_n 1, 1, []) ::
  (27, .iaload, 1, []) ::
  (28, .tableswitch 76 1 9 #[52, 76, 76, 76, 61, 61, 76, 66, 70], 52, [104, 80, 104, 104, 104, 89, 89, 104, 94, 98]) ::
  (80, .iload_n 3, 1, []) ::
  (81, .aload_n 0, 1, []) ::
  (82, .getfield 44, 3, []) ::
  (85, .iload_n 1, 1, []) ::
  (86, .iaload, 1, []) ::
  (87, .iadd, 1, []) ::
  (88, .ireturn, 1, []) ::
  (89, .iload_n 3, 1, []) ::
  (90, .bipush 100, 2, []) ::
  (92, .iadd, 1, []) ::
  (93, .ireturn, 1, []) ::
  (94, .iconst 2, 1, []) ::
  (95, .iload_n 3, 1, []) ::
  (96, .imul, 1, []) ::
  (97, .ireturn, 1, []) ::
  (98, .iload_n 3, 1, []) ::
  (99, .sipush 1000, 3, []) ::
  (102, .iadd, 1, []) ::
  (103, .ireturn, 1, []) ::
  (104, .iload_n 3, 1, []) ::
  (105, .ireturn, 1, []) ::
  []
theorem kX6_weight_ok : ∀ q ∈ kX6_weight, am_cok cX6_weight q := am_cok_all (by decide +kernel)
def kX6_held : am_C := (0, .iload_n 1, 1, []) ::
  (1, .invokestatic 298, 3, []) ::
  (4, .ifCond .ne 7, 3, [11]) ::
  (7, .iconst (-1), 1, []) ::
  (8, .goto 33, 3, [41]) ::
  (11, .aload_n 0, 1, []) ::
  (12, .getfield 38, 3, []) ::
  (15, .iload_n 1, 1, []) ::
  (16, .iaload, 1, []) ::
  (17, .ifCond .ne 8, 3, [25]) ::
  (20, .bipush (-11), 2, []) ::
  (22, .goto 19, 3, [41]) ::
  (25, .aload_n 0, 1, []) ::
  (26, .getfield 38, 3, []) ::
  (29, .iload_n 1, 1, []) ::
  (30, .iaload, 1, []) ::
  (31, .iconst 1, 1, []) ::
  (32, .if_icmp .eq 8, 3, [40]) ::
  (35, .bipush (-12), 2, []) ::
  (37, .goto 4, 3, [41]) ::
  (40, .iconst 0, 1, []) ::
  (41, .ireturn, 1, []) ::
  []
theorem kX6_held_ok : ∀ q ∈ kX6_held, am_cok cX6_held q := am_cok_all (by decide +kernel)
def kX6_toss : am_C := (0, .aload_n 0, 1, []) ::
  (1, .iload_n 1, 1, []) ::
  (2, .invokevirtual 301, 3, []) ::
  (5, .istore_n 2, 1, []) ::
  (6, .iload_n 2, 1, []) ::
  (7, .ifCond .eq 7, 3, [14]) ::
  (10, .iload_n 2, 1, []) ::
  (11, .goto 23, 3, [34]) ::
  (14, .aload_n 0, 1, []) ::
  (15, .getfield 44, 3, []) ::
  (18, .iload_n 1, 1, []) ::
  (19, .iaload, 1, []) ::
  (20, .ifCond .ge 8, 3, [28]) ::
  (23, .bipush (-15), 2, []) ::
  (25, .goto 9, 3, [34]) ::
  (28, .aload_n 0, 1, []) ::
  (29, .getfield 44, 3, []) ::
  (32, .iload_n 1, 1, []) ::
  (33, .iaload, 1, []) ::
  (34, .ireturn, 1, []) ::
  []
theorem kX6_toss_ok : ∀ q ∈ kX6_toss, am_cok cX6_toss q := am_cok_all (by decide +kernel)
