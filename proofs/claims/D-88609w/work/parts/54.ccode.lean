set_option maxRecDepth 100000
def kX1_leaf_26 : am_C := (26, .invokestatic 45, 3, []) ::
  (29, .ifCond .ne 5, 3, [34]) ::
  (32, .iconst (-1), 1, []) ::
  (33, .ireturn, 1, []) ::
  (34, .aload_n 0, 1, []) ::
  (35, .getfield 35, 3, []) ::
  (38, .invokevirtual 39, 3, []) ::
  (41, .bipush 120, 2, []) ::
  (43, .if_icmp .ne 6, 3, [49]) ::
  (46, .bipush (-2), 2, []) ::
  (48, .ireturn, 1, []) ::
  (49, .aload_n 0, 1, []) ::
  (50, .aload_n 0, 1, []) ::
  (51, .getfield 35, 3, []) ::
  (54, .invokevirtual 39, 3, []) ::
  (57, .iload_n 1, 1, []) ::
  (58, .aconst_null, 1, []) ::
  (59, .aconst_null, 1, []) ::
  (60, .iload_n 2, 1, []) ::
  (61, .invokestatic 59, 3, []) ::
  (64, .invokevirtual 63, 3, []) ::
  (67, .ireturn, 1, []) ::
  []
def kX1_leaf_23 : am_C := (23, .ldc2_w 57, 3, []) ::
  kX1_leaf_26
def kX1_leaf : am_C := (0, .iload_n 1, 1, []) ::
  (1, .i2l, 1, []) ::
  (2, .lconst 0, 1, []) ::
  (3, .lconst 1, 1, []) ::
  (4, .invokestatic 45, 3, []) ::
  (7, .ifCond .eq 25, 3, [32]) ::
  (10, .iload_n 2, 1, []) ::
  (11, .i2l, 1, []) ::
  (12, .lconst 0, 1, []) ::
  (13, .iload_n 1, 1, []) ::
  (14, .ifCond .ne 9, 3, [23]) ::
  (17, .ldc2_w 55, 3, []) ::
  (20, .goto 6, 3, [26]) ::
  kX1_leaf_23
theorem kX1_leaf_ok : ∀ q ∈ kX1_leaf, am_cok cX1_leaf q := am_cok_all (by decide +kernel)
def kX1_isIn : am_C := (0, .lload_n 0, 1, []) ::
  (1, .lload_n 2, 1, []) ::
  (2, .lcmp, 1, []) ::
  (3, .ifCond .lt 14, 3, [17]) ::
  (6, .lload_n 0, 1, []) ::
  (7, .lload 4, 2, []) ::
  (9, .lcmp, 1, []) ::
  (10, .ifCond .gt 7, 3, [17]) ::
  (13, .iconst 1, 1, []) ::
  (14, .goto 4, 3, [18]) ::
  (17, .iconst 0, 1, []) ::
  (18, .ireturn, 1, []) ::
  []
theorem kX1_isIn_ok : ∀ q ∈ kX1_isIn, am_cok cX1_isIn q := am_cok_all (by decide +kernel)
def kX1_adds : am_C := (0, .aload_n 0, 1, []) ::
  (1, .getfield 35, 3, []) ::
  (4, .aload_n 1, 1, []) ::
  (5, .invokevirtual 51, 3, []) ::
  (8, .pop, 1, []) ::
  (9, .aload_n 0, 1, []) ::
  (10, .getfield 35, 3, []) ::
  (13, .invokevirtual 39, 3, []) ::
  (16, .iconst 1, 1, []) ::
  (17, .isub, 1, []) ::
  (18, .ireturn, 1, []) ::
  []
theorem kX1_adds_ok : ∀ q ∈ kX1_adds, am_cok cX1_adds q := am_cok_all (by decide +kernel)
def kX1_node_124 : am_C := (124, .iadd, 1, []) ::
  (125, .bipush 40, 2, []) ::
  (127, .if_icmp .le 6, 3, [133]) ::
  (130, .bipush (-3), 2, []) ::
  (132, .ireturn, 1, []) ::
  (133, .aload_n 0, 1, []) ::
  (134, .aload_n 0, 1, []) ::
  (135, .getfield 35, 3, []) ::
  (138, .invokevirtual 39, 3, []) ::
  (141, .iload_n 1, 1, []) ::
  (142, .aload_n 0, 1, []) ::
  (143, .getfield 35, 3, []) ::
  (146, .iload_n 2, 1, []) ::
  (147, .invokevirtual 73, 3, []) ::
  (150, .checkcast 77, 3, []) ::
  (153, .aload 4, 2, []) ::
  (155, .iload_n 3, 1, []) ::
  (156, .invokestatic 59, 3, []) ::
  (159, .invokevirtual 63, 3, []) ::
  (162, .ireturn, 1, []) ::
  []
def kX1_node_119 : am_C := (119, .aload 4, 2, []) ::
  (121, .getfield 79, 3, []) ::
  kX1_node_124
def kX1_node_92 : am_C := (92, .astore 4, 2, []) ::
  (94, .iconst 1, 1, []) ::
  (95, .aload_n 0, 1, []) ::
  (96, .getfield 35, 3, []) ::
  (99, .iload_n 2, 1, []) ::
  (100, .invokevirtual 73, 3, []) ::
  (103, .checkcast 77, 3, []) ::
  (106, .getfield 79, 3, []) ::
  (109, .iadd, 1, []) ::
  (110, .aload 4, 2, []) ::
  (112, .ifnonnull 7, 3, [119]) ::
  (115, .iconst 0, 1, []) ::
  (116, .goto 8, 3, [124]) ::
  kX1_node_119
def kX1_node_91 : am_C := (91, .aconst_null, 1, []) ::
  kX1_node_92
def kX1_node_56 : am_C := (56, .aload_n 0, 1, []) ::
  (57, .getfield 35, 3, []) ::
  (60, .invokevirtual 39, 3, []) ::
  (63, .bipush 120, 2, []) ::
  (65, .if_icmp .ne 6, 3, [71]) ::
  (68, .bipush (-2), 2, []) ::
  (70, .ireturn, 1, []) ::
  (71, .iload_n 1, 1, []) ::
  (72, .bipush 6, 2, []) ::
  (74, .if_icmp .gt 17, 3, [91]) ::
  (77, .aload_n 0, 1, []) ::
  (78, .getfield 35, 3, []) ::
  (81, .iload_n 3, 1, []) ::
  (82, .invokevirtual 73, 3, []) ::
  (85, .checkcast 77, 3, []) ::
  (88, .goto 4, 3, [92]) ::
  kX1_node_91
def kX1_node_54 : am_C := (54, .iconst (-1), 1, []) ::
  (55, .ireturn, 1, []) ::
  kX1_node_56
def kX1_node_42 : am_C := (42, .iload_n 3, 1, []) ::
  (43, .i2l, 1, []) ::
  (44, .lconst 0, 1, []) ::
  (45, .ldc2_w 55, 3, []) ::
  (48, .invokestatic 45, 3, []) ::
  (51, .ifCond .ne 5, 3, [56]) ::
  kX1_node_54
def kX1_node_36 : am_C := (36, .iload_n 1, 1, []) ::
  (37, .bipush 9, 2, []) ::
  (39, .if_icmp .ne 17, 3, [56]) ::
  kX1_node_42
def kX1_node_28 : am_C := (28, .aload_n 0, 1, []) ::
  (29, .iload_n 3, 1, []) ::
  (30, .invokevirtual 69, 3, []) ::
  (33, .ifCond .eq 21, 3, [54]) ::
  kX1_node_36
def kX1_node : am_C := (0, .iload_n 1, 1, []) ::
  (1, .i2l, 1, []) ::
  (2, .ldc2_w 67, 3, []) ::
  (5, .ldc2_w 55, 3, []) ::
  (8, .invokestatic 45, 3, []) ::
  (11, .ifCond .eq 43, 3, [54]) ::
  (14, .aload_n 0, 1, []) ::
  (15, .iload_n 2, 1, []) ::
  (16, .invokevirtual 69, 3, []) ::
  (19, .ifCond .eq 35, 3, [54]) ::
  (22, .iload_n 1, 1, []) ::
  (23, .bipush 6, 2, []) ::
  (25, .if_icmp .gt 11, 3, [36]) ::
  kX1_node_28
theorem kX1_node_ok : ∀ q ∈ kX1_node, am_cok cX1_node q := am_cok_all (by decide +kernel)
def kX1_isNode : am_C := (0, .iload_n 1, 1, []) ::
  (1, .i2l, 1, []) ::
  (2, .lconst 0, 1, []) ::
  (3, .aload_n 0, 1, []) ::
  (4, .getfield 35, 3, []) ::
  (7, .invokevirtual 39, 3, []) ::
  (10, .iconst 1, 1, []) ::
  (11, .isub, 1, []) ::
  (12, .i2l, 1, []) ::
  (13, .invokestatic 45, 3, []) ::
  (16, .ireturn, 1, []) ::
  []
theorem kX1_isNode_ok : ∀ q ∈ kX1_isNode, am_cok cX1_isNode q := am_cok_all (by decide +kernel)
def kX1_undo_39 : am_C := (39, .aload_n 0, 1, []) ::
  (40, .getfield 35, 3, []) ::
  (43, .iload_n 1, 1, []) ::
  (44, .invokevirtual 92, 3, []) ::
  (47, .checkcast 77, 3, []) ::
  (50, .astore_n 2, 1, []) ::
  (51, .iload_n 1, 1, []) ::
  (52, .ireturn, 1, []) ::
  []
def kX1_undo_36 : am_C := (36, .bipush (-3), 2, []) ::
  (38, .ireturn, 1, []) ::
  kX1_undo_39
def kX1_undo_23 : am_C := (23, .aload_n 0, 1, []) ::
  (24, .getfield 85, 3, []) ::
  (27, .iconst 0, 1, []) ::
  (28, .aaload, 1, []) ::
  (29, .getfield 89, 3, []) ::
  (32, .iload_n 1, 1, []) ::
  (33, .if_icmp .ne 6, 3, [39]) ::
  kX1_undo_36
def kX1_undo : am_C := (0, .aload_n 0, 1, []) ::
  (1, .getfield 35, 3, []) ::
  (4, .invokevirtual 39, 3, []) ::
  (7, .iconst 1, 1, []) ::
  (8, .isub, 1, []) ::
  (9, .istore_n 1, 1, []) ::
  (10, .iload_n 1, 1, []) ::
  (11, .ifCond .ge 5, 3, [16]) ::
  (14, .iconst (-1), 1, []) ::
  (15, .ireturn, 1, []) ::
  (16, .aload_n 0, 1, []) ::
  (17, .getfield 82, 3, []) ::
  (20, .ifCond .lt 19, 3, [39]) ::
  kX1_undo_23
theorem kX1_undo_ok : ∀ q ∈ kX1_undo, am_cok cX1_undo q := am_cok_all (by decide +kernel)
def kX1_means_45 : am_C := (45, .putfield 95, 3, []) ::
  (48, .iload_n 3, 1, []) ::
  (49, .aload_n 0, 1, []) ::
  (50, .getfield 95, 3, []) ::
  (53, .if_icmp .eq 7, 3, [60]) ::
  (56, .iconst 1, 1, []) ::
  (57, .goto 4, 3, [61]) ::
  (60, .iconst 0, 1, []) ::
  (61, .ireturn, 1, []) ::
  []
def kX1_means_35 : am_C := (35, .aload_n 0, 1, []) ::
  (36, .getfield 95, 3, []) ::
  (39, .iconst 1, 1, []) ::
  (40, .iload_n 1, 1, []) ::
  (41, .ishl, 1, []) ::
  (42, .iconst (-1), 1, []) ::
  (43, .ixor, 1, []) ::
  (44, .iand, 1, []) ::
  kX1_means_45
def kX1_means : am_C := (0, .iload_n 1, 1, []) ::
  (1, .i2l, 1, []) ::
  (2, .lconst 0, 1, []) ::
  (3, .ldc2_w 55, 3, []) ::
  (6, .invokestatic 45, 3, []) ::
  (9, .ifCond .ne 5, 3, [14]) ::
  (12, .iconst (-1), 1, []) ::
  (13, .ireturn, 1, []) ::
  (14, .aload_n 0, 1, []) ::
  (15, .getfield 95, 3, []) ::
  (18, .istore_n 3, 1, []) ::
  (19, .aload_n 0, 1, []) ::
  (20, .iload_n 2, 1, []) ::
  (21, .ifCond .eq 14, 3, [35]) ::
  (24, .aload_n 0, 1, []) ::
  (25, .getfield 95, 3, []) ::
  (28, .iconst 1, 1, []) ::
  (29, .iload_n 1, 1, []) ::
  (30, .ishl, 1, []) ::
  (31, .ior, 1, []) ::
  (32, .goto 13, 3, [45]) ::
  kX1_means_35
theorem kX1_means_ok : ∀ q ∈ kX1_means, am_cok cX1_means q := am_cok_all (by decide +kernel)
def kX1_look : am_C := (0, .aload_n 0, 1, []) ::
  (1, .iload_n 1, 1, []) ::
  (2, .invokevirtual 69, 3, []) ::
  (5, .ifCond .ne 5, 3, [10]) ::
  (8, .iconst (-1), 1, []) ::
  (9, .ireturn, 1, []) ::
  (10, .aload_n 0, 1, []) ::
  (11, .getfield 35, 3, []) ::
  (14, .iload_n 1, 1, []) ::
  (15, .invokevirtual 73, 3, []) ::
  (18, .checkcast 77, 3, []) ::
  (21, .astore_n 3, 1, []) ::
  (22, .iload_n 2, 1, []) ::
  (23, .tableswitch 118 0 6 #[41, 46, 51, 71, 91, 96, 101], 41, [141, 64, 69, 74, 94, 114, 119, 124]) ::
  (64, .aload_n 3, 1, []) ::
  (65, .getfield 98, 3, []) ::
  (68, .ireturn, 1, []) ::
  (69, .aload_n 3, 1, []) ::
  (70, .invokevirtual 101, 3, []) ::
  (73, .ireturn, 1, []) ::
  (74, .aload_n 3, 1, []) ::
  (75, .invokevirtual 104, 3, []) ::
  (78, .ifnonnull 8, 3, [86]) ::
  (81, .bipush (-2), 2, []) ::
  (83, .goto 10, 3, [93]) ::
  (86, .aload_n 3, 1, []) ::
  (87, .invokevirtual 104, 3, []) ::
  (90, .getfield 89, 3, []) ::
  (93, .ireturn, 1, []) ::
  (94, .aload_n 3, 1, []) ::
  (95, .invokevirtual 108, 3, []) ::
  (98, .ifnonnull 8, 3, [106]) ::
  (101, .bipush (-2), 2, []) ::
  (103, .goto 10, 3, [113]) ::
  (106, .aload_n 3, 1, []) ::
  (107, .invokevirtual 108, 3, []) ::
  (110, .getfield 89, 3, []) ::
  (113, .ireturn, 1, []) ::
  (114, .aload_n 3, 1, []) ::
  (115, .getfield 79, 3, []) ::
  (118, .ireturn, 1, []) ::
  (119, .aload_n 3, 1, []) ::
  (120, .getfield 111, 3, []) ::
  (123, .ireturn, 1, []) ::
  (124, .aload_n 3, 1, []) ::
  (125, .aload_n 0, 1, []) ::
  (126, .getfield 95, 3, []) ::
  (129, .invokevirtual 114, 3, []) ::
  (132, .ifCond .eq 7, 3, [139]) ::
  (135, .iconst 1, 1, []) ::
  (136, .goto 4, 3, [140]) ::
  (139, .iconst 0, 1, []) ::
  (140, .ireturn, 1, []) ::
  (141, .iconst (-1), 1, []) ::
  (142, .ireturn, 1, []) ::
  []
theorem kX1_look_ok : ∀ q ∈ kX1_look, am_cok cX1_look q := am_cok_all (by decide +kernel)
def kX1_alike : am_C := (0, .aload_n 0, 1, []) ::
  (1, .iload_n 1, 1, []) ::
  (2, .invokevirtual 69, 3, []) ::
  (5, .ifCond .eq 11, 3, [16]) ::
  (8, .aload_n 0, 1, []) ::
  (9, .iload_n 2, 1, []) ::
  (10, .invokevirtual 69, 3, []) ::
  (13, .ifCond .ne 7, 3, [20]) ::
  (16, .iconst (-1), 1, []) ::
  (17, .goto 36, 3, [53]) ::
  (20, .aload_n 0, 1, []) ::
  (21, .getfield 35, 3, []) ::
  (24, .iload_n 1, 1, []) ::
  (25, .invokevirtual 73, 3, []) ::
  (28, .checkcast 77, 3, []) ::
  (31, .aload_n 0, 1, []) ::
  (32, .getfield 35, 3, []) ::
  (35, .iload_n 2, 1, []) ::
  (36, .invokevirtual 73, 3, []) ::
  (39, .checkcast 77, 3, []) ::
  (42, .invokevirtual 117, 3, []) ::
  (45, .ifCond .eq 7, 3, [52]) ::
  (48, .iconst 1, 1, []) ::
  (49, .goto 4, 3, [53]) ::
  (52, .iconst 0, 1, []) ::
  (53, .ireturn, 1, []) ::
  []
theorem kX1_alike_ok : ∀ q ∈ kX1_alike, am_cok cX1_alike q := am_cok_all (by decide +kernel)
def kX1_times : am_C := (0, .aload_n 0, 1, []) ::
  (1, .iload_n 1, 1, []) ::
  (2, .invokevirtual 69, 3, []) ::
  (5, .ifCond .eq 39, 3, [44]) ::
  (8, .aload_n 0, 1, []) ::
  (9, .iload_n 2, 1, []) ::
  (10, .invokevirtual 69, 3, []) ::
  (13, .ifCond .eq 31, 3, [44]) ::
  (16, .aload_n 0, 1, []) ::
  (17, .getfield 35, 3, []) ::
  (20, .iload_n 1, 1, []) ::
  (21, .invokevirtual 73, 3, []) ::
  (24, .checkcast 77, 3, []) ::
  (27, .aload_n 0, 1, []) ::
  (28, .getfield 35, 3, []) ::
  (31, .iload_n 2, 1, []) ::
  (32, .invokevirtual 73, 3, []) ::
  (35, .checkcast 77, 3, []) ::
  (38, .invokestatic 121, 3, []) ::
  (41, .goto 4, 3, [45]) ::
  (44, .iconst (-1), 1, []) ::
  (45, .ireturn, 1, []) ::
  []
theorem kX1_times_ok : ∀ q ∈ kX1_times, am_cok cX1_times q := am_cok_all (by decide +kernel)
def kX1_timesIn_32 : am_C := (32, .aload_n 0, 1, []) ::
  (33, .invokevirtual 108, 3, []) ::
  (36, .ifnull 14, 3, [50]) ::
  (39, .iload_n 2, 1, []) ::
  (40, .aload_n 0, 1, []) ::
  (41, .invokevirtual 108, 3, []) ::
  (44, .aload_n 1, 1, []) ::
  (45, .invokestatic 121, 3, []) ::
  (48, .iadd, 1, []) ::
  (49, .istore_n 2, 1, []) ::
  (50, .iload_n 2, 1, []) ::
  (51, .ireturn, 1, []) ::
  []
def kX1_timesIn_21 : am_C := (21, .iload_n 2, 1, []) ::
  (22, .aload_n 0, 1, []) ::
  (23, .invokevirtual 104, 3, []) ::
  (26, .aload_n 1, 1, []) ::
  (27, .invokestatic 121, 3, []) ::
  (30, .iadd, 1, []) ::
  (31, .istore_n 2, 1, []) ::
  kX1_timesIn_32
def kX1_timesIn_13 : am_C := (13, .istore_n 2, 1, []) ::
  (14, .aload_n 0, 1, []) ::
  (15, .invokevirtual 104, 3, []) ::
  (18, .ifnull 14, 3, [32]) ::
  kX1_timesIn_21
def kX1_timesIn_12 : am_C := (12, .iconst 0, 1, []) ::
  kX1_timesIn_13
def kX1_timesIn : am_C := (0, .aload_n 0, 1, []) ::
  (1, .aload_n 1, 1, []) ::
  (2, .invokevirtual 117, 3, []) ::
  (5, .ifCond .eq 7, 3, [12]) ::
  (8, .iconst 1, 1, []) ::
  (9, .goto 4, 3, [13]) ::
  kX1_timesIn_12
theorem kX1_timesIn_ok : ∀ q ∈ kX1_timesIn, am_cok cX1_timesIn q := am_cok_all (by decide +kernel)
def kX1_keeps_58 : am_C := (58, .iastore, 1, []) ::
  (59, .iload 4, 2, []) ::
  (61, .aload_n 0, 1, []) ::
  (62, .getfield 131, 3, []) ::
  (65, .iload_n 1, 1, []) ::
  (66, .iaload, 1, []) ::
  (67, .if_icmp .eq 7, 3, [74]) ::
  (70, .iconst 1, 1, []) ::
  (71, .goto 4, 3, [75]) ::
  (74, .iconst 0, 1, []) ::
  (75, .ireturn, 1, []) ::
  []
def kX1_keeps_46 : am_C := (46, .aload_n 0, 1, []) ::
  (47, .getfield 131, 3, []) ::
  (50, .iload_n 1, 1, []) ::
  (51, .iaload, 1, []) ::
  (52, .iconst 1, 1, []) ::
  (53, .iload_n 2, 1, []) ::
  (54, .ishl, 1, []) ::
  (55, .iconst (-1), 1, []) ::
  (56, .ixor, 1, []) ::
  (57, .iand, 1, []) ::
  kX1_keeps_58
def kX1_keeps : am_C := (0, .iload_n 1, 1, []) ::
  (1, .invokestatic 125, 3, []) ::
  (4, .ifCond .eq 10, 3, [14]) ::
  (7, .iload_n 2, 1, []) ::
  (8, .invokestatic 128, 3, []) ::
  (11, .ifCond .ne 5, 3, [16]) ::
  (14, .iconst (-1), 1, []) ::
  (15, .ireturn, 1, []) ::
  (16, .aload_n 0, 1, []) ::
  (17, .getfield 131, 3, []) ::
  (20, .iload_n 1, 1, []) ::
  (21, .iaload, 1, []) ::
  (22, .istore 4, 2, []) ::
  (24, .aload_n 0, 1, []) ::
  (25, .getfield 131, 3, []) ::
  (28, .iload_n 1, 1, []) ::
  (29, .iload_n 3, 1, []) ::
  (30, .ifCond .eq 16, 3, [46]) ::
  (33, .aload_n 0, 1, []) ::
  (34, .getfield 131, 3, []) ::
  (37, .iload_n 1, 1, []) ::
  (38, .iaload, 1, []) ::
  (39, .iconst 1, 1, []) ::
  (40, .iload_n 2, 1, []) ::
  (41, .ishl, 1, []) ::
  (42, .ior, 1, []) ::
  (43, .goto 15, 3, [58]) ::
  kX1_keeps_46
theorem kX1_keeps_ok : ∀ q ∈ kX1_keeps, am_cok cX1_keeps q := am_cok_all (by decide +kernel)
def kX1_isStyle : am_C := (0, .iload_n 0, 1, []) ::
  (1, .i2l, 1, []) ::
  (2, .lconst 0, 1, []) ::
  (3, .ldc2_w 49, 3, []) ::
  (6, .invokestatic 45, 3, []) ::
  (9, .ireturn, 1, []) ::
  []
theorem kX1_isStyle_ok : ∀ q ∈ kX1_isStyle, am_cok cX1_isStyle q := am_cok_all (by decide +kernel)
def kX1_isKeeper : am_C := (0, .iload_n 0, 1, []) ::
  (1, .i2l, 1, []) ::
  (2, .ldc2_w 67, 3, []) ::
  (5, .ldc2_w 49, 3, []) ::
  (8, .invokestatic 45, 3, []) ::
  (11, .ifCond .ne 9, 3, [20]) ::
  (14, .iload_n 0, 1, []) ::
  (15, .bipush 9, 2, []) ::
  (17, .if_icmp .ne 7, 3, [24]) ::
  (20, .iconst 1, 1, []) ::
  (21, .goto 4, 3, [25]) ::
  (24, .iconst 0, 1, []) ::
  (25, .ireturn, 1, []) ::
  []
theorem kX1_isKeeper_ok : ∀ q ∈ kX1_isKeeper, am_cok cX1_isKeeper q := am_cok_all (by decide +kernel)
def kX1_words : am_C := (0, .iload_n 1, 1, []) ::
  (1, .invokestatic 125, 3, []) ::
  (4, .ifCond .eq 11, 3, [15]) ::
  (7, .aload_n 0, 1, []) ::
  (8, .iload_n 2, 1, []) ::
  (9, .invokevirtual 69, 3, []) ::
  (12, .ifCond .ne 5, 3, [17]) ::
  (15, .iconst (-1), 1, []) ::
  (16, .ireturn, 1, []) ::
  (17, .aload_n 0, 1, []) ::
  (18, .aload_n 0, 1, []) ::
  (19, .getfield 160, 3, []) ::
  (22, .aload_n 0, 1, []) ::
  (23, .getfield 35, 3, []) ::
  (26, .iload_n 2, 1, []) ::
  (27, .invokevirtual 73, 3, []) ::
  (30, .checkcast 77, 3, []) ::
  (33, .iload_n 1, 1, []) ::
  (34, .bipush 40, 2, []) ::
  (36, .invokevirtual 164, 3, []) ::
  (39, .ifCond .eq 13, 3, [52]) ::
  (42, .aload_n 0, 1, []) ::
  (43, .getfield 160, 3, []) ::
  (46, .getfield 167, 3, []) ::
  (49, .goto 5, 3, [54]) ::
  (52, .bipush (-5), 2, []) ::
  (54, .ireturn, 1, []) ::
  []
theorem kX1_words_ok : ∀ q ∈ kX1_words, am_cok cX1_words q := am_cok_all (by decide +kernel)
def kX1_says : am_C := (0, .aload_n 0, 1, []) ::
  (1, .getfield 135, 3, []) ::
  (4, .aload_n 0, 1, []) ::
  (5, .getfield 131, 3, []) ::
  (8, .iload_n 3, 1, []) ::
  (9, .iaload, 1, []) ::
  (10, .putfield 139, 3, []) ::
  (13, .aload_n 0, 1, []) ::
  (14, .getfield 135, 3, []) ::
  (17, .iload 4, 2, []) ::
  (19, .putfield 143, 3, []) ::
  (22, .aload_n 0, 1, []) ::
  (23, .aload_n 1, 1, []) ::
  (24, .aload_n 2, 1, []) ::
  (25, .invokevirtual 144, 3, []) ::
  (28, .ireturn, 1, []) ::
  []
theorem kX1_says_ok : ∀ q ∈ kX1_says, am_cok cX1_says q := am_cok_all (by decide +kernel)
def kX1_saysSo : am_C := (0, .aload_n 1, 1, []) ::
  (1, .invokevirtual 148, 3, []) ::
  (4, .aload_n 2, 1, []) ::
  (5, .aload_n 1, 1, []) ::
  (6, .aload_n 0, 1, []) ::
  (7, .getfield 135, 3, []) ::
  (10, .iconst 0, 1, []) ::
  (11, .invokevirtual 154, 3, []) ::
  (14, .iconst 1, 1, []) ::
  (15, .ireturn, 1, []) ::
  (16, .astore_n 3, 1, []) ::
  (17, .iconst 0, 1, []) ::
  (18, .ireturn, 1, []) ::
  []
theorem kX1_saysSo_ok : ∀ q ∈ kX1_saysSo, am_cok cX1_saysSo q := am_cok_all (by decide +kernel)
def kX1_word : am_C := (0, .iload_n 1, 1, []) ::
  (1, .invokestatic 125, 3, []) ::
  (4, .ifCond .eq 15, 3, [19]) ::
  (7, .aload_n 0, 1, []) ::
  (8, .iload_n 2, 1, []) ::
  (9, .invokevirtual 69, 3, []) ::
  (12, .ifCond .eq 7, 3, [19]) ::
  (15, .iload_n 3, 1, []) ::
  (16, .ifCond .ge 5, 3, [21]) ::
  (19, .iconst (-1), 1, []) ::
  (20, .ireturn, 1, []) ::
  (21, .aload_n 0, 1, []) ::
  (22, .aload_n 0, 1, []) ::
  (23, .getfield 160, 3, []) ::
  (26, .aload_n 0, 1, []) ::
  (27, .getfield 35, 3, []) ::
  (30, .iload_n 2, 1, []) ::
  (31, .invokevirtual 73, 3, []) ::
  (34, .checkcast 77, 3, []) ::
  (37, .iload_n 1, 1, []) ::
  (38, .bipush 40, 2, []) ::
  (40, .invokevirtual 164, 3, []) ::
  (43, .ifCond .ne 6, 3, [49]) ::
  (46, .bipush (-5), 2, []) ::
  (48, .ireturn, 1, []) ::
  (49, .iload_n 3, 1, []) ::
  (50, .aload_n 0, 1, []) ::
  (51, .getfield 160, 3, []) ::
  (54, .getfield 167, 3, []) ::
  (57, .if_icmp .ge 15, 3, [72]) ::
  (60, .aload_n 0, 1, []) ::
  (61, .getfield 160, 3, []) ::
  (64, .getfield 168, 3, []) ::
  (67, .iload_n 3, 1, []) ::
  (68, .baload, 1, []) ::
  (69, .goto 5, 3, [74]) ::
  (72, .bipush (-2), 2, []) ::
  (74, .ireturn, 1, []) ::
  []
theorem kX1_word_ok : ∀ q ∈ kX1_word, am_cok cX1_word q := am_cok_all (by decide +kernel)
def kX1_sound : am_C := (0, .iload_n 1, 1, []) ::
  (1, .invokestatic 125, 3, []) ::
  (4, .ifCond .eq 19, 3, [23]) ::
  (7, .aload_n 0, 1, []) ::
  (8, .iload_n 2, 1, []) ::
  (9, .invokevirtual 69, 3, []) ::
  (12, .ifCond .eq 11, 3, [23]) ::
  (15, .aload_n 0, 1, []) ::
  (16, .iload_n 3, 1, []) ::
  (17, .invokevirtual 69, 3, []) ::
  (20, .ifCond .ne 5, 3, [25]) ::
  (23, .iconst (-1), 1, []) ::
  (24, .ireturn, 1, []) ::
  (25, .aload_n 0, 1, []) ::
  (26, .aload_n 0, 1, []) ::
  (27, .getfield 160, 3, []) ::
  (30, .aload_n 0, 1, []) ::
  (31, .getfield 35, 3, []) ::
  (34, .iload_n 2, 1, []) ::
  (35, .invokevirtual 73, 3, []) ::
  (38, .checkcast 77, 3, []) ::
  (41, .iload_n 1, 1, []) ::
  (42, .bipush 40, 2, []) ::
  (44, .invokevirtual 164, 3, []) ::
  (47, .ifCond .eq 28, 3, [75]) ::
  (50, .aload_n 0, 1, []) ::
  (51, .aload_n 0, 1, []) ::
  (52, .getfield 172, 3, []) ::
  (55, .aload_n 0, 1, []) ::
  (56, .getfield 35, 3, []) ::
  (59, .iload_n 3, 1, []) ::
  (60, .invokevirtual 73, 3, []) ::
  (63, .checkcast 77, 3, []) ::
  (66, .iload_n 1, 1, []) ::
  (67, .bipush 40, 2, []) ::
  (69, .invokevirtual 164, 3, []) ::
  (72, .ifCond .ne 6, 3, [78]) ::
  (75, .bipush (-5), 2, []) ::
  (77, .ireturn, 1, []) ::
  (78, .aload_n 0, 1, []) ::
  (79, .getfield 160, 3, []) ::
  (82, .aload_n 0, 1, []) ::
  (83, .getfield 172, 3, []) ::
  (86, .invokevirtual 175, 3, []) ::
  (89, .ifCond .eq 7, 3, [96]) ::
  (92, .iconst 1, 1, []) ::
  (93, .goto 4, 3, [97]) ::
  (96, .iconst 0, 1, []) ::
  (97, .ireturn, 1, []) ::
  []
theorem kX1_sound_ok : ∀ q ∈ kX1_sound, am_cok cX1_sound q := am_cok_all (by decide +kernel)
def kX1_clear_66 : am_C := (66, .iload 5, 2, []) ::
  (68, .iload_n 3, 1, []) ::
  (69, .if_icmp .ge 50, 3, [119]) ::
  (72, .aload_n 0, 1, []) ::
  (73, .aload_n 0, 1, []) ::
  (74, .getfield 172, 3, []) ::
  (77, .aload_n 0, 1, []) ::
  (78, .getfield 179, 3, []) ::
  (81, .iload 5, 2, []) ::
  (83, .invokevirtual 73, 3, []) ::
  (86, .checkcast 77, 3, []) ::
  (89, .iload_n 1, 1, []) ::
  (90, .bipush 40, 2, []) ::
  (92, .invokevirtual 164, 3, []) ::
  (95, .istore 6, 2, []) ::
  (97, .aload_n 0, 1, []) ::
  (98, .getfield 160, 3, []) ::
  (101, .aload_n 0, 1, []) ::
  (102, .getfield 172, 3, []) ::
  (105, .invokevirtual 175, 3, []) ::
  (108, .ifCond .eq 5, 3, [113]) ::
  (111, .iconst 0, 1, []) ::
  (112, .ireturn, 1, []) ::
  (113, .iinc 5 1, 3, []) ::
  (116, .goto (-50), 3, [66]) ::
  (119, .iinc 3 1, 3, []) ::
  (122, .goto (-95), 3, [27]) ::
  (125, .iconst 1, 1, []) ::
  (126, .ireturn, 1, []) ::
  []
def kX1_clear_27 : am_C := (27, .iload_n 3, 1, []) ::
  (28, .aload_n 0, 1, []) ::
  (29, .getfield 182, 3, []) ::
  (32, .iload_n 2, 1, []) ::
  (33, .iconst 1, 1, []) ::
  (34, .iadd, 1, []) ::
  (35, .iaload, 1, []) ::
  (36, .if_icmp .ge 89, 3, [125]) ::
  (39, .aload_n 0, 1, []) ::
  (40, .aload_n 0, 1, []) ::
  (41, .getfield 160, 3, []) ::
  (44, .aload_n 0, 1, []) ::
  (45, .getfield 179, 3, []) ::
  (48, .iload_n 3, 1, []) ::
  (49, .invokevirtual 73, 3, []) ::
  (52, .checkcast 77, 3, []) ::
  (55, .iload_n 1, 1, []) ::
  (56, .bipush 40, 2, []) ::
  (58, .invokevirtual 164, 3, []) ::
  (61, .istore 4, 2, []) ::
  (63, .iconst 0, 1, []) ::
  (64, .istore 5, 2, []) ::
  kX1_clear_66
def kX1_clear : am_C := (0, .iload_n 1, 1, []) ::
  (1, .invokestatic 125, 3, []) ::
  (4, .ifCond .eq 15, 3, [19]) ::
  (7, .iload_n 2, 1, []) ::
  (8, .i2l, 1, []) ::
  (9, .lconst 1, 1, []) ::
  (10, .ldc2_w 185, 3, []) ::
  (13, .invokestatic 45, 3, []) ::
  (16, .ifCond .ne 5, 3, [21]) ::
  (19, .iconst (-1), 1, []) ::
  (20, .ireturn, 1, []) ::
  (21, .aload_n 0, 1, []) ::
  (22, .invokevirtual 187, 3, []) ::
  (25, .iconst 0, 1, []) ::
  (26, .istore_n 3, 1, []) ::
  kX1_clear_27
theorem kX1_clear_ok : ∀ q ∈ kX1_clear, am_cok cX1_clear q := am_cok_all (by decide +kernel)
def kX1_grows_180 : am_C := (180, .iload 5, 2, []) ::
  (182, .bipush 6, 2, []) ::
  (184, .if_icmp .gt 47, 3, [231]) ::
  (187, .aload_n 0, 1, []) ::
  (188, .getfield 179, 3, []) ::
  (191, .iconst 0, 1, []) ::
  (192, .iload 5, 2, []) ::
  (194, .aload_n 0, 1, []) ::
  (195, .getfield 179, 3, []) ::
  (198, .iload_n 3, 1, []) ::
  (199, .invokevirtual 73, 3, []) ::
  (202, .checkcast 77, 3, []) ::
  (205, .aload_n 0, 1, []) ::
  (206, .getfield 179, 3, []) ::
  (209, .iload 4, 2, []) ::
  (211, .invokevirtual 73, 3, []) ::
  (214, .checkcast 77, 3, []) ::
  (217, .iconst 0, 1, []) ::
  (218, .invokestatic 59, 3, []) ::
  (221, .invokevirtual 51, 3, []) ::
  (224, .pop, 1, []) ::
  (225, .iinc 5 1, 3, []) ::
  (228, .goto (-48), 3, [180]) ::
  (231, .iinc 4 1, 3, []) ::
  (234, .goto (-70), 3, [164]) ::
  (237, .iinc 3 1, 3, []) ::
  (240, .goto (-100), 3, [140]) ::
  (243, .iinc 2 1, 3, []) ::
  (246, .goto (-120), 3, [126]) ::
  (249, .aload_n 0, 1, []) ::
  (250, .getfield 182, 3, []) ::
  (253, .iload_n 1, 1, []) ::
  (254, .iconst 1, 1, []) ::
  (255, .iadd, 1, []) ::
  (256, .aload_n 0, 1, []) ::
  (257, .getfield 179, 3, []) ::
  (260, .invokevirtual 39, 3, []) ::
  (263, .iastore, 1, []) ::
  (264, .iinc 1 1, 3, []) ::
  (267, .goto (-215), 3, [52]) ::
  (270, .return_, 1, []) ::
  []
def kX1_grows_164 : am_C := (164, .iload 4, 2, []) ::
  (166, .aload_n 0, 1, []) ::
  (167, .getfield 182, 3, []) ::
  (170, .iload_n 1, 1, []) ::
  (171, .iload_n 2, 1, []) ::
  (172, .isub, 1, []) ::
  (173, .iaload, 1, []) ::
  (174, .if_icmp .ge 63, 3, [237]) ::
  (177, .iconst 2, 1, []) ::
  (178, .istore 5, 2, []) ::
  kX1_grows_180
def kX1_grows_140 : am_C := (140, .iload_n 3, 1, []) ::
  (141, .aload_n 0, 1, []) ::
  (142, .getfield 182, 3, []) ::
  (145, .iload_n 2, 1, []) ::
  (146, .iconst 1, 1, []) ::
  (147, .iadd, 1, []) ::
  (148, .iaload, 1, []) ::
  (149, .if_icmp .ge 94, 3, [243]) ::
  (152, .aload_n 0, 1, []) ::
  (153, .getfield 182, 3, []) ::
  (156, .iload_n 1, 1, []) ::
  (157, .iconst 1, 1, []) ::
  (158, .isub, 1, []) ::
  (159, .iload_n 2, 1, []) ::
  (160, .isub, 1, []) ::
  (161, .iaload, 1, []) ::
  (162, .istore 4, 2, []) ::
  kX1_grows_164
def kX1_grows_126 : am_C := (126, .iload_n 2, 1, []) ::
  (127, .iload_n 1, 1, []) ::
  (128, .iconst 1, 1, []) ::
  (129, .isub, 1, []) ::
  (130, .if_icmp .ge 119, 3, [249]) ::
  (133, .aload_n 0, 1, []) ::
  (134, .getfield 182, 3, []) ::
  (137, .iload_n 2, 1, []) ::
  (138, .iaload, 1, []) ::
  (139, .istore_n 3, 1, []) ::
  kX1_grows_140
def kX1_grows_79 : am_C := (79, .iload_n 3, 1, []) ::
  (80, .bipush 9, 2, []) ::
  (82, .if_icmp .gt 36, 3, [118]) ::
  (85, .aload_n 0, 1, []) ::
  (86, .getfield 179, 3, []) ::
  (89, .iconst 0, 1, []) ::
  (90, .iload_n 3, 1, []) ::
  (91, .aload_n 0, 1, []) ::
  (92, .getfield 179, 3, []) ::
  (95, .iload_n 2, 1, []) ::
  (96, .invokevirtual 73, 3, []) ::
  (99, .checkcast 77, 3, []) ::
  (102, .aconst_null, 1, []) ::
  (103, .bipush 9, 2, []) ::
  (105, .invokestatic 59, 3, []) ::
  (108, .invokevirtual 51, 3, []) ::
  (111, .pop, 1, []) ::
  (112, .iinc 3 1, 3, []) ::
  (115, .goto (-36), 3, [79]) ::
  (118, .iinc 2 1, 3, []) ::
  (121, .goto (-55), 3, [66]) ::
  (124, .iconst 1, 1, []) ::
  (125, .istore_n 2, 1, []) ::
  kX1_grows_126
def kX1_grows_66 : am_C := (66, .iload_n 2, 1, []) ::
  (67, .aload_n 0, 1, []) ::
  (68, .getfield 182, 3, []) ::
  (71, .iload_n 1, 1, []) ::
  (72, .iaload, 1, []) ::
  (73, .if_icmp .ge 51, 3, [124]) ::
  (76, .bipush 7, 2, []) ::
  (78, .istore_n 3, 1, []) ::
  kX1_grows_79
def kX1_grows_52 : am_C := (52, .iload_n 1, 1, []) ::
  (53, .iconst 4, 1, []) ::
  (54, .if_icmp .gt 216, 3, [270]) ::
  (57, .aload_n 0, 1, []) ::
  (58, .getfield 182, 3, []) ::
  (61, .iload_n 1, 1, []) ::
  (62, .iconst 1, 1, []) ::
  (63, .isub, 1, []) ::
  (64, .iaload, 1, []) ::
  (65, .istore_n 2, 1, []) ::
  kX1_grows_66
def kX1_grows_43 : am_C := (43, .aload_n 0, 1, []) ::
  (44, .getfield 182, 3, []) ::
  (47, .iconst 2, 1, []) ::
  (48, .iconst 2, 1, []) ::
  (49, .iastore, 1, []) ::
  (50, .iconst 2, 1, []) ::
  (51, .istore_n 1, 1, []) ::
  kX1_grows_52
def kX1_grows : am_C := (0, .aload_n 0, 1, []) ::
  (1, .getfield 179, 3, []) ::
  (4, .invokevirtual 39, 3, []) ::
  (7, .ifCond .le 4, 3, [11]) ::
  (10, .return_, 1, []) ::
  (11, .aload_n 0, 1, []) ::
  (12, .getfield 179, 3, []) ::
  (15, .iconst 0, 1, []) ::
  (16, .iconst 0, 1, []) ::
  (17, .aconst_null, 1, []) ::
  (18, .aconst_null, 1, []) ::
  (19, .iconst 0, 1, []) ::
  (20, .invokestatic 59, 3, []) ::
  (23, .invokevirtual 51, 3, []) ::
  (26, .pop, 1, []) ::
  (27, .aload_n 0, 1, []) ::
  (28, .getfield 179, 3, []) ::
  (31, .iconst 0, 1, []) ::
  (32, .iconst 1, 1, []) ::
  (33, .aconst_null, 1, []) ::
  (34, .aconst_null, 1, []) ::
  (35, .iconst 1, 1, []) ::
  (36, .invokestatic 59, 3, []) ::
  (39, .invokevirtual 51, 3, []) ::
  (42, .pop, 1, []) ::
  kX1_grows_43
theorem kX1_grows_ok : ∀ q ∈ kX1_grows, am_cok cX1_grows q := am_cok_all (by decide +kernel)
def kX1_hear_61 : am_C := (61, .iload_n 3, 1, []) ::
  (62, .ifCond .lt 37, 3, [99]) ::
  (65, .aload_n 0, 1, []) ::
  (66, .getfield 200, 3, []) ::
  (69, .aload_n 0, 1, []) ::
  (70, .getfield 197, 3, []) ::
  (73, .iload_n 2, 1, []) ::
  (74, .iconst 5, 1, []) ::
  (75, .iload_n 3, 1, []) ::
  (76, .imul, 1, []) ::
  (77, .ishr, 1, []) ::
  (78, .bipush 31, 2, []) ::
  (80, .iand, 1, []) ::
  (81, .i2b, 1, []) ::
  (82, .bastore, 1, []) ::
  (83, .aload_n 0, 1, []) ::
  (84, .dup, 1, []) ::
  (85, .getfield 197, 3, []) ::
  (88, .iconst 1, 1, []) ::
  (89, .iadd, 1, []) ::
  (90, .putfield 197, 3, []) ::
  (93, .iinc 3 (-1), 3, []) ::
  (96, .goto (-35), 3, [61]) ::
  (99, .aload_n 0, 1, []) ::
  (100, .getfield 197, 3, []) ::
  (103, .ireturn, 1, []) ::
  []
def kX1_hear_16 : am_C := (16, .iload_n 3, 1, []) ::
  (17, .iload_n 1, 1, []) ::
  (18, .if_icmp .ge 25, 3, [43]) ::
  (21, .iload_n 2, 1, []) ::
  (22, .iconst 5, 1, []) ::
  (23, .iload_n 3, 1, []) ::
  (24, .imul, 1, []) ::
  (25, .ishr, 1, []) ::
  (26, .bipush 31, 2, []) ::
  (28, .iand, 1, []) ::
  (29, .invokestatic 194, 3, []) ::
  (32, .ifCond .ne 5, 3, [37]) ::
  (35, .iconst (-1), 1, []) ::
  (36, .ireturn, 1, []) ::
  (37, .iinc 3 1, 3, []) ::
  (40, .goto (-24), 3, [16]) ::
  (43, .aload_n 0, 1, []) ::
  (44, .getfield 197, 3, []) ::
  (47, .iload_n 1, 1, []) ::
  (48, .iadd, 1, []) ::
  (49, .bipush 20, 2, []) ::
  (51, .if_icmp .le 6, 3, [57]) ::
  (54, .bipush (-2), 2, []) ::
  (56, .ireturn, 1, []) ::
  (57, .iload_n 1, 1, []) ::
  (58, .iconst 1, 1, []) ::
  (59, .isub, 1, []) ::
  (60, .istore_n 3, 1, []) ::
  kX1_hear_61
def kX1_hear : am_C := (0, .iload_n 1, 1, []) ::
  (1, .i2l, 1, []) ::
  (2, .lconst 1, 1, []) ::
  (3, .ldc2_w 192, 3, []) ::
  (6, .invokestatic 45, 3, []) ::
  (9, .ifCond .ne 5, 3, [14]) ::
  (12, .iconst (-1), 1, []) ::
  (13, .ireturn, 1, []) ::
  (14, .iconst 0, 1, []) ::
  (15, .istore_n 3, 1, []) ::
  kX1_hear_16
theorem kX1_hear_ok : ∀ q ∈ kX1_hear, am_cok cX1_hear q := am_cok_all (by decide +kernel)
def kX1_isWord : am_C := (0, .iload_n 0, 1, []) ::
  (1, .i2l, 1, []) ::
  (2, .lconst 0, 1, []) ::
  (3, .ldc2_w 190, 3, []) ::
  (6, .invokestatic 45, 3, []) ::
  (9, .ireturn, 1, []) ::
  []
theorem kX1_isWord_ok : ∀ q ∈ kX1_isWord, am_cok cX1_isWord q := am_cok_all (by decide +kernel)
def kX1_listen_59 : am_C := (59, .iload_n 3, 1, []) ::
  (60, .ifCond .ne 6, 3, [66]) ::
  (63, .bipush (-5), 2, []) ::
  (65, .ireturn, 1, []) ::
  (66, .aload_n 0, 1, []) ::
  (67, .aload_n 0, 1, []) ::
  (68, .getfield 160, 3, []) ::
  (71, .invokevirtual 209, 3, []) ::
  (74, .aload_n 0, 1, []) ::
  (75, .getfield 197, 3, []) ::
  (78, .ireturn, 1, []) ::
  []
def kX1_listen_56 : am_C := (56, .bipush (-2), 2, []) ::
  (58, .ireturn, 1, []) ::
  kX1_listen_59
def kX1_listen_44 : am_C := (44, .aload_n 0, 1, []) ::
  (45, .getfield 160, 3, []) ::
  (48, .getfield 167, 3, []) ::
  (51, .bipush 20, 2, []) ::
  (53, .if_icmp .le 6, 3, [59]) ::
  kX1_listen_56
def kX1_listen : am_C := (0, .iload_n 1, 1, []) ::
  (1, .invokestatic 125, 3, []) ::
  (4, .ifCond .eq 11, 3, [15]) ::
  (7, .aload_n 0, 1, []) ::
  (8, .iload_n 2, 1, []) ::
  (9, .invokevirtual 69, 3, []) ::
  (12, .ifCond .ne 5, 3, [17]) ::
  (15, .iconst (-1), 1, []) ::
  (16, .ireturn, 1, []) ::
  (17, .aload_n 0, 1, []) ::
  (18, .aload_n 0, 1, []) ::
  (19, .getfield 160, 3, []) ::
  (22, .aload_n 0, 1, []) ::
  (23, .getfield 35, 3, []) ::
  (26, .iload_n 2, 1, []) ::
  (27, .invokevirtual 73, 3, []) ::
  (30, .checkcast 77, 3, []) ::
  (33, .iload_n 1, 1, []) ::
  (34, .bipush 40, 2, []) ::
  (36, .invokevirtual 164, 3, []) ::
  (39, .istore_n 3, 1, []) ::
  (40, .iload_n 3, 1, []) ::
  (41, .ifCond .eq 18, 3, [59]) ::
  kX1_listen_44
theorem kX1_listen_ok : ∀ q ∈ kX1_listen, am_cok cX1_listen q := am_cok_all (by decide +kernel)
def kX1_takes : am_C := (0, .aload_n 1, 1, []) ::
  (1, .getfield 168, 3, []) ::
  (4, .iconst 0, 1, []) ::
  (5, .aload_n 0, 1, []) ::
  (6, .getfield 200, 3, []) ::
  (9, .iconst 0, 1, []) ::
  (10, .aload_n 1, 1, []) ::
  (11, .getfield 167, 3, []) ::
  (14, .invokestatic 203, 3, []) ::
  (17, .aload_n 0, 1, []) ::
  (18, .aload_n 1, 1, []) ::
  (19, .getfield 167, 3, []) ::
  (22, .putfield 197, 3, []) ::
  (25, .return_, 1, []) ::
  []
theorem kX1_takes_ok : ∀ q ∈ kX1_takes, am_cok cX1_takes q := am_cok_all (by decide +kernel)
def kX1_hush : am_C := (0, .aload_n 0, 1, []) ::
  (1, .getfield 197, 3, []) ::
  (4, .istore_n 1, 1, []) ::
  (5, .aload_n 0, 1, []) ::
  (6, .iconst 0, 1, []) ::
  (7, .putfield 197, 3, []) ::
  (10, .iload_n 1, 1, []) ::
  (11, .ireturn, 1, []) ::
  []
theorem kX1_hush_ok : ∀ q ∈ kX1_hush, am_cok cX1_hush q := am_cok_all (by decide +kernel)
def kX1_ear : am_C := (0, .iload_n 1, 1, []) ::
  (1, .i2l, 1, []) ::
  (2, .lconst 0, 1, []) ::
  (3, .aload_n 0, 1, []) ::
  (4, .getfield 197, 3, []) ::
  (7, .iconst 1, 1, []) ::
  (8, .isub, 1, []) ::
  (9, .i2l, 1, []) ::
  (10, .invokestatic 45, 3, []) ::
  (13, .ifCond .eq 12, 3, [25]) ::
  (16, .aload_n 0, 1, []) ::
  (17, .getfield 200, 3, []) ::
  (20, .iload_n 1, 1, []) ::
  (21, .baload, 1, []) ::
  (22, .goto 4, 3, [26]) ::
  (25, .iconst (-1), 1, []) ::
  (26, .ireturn, 1, []) ::
  []
theorem kX1_ear_ok : ∀ q ∈ kX1_ear, am_cok cX1_ear q := am_cok_all (by decide +kernel)
def kX1_write_75 : am_C := (75, .iload 6, 2, []) ::
  (77, .aload 4, 2, []) ::
  (79, .invokevirtual 39, 3, []) ::
  (82, .if_icmp .ge 27, 3, [109]) ::
  (85, .aload_n 0, 1, []) ::
  (86, .getfield 35, 3, []) ::
  (89, .aload 4, 2, []) ::
  (91, .iload 6, 2, []) ::
  (93, .invokevirtual 73, 3, []) ::
  (96, .checkcast 77, 3, []) ::
  (99, .invokevirtual 51, 3, []) ::
  (102, .pop, 1, []) ::
  (103, .iinc 6 1, 3, []) ::
  (106, .goto (-31), 3, [75]) ::
  (109, .aload 5, 2, []) ::
  (111, .getfield 89, 3, []) ::
  (114, .ireturn, 1, []) ::
  []
def kX1_write : am_C := (0, .iload_n 1, 1, []) ::
  (1, .invokestatic 256, 3, []) ::
  (4, .ifCond .eq 9, 3, [13]) ::
  (7, .lload_n 2, 1, []) ::
  (8, .lconst 0, 1, []) ::
  (9, .lcmp, 1, []) ::
  (10, .ifCond .ge 5, 3, [15]) ::
  (13, .iconst (-1), 1, []) ::
  (14, .ireturn, 1, []) ::
  (15, .lload_n 2, 1, []) ::
  (16, .aload_n 0, 1, []) ::
  (17, .iload_n 1, 1, []) ::
  (18, .invokevirtual 263, 3, []) ::
  (21, .lcmp, 1, []) ::
  (22, .ifCond .lt 6, 3, [28]) ::
  (25, .bipush (-4), 2, []) ::
  (27, .ireturn, 1, []) ::
  (28, .new 40, 3, []) ::
  (31, .dup, 1, []) ::
  (32, .invokespecial 274, 3, []) ::
  (35, .astore 4, 2, []) ::
  (37, .aload_n 0, 1, []) ::
  (38, .iconst 0, 1, []) ::
  (39, .aload_n 0, 1, []) ::
  (40, .getfield 197, 3, []) ::
  (43, .lload_n 2, 1, []) ::
  (44, .aload 4, 2, []) ::
  (46, .invokevirtual 271, 3, []) ::
  (49, .astore 5, 2, []) ::
  (51, .aload_n 0, 1, []) ::
  (52, .getfield 35, 3, []) ::
  (55, .invokevirtual 39, 3, []) ::
  (58, .aload 4, 2, []) ::
  (60, .invokevirtual 39, 3, []) ::
  (63, .iadd, 1, []) ::
  (64, .bipush 120, 2, []) ::
  (66, .if_icmp .le 6, 3, [72]) ::
  (69, .bipush (-2), 2, []) ::
  (71, .ireturn, 1, []) ::
  (72, .iconst 0, 1, []) ::
  (73, .istore 6, 2, []) ::
  kX1_write_75
theorem kX1_write_ok : ∀ q ∈ kX1_write, am_cok cX1_write q := am_cok_all (by decide +kernel)
def kX1_isEar : am_C := (0, .iload_n 0, 1, []) ::
  (1, .i2l, 1, []) ::
  (2, .lconst 0, 1, []) ::
  (3, .ldc2_w 254, 3, []) ::
  (6, .invokestatic 45, 3, []) ::
  (9, .ireturn, 1, []) ::
  []
theorem kX1_isEar_ok : ∀ q ∈ kX1_isEar, am_cok cX1_isEar q := am_cok_all (by decide +kernel)
def kX1_listens_17 : am_C := (17, .iload_n 3, 1, []) ::
  (18, .iload_n 2, 1, []) ::
  (19, .iadd, 1, []) ::
  (20, .aload_n 0, 1, []) ::
  (21, .getfield 197, 3, []) ::
  (24, .if_icmp .gt 27, 3, [51]) ::
  (27, .aload_n 0, 1, []) ::
  (28, .getfield 223, 3, []) ::
  (31, .iload_n 3, 1, []) ::
  (32, .aaload, 1, []) ::
  (33, .iload_n 3, 1, []) ::
  (34, .iload_n 2, 1, []) ::
  (35, .iadd, 1, []) ::
  (36, .aload_n 0, 1, []) ::
  (37, .iload_n 3, 1, []) ::
  (38, .iload_n 3, 1, []) ::
  (39, .iload_n 2, 1, []) ::
  (40, .iadd, 1, []) ::
  (41, .invokevirtual 250, 3, []) ::
  (44, .lastore, 1, []) ::
  (45, .iinc 3 1, 3, []) ::
  (48, .goto (-31), 3, [17]) ::
  (51, .iinc 2 1, 3, []) ::
  (54, .goto (-47), 3, [7]) ::
  (57, .aload_n 0, 1, []) ::
  (58, .getfield 197, 3, []) ::
  (61, .ifCond .ne 7, 3, [68]) ::
  (64, .lconst 0, 1, []) ::
  (65, .goto 14, 3, [79]) ::
  (68, .aload_n 0, 1, []) ::
  (69, .getfield 223, 3, []) ::
  (72, .iconst 0, 1, []) ::
  (73, .aaload, 1, []) ::
  (74, .aload_n 0, 1, []) ::
  (75, .getfield 197, 3, []) ::
  (78, .laload, 1, []) ::
  (79, .lreturn, 1, []) ::
  []
def kX1_listens_7 : am_C := (7, .iload_n 2, 1, []) ::
  (8, .aload_n 0, 1, []) ::
  (9, .getfield 197, 3, []) ::
  (12, .if_icmp .gt 45, 3, [57]) ::
  (15, .iconst 0, 1, []) ::
  (16, .istore_n 3, 1, []) ::
  kX1_listens_17
def kX1_listens : am_C := (0, .aload_n 0, 1, []) ::
  (1, .iload_n 1, 1, []) ::
  (2, .putfield 236, 3, []) ::
  (5, .iconst 1, 1, []) ::
  (6, .istore_n 2, 1, []) ::
  kX1_listens_7
theorem kX1_listens_ok : ∀ q ∈ kX1_listens, am_cok cX1_listens q := am_cok_all (by decide +kernel)
def kX1_span_5 : am_C := (5, .iload 5, 2, []) ::
  (7, .bipush 9, 2, []) ::
  (9, .if_icmp .gt 39, 3, [48]) ::
  (12, .ldc2_w 213, 3, []) ::
  (15, .lload_n 3, 1, []) ::
  (16, .aload_n 0, 1, []) ::
  (17, .iload 5, 2, []) ::
  (19, .iconst 0, 1, []) ::
  (20, .iload_n 1, 1, []) ::
  (21, .iload_n 2, 1, []) ::
  (22, .iconst 0, 1, []) ::
  (23, .invokevirtual 246, 3, []) ::
  (26, .ladd, 1, []) ::
  (27, .aload_n 0, 1, []) ::
  (28, .iload 5, 2, []) ::
  (30, .iconst 1, 1, []) ::
  (31, .iload_n 1, 1, []) ::
  (32, .iload_n 2, 1, []) ::
  (33, .iconst 0, 1, []) ::
  (34, .invokevirtual 246, 3, []) ::
  (37, .ladd, 1, []) ::
  (38, .invokestatic 231, 3, []) ::
  (41, .lstore_n 3, 1, []) ::
  (42, .iinc 5 1, 3, []) ::
  (45, .goto (-40), 3, [5]) ::
  (48, .lload_n 3, 1, []) ::
  (49, .lreturn, 1, []) ::
  []
def kX1_span : am_C := (0, .lconst 0, 1, []) ::
  (1, .lstore_n 3, 1, []) ::
  (2, .iconst 0, 1, []) ::
  (3, .istore 5, 2, []) ::
  kX1_span_5
theorem kX1_span_ok : ∀ q ∈ kX1_span, am_cok cX1_span q := am_cok_all (by decide +kernel)
def kX1_ofKind : am_C := (0, .aload_n 0, 1, []) ::
  (1, .iload_n 1, 1, []) ::
  (2, .iload_n 2, 1, []) ::
  (3, .invokevirtual 239, 3, []) ::
  (6, .ifCond .ne 5, 3, [11]) ::
  (9, .lconst 0, 1, []) ::
  (10, .lreturn, 1, []) ::
  (11, .iload_n 2, 1, []) ::
  (12, .ifCond .ne 14, 3, [26]) ::
  (15, .aload_n 0, 1, []) ::
  (16, .iload_n 1, 1, []) ::
  (17, .iload_n 3, 1, []) ::
  (18, .iload 4, 2, []) ::
  (20, .iload 5, 2, []) ::
  (22, .invokevirtual 242, 3, []) ::
  (25, .lreturn, 1, []) ::
  (26, .iload 4, 2, []) ::
  (28, .iload_n 3, 1, []) ::
  (29, .iconst 2, 1, []) ::
  (30, .iadd, 1, []) ::
  (31, .if_icmp .le 45, 3, [76]) ::
  (34, .aload_n 0, 1, []) ::
  (35, .getfield 200, 3, []) ::
  (38, .iload_n 3, 1, []) ::
  (39, .baload, 1, []) ::
  (40, .bipush 29, 2, []) ::
  (42, .if_icmp .ne 34, 3, [76]) ::
  (45, .aload_n 0, 1, []) ::
  (46, .getfield 200, 3, []) ::
  (49, .iload 4, 2, []) ::
  (51, .iconst 1, 1, []) ::
  (52, .isub, 1, []) ::
  (53, .baload, 1, []) ::
  (54, .bipush 30, 2, []) ::
  (56, .if_icmp .ne 20, 3, [76]) ::
  (59, .aload_n 0, 1, []) ::
  (60, .iload_n 1, 1, []) ::
  (61, .iload_n 3, 1, []) ::
  (62, .iconst 1, 1, []) ::
  (63, .iadd, 1, []) ::
  (64, .iload 4, 2, []) ::
  (66, .iconst 1, 1, []) ::
  (67, .isub, 1, []) ::
  (68, .iload 5, 2, []) ::
  (70, .invokevirtual 242, 3, []) ::
  (73, .goto 4, 3, [77]) ::
  (76, .lconst 0, 1, []) ::
  (77, .lreturn, 1, []) ::
  []
theorem kX1_ofKind_ok : ∀ q ∈ kX1_ofKind, am_cok cX1_ofKind q := am_cok_all (by decide +kernel)
def kX1_mayBe_48 : am_C := (48, .iload_n 2, 1, []) ::
  (49, .if_icmp .ne 7, 3, [56]) ::
  (52, .iconst 1, 1, []) ::
  (53, .goto 4, 3, [57]) ::
  (56, .iconst 0, 1, []) ::
  (57, .ireturn, 1, []) ::
  []
def kX1_mayBe_47 : am_C := (47, .iconst 0, 1, []) ::
  kX1_mayBe_48
def kX1_mayBe : am_C := (0, .iload_n 1, 1, []) ::
  (1, .invokestatic 128, 3, []) ::
  (4, .ifCond .ne 13, 3, [17]) ::
  (7, .iload_n 2, 1, []) ::
  (8, .ifCond .ne 7, 3, [15]) ::
  (11, .iconst 1, 1, []) ::
  (12, .goto 4, 3, [16]) ::
  (15, .iconst 0, 1, []) ::
  (16, .ireturn, 1, []) ::
  (17, .aload_n 0, 1, []) ::
  (18, .getfield 236, 3, []) ::
  (21, .bipush 8, 2, []) ::
  (23, .if_icmp .eq 29, 3, [52]) ::
  (26, .aload_n 0, 1, []) ::
  (27, .getfield 131, 3, []) ::
  (30, .aload_n 0, 1, []) ::
  (31, .getfield 236, 3, []) ::
  (34, .iaload, 1, []) ::
  (35, .iload_n 1, 1, []) ::
  (36, .ishr, 1, []) ::
  (37, .iconst 1, 1, []) ::
  (38, .iand, 1, []) ::
  (39, .iconst 1, 1, []) ::
  (40, .if_icmp .ne 7, 3, [47]) ::
  (43, .iconst 1, 1, []) ::
  (44, .goto 4, 3, [48]) ::
  kX1_mayBe_47
theorem kX1_mayBe_ok : ∀ q ∈ kX1_mayBe, am_cok cX1_mayBe q := am_cok_all (by decide +kernel)
def kX1_plain_273 : am_C := (273, .iinc 7 1, 3, []) ::
  (276, .goto (-78), 3, [198]) ::
  (279, .lload 5, 2, []) ::
  (281, .lreturn, 1, []) ::
  []
def kX1_plain_239 : am_C := (239, .ldc2_w 213, 3, []) ::
  (242, .lload 5, 2, []) ::
  (244, .aload_n 0, 1, []) ::
  (245, .getfield 223, 3, []) ::
  (248, .iload_n 2, 1, []) ::
  (249, .aaload, 1, []) ::
  (250, .iload 7, 2, []) ::
  (252, .laload, 1, []) ::
  (253, .aload_n 0, 1, []) ::
  (254, .getfield 223, 3, []) ::
  (257, .iload 7, 2, []) ::
  (259, .iconst 1, 1, []) ::
  (260, .iadd, 1, []) ::
  (261, .aaload, 1, []) ::
  (262, .iload_n 3, 1, []) ::
  (263, .laload, 1, []) ::
  (264, .invokestatic 227, 3, []) ::
  (267, .ladd, 1, []) ::
  (268, .invokestatic 231, 3, []) ::
  (271, .lstore 5, 2, []) ::
  kX1_plain_273
def kX1_plain_236 : am_C := (236, .goto 37, 3, [273]) ::
  kX1_plain_239
def kX1_plain_227 : am_C := (227, .iload 7, 2, []) ::
  (229, .iload_n 2, 1, []) ::
  (230, .isub, 1, []) ::
  (231, .iload 4, 2, []) ::
  (233, .if_icmp .eq 6, 3, [239]) ::
  kX1_plain_236
def kX1_plain_222 : am_C := (222, .iload 4, 2, []) ::
  (224, .ifCond .eq 15, 3, [239]) ::
  kX1_plain_227
def kX1_plain_198 : am_C := (198, .iload 7, 2, []) ::
  (200, .iconst 1, 1, []) ::
  (201, .iadd, 1, []) ::
  (202, .iload_n 3, 1, []) ::
  (203, .if_icmp .ge 76, 3, [279]) ::
  (206, .aload_n 0, 1, []) ::
  (207, .getfield 200, 3, []) ::
  (210, .iload 7, 2, []) ::
  (212, .baload, 1, []) ::
  (213, .bipush 20, 2, []) ::
  (215, .iload_n 1, 1, []) ::
  (216, .iadd, 1, []) ::
  (217, .iconst 2, 1, []) ::
  (218, .isub, 1, []) ::
  (219, .if_icmp .ne 54, 3, [273]) ::
  kX1_plain_222
def kX1_plain : am_C := (0, .iload_n 1, 1, []) ::
  (1, .ifCond .ne 25, 3, [26]) ::
  (4, .iload_n 3, 1, []) ::
  (5, .iload_n 2, 1, []) ::
  (6, .iconst 1, 1, []) ::
  (7, .iadd, 1, []) ::
  (8, .if_icmp .ne 16, 3, [24]) ::
  (11, .aload_n 0, 1, []) ::
  (12, .iload_n 2, 1, []) ::
  (13, .iconst 0, 1, []) ::
  (14, .invokevirtual 215, 3, []) ::
  (17, .ifCond .eq 7, 3, [24]) ::
  (20, .lconst 1, 1, []) ::
  (21, .goto 4, 3, [25]) ::
  (24, .lconst 0, 1, []) ::
  (25, .lreturn, 1, []) ::
  (26, .iload_n 1, 1, []) ::
  (27, .iconst 1, 1, []) ::
  (28, .if_icmp .ne 19, 3, [47]) ::
  (31, .aload_n 0, 1, []) ::
  (32, .iload_n 2, 1, []) ::
  (33, .iload_n 3, 1, []) ::
  (34, .invokevirtual 219, 3, []) ::
  (37, .iconst (-1), 1, []) ::
  (38, .if_icmp .eq 7, 3, [45]) ::
  (41, .lconst 1, 1, []) ::
  (42, .goto 4, 3, [46]) ::
  (45, .lconst 0, 1, []) ::
  (46, .lreturn, 1, []) ::
  (47, .iload_n 1, 1, []) ::
  (48, .bipush 7, 2, []) ::
  (50, .if_icmp .ne 36, 3, [86]) ::
  (53, .iload_n 3, 1, []) ::
  (54, .iload_n 2, 1, []) ::
  (55, .iconst 1, 1, []) ::
  (56, .iadd, 1, []) ::
  (57, .if_icmp .le 27, 3, [84]) ::
  (60, .aload_n 0, 1, []) ::
  (61, .getfield 200, 3, []) ::
  (64, .iload_n 2, 1, []) ::
  (65, .baload, 1, []) ::
  (66, .bipush 25, 2, []) ::
  (68, .if_icmp .ne 16, 3, [84]) ::
  (71, .aload_n 0, 1, []) ::
  (72, .getfield 223, 3, []) ::
  (75, .iload_n 2, 1, []) ::
  (76, .iconst 1, 1, []) ::
  (77, .iadd, 1, []) ::
  (78, .aaload, 1, []) ::
  (79, .iload_n 3, 1, []) ::
  (80, .laload, 1, []) ::
  (81, .goto 4, 3, [85]) ::
  (84, .lconst 0, 1, []) ::
  (85, .lreturn, 1, []) ::
  (86, .iload_n 1, 1, []) ::
  (87, .bipush 8, 2, []) ::
  (89, .if_icmp .ne 51, 3, [140]) ::
  (92, .iload_n 3, 1, []) ::
  (93, .iload_n 2, 1, []) ::
  (94, .iconst 2, 1, []) ::
  (95, .iadd, 1, []) ::
  (96, .if_icmp .le 42, 3, [138]) ::
  (99, .aload_n 0, 1, []) ::
  (100, .getfield 200, 3, []) ::
  (103, .iload_n 2, 1, []) ::
  (104, .baload, 1, []) ::
  (105, .bipush 26, 2, []) ::
  (107, .if_icmp .ne 31, 3, [138]) ::
  (110, .aload_n 0, 1, []) ::
  (111, .getfield 200, 3, []) ::
  (114, .iload_n 3, 1, []) ::
  (115, .iconst 1, 1, []) ::
  (116, .isub, 1, []) ::
  (117, .baload, 1, []) ::
  (118, .bipush 27, 2, []) ::
  (120, .if_icmp .ne 18, 3, [138]) ::
  (123, .aload_n 0, 1, []) ::
  (124, .getfield 223, 3, []) ::
  (127, .iload_n 2, 1, []) ::
  (128, .iconst 1, 1, []) ::
  (129, .iadd, 1, []) ::
  (130, .aaload, 1, []) ::
  (131, .iload_n 3, 1, []) ::
  (132, .iconst 1, 1, []) ::
  (133, .isub, 1, []) ::
  (134, .laload, 1, []) ::
  (135, .goto 4, 3, [139]) ::
  (138, .lconst 0, 1, []) ::
  (139, .lreturn, 1, []) ::
  (140, .iload_n 1, 1, []) ::
  (141, .bipush 9, 2, []) ::
  (143, .if_icmp .ne 47, 3, [190]) ::
  (146, .iload_n 3, 1, []) ::
  (147, .iload_n 2, 1, []) ::
  (148, .iconst 2, 1, []) ::
  (149, .iadd, 1, []) ::
  (150, .if_icmp .le 38, 3, [188]) ::
  (153, .aload_n 0, 1, []) ::
  (154, .iload_n 2, 1, []) ::
  (155, .iconst 1, 1, []) ::
  (156, .invokevirtual 215, 3, []) ::
  (159, .ifCond .eq 29, 3, [188]) ::
  (162, .aload_n 0, 1, []) ::
  (163, .getfield 200, 3, []) ::
  (166, .iload_n 2, 1, []) ::
  (167, .iconst 1, 1, []) ::
  (168, .iadd, 1, []) ::
  (169, .baload, 1, []) ::
  (170, .bipush 28, 2, []) ::
  (172, .if_icmp .ne 16, 3, [188]) ::
  (175, .aload_n 0, 1, []) ::
  (176, .getfield 223, 3, []) ::
  (179, .iload_n 2, 1, []) ::
  (180, .iconst 2, 1, []) ::
  (181, .iadd, 1, []) ::
  (182, .aaload, 1, []) ::
  (183, .iload_n 3, 1, []) ::
  (184, .laload, 1, []) ::
  (185, .goto 4, 3, [189]) ::
  (188, .lconst 0, 1, []) ::
  (189, .lreturn, 1, []) ::
  (190, .lconst 0, 1, []) ::
  (191, .lstore 5, 2, []) ::
  (193, .iload_n 2, 1, []) ::
  (194, .iconst 1, 1, []) ::
  (195, .iadd, 1, []) ::
  (196, .istore 7, 2, []) ::
  kX1_plain_198
theorem kX1_plain_ok : ∀ q ∈ kX1_plain, am_cok cX1_plain q := am_cok_all (by decide +kernel)
def kX1_isLetter_33 : am_C := (33, .if_icmp .ne 7, 3, [40]) ::
  (36, .iconst 1, 1, []) ::
  (37, .goto 4, 3, [41]) ::
  (40, .iconst 0, 1, []) ::
  (41, .ireturn, 1, []) ::
  []
def kX1_isLetter_32 : am_C := (32, .iconst 0, 1, []) ::
  kX1_isLetter_33
def kX1_isLetter : am_C := (0, .aload_n 0, 1, []) ::
  (1, .getfield 200, 3, []) ::
  (4, .iload_n 1, 1, []) ::
  (5, .baload, 1, []) ::
  (6, .bipush 10, 2, []) ::
  (8, .if_icmp .ge 32, 3, [40]) ::
  (11, .aload_n 0, 1, []) ::
  (12, .getfield 95, 3, []) ::
  (15, .aload_n 0, 1, []) ::
  (16, .getfield 200, 3, []) ::
  (19, .iload_n 1, 1, []) ::
  (20, .baload, 1, []) ::
  (21, .ishr, 1, []) ::
  (22, .iconst 1, 1, []) ::
  (23, .iand, 1, []) ::
  (24, .iload_n 2, 1, []) ::
  (25, .ifCond .eq 7, 3, [32]) ::
  (28, .iconst 1, 1, []) ::
  (29, .goto 4, 3, [33]) ::
  kX1_isLetter_32
theorem kX1_isLetter_ok : ∀ q ∈ kX1_isLetter, am_cok cX1_isLetter q := am_cok_all (by decide +kernel)
def kX1_numberOf_5 : am_C := (5, .iload 4, 2, []) ::
  (7, .iload_n 2, 1, []) ::
  (8, .if_icmp .ge 51, 3, [59]) ::
  (11, .aload_n 0, 1, []) ::
  (12, .getfield 200, 3, []) ::
  (15, .iload 4, 2, []) ::
  (17, .baload, 1, []) ::
  (18, .bipush 10, 2, []) ::
  (20, .if_icmp .lt 15, 3, [35]) ::
  (23, .aload_n 0, 1, []) ::
  (24, .getfield 200, 3, []) ::
  (27, .iload 4, 2, []) ::
  (29, .baload, 1, []) ::
  (30, .bipush 19, 2, []) ::
  (32, .if_icmp .le 5, 3, [37]) ::
  (35, .iconst (-1), 1, []) ::
  (36, .ireturn, 1, []) ::
  (37, .bipush 10, 2, []) ::
  (39, .iload_n 3, 1, []) ::
  (40, .imul, 1, []) ::
  (41, .aload_n 0, 1, []) ::
  (42, .getfield 200, 3, []) ::
  (45, .iload 4, 2, []) ::
  (47, .baload, 1, []) ::
  (48, .iadd, 1, []) ::
  (49, .bipush 10, 2, []) ::
  (51, .isub, 1, []) ::
  (52, .istore_n 3, 1, []) ::
  (53, .iinc 4 1, 3, []) ::
  (56, .goto (-51), 3, [5]) ::
  (59, .iload_n 2, 1, []) ::
  (60, .iload_n 1, 1, []) ::
  (61, .isub, 1, []) ::
  (62, .iconst 4, 1, []) ::
  (63, .if_icmp .gt 21, 3, [84]) ::
  (66, .iload_n 2, 1, []) ::
  (67, .iload_n 1, 1, []) ::
  (68, .isub, 1, []) ::
  (69, .iconst 1, 1, []) ::
  (70, .if_icmp .le 18, 3, [88]) ::
  (73, .aload_n 0, 1, []) ::
  (74, .getfield 200, 3, []) ::
  (77, .iload_n 1, 1, []) ::
  (78, .baload, 1, []) ::
  (79, .bipush 10, 2, []) ::
  (81, .if_icmp .ne 7, 3, [88]) ::
  (84, .iconst (-1), 1, []) ::
  (85, .goto 4, 3, [89]) ::
  (88, .iload_n 3, 1, []) ::
  (89, .ireturn, 1, []) ::
  []
def kX1_numberOf : am_C := (0, .iconst 0, 1, []) ::
  (1, .istore_n 3, 1, []) ::
  (2, .iload_n 1, 1, []) ::
  (3, .istore 4, 2, []) ::
  kX1_numberOf_5
theorem kX1_numberOf_ok : ∀ q ∈ kX1_numberOf, am_cok cX1_numberOf q := am_cok_all (by decide +kernel)
def kX1_times_2 : am_C := (0, .lload_n 0, 1, []) ::
  (1, .lconst 0, 1, []) ::
  (2, .lcmp, 1, []) ::
  (3, .ifCond .eq 9, 3, [12]) ::
  (6, .lload_n 2, 1, []) ::
  (7, .lconst 0, 1, []) ::
  (8, .lcmp, 1, []) ::
  (9, .ifCond .ne 7, 3, [16]) ::
  (12, .lconst 0, 1, []) ::
  (13, .goto 22, 3, [35]) ::
  (16, .lload_n 0, 1, []) ::
  (17, .ldc2_w 213, 3, []) ::
  (20, .lload_n 2, 1, []) ::
  (21, .ldiv, 1, []) ::
  (22, .lcmp, 1, []) ::
  (23, .ifCond .le 9, 3, [32]) ::
  (26, .ldc2_w 213, 3, []) ::
  (29, .goto 6, 3, [35]) ::
  (32, .lload_n 0, 1, []) ::
  (33, .lload_n 2, 1, []) ::
  (34, .lmul, 1, []) ::
  (35, .lreturn, 1, []) ::
  []
theorem kX1_times_2_ok : ∀ q ∈ kX1_times_2, am_cok cX1_times_2 q := am_cok_all (by decide +kernel)
def kX1_reading_98 : am_C := (98, .lstore 12, 2, []) ::
  (100, .lload 6, 2, []) ::
  (102, .lload 12, 2, []) ::
  (104, .lcmp, 1, []) ::
  (105, .ifCond .ge 24, 3, [129]) ::
  (108, .aload_n 0, 1, []) ::
  (109, .iload 8, 2, []) ::
  (111, .iload_n 1, 1, []) ::
  (112, .iload 9, 2, []) ::
  (114, .iadd, 1, []) ::
  (115, .iload_n 2, 1, []) ::
  (116, .iload 9, 2, []) ::
  (118, .isub, 1, []) ::
  (119, .iload 10, 2, []) ::
  (121, .lload 6, 2, []) ::
  (123, .aload 5, 2, []) ::
  (125, .invokevirtual 267, 3, []) ::
  (128, .areturn, 1, []) ::
  (129, .lload 6, 2, []) ::
  (131, .lload 12, 2, []) ::
  (133, .lsub, 1, []) ::
  (134, .lstore 6, 2, []) ::
  (136, .iinc 10 1, 3, []) ::
  (139, .goto (-114), 3, [25]) ::
  (142, .iinc 9 1, 3, []) ::
  (145, .goto (-129), 3, [16]) ::
  (148, .iinc 8 1, 3, []) ::
  (151, .goto (-145), 3, [6]) ::
  (154, .aconst_null, 1, []) ::
  (155, .areturn, 1, []) ::
  []
def kX1_reading_95 : am_C := (95, .invokevirtual 246, 3, []) ::
  kX1_reading_98
def kX1_reading_94 : am_C := (94, .iconst 0, 1, []) ::
  kX1_reading_95
def kX1_reading_82 : am_C := (82, .iload_n 1, 1, []) ::
  (83, .iload_n 2, 1, []) ::
  (84, .iload 11, 2, []) ::
  (86, .ifCond .eq 8, 3, [94]) ::
  (89, .iload 10, 2, []) ::
  (91, .goto 4, 3, [95]) ::
  kX1_reading_94
def kX1_reading_81 : am_C := (81, .iconst 0, 1, []) ::
  kX1_reading_82
def kX1_reading_68 : am_C := (68, .aload_n 0, 1, []) ::
  (69, .iload 8, 2, []) ::
  (71, .iload 9, 2, []) ::
  (73, .iconst 1, 1, []) ::
  (74, .if_icmp .ne 7, 3, [81]) ::
  (77, .iconst 1, 1, []) ::
  (78, .goto 4, 3, [82]) ::
  kX1_reading_81
def kX1_reading_64 : am_C := (64, .lconst 0, 1, []) ::
  (65, .goto 33, 3, [98]) ::
  kX1_reading_68
def kX1_reading_59 : am_C := (59, .iload 11, 2, []) ::
  (61, .ifCond .ne 7, 3, [68]) ::
  kX1_reading_64
def kX1_reading_51 : am_C := (51, .istore 11, 2, []) ::
  (53, .iload 10, 2, []) ::
  (55, .iconst 1, 1, []) ::
  (56, .if_icmp .le 12, 3, [68]) ::
  kX1_reading_59
def kX1_reading_50 : am_C := (50, .iconst 0, 1, []) ::
  kX1_reading_51
def kX1_reading_46 : am_C := (46, .iconst 1, 1, []) ::
  (47, .goto 4, 3, [51]) ::
  kX1_reading_50
def kX1_reading_39 : am_C := (39, .iload 8, 2, []) ::
  (41, .bipush 6, 2, []) ::
  (43, .if_icmp .gt 7, 3, [50]) ::
  kX1_reading_46
def kX1_reading_25 : am_C := (25, .iload 10, 2, []) ::
  (27, .iload_n 2, 1, []) ::
  (28, .iload_n 1, 1, []) ::
  (29, .isub, 1, []) ::
  (30, .if_icmp .gt 112, 3, [142]) ::
  (33, .iload 8, 2, []) ::
  (35, .iconst 2, 1, []) ::
  (36, .if_icmp .lt 14, 3, [50]) ::
  kX1_reading_39
def kX1_reading_16 : am_C := (16, .iload 9, 2, []) ::
  (18, .iconst 2, 1, []) ::
  (19, .if_icmp .ge 129, 3, [148]) ::
  (22, .iconst 1, 1, []) ::
  (23, .istore 10, 2, []) ::
  kX1_reading_25
def kX1_reading_6 : am_C := (6, .iload 8, 2, []) ::
  (8, .bipush 9, 2, []) ::
  (10, .if_icmp .gt 144, 3, [154]) ::
  (13, .iconst 0, 1, []) ::
  (14, .istore 9, 2, []) ::
  kX1_reading_16
def kX1_reading : am_C := (0, .lload_n 3, 1, []) ::
  (1, .lstore 6, 2, []) ::
  (3, .iconst 0, 1, []) ::
  (4, .istore 8, 2, []) ::
  kX1_reading_6
theorem kX1_reading_ok : ∀ q ∈ kX1_reading, am_cok cX1_reading q := am_cok_all (by decide +kernel)
def kX1_reading_2_163 : am_C := (163, .aload_n 0, 1, []) ::
  (164, .getfield 35, 3, []) ::
  (167, .invokevirtual 39, 3, []) ::
  (170, .aload 7, 2, []) ::
  (172, .invokevirtual 39, 3, []) ::
  (175, .iadd, 1, []) ::
  (176, .iload_n 1, 1, []) ::
  (177, .aload 8, 2, []) ::
  (179, .aload 9, 2, []) ::
  (181, .iload 10, 2, []) ::
  (183, .invokestatic 59, 3, []) ::
  (186, .astore 11, 2, []) ::
  (188, .aload 7, 2, []) ::
  (190, .aload 11, 2, []) ::
  (192, .invokevirtual 51, 3, []) ::
  (195, .pop, 1, []) ::
  (196, .aload 11, 2, []) ::
  (198, .areturn, 1, []) ::
  []
def kX1_reading_2_149 : am_C := (149, .aload_n 0, 1, []) ::
  (150, .iload_n 2, 1, []) ::
  (151, .iconst 2, 1, []) ::
  (152, .iadd, 1, []) ::
  (153, .iload_n 3, 1, []) ::
  (154, .lload 5, 2, []) ::
  (156, .aload 7, 2, []) ::
  (158, .invokevirtual 271, 3, []) ::
  (161, .astore 8, 2, []) ::
  kX1_reading_2_163
def kX1_reading_2_143 : am_C := (143, .iload_n 1, 1, []) ::
  (144, .bipush 9, 2, []) ::
  (146, .if_icmp .ne 17, 3, [163]) ::
  kX1_reading_2_149
def kX1_reading_2_118 : am_C := (118, .iload_n 1, 1, []) ::
  (119, .bipush 8, 2, []) ::
  (121, .if_icmp .ne 22, 3, [143]) ::
  (124, .aload_n 0, 1, []) ::
  (125, .iload_n 2, 1, []) ::
  (126, .iconst 1, 1, []) ::
  (127, .iadd, 1, []) ::
  (128, .iload_n 3, 1, []) ::
  (129, .iconst 1, 1, []) ::
  (130, .isub, 1, []) ::
  (131, .lload 5, 2, []) ::
  (133, .aload 7, 2, []) ::
  (135, .invokevirtual 271, 3, []) ::
  (138, .astore 8, 2, []) ::
  (140, .goto 23, 3, [163]) ::
  kX1_reading_2_143
def kX1_reading_2_95 : am_C := (95, .iload_n 1, 1, []) ::
  (96, .bipush 7, 2, []) ::
  (98, .if_icmp .ne 20, 3, [118]) ::
  (101, .aload_n 0, 1, []) ::
  (102, .iload_n 2, 1, []) ::
  (103, .iconst 1, 1, []) ::
  (104, .iadd, 1, []) ::
  (105, .iload_n 3, 1, []) ::
  (106, .lload 5, 2, []) ::
  (108, .aload 7, 2, []) ::
  (110, .invokevirtual 271, 3, []) ::
  (113, .astore 8, 2, []) ::
  (115, .goto 48, 3, [163]) ::
  kX1_reading_2_118
def kX1_reading_2_39 : am_C := (39, .aload_n 0, 1, []) ::
  (40, .getfield 223, 3, []) ::
  (43, .iload_n 2, 1, []) ::
  (44, .iload 4, 2, []) ::
  (46, .iadd, 1, []) ::
  (47, .iconst 1, 1, []) ::
  (48, .iadd, 1, []) ::
  (49, .aaload, 1, []) ::
  (50, .iload_n 3, 1, []) ::
  (51, .laload, 1, []) ::
  (52, .lstore 11, 2, []) ::
  (54, .aload_n 0, 1, []) ::
  (55, .iload_n 2, 1, []) ::
  (56, .iload_n 2, 1, []) ::
  (57, .iload 4, 2, []) ::
  (59, .iadd, 1, []) ::
  (60, .lload 5, 2, []) ::
  (62, .lload 11, 2, []) ::
  (64, .ldiv, 1, []) ::
  (65, .aload 7, 2, []) ::
  (67, .invokevirtual 271, 3, []) ::
  (70, .astore 8, 2, []) ::
  (72, .aload_n 0, 1, []) ::
  (73, .iload_n 2, 1, []) ::
  (74, .iload 4, 2, []) ::
  (76, .iadd, 1, []) ::
  (77, .iconst 1, 1, []) ::
  (78, .iadd, 1, []) ::
  (79, .iload_n 3, 1, []) ::
  (80, .lload 5, 2, []) ::
  (82, .lload 11, 2, []) ::
  (84, .lrem, 1, []) ::
  (85, .aload 7, 2, []) ::
  (87, .invokevirtual 271, 3, []) ::
  (90, .astore 9, 2, []) ::
  (92, .goto 71, 3, [163]) ::
  kX1_reading_2_95
def kX1_reading_2_33 : am_C := (33, .iload_n 1, 1, []) ::
  (34, .bipush 6, 2, []) ::
  (36, .if_icmp .gt 59, 3, [95]) ::
  kX1_reading_2_39
def kX1_reading_2_26 : am_C := (26, .istore 10, 2, []) ::
  (28, .iload_n 1, 1, []) ::
  (29, .iconst 2, 1, []) ::
  (30, .if_icmp .lt 65, 3, [95]) ::
  kX1_reading_2_33
def kX1_reading_2_20 : am_C := (20, .aload_n 0, 1, []) ::
  (21, .getfield 200, 3, []) ::
  (24, .iload_n 2, 1, []) ::
  (25, .baload, 1, []) ::
  kX1_reading_2_26
def kX1_reading_2 : am_C := (0, .aconst_null, 1, []) ::
  (1, .astore 8, 2, []) ::
  (3, .aconst_null, 1, []) ::
  (4, .astore 9, 2, []) ::
  (6, .iload_n 1, 1, []) ::
  (7, .iconst 1, 1, []) ::
  (8, .if_icmp .ne 12, 3, [20]) ::
  (11, .aload_n 0, 1, []) ::
  (12, .iload_n 2, 1, []) ::
  (13, .iload_n 3, 1, []) ::
  (14, .invokevirtual 219, 3, []) ::
  (17, .goto 9, 3, [26]) ::
  kX1_reading_2_20
theorem kX1_reading_2_ok : ∀ q ∈ kX1_reading_2, am_cok cX1_reading_2 q := am_cok_all (by decide +kernel)
def kX1_place_15 : am_C := (15, .ldc2_w 279, 3, []) ::
  (18, .lreturn, 1, []) ::
  (19, .aload_n 0, 1, []) ::
  (20, .iload_n 1, 1, []) ::
  (21, .invokevirtual 263, 3, []) ::
  (24, .lconst 0, 1, []) ::
  (25, .lcmp, 1, []) ::
  (26, .ifCond .ne 7, 3, [33]) ::
  (29, .ldc2_w 284, 3, []) ::
  (32, .lreturn, 1, []) ::
  (33, .aload_n 0, 1, []) ::
  (34, .aload_n 0, 1, []) ::
  (35, .getfield 35, 3, []) ::
  (38, .iload_n 2, 1, []) ::
  (39, .invokevirtual 73, 3, []) ::
  (42, .checkcast 77, 3, []) ::
  (45, .iconst 0, 1, []) ::
  (46, .aload_n 0, 1, []) ::
  (47, .getfield 197, 3, []) ::
  (50, .invokevirtual 281, 3, []) ::
  (53, .lstore_n 3, 1, []) ::
  (54, .lload_n 3, 1, []) ::
  (55, .ldc2_w 279, 3, []) ::
  (58, .lcmp, 1, []) ::
  (59, .ifCond .ne 9, 3, [68]) ::
  (62, .ldc2_w 284, 3, []) ::
  (65, .goto 4, 3, [69]) ::
  (68, .lload_n 3, 1, []) ::
  (69, .lreturn, 1, []) ::
  []
def kX1_place_7 : am_C := (7, .aload_n 0, 1, []) ::
  (8, .iload_n 2, 1, []) ::
  (9, .invokevirtual 69, 3, []) ::
  (12, .ifCond .ne 7, 3, [19]) ::
  kX1_place_15
def kX1_place : am_C := (0, .iload_n 1, 1, []) ::
  (1, .invokestatic 256, 3, []) ::
  (4, .ifCond .eq 11, 3, [15]) ::
  kX1_place_7
theorem kX1_place_ok : ∀ q ∈ kX1_place, am_cok cX1_place q := am_cok_all (by decide +kernel)
def kX1_placeOf_187 : am_C := (187, .iinc 10 1, 3, []) ::
  (190, .goto (-105), 3, [85]) ::
  (193, .iinc 6 1, 3, []) ::
  (196, .goto (-146), 3, [50]) ::
  (199, .ldc2_w 279, 3, []) ::
  (202, .lreturn, 1, []) ::
  []
def kX1_placeOf_152 : am_C := (152, .aload_n 0, 1, []) ::
  (153, .aload_n 1, 1, []) ::
  (154, .iload 7, 2, []) ::
  (156, .iload 8, 2, []) ::
  (158, .iload 10, 2, []) ::
  (160, .invokevirtual 275, 3, []) ::
  (163, .lstore 13, 2, []) ::
  (165, .lload 13, 2, []) ::
  (167, .ldc2_w 279, 3, []) ::
  (170, .lcmp, 1, []) ::
  (171, .ifCond .eq 9, 3, [180]) ::
  (174, .lload 4, 2, []) ::
  (176, .lload 13, 2, []) ::
  (178, .ladd, 1, []) ::
  (179, .lreturn, 1, []) ::
  (180, .lload 4, 2, []) ::
  (182, .lload 11, 2, []) ::
  (184, .ladd, 1, []) ::
  (185, .lstore 4, 2, []) ::
  kX1_placeOf_187
def kX1_placeOf_140 : am_C := (140, .lstore 11, 2, []) ::
  (142, .lload 11, 2, []) ::
  (144, .lconst 0, 1, []) ::
  (145, .lcmp, 1, []) ::
  (146, .ifCond .ne 6, 3, [152]) ::
  (149, .goto 38, 3, [187]) ::
  kX1_placeOf_152
def kX1_placeOf_137 : am_C := (137, .invokevirtual 246, 3, []) ::
  kX1_placeOf_140
def kX1_placeOf_136 : am_C := (136, .iconst 0, 1, []) ::
  kX1_placeOf_137
def kX1_placeOf_124 : am_C := (124, .iload_n 2, 1, []) ::
  (125, .iload_n 3, 1, []) ::
  (126, .iload 9, 2, []) ::
  (128, .ifCond .eq 8, 3, [136]) ::
  (131, .iload 10, 2, []) ::
  (133, .goto 4, 3, [137]) ::
  kX1_placeOf_136
def kX1_placeOf_123 : am_C := (123, .iconst 0, 1, []) ::
  kX1_placeOf_124
def kX1_placeOf_108 : am_C := (108, .aload_n 0, 1, []) ::
  (109, .aload_n 1, 1, []) ::
  (110, .getfield 98, 3, []) ::
  (113, .iload 6, 2, []) ::
  (115, .iconst 1, 1, []) ::
  (116, .if_icmp .ne 7, 3, [123]) ::
  (119, .iconst 1, 1, []) ::
  (120, .goto 4, 3, [124]) ::
  kX1_placeOf_123
def kX1_placeOf_104 : am_C := (104, .lconst 0, 1, []) ::
  (105, .goto 35, 3, [140]) ::
  kX1_placeOf_108
def kX1_placeOf_99 : am_C := (99, .iload 9, 2, []) ::
  (101, .ifCond .ne 7, 3, [108]) ::
  kX1_placeOf_104
def kX1_placeOf_85 : am_C := (85, .iload 10, 2, []) ::
  (87, .iload_n 3, 1, []) ::
  (88, .iload_n 2, 1, []) ::
  (89, .isub, 1, []) ::
  (90, .if_icmp .gt 103, 3, [193]) ::
  (93, .iload 10, 2, []) ::
  (95, .iconst 1, 1, []) ::
  (96, .if_icmp .le 12, 3, [108]) ::
  kX1_placeOf_99
def kX1_placeOf_80 : am_C := (80, .istore 9, 2, []) ::
  (82, .iconst 1, 1, []) ::
  (83, .istore 10, 2, []) ::
  kX1_placeOf_85
def kX1_placeOf_79 : am_C := (79, .iconst 0, 1, []) ::
  kX1_placeOf_80
def kX1_placeOf_50 : am_C := (50, .iload 6, 2, []) ::
  (52, .iconst 2, 1, []) ::
  (53, .if_icmp .ge 146, 3, [199]) ::
  (56, .iload_n 2, 1, []) ::
  (57, .iload 6, 2, []) ::
  (59, .iadd, 1, []) ::
  (60, .istore 7, 2, []) ::
  (62, .iload_n 3, 1, []) ::
  (63, .iload 6, 2, []) ::
  (65, .isub, 1, []) ::
  (66, .istore 8, 2, []) ::
  (68, .aload_n 1, 1, []) ::
  (69, .invokevirtual 108, 3, []) ::
  (72, .ifnull 7, 3, [79]) ::
  (75, .iconst 1, 1, []) ::
  (76, .goto 4, 3, [80]) ::
  kX1_placeOf_79
def kX1_placeOf_6 : am_C := (6, .iload 6, 2, []) ::
  (8, .aload_n 1, 1, []) ::
  (9, .getfield 98, 3, []) ::
  (12, .if_icmp .ge 35, 3, [47]) ::
  (15, .lload 4, 2, []) ::
  (17, .aload_n 0, 1, []) ::
  (18, .iload 6, 2, []) ::
  (20, .iconst 0, 1, []) ::
  (21, .iload_n 2, 1, []) ::
  (22, .iload_n 3, 1, []) ::
  (23, .iconst 0, 1, []) ::
  (24, .invokevirtual 246, 3, []) ::
  (27, .aload_n 0, 1, []) ::
  (28, .iload 6, 2, []) ::
  (30, .iconst 1, 1, []) ::
  (31, .iload_n 2, 1, []) ::
  (32, .iload_n 3, 1, []) ::
  (33, .iconst 0, 1, []) ::
  (34, .invokevirtual 246, 3, []) ::
  (37, .ladd, 1, []) ::
  (38, .ladd, 1, []) ::
  (39, .lstore 4, 2, []) ::
  (41, .iinc 6 1, 3, []) ::
  (44, .goto (-38), 3, [6]) ::
  (47, .iconst 0, 1, []) ::
  (48, .istore 6, 2, []) ::
  kX1_placeOf_50
def kX1_placeOf : am_C := (0, .lconst 0, 1, []) ::
  (1, .lstore 4, 2, []) ::
  (3, .iconst 0, 1, []) ::
  (4, .istore 6, 2, []) ::
  kX1_placeOf_6
theorem kX1_placeOf_ok : ∀ q ∈ kX1_placeOf, am_cok cX1_placeOf q := am_cok_all (by decide +kernel)
def kX1_placeOf_2_207 : am_C := (207, .lstore 7, 2, []) ::
  (209, .lload 7, 2, []) ::
  (211, .ldc2_w 279, 3, []) ::
  (214, .lcmp, 1, []) ::
  (215, .ifCond .ne 9, 3, [224]) ::
  (218, .ldc2_w 279, 3, []) ::
  (221, .goto 22, 3, [243]) ::
  (224, .lload 5, 2, []) ::
  (226, .aload_n 0, 1, []) ::
  (227, .getfield 223, 3, []) ::
  (230, .iload_n 2, 1, []) ::
  (231, .iload 4, 2, []) ::
  (233, .iadd, 1, []) ::
  (234, .iconst 1, 1, []) ::
  (235, .iadd, 1, []) ::
  (236, .aaload, 1, []) ::
  (237, .iload_n 3, 1, []) ::
  (238, .laload, 1, []) ::
  (239, .lmul, 1, []) ::
  (240, .lload 7, 2, []) ::
  (242, .ladd, 1, []) ::
  (243, .lreturn, 1, []) ::
  []
def kX1_placeOf_2_192 : am_C := (192, .aload_n 0, 1, []) ::
  (193, .aload_n 1, 1, []) ::
  (194, .invokevirtual 108, 3, []) ::
  (197, .iload_n 2, 1, []) ::
  (198, .iload 4, 2, []) ::
  (200, .iadd, 1, []) ::
  (201, .iconst 1, 1, []) ::
  (202, .iadd, 1, []) ::
  (203, .iload_n 3, 1, []) ::
  (204, .invokevirtual 281, 3, []) ::
  kX1_placeOf_2_207
def kX1_placeOf_2 : am_C := (0, .aload_n 1, 1, []) ::
  (1, .getfield 98, 3, []) ::
  (4, .tableswitch 158 0 9 #[56, 77, 158, 158, 158, 158, 158, 98, 111, 126], 56, [162, 60, 81, 162, 162, 162, 162, 162, 102, 115, 130]) ::
  (60, .aload_n 1, 1, []) ::
  (61, .invokevirtual 101, 3, []) ::
  (64, .aload_n 0, 1, []) ::
  (65, .getfield 200, 3, []) ::
  (68, .iload_n 2, 1, []) ::
  (69, .baload, 1, []) ::
  (70, .if_icmp .ne 7, 3, [77]) ::
  (73, .lconst 0, 1, []) ::
  (74, .goto 6, 3, [80]) ::
  (77, .ldc2_w 279, 3, []) ::
  (80, .lreturn, 1, []) ::
  (81, .aload_n 1, 1, []) ::
  (82, .invokevirtual 101, 3, []) ::
  (85, .aload_n 0, 1, []) ::
  (86, .iload_n 2, 1, []) ::
  (87, .iload_n 3, 1, []) ::
  (88, .invokevirtual 219, 3, []) ::
  (91, .if_icmp .ne 7, 3, [98]) ::
  (94, .lconst 0, 1, []) ::
  (95, .goto 6, 3, [101]) ::
  (98, .ldc2_w 279, 3, []) ::
  (101, .lreturn, 1, []) ::
  (102, .aload_n 0, 1, []) ::
  (103, .aload_n 1, 1, []) ::
  (104, .invokevirtual 104, 3, []) ::
  (107, .iload_n 2, 1, []) ::
  (108, .iconst 1, 1, []) ::
  (109, .iadd, 1, []) ::
  (110, .iload_n 3, 1, []) ::
  (111, .invokevirtual 281, 3, []) ::
  (114, .lreturn, 1, []) ::
  (115, .aload_n 0, 1, []) ::
  (116, .aload_n 1, 1, []) ::
  (117, .invokevirtual 104, 3, []) ::
  (120, .iload_n 2, 1, []) ::
  (121, .iconst 1, 1, []) ::
  (122, .iadd, 1, []) ::
  (123, .iload_n 3, 1, []) ::
  (124, .iconst 1, 1, []) ::
  (125, .isub, 1, []) ::
  (126, .invokevirtual 281, 3, []) ::
  (129, .lreturn, 1, []) ::
  (130, .aload_n 1, 1, []) ::
  (131, .invokevirtual 101, 3, []) ::
  (134, .aload_n 0, 1, []) ::
  (135, .getfield 200, 3, []) ::
  (138, .iload_n 2, 1, []) ::
  (139, .baload, 1, []) ::
  (140, .if_icmp .ne 18, 3, [158]) ::
  (143, .aload_n 0, 1, []) ::
  (144, .aload_n 1, 1, []) ::
  (145, .invokevirtual 104, 3, []) ::
  (148, .iload_n 2, 1, []) ::
  (149, .iconst 2, 1, []) ::
  (150, .iadd, 1, []) ::
  (151, .iload_n 3, 1, []) ::
  (152, .invokevirtual 281, 3, []) ::
  (155, .goto 6, 3, [161]) ::
  (158, .ldc2_w 279, 3, []) ::
  (161, .lreturn, 1, []) ::
  (162, .aload_n 0, 1, []) ::
  (163, .aload_n 1, 1, []) ::
  (164, .invokevirtual 104, 3, []) ::
  (167, .iload_n 2, 1, []) ::
  (168, .iload_n 2, 1, []) ::
  (169, .iload 4, 2, []) ::
  (171, .iadd, 1, []) ::
  (172, .invokevirtual 281, 3, []) ::
  (175, .lstore 5, 2, []) ::
  (177, .lload 5, 2, []) ::
  (179, .ldc2_w 279, 3, []) ::
  (182, .lcmp, 1, []) ::
  (183, .ifCond .ne 9, 3, [192]) ::
  (186, .ldc2_w 279, 3, []) ::
  (189, .goto 18, 3, [207]) ::
  kX1_placeOf_2_192
theorem kX1_placeOf_2_ok : ∀ q ∈ kX1_placeOf_2, am_cok cX1_placeOf_2 q := am_cok_all (by decide +kernel)
def kX1_doubt_206 : am_C := (206, .astore 7, 2, []) ::
  (208, .goto (-113), 3, [95]) ::
  (211, .iload 8, 2, []) ::
  (213, .ireturn, 1, []) ::
  []
def kX1_doubt_201 : am_C := (201, .aload 7, 2, []) ::
  (203, .invokevirtual 108, 3, []) ::
  kX1_doubt_206
def kX1_doubt_186 : am_C := (186, .astore 6, 2, []) ::
  (188, .iload 10, 2, []) ::
  (190, .ifCond .eq 11, 3, [201]) ::
  (193, .aload 7, 2, []) ::
  (195, .invokevirtual 104, 3, []) ::
  (198, .goto 8, 3, [206]) ::
  kX1_doubt_201
def kX1_doubt_181 : am_C := (181, .aload 6, 2, []) ::
  (183, .invokevirtual 108, 3, []) ::
  kX1_doubt_186
def kX1_doubt_158 : am_C := (158, .imul, 1, []) ::
  (159, .iadd, 1, []) ::
  (160, .istore 8, 2, []) ::
  (162, .iload 9, 2, []) ::
  (164, .iconst 3, 1, []) ::
  (165, .imul, 1, []) ::
  (166, .istore 9, 2, []) ::
  (168, .iload 10, 2, []) ::
  (170, .ifCond .eq 11, 3, [181]) ::
  (173, .aload 6, 2, []) ::
  (175, .invokevirtual 104, 3, []) ::
  (178, .goto 8, 3, [186]) ::
  kX1_doubt_181
def kX1_doubt_157 : am_C := (157, .iconst 2, 1, []) ::
  kX1_doubt_158
def kX1_doubt_142 : am_C := (142, .istore 10, 2, []) ::
  (144, .iload 8, 2, []) ::
  (146, .iload 9, 2, []) ::
  (148, .iload 10, 2, []) ::
  (150, .ifCond .eq 7, 3, [157]) ::
  (153, .iconst 1, 1, []) ::
  (154, .goto 4, 3, [158]) ::
  kX1_doubt_157
def kX1_doubt_141 : am_C := (141, .iconst 0, 1, []) ::
  kX1_doubt_142
def kX1_doubt_95 : am_C := (95, .aload 6, 2, []) ::
  (97, .getfield 98, 3, []) ::
  (100, .aload 7, 2, []) ::
  (102, .getfield 98, 3, []) ::
  (105, .if_icmp .ne 106, 3, [211]) ::
  (108, .aload 6, 2, []) ::
  (110, .invokevirtual 101, 3, []) ::
  (113, .aload 7, 2, []) ::
  (115, .invokevirtual 101, 3, []) ::
  (118, .if_icmp .ne 93, 3, [211]) ::
  (121, .aload 6, 2, []) ::
  (123, .invokevirtual 104, 3, []) ::
  (126, .aload 7, 2, []) ::
  (128, .invokevirtual 104, 3, []) ::
  (131, .invokevirtual 117, 3, []) ::
  (134, .ifCond .ne 7, 3, [141]) ::
  (137, .iconst 1, 1, []) ::
  (138, .goto 4, 3, [142]) ::
  kX1_doubt_141
def kX1_doubt : am_C := (0, .iload_n 1, 1, []) ::
  (1, .invokestatic 256, 3, []) ::
  (4, .ifCond .eq 16, 3, [20]) ::
  (7, .lload_n 2, 1, []) ::
  (8, .lconst 0, 1, []) ::
  (9, .lcmp, 1, []) ::
  (10, .ifCond .lt 10, 3, [20]) ::
  (13, .lload 4, 2, []) ::
  (15, .lconst 0, 1, []) ::
  (16, .lcmp, 1, []) ::
  (17, .ifCond .ge 5, 3, [22]) ::
  (20, .iconst (-1), 1, []) ::
  (21, .ireturn, 1, []) ::
  (22, .lload_n 2, 1, []) ::
  (23, .lload 4, 2, []) ::
  (25, .invokestatic 286, 3, []) ::
  (28, .aload_n 0, 1, []) ::
  (29, .iload_n 1, 1, []) ::
  (30, .invokevirtual 263, 3, []) ::
  (33, .lcmp, 1, []) ::
  (34, .ifCond .lt 6, 3, [40]) ::
  (37, .bipush (-4), 2, []) ::
  (39, .ireturn, 1, []) ::
  (40, .lload_n 2, 1, []) ::
  (41, .lload 4, 2, []) ::
  (43, .lcmp, 1, []) ::
  (44, .ifCond .ne 6, 3, [50]) ::
  (47, .bipush (-2), 2, []) ::
  (49, .ireturn, 1, []) ::
  (50, .aload_n 0, 1, []) ::
  (51, .iconst 0, 1, []) ::
  (52, .aload_n 0, 1, []) ::
  (53, .getfield 197, 3, []) ::
  (56, .lload_n 2, 1, []) ::
  (57, .new 40, 3, []) ::
  (60, .dup, 1, []) ::
  (61, .invokespecial 274, 3, []) ::
  (64, .invokevirtual 271, 3, []) ::
  (67, .astore 6, 2, []) ::
  (69, .aload_n 0, 1, []) ::
  (70, .iconst 0, 1, []) ::
  (71, .aload_n 0, 1, []) ::
  (72, .getfield 197, 3, []) ::
  (75, .lload 4, 2, []) ::
  (77, .new 40, 3, []) ::
  (80, .dup, 1, []) ::
  (81, .invokespecial 274, 3, []) ::
  (84, .invokevirtual 271, 3, []) ::
  (87, .astore 7, 2, []) ::
  (89, .iconst 0, 1, []) ::
  (90, .istore 8, 2, []) ::
  (92, .iconst 1, 1, []) ::
  (93, .istore 9, 2, []) ::
  kX1_doubt_95
theorem kX1_doubt_ok : ∀ q ∈ kX1_doubt, am_cok cX1_doubt q := am_cok_all (by decide +kernel)
def kX1_fewest_121 : am_C := (121, .aload_n 0, 1, []) ::
  (122, .dup, 1, []) ::
  (123, .getfield 295, 3, []) ::
  (126, .iconst 1, 1, []) ::
  (127, .iadd, 1, []) ::
  (128, .putfield 295, 3, []) ::
  (131, .goto (-46), 3, [85]) ::
  (134, .iinc 5 1, 3, []) ::
  (137, .goto (-63), 3, [74]) ::
  (140, .aload_n 0, 1, []) ::
  (141, .getfield 309, 3, []) ::
  (144, .iconst 0, 1, []) ::
  (145, .aload_n 0, 1, []) ::
  (146, .getfield 200, 3, []) ::
  (149, .iconst 0, 1, []) ::
  (150, .bipush 20, 2, []) ::
  (152, .invokestatic 203, 3, []) ::
  (155, .aload_n 0, 1, []) ::
  (156, .iload 4, 2, []) ::
  (158, .putfield 197, 3, []) ::
  (161, .bipush (-2), 2, []) ::
  (163, .ireturn, 1, []) ::
  []
def kX1_fewest_116 : am_C := (116, .aload_n 0, 1, []) ::
  (117, .getfield 197, 3, []) ::
  (120, .ireturn, 1, []) ::
  kX1_fewest_121
def kX1_fewest_107 : am_C := (107, .aload_n 0, 1, []) ::
  (108, .aload_n 2, 1, []) ::
  (109, .iload_n 3, 1, []) ::
  (110, .invokevirtual 316, 3, []) ::
  (113, .ifCond .eq 8, 3, [121]) ::
  kX1_fewest_116
def kX1_fewest_85 : am_C := (85, .aload_n 0, 1, []) ::
  (86, .getfield 295, 3, []) ::
  (89, .iconst 1, 1, []) ::
  (90, .iload_n 3, 1, []) ::
  (91, .ishl, 1, []) ::
  (92, .if_icmp .ge 42, 3, [134]) ::
  (95, .aload_n 0, 1, []) ::
  (96, .getfield 295, 3, []) ::
  (99, .invokestatic 312, 3, []) ::
  (102, .iload 5, 2, []) ::
  (104, .if_icmp .ne 17, 3, [121]) ::
  kX1_fewest_107
def kX1_fewest_74 : am_C := (74, .iload 5, 2, []) ::
  (76, .iload_n 3, 1, []) ::
  (77, .if_icmp .gt 63, 3, [140]) ::
  (80, .aload_n 0, 1, []) ::
  (81, .iconst 0, 1, []) ::
  (82, .putfield 295, 3, []) ::
  kX1_fewest_85
def kX1_fewest : am_C := (0, .aload_n 0, 1, []) ::
  (1, .iload_n 1, 1, []) ::
  (2, .invokevirtual 69, 3, []) ::
  (5, .ifCond .ne 5, 3, [10]) ::
  (8, .iconst (-1), 1, []) ::
  (9, .ireturn, 1, []) ::
  (10, .aload_n 0, 1, []) ::
  (11, .getfield 35, 3, []) ::
  (14, .iload_n 1, 1, []) ::
  (15, .invokevirtual 73, 3, []) ::
  (18, .checkcast 77, 3, []) ::
  (21, .astore_n 2, 1, []) ::
  (22, .aload_n 2, 1, []) ::
  (23, .invokestatic 289, 3, []) ::
  (26, .istore_n 3, 1, []) ::
  (27, .aload_n 2, 1, []) ::
  (28, .aload_n 0, 1, []) ::
  (29, .getfield 95, 3, []) ::
  (32, .invokevirtual 114, 3, []) ::
  (35, .ifCond .ne 6, 3, [41]) ::
  (38, .bipush (-3), 2, []) ::
  (40, .ireturn, 1, []) ::
  (41, .iload_n 3, 1, []) ::
  (42, .bipush 8, 2, []) ::
  (44, .if_icmp .le 6, 3, [50]) ::
  (47, .bipush (-5), 2, []) ::
  (49, .ireturn, 1, []) ::
  (50, .aload_n 0, 1, []) ::
  (51, .getfield 197, 3, []) ::
  (54, .istore 4, 2, []) ::
  (56, .aload_n 0, 1, []) ::
  (57, .getfield 200, 3, []) ::
  (60, .iconst 0, 1, []) ::
  (61, .aload_n 0, 1, []) ::
  (62, .getfield 309, 3, []) ::
  (65, .iconst 0, 1, []) ::
  (66, .bipush 20, 2, []) ::
  (68, .invokestatic 203, 3, []) ::
  (71, .iconst 0, 1, []) ::
  (72, .istore 5, 2, []) ::
  kX1_fewest_74
theorem kX1_fewest_ok : ∀ q ∈ kX1_fewest, am_cok cX1_fewest q := am_cok_all (by decide +kernel)
def kX1_keepers_33 : am_C := (33, .aload_n 0, 1, []) ::
  (34, .invokevirtual 108, 3, []) ::
  (37, .ifnull 13, 3, [50]) ::
  (40, .iload_n 1, 1, []) ::
  (41, .aload_n 0, 1, []) ::
  (42, .invokevirtual 108, 3, []) ::
  (45, .invokestatic 289, 3, []) ::
  (48, .iadd, 1, []) ::
  (49, .istore_n 1, 1, []) ::
  (50, .iload_n 1, 1, []) ::
  (51, .ireturn, 1, []) ::
  []
def kX1_keepers_23 : am_C := (23, .iload_n 1, 1, []) ::
  (24, .aload_n 0, 1, []) ::
  (25, .invokevirtual 104, 3, []) ::
  (28, .invokestatic 289, 3, []) ::
  (31, .iadd, 1, []) ::
  (32, .istore_n 1, 1, []) ::
  kX1_keepers_33
def kX1_keepers_15 : am_C := (15, .istore_n 1, 1, []) ::
  (16, .aload_n 0, 1, []) ::
  (17, .invokevirtual 104, 3, []) ::
  (20, .ifnull 13, 3, [33]) ::
  kX1_keepers_23
def kX1_keepers_14 : am_C := (14, .iconst 0, 1, []) ::
  kX1_keepers_15
def kX1_keepers : am_C := (0, .aload_n 0, 1, []) ::
  (1, .getfield 98, 3, []) ::
  (4, .invokestatic 128, 3, []) ::
  (7, .ifCond .eq 7, 3, [14]) ::
  (10, .iconst 1, 1, []) ::
  (11, .goto 4, 3, [15]) ::
  kX1_keepers_14
theorem kX1_keepers_ok : ∀ q ∈ kX1_keepers, am_cok cX1_keepers q := am_cok_all (by decide +kernel)
def kX1_many_4 : am_C := (4, .iload_n 2, 1, []) ::
  (5, .ifCond .eq 15, 3, [20]) ::
  (8, .iinc 1 1, 3, []) ::
  (11, .iload_n 2, 1, []) ::
  (12, .iload_n 2, 1, []) ::
  (13, .iconst 1, 1, []) ::
  (14, .isub, 1, []) ::
  (15, .iand, 1, []) ::
  (16, .istore_n 2, 1, []) ::
  (17, .goto (-13), 3, [4]) ::
  (20, .iload_n 1, 1, []) ::
  (21, .ireturn, 1, []) ::
  []
def kX1_many : am_C := (0, .iconst 0, 1, []) ::
  (1, .istore_n 1, 1, []) ::
  (2, .iload_n 0, 1, []) ::
  (3, .istore_n 2, 1, []) ::
  kX1_many_4
theorem kX1_many_ok : ∀ q ∈ kX1_many, am_cok cX1_many q := am_cok_all (by decide +kernel)
def kX1_isSure : am_C := (0, .aload_n 0, 1, []) ::
  (1, .getfield 160, 3, []) ::
  (4, .invokevirtual 148, 3, []) ::
  (7, .aload_n 0, 1, []) ::
  (8, .iload_n 2, 1, []) ::
  (9, .putfield 292, 3, []) ::
  (12, .aload_n 0, 1, []) ::
  (13, .aload_n 1, 1, []) ::
  (14, .invokevirtual 305, 3, []) ::
  (17, .goto 6, 3, [23]) ::
  (20, .astore_n 3, 1, []) ::
  (21, .iconst 0, 1, []) ::
  (22, .ireturn, 1, []) ::
  (23, .aload_n 0, 1, []) ::
  (24, .getfield 160, 3, []) ::
  (27, .getfield 167, 3, []) ::
  (30, .bipush 20, 2, []) ::
  (32, .if_icmp .le 5, 3, [37]) ::
  (35, .iconst 0, 1, []) ::
  (36, .ireturn, 1, []) ::
  (37, .aload_n 0, 1, []) ::
  (38, .aload_n 0, 1, []) ::
  (39, .getfield 160, 3, []) ::
  (42, .invokevirtual 209, 3, []) ::
  (45, .aload_n 0, 1, []) ::
  (46, .bipush 8, 2, []) ::
  (48, .invokevirtual 263, 3, []) ::
  (51, .lconst 1, 1, []) ::
  (52, .lcmp, 1, []) ::
  (53, .ifCond .ne 7, 3, [60]) ::
  (56, .iconst 1, 1, []) ::
  (57, .goto 4, 3, [61]) ::
  (60, .iconst 0, 1, []) ::
  (61, .ireturn, 1, []) ::
  []
theorem kX1_isSure_ok : ∀ q ∈ kX1_isSure, am_cok cX1_isSure q := am_cok_all (by decide +kernel)
def kX1_chooses_210 : am_C := (210, .iload_n 2, 1, []) ::
  (211, .ifCond .eq 12, 3, [223]) ::
  (214, .aload_n 0, 1, []) ::
  (215, .getfield 160, 3, []) ::
  (218, .bipush 30, 2, []) ::
  (220, .invokevirtual 298, 3, []) ::
  (223, .return_, 1, []) ::
  []
def kX1_chooses_201 : am_C := (201, .aload_n 0, 1, []) ::
  (202, .getfield 160, 3, []) ::
  (205, .bipush 27, 2, []) ::
  (207, .invokevirtual 298, 3, []) ::
  kX1_chooses_210
def kX1_chooses_192 : am_C := (192, .aload_n 1, 1, []) ::
  (193, .getfield 98, 3, []) ::
  (196, .bipush 8, 2, []) ::
  (198, .if_icmp .ne 12, 3, [210]) ::
  kX1_chooses_201
def kX1_chooses_168 : am_C := (168, .aload_n 0, 1, []) ::
  (169, .getfield 160, 3, []) ::
  (172, .bipush 20, 2, []) ::
  (174, .aload_n 1, 1, []) ::
  (175, .getfield 98, 3, []) ::
  (178, .iadd, 1, []) ::
  (179, .iconst 2, 1, []) ::
  (180, .isub, 1, []) ::
  (181, .invokevirtual 298, 3, []) ::
  (184, .aload_n 0, 1, []) ::
  (185, .aload_n 1, 1, []) ::
  (186, .invokevirtual 108, 3, []) ::
  (189, .invokevirtual 305, 3, []) ::
  kX1_chooses_192
def kX1_chooses_161 : am_C := (161, .aload_n 1, 1, []) ::
  (162, .invokevirtual 108, 3, []) ::
  (165, .ifnull 27, 3, [192]) ::
  kX1_chooses_168
def kX1_chooses_153 : am_C := (153, .aload_n 0, 1, []) ::
  (154, .aload_n 1, 1, []) ::
  (155, .invokevirtual 104, 3, []) ::
  (158, .invokevirtual 305, 3, []) ::
  kX1_chooses_161
def kX1_chooses_130 : am_C := (130, .aload_n 1, 1, []) ::
  (131, .invokevirtual 104, 3, []) ::
  (134, .ifnonnull 19, 3, [153]) ::
  (137, .aload_n 1, 1, []) ::
  (138, .aload_n 0, 1, []) ::
  (139, .getfield 160, 3, []) ::
  (142, .aload_n 0, 1, []) ::
  (143, .getfield 135, 3, []) ::
  (146, .iconst 0, 1, []) ::
  (147, .invokevirtual 302, 3, []) ::
  (150, .goto 11, 3, [161]) ::
  kX1_chooses_153
def kX1_chooses_121 : am_C := (121, .aload_n 0, 1, []) ::
  (122, .getfield 160, 3, []) ::
  (125, .bipush 26, 2, []) ::
  (127, .invokevirtual 298, 3, []) ::
  kX1_chooses_130
def kX1_chooses_112 : am_C := (112, .aload_n 1, 1, []) ::
  (113, .getfield 98, 3, []) ::
  (116, .bipush 8, 2, []) ::
  (118, .if_icmp .ne 12, 3, [130]) ::
  kX1_chooses_121
def kX1_chooses_103 : am_C := (103, .aload_n 0, 1, []) ::
  (104, .getfield 160, 3, []) ::
  (107, .bipush 25, 2, []) ::
  (109, .invokevirtual 298, 3, []) ::
  kX1_chooses_112
def kX1_chooses_94 : am_C := (94, .aload_n 1, 1, []) ::
  (95, .getfield 98, 3, []) ::
  (98, .bipush 7, 2, []) ::
  (100, .if_icmp .ne 12, 3, [112]) ::
  kX1_chooses_103
def kX1_chooses_85 : am_C := (85, .aload_n 0, 1, []) ::
  (86, .getfield 160, 3, []) ::
  (89, .bipush 28, 2, []) ::
  (91, .invokevirtual 298, 3, []) ::
  kX1_chooses_94
def kX1_chooses_76 : am_C := (76, .aload_n 1, 1, []) ::
  (77, .getfield 98, 3, []) ::
  (80, .bipush 9, 2, []) ::
  (82, .if_icmp .ne 12, 3, [94]) ::
  kX1_chooses_85
def kX1_chooses_65 : am_C := (65, .aload_n 0, 1, []) ::
  (66, .getfield 160, 3, []) ::
  (69, .aload_n 1, 1, []) ::
  (70, .invokevirtual 101, 3, []) ::
  (73, .invokevirtual 298, 3, []) ::
  kX1_chooses_76
def kX1_chooses_56 : am_C := (56, .aload_n 1, 1, []) ::
  (57, .getfield 98, 3, []) ::
  (60, .bipush 9, 2, []) ::
  (62, .if_icmp .ne 14, 3, [76]) ::
  kX1_chooses_65
def kX1_chooses_47 : am_C := (47, .aload_n 0, 1, []) ::
  (48, .getfield 160, 3, []) ::
  (51, .bipush 29, 2, []) ::
  (53, .invokevirtual 298, 3, []) ::
  kX1_chooses_56
def kX1_chooses_43 : am_C := (43, .iload_n 2, 1, []) ::
  (44, .ifCond .eq 12, 3, [56]) ::
  kX1_chooses_47
def kX1_chooses_42 : am_C := (42, .istore_n 2, 1, []) ::
  kX1_chooses_43
def kX1_chooses_41 : am_C := (41, .iconst 0, 1, []) ::
  kX1_chooses_42
def kX1_chooses_12 : am_C := (12, .aload_n 0, 1, []) ::
  (13, .dup, 1, []) ::
  (14, .getfield 292, 3, []) ::
  (17, .iconst 1, 1, []) ::
  (18, .isub, 1, []) ::
  (19, .putfield 292, 3, []) ::
  (22, .aload_n 0, 1, []) ::
  (23, .getfield 295, 3, []) ::
  (26, .aload_n 0, 1, []) ::
  (27, .getfield 292, 3, []) ::
  (30, .ishr, 1, []) ::
  (31, .iconst 1, 1, []) ::
  (32, .iand, 1, []) ::
  (33, .iconst 1, 1, []) ::
  (34, .if_icmp .ne 7, 3, [41]) ::
  (37, .iconst 1, 1, []) ::
  (38, .goto 4, 3, [42]) ::
  kX1_chooses_41
def kX1_chooses : am_C := (0, .iconst 0, 1, []) ::
  (1, .istore_n 2, 1, []) ::
  (2, .aload_n 1, 1, []) ::
  (3, .getfield 98, 3, []) ::
  (6, .invokestatic 128, 3, []) ::
  (9, .ifCond .eq 34, 3, [43]) ::
  kX1_chooses_12
theorem kX1_chooses_ok : ∀ q ∈ kX1_chooses, am_cok cX1_chooses q := am_cok_all (by decide +kernel)
def kX1_walk : am_C := (0, .aload_n 0, 1, []) ::
  (1, .iload_n 1, 1, []) ::
  (2, .invokevirtual 69, 3, []) ::
  (5, .ifCond .ne 5, 3, [10]) ::
  (8, .iconst (-1), 1, []) ::
  (9, .ireturn, 1, []) ::
  (10, .aload_n 0, 1, []) ::
  (11, .getfield 85, 3, []) ::
  (14, .iconst 0, 1, []) ::
  (15, .aload_n 0, 1, []) ::
  (16, .getfield 35, 3, []) ::
  (19, .iload_n 1, 1, []) ::
  (20, .invokevirtual 73, 3, []) ::
  (23, .checkcast 77, 3, []) ::
  (26, .aastore, 1, []) ::
  (27, .aload_n 0, 1, []) ::
  (28, .iconst 0, 1, []) ::
  (29, .putfield 82, 3, []) ::
  (32, .iconst 0, 1, []) ::
  (33, .ireturn, 1, []) ::
  []
theorem kX1_walk_ok : ∀ q ∈ kX1_walk, am_cok cX1_walk q := am_cok_all (by decide +kernel)
def kX1_go_135 : am_C := (135, .aload_n 0, 1, []) ::
  (136, .getfield 85, 3, []) ::
  (139, .aload_n 0, 1, []) ::
  (140, .getfield 82, 3, []) ::
  (143, .aaload, 1, []) ::
  (144, .getfield 89, 3, []) ::
  (147, .ireturn, 1, []) ::
  []
def kX1_go_131 : am_C := (131, .invokevirtual 326, 3, []) ::
  (134, .istore_n 3, 1, []) ::
  kX1_go_135
def kX1_go_130 : am_C := (130, .iconst 0, 1, []) ::
  kX1_go_131
def kX1_go_121 : am_C := (121, .aload_n 0, 1, []) ::
  (122, .iload_n 2, 1, []) ::
  (123, .ifCond .ne 7, 3, [130]) ::
  (126, .iconst 1, 1, []) ::
  (127, .goto 4, 3, [131]) ::
  kX1_go_130
def kX1_go_96 : am_C := (96, .aload_n 0, 1, []) ::
  (97, .getfield 320, 3, []) ::
  (100, .aload_n 0, 1, []) ::
  (101, .getfield 82, 3, []) ::
  (104, .baload, 1, []) ::
  (105, .istore_n 2, 1, []) ::
  (106, .aload_n 0, 1, []) ::
  (107, .dup, 1, []) ::
  (108, .getfield 82, 3, []) ::
  (111, .iconst 1, 1, []) ::
  (112, .isub, 1, []) ::
  (113, .putfield 82, 3, []) ::
  (116, .iload_n 1, 1, []) ::
  (117, .iconst 3, 1, []) ::
  (118, .if_icmp .ne 17, 3, [135]) ::
  kX1_go_121
def kX1_go_93 : am_C := (93, .bipush (-3), 2, []) ::
  (95, .ireturn, 1, []) ::
  kX1_go_96
def kX1_go_76 : am_C := (76, .aload_n 0, 1, []) ::
  (77, .getfield 85, 3, []) ::
  (80, .aload_n 0, 1, []) ::
  (81, .getfield 82, 3, []) ::
  (84, .iconst 1, 1, []) ::
  (85, .isub, 1, []) ::
  (86, .aaload, 1, []) ::
  (87, .invokevirtual 108, 3, []) ::
  (90, .ifnonnull 6, 3, [96]) ::
  kX1_go_93
def kX1_go_40 : am_C := (40, .invokevirtual 326, 3, []) ::
  (43, .ifCond .eq 18, 3, [61]) ::
  (46, .aload_n 0, 1, []) ::
  (47, .getfield 85, 3, []) ::
  (50, .aload_n 0, 1, []) ::
  (51, .getfield 82, 3, []) ::
  (54, .aaload, 1, []) ::
  (55, .getfield 89, 3, []) ::
  (58, .goto 5, 3, [63]) ::
  (61, .bipush (-3), 2, []) ::
  (63, .ireturn, 1, []) ::
  (64, .aload_n 0, 1, []) ::
  (65, .getfield 82, 3, []) ::
  (68, .ifCond .eq 25, 3, [93]) ::
  (71, .iload_n 1, 1, []) ::
  (72, .iconst 3, 1, []) ::
  (73, .if_icmp .ne 23, 3, [96]) ::
  kX1_go_76
def kX1_go_39 : am_C := (39, .iconst 0, 1, []) ::
  kX1_go_40
def kX1_go : am_C := (0, .iload_n 1, 1, []) ::
  (1, .i2l, 1, []) ::
  (2, .lconst 0, 1, []) ::
  (3, .ldc2_w 324, 3, []) ::
  (6, .invokestatic 45, 3, []) ::
  (9, .ifCond .ne 5, 3, [14]) ::
  (12, .iconst (-1), 1, []) ::
  (13, .ireturn, 1, []) ::
  (14, .aload_n 0, 1, []) ::
  (15, .getfield 82, 3, []) ::
  (18, .ifCond .ge 6, 3, [24]) ::
  (21, .bipush (-2), 2, []) ::
  (23, .ireturn, 1, []) ::
  (24, .iload_n 1, 1, []) ::
  (25, .iconst 2, 1, []) ::
  (26, .if_icmp .ge 38, 3, [64]) ::
  (29, .aload_n 0, 1, []) ::
  (30, .iload_n 1, 1, []) ::
  (31, .iconst 1, 1, []) ::
  (32, .if_icmp .ne 7, 3, [39]) ::
  (35, .iconst 1, 1, []) ::
  (36, .goto 4, 3, [40]) ::
  kX1_go_39
theorem kX1_go_ok : ∀ q ∈ kX1_go, am_cok cX1_go q := am_cok_all (by decide +kernel)
def kX1_goesDown_31 : am_C := (31, .astore_n 2, 1, []) ::
  (32, .aload_n 2, 1, []) ::
  (33, .ifnonnull 5, 3, [38]) ::
  (36, .iconst 0, 1, []) ::
  (37, .ireturn, 1, []) ::
  (38, .aload_n 0, 1, []) ::
  (39, .dup, 1, []) ::
  (40, .getfield 82, 3, []) ::
  (43, .iconst 1, 1, []) ::
  (44, .iadd, 1, []) ::
  (45, .putfield 82, 3, []) ::
  (48, .aload_n 0, 1, []) ::
  (49, .getfield 85, 3, []) ::
  (52, .aload_n 0, 1, []) ::
  (53, .getfield 82, 3, []) ::
  (56, .aload_n 2, 1, []) ::
  (57, .aastore, 1, []) ::
  (58, .aload_n 0, 1, []) ::
  (59, .getfield 320, 3, []) ::
  (62, .aload_n 0, 1, []) ::
  (63, .getfield 82, 3, []) ::
  (66, .iload_n 1, 1, []) ::
  (67, .bastore, 1, []) ::
  (68, .iconst 1, 1, []) ::
  (69, .ireturn, 1, []) ::
  []
def kX1_goesDown_19 : am_C := (19, .aload_n 0, 1, []) ::
  (20, .getfield 85, 3, []) ::
  (23, .aload_n 0, 1, []) ::
  (24, .getfield 82, 3, []) ::
  (27, .aaload, 1, []) ::
  (28, .invokevirtual 104, 3, []) ::
  kX1_goesDown_31
def kX1_goesDown : am_C := (0, .iload_n 1, 1, []) ::
  (1, .ifCond .eq 18, 3, [19]) ::
  (4, .aload_n 0, 1, []) ::
  (5, .getfield 85, 3, []) ::
  (8, .aload_n 0, 1, []) ::
  (9, .getfield 82, 3, []) ::
  (12, .aaload, 1, []) ::
  (13, .invokevirtual 108, 3, []) ::
  (16, .goto 15, 3, [31]) ::
  kX1_goesDown_19
theorem kX1_goesDown_ok : ∀ q ∈ kX1_goesDown, am_cok cX1_goesDown q := am_cok_all (by decide +kernel)
def kX1_lead_99 : am_C := (99, .invokevirtual 326, 3, []) ::
  (102, .istore 4, 2, []) ::
  (104, .iload_n 3, 1, []) ::
  (105, .iconst 3, 1, []) ::
  (106, .idiv, 1, []) ::
  (107, .istore_n 3, 1, []) ::
  (108, .goto (-26), 3, [82]) ::
  (111, .aload_n 0, 1, []) ::
  (112, .getfield 85, 3, []) ::
  (115, .aload_n 0, 1, []) ::
  (116, .getfield 82, 3, []) ::
  (119, .aaload, 1, []) ::
  (120, .getfield 89, 3, []) ::
  (123, .ireturn, 1, []) ::
  []
def kX1_lead_98 : am_C := (98, .iconst 0, 1, []) ::
  kX1_lead_99
def kX1_lead_82 : am_C := (82, .iload_n 3, 1, []) ::
  (83, .ifCond .le 28, 3, [111]) ::
  (86, .aload_n 0, 1, []) ::
  (87, .iload_n 3, 1, []) ::
  (88, .iconst 3, 1, []) ::
  (89, .irem, 1, []) ::
  (90, .iconst 2, 1, []) ::
  (91, .if_icmp .ne 7, 3, [98]) ::
  (94, .iconst 1, 1, []) ::
  (95, .goto 4, 3, [99]) ::
  kX1_lead_98
def kX1_lead_69 : am_C := (69, .aload_n 2, 1, []) ::
  (70, .ifnonnull 5, 3, [75]) ::
  (73, .iconst (-1), 1, []) ::
  (74, .ireturn, 1, []) ::
  (75, .aload_n 0, 1, []) ::
  (76, .iconst 0, 1, []) ::
  (77, .putfield 82, 3, []) ::
  (80, .iload_n 1, 1, []) ::
  (81, .istore_n 3, 1, []) ::
  kX1_lead_82
def kX1_lead_61 : am_C := (61, .astore_n 2, 1, []) ::
  (62, .iload_n 3, 1, []) ::
  (63, .iconst 3, 1, []) ::
  (64, .idiv, 1, []) ::
  (65, .istore_n 3, 1, []) ::
  (66, .goto (-41), 3, [25]) ::
  kX1_lead_69
def kX1_lead_57 : am_C := (57, .aload_n 2, 1, []) ::
  (58, .invokevirtual 108, 3, []) ::
  kX1_lead_61
def kX1_lead_43 : am_C := (43, .iload_n 3, 1, []) ::
  (44, .iconst 3, 1, []) ::
  (45, .irem, 1, []) ::
  (46, .iconst 1, 1, []) ::
  (47, .if_icmp .ne 10, 3, [57]) ::
  (50, .aload_n 2, 1, []) ::
  (51, .invokevirtual 104, 3, []) ::
  (54, .goto 7, 3, [61]) ::
  kX1_lead_57
def kX1_lead_33 : am_C := (33, .iload_n 3, 1, []) ::
  (34, .iconst 3, 1, []) ::
  (35, .irem, 1, []) ::
  (36, .ifCond .ne 7, 3, [43]) ::
  (39, .aconst_null, 1, []) ::
  (40, .goto 21, 3, [61]) ::
  kX1_lead_43
def kX1_lead_29 : am_C := (29, .aload_n 2, 1, []) ::
  (30, .ifnull 39, 3, [69]) ::
  kX1_lead_33
def kX1_lead_25 : am_C := (25, .iload_n 3, 1, []) ::
  (26, .ifCond .le 43, 3, [69]) ::
  kX1_lead_29
def kX1_lead : am_C := (0, .aload_n 0, 1, []) ::
  (1, .getfield 82, 3, []) ::
  (4, .ifCond .ge 6, 3, [10]) ::
  (7, .bipush (-2), 2, []) ::
  (9, .ireturn, 1, []) ::
  (10, .iload_n 1, 1, []) ::
  (11, .ifCond .ge 5, 3, [16]) ::
  (14, .iconst (-1), 1, []) ::
  (15, .ireturn, 1, []) ::
  (16, .aload_n 0, 1, []) ::
  (17, .getfield 85, 3, []) ::
  (20, .iconst 0, 1, []) ::
  (21, .aaload, 1, []) ::
  (22, .astore_n 2, 1, []) ::
  (23, .iload_n 1, 1, []) ::
  (24, .istore_n 3, 1, []) ::
  kX1_lead_25
theorem kX1_lead_ok : ∀ q ∈ kX1_lead, am_cok cX1_lead q := am_cok_all (by decide +kernel)
def kX1_glance : am_C := (0, .iload_n 1, 1, []) ::
  (1, .invokestatic 125, 3, []) ::
  (4, .ifCond .eq 15, 3, [19]) ::
  (7, .iload_n 2, 1, []) ::
  (8, .i2l, 1, []) ::
  (9, .lconst 0, 1, []) ::
  (10, .ldc2_w 55, 3, []) ::
  (13, .invokestatic 45, 3, []) ::
  (16, .ifCond .ne 5, 3, [21]) ::
  (19, .iconst (-1), 1, []) ::
  (20, .ireturn, 1, []) ::
  (21, .aload_n 0, 1, []) ::
  (22, .getfield 82, 3, []) ::
  (25, .ifCond .ge 6, 3, [31]) ::
  (28, .bipush (-2), 2, []) ::
  (30, .ireturn, 1, []) ::
  (31, .aload_n 0, 1, []) ::
  (32, .aload_n 0, 1, []) ::
  (33, .getfield 160, 3, []) ::
  (36, .aload_n 0, 1, []) ::
  (37, .getfield 85, 3, []) ::
  (40, .aload_n 0, 1, []) ::
  (41, .getfield 82, 3, []) ::
  (44, .aaload, 1, []) ::
  (45, .iload_n 1, 1, []) ::
  (46, .iload_n 2, 1, []) ::
  (47, .invokevirtual 164, 3, []) ::
  (50, .ifCond .eq 13, 3, [63]) ::
  (53, .aload_n 0, 1, []) ::
  (54, .getfield 160, 3, []) ::
  (57, .getfield 167, 3, []) ::
  (60, .goto 5, 3, [65]) ::
  (63, .bipush (-5), 2, []) ::
  (65, .ireturn, 1, []) ::
  []
theorem kX1_glance_ok : ∀ q ∈ kX1_glance, am_cok cX1_glance q := am_cok_all (by decide +kernel)
def kX1_changed : am_C := (0, .aload_n 0, 1, []) ::
  (1, .iload_n 1, 1, []) ::
  (2, .invokevirtual 69, 3, []) ::
  (5, .ifCond .eq 39, 3, [44]) ::
  (8, .aload_n 0, 1, []) ::
  (9, .iload_n 2, 1, []) ::
  (10, .invokevirtual 69, 3, []) ::
  (13, .ifCond .eq 31, 3, [44]) ::
  (16, .aload_n 0, 1, []) ::
  (17, .getfield 35, 3, []) ::
  (20, .iload_n 1, 1, []) ::
  (21, .invokevirtual 73, 3, []) ::
  (24, .checkcast 77, 3, []) ::
  (27, .aload_n 0, 1, []) ::
  (28, .getfield 35, 3, []) ::
  (31, .iload_n 2, 1, []) ::
  (32, .invokevirtual 73, 3, []) ::
  (35, .checkcast 77, 3, []) ::
  (38, .invokestatic 338, 3, []) ::
  (41, .goto 4, 3, [45]) ::
  (44, .iconst (-1), 1, []) ::
  (45, .ireturn, 1, []) ::
  []
theorem kX1_changed_ok : ∀ q ∈ kX1_changed, am_cok cX1_changed q := am_cok_all (by decide +kernel)
def kX1_difference : am_C := (0, .aload_n 0, 1, []) ::
  (1, .getfield 79, 3, []) ::
  (4, .aload_n 1, 1, []) ::
  (5, .getfield 79, 3, []) ::
  (8, .iadd, 1, []) ::
  (9, .istore_n 2, 1, []) ::
  (10, .aload_n 0, 1, []) ::
  (11, .getfield 98, 3, []) ::
  (14, .aload_n 1, 1, []) ::
  (15, .getfield 98, 3, []) ::
  (18, .if_icmp .eq 7, 3, [25]) ::
  (21, .iload_n 2, 1, []) ::
  (22, .goto 12, 3, [34]) ::
  (25, .iload_n 2, 1, []) ::
  (26, .aload_n 0, 1, []) ::
  (27, .aload_n 1, 1, []) ::
  (28, .invokestatic 333, 3, []) ::
  (31, .invokestatic 336, 3, []) ::
  (34, .ireturn, 1, []) ::
  []
theorem kX1_difference_ok : ∀ q ∈ kX1_difference, am_cok cX1_difference q := am_cok_all (by decide +kernel)
def kX1_parts_38 : am_C := (38, .aload_n 0, 1, []) ::
  (39, .invokevirtual 108, 3, []) ::
  (42, .ifnull 17, 3, [59]) ::
  (45, .iload_n 2, 1, []) ::
  (46, .aload_n 0, 1, []) ::
  (47, .invokevirtual 108, 3, []) ::
  (50, .aload_n 1, 1, []) ::
  (51, .invokevirtual 108, 3, []) ::
  (54, .invokestatic 338, 3, []) ::
  (57, .iadd, 1, []) ::
  (58, .istore_n 2, 1, []) ::
  (59, .iload_n 2, 1, []) ::
  (60, .ireturn, 1, []) ::
  []
def kX1_parts_24 : am_C := (24, .iload_n 2, 1, []) ::
  (25, .aload_n 0, 1, []) ::
  (26, .invokevirtual 104, 3, []) ::
  (29, .aload_n 1, 1, []) ::
  (30, .invokevirtual 104, 3, []) ::
  (33, .invokestatic 338, 3, []) ::
  (36, .iadd, 1, []) ::
  (37, .istore_n 2, 1, []) ::
  kX1_parts_38
def kX1_parts_16 : am_C := (16, .istore_n 2, 1, []) ::
  (17, .aload_n 0, 1, []) ::
  (18, .invokevirtual 104, 3, []) ::
  (21, .ifnull 17, 3, [38]) ::
  kX1_parts_24
def kX1_parts_15 : am_C := (15, .iconst 1, 1, []) ::
  kX1_parts_16
def kX1_parts : am_C := (0, .aload_n 0, 1, []) ::
  (1, .invokevirtual 101, 3, []) ::
  (4, .aload_n 1, 1, []) ::
  (5, .invokevirtual 101, 3, []) ::
  (8, .if_icmp .ne 7, 3, [15]) ::
  (11, .iconst 0, 1, []) ::
  (12, .goto 4, 3, [16]) ::
  kX1_parts_15
theorem kX1_parts_ok : ∀ q ∈ kX1_parts, am_cok cX1_parts q := am_cok_all (by decide +kernel)
def kX1_exchanged : am_C := (0, .aload_n 0, 1, []) ::
  (1, .iload_n 1, 1, []) ::
  (2, .invokevirtual 69, 3, []) ::
  (5, .ifCond .eq 39, 3, [44]) ::
  (8, .aload_n 0, 1, []) ::
  (9, .iload_n 2, 1, []) ::
  (10, .invokevirtual 69, 3, []) ::
  (13, .ifCond .eq 31, 3, [44]) ::
  (16, .aload_n 0, 1, []) ::
  (17, .getfield 35, 3, []) ::
  (20, .iload_n 1, 1, []) ::
  (21, .invokevirtual 73, 3, []) ::
  (24, .checkcast 77, 3, []) ::
  (27, .aload_n 0, 1, []) ::
  (28, .getfield 35, 3, []) ::
  (31, .iload_n 2, 1, []) ::
  (32, .invokevirtual 73, 3, []) ::
  (35, .checkcast 77, 3, []) ::
  (38, .invokestatic 341, 3, []) ::
  (41, .goto 4, 3, [45]) ::
  (44, .iconst (-1), 1, []) ::
  (45, .ireturn, 1, []) ::
  []
theorem kX1_exchanged_ok : ∀ q ∈ kX1_exchanged, am_cok cX1_exchanged q := am_cok_all (by decide +kernel)
def kX1_exchanges_53 : am_C := (53, .aload_n 0, 1, []) ::
  (54, .invokevirtual 108, 3, []) ::
  (57, .ifnull 17, 3, [74]) ::
  (60, .iload_n 2, 1, []) ::
  (61, .aload_n 0, 1, []) ::
  (62, .invokevirtual 108, 3, []) ::
  (65, .aload_n 1, 1, []) ::
  (66, .invokevirtual 108, 3, []) ::
  (69, .invokestatic 341, 3, []) ::
  (72, .iadd, 1, []) ::
  (73, .istore_n 2, 1, []) ::
  (74, .iload_n 2, 1, []) ::
  (75, .ireturn, 1, []) ::
  []
def kX1_exchanges_39 : am_C := (39, .iload_n 2, 1, []) ::
  (40, .aload_n 0, 1, []) ::
  (41, .invokevirtual 104, 3, []) ::
  (44, .aload_n 1, 1, []) ::
  (45, .invokevirtual 104, 3, []) ::
  (48, .invokestatic 341, 3, []) ::
  (51, .iadd, 1, []) ::
  (52, .istore_n 2, 1, []) ::
  kX1_exchanges_53
def kX1_exchanges : am_C := (0, .aload_n 0, 1, []) ::
  (1, .getfield 98, 3, []) ::
  (4, .aload_n 1, 1, []) ::
  (5, .getfield 98, 3, []) ::
  (8, .if_icmp .ne 20, 3, [28]) ::
  (11, .aload_n 0, 1, []) ::
  (12, .aload_n 1, 1, []) ::
  (13, .invokestatic 333, 3, []) ::
  (16, .aload_n 0, 1, []) ::
  (17, .getfield 79, 3, []) ::
  (20, .aload_n 1, 1, []) ::
  (21, .getfield 79, 3, []) ::
  (24, .iadd, 1, []) ::
  (25, .if_icmp .le 5, 3, [30]) ::
  (28, .iconst 1, 1, []) ::
  (29, .ireturn, 1, []) ::
  (30, .iconst 0, 1, []) ::
  (31, .istore_n 2, 1, []) ::
  (32, .aload_n 0, 1, []) ::
  (33, .invokevirtual 104, 3, []) ::
  (36, .ifnull 17, 3, [53]) ::
  kX1_exchanges_39
theorem kX1_exchanges_ok : ∀ q ∈ kX1_exchanges, am_cok cX1_exchanges q := am_cok_all (by decide +kernel)
def kX1_count : am_C := (0, .iload_n 1, 1, []) ::
  (1, .ifCond .ne 13, 3, [14]) ::
  (4, .aload_n 0, 1, []) ::
  (5, .getfield 35, 3, []) ::
  (8, .invokevirtual 39, 3, []) ::
  (11, .goto 31, 3, [42]) ::
  (14, .iload_n 1, 1, []) ::
  (15, .iconst 1, 1, []) ::
  (16, .if_icmp .ne 10, 3, [26]) ::
  (19, .aload_n 0, 1, []) ::
  (20, .getfield 197, 3, []) ::
  (23, .goto 19, 3, [42]) ::
  (26, .iload_n 1, 1, []) ::
  (27, .iconst 2, 1, []) ::
  (28, .if_icmp .ne 13, 3, [41]) ::
  (31, .aload_n 0, 1, []) ::
  (32, .getfield 95, 3, []) ::
  (35, .invokestatic 312, 3, []) ::
  (38, .goto 4, 3, [42]) ::
  (41, .iconst (-1), 1, []) ::
  (42, .ireturn, 1, []) ::
  []
theorem kX1_count_ok : ∀ q ∈ kX1_count, am_cok cX1_count q := am_cok_all (by decide +kernel)
def kX1_isShelf : am_C := (0, .iload_n 0, 1, []) ::
  (1, .i2l, 1, []) ::
  (2, .lconst 0, 1, []) ::
  (3, .ldc2_w 49, 3, []) ::
  (6, .invokestatic 45, 3, []) ::
  (9, .ireturn, 1, []) ::
  []
theorem kX1_isShelf_ok : ∀ q ∈ kX1_isShelf, am_cok cX1_isShelf q := am_cok_all (by decide +kernel)
def kX1_readings : am_C := (0, .iload_n 1, 1, []) ::
  (1, .invokestatic 256, 3, []) ::
  (4, .ifCond .ne 11, 3, [15]) ::
  (7, .new 259, 3, []) ::
  (10, .dup, 1, []) ::
  (11, .invokespecial 261, 3, []) ::
  (14, .athrow, 1, []) ::
  (15, .aload_n 0, 1, []) ::
  (16, .iload_n 1, 1, []) ::
  (17, .invokevirtual 263, 3, []) ::
  (20, .lreturn, 1, []) ::
  []
theorem kX1_readings_ok : ∀ q ∈ kX1_readings, am_cok cX1_readings q := am_cok_all (by decide +kernel)
def kX1_where_97 : am_C := (97, .iadd, 1, []) ::
  (98, .istore_n 2, 1, []) ::
  (99, .iinc 3 (-1), 3, []) ::
  (102, .goto (-26), 3, [76]) ::
  (105, .iload_n 2, 1, []) ::
  (106, .ireturn, 1, []) ::
  []
def kX1_where_96 : am_C := (96, .iconst 1, 1, []) ::
  kX1_where_97
def kX1_where_76 : am_C := (76, .iload_n 3, 1, []) ::
  (77, .ifCond .le 28, 3, [105]) ::
  (80, .iconst 3, 1, []) ::
  (81, .iload_n 2, 1, []) ::
  (82, .imul, 1, []) ::
  (83, .aload_n 0, 1, []) ::
  (84, .getfield 320, 3, []) ::
  (87, .iload_n 3, 1, []) ::
  (88, .baload, 1, []) ::
  (89, .ifCond .eq 7, 3, [96]) ::
  (92, .iconst 2, 1, []) ::
  (93, .goto 4, 3, [97]) ::
  kX1_where_96
def kX1_where : am_C := (0, .iload_n 1, 1, []) ::
  (1, .i2l, 1, []) ::
  (2, .lconst 0, 1, []) ::
  (3, .ldc2_w 67, 3, []) ::
  (6, .invokestatic 45, 3, []) ::
  (9, .ifCond .ne 5, 3, [14]) ::
  (12, .iconst (-1), 1, []) ::
  (13, .ireturn, 1, []) ::
  (14, .aload_n 0, 1, []) ::
  (15, .getfield 82, 3, []) ::
  (18, .ifCond .ge 6, 3, [24]) ::
  (21, .bipush (-2), 2, []) ::
  (23, .ireturn, 1, []) ::
  (24, .iload_n 1, 1, []) ::
  (25, .iconst 1, 1, []) ::
  (26, .if_icmp .ne 8, 3, [34]) ::
  (29, .aload_n 0, 1, []) ::
  (30, .getfield 82, 3, []) ::
  (33, .ireturn, 1, []) ::
  (34, .iload_n 1, 1, []) ::
  (35, .iconst 2, 1, []) ::
  (36, .if_icmp .ne 16, 3, [52]) ::
  (39, .aload_n 0, 1, []) ::
  (40, .getfield 85, 3, []) ::
  (43, .aload_n 0, 1, []) ::
  (44, .getfield 82, 3, []) ::
  (47, .aaload, 1, []) ::
  (48, .getfield 89, 3, []) ::
  (51, .ireturn, 1, []) ::
  (52, .aload_n 0, 1, []) ::
  (53, .getfield 82, 3, []) ::
  (56, .bipush 19, 2, []) ::
  (58, .if_icmp .le 11, 3, [69]) ::
  (61, .new 330, 3, []) ::
  (64, .dup, 1, []) ::
  (65, .invokespecial 332, 3, []) ::
  (68, .athrow, 1, []) ::
  (69, .iconst 0, 1, []) ::
  (70, .istore_n 2, 1, []) ::
  (71, .aload_n 0, 1, []) ::
  (72, .getfield 82, 3, []) ::
  (75, .istore_n 3, 1, []) ::
  kX1_where_76
theorem kX1_where_ok : ∀ q ∈ kX1_where, am_cok cX1_where q := am_cok_all (by decide +kernel)
def kX2_clear : am_C := (0, .aload_n 0, 1, []) ::
  (1, .iconst 0, 1, []) ::
  (2, .putfield 22, 3, []) ::
  (5, .return_, 1, []) ::
  []
theorem kX2_clear_ok : ∀ q ∈ kX2_clear, am_cok cX2_clear q := am_cok_all (by decide +kernel)
def kX2_say : am_C := (0, .aload_n 0, 1, []) ::
  (1, .getfield 22, 3, []) ::
  (4, .bipush 80, 2, []) ::
  (6, .if_icmp .ne 8, 3, [14]) ::
  (9, .aload_n 0, 1, []) ::
  (10, .getfield 18, 3, []) ::
  (13, .athrow, 1, []) ::
  (14, .aload_n 0, 1, []) ::
  (15, .getfield 9, 3, []) ::
  (18, .aload_n 0, 1, []) ::
  (19, .getfield 22, 3, []) ::
  (22, .iload_n 1, 1, []) ::
  (23, .i2b, 1, []) ::
  (24, .bastore, 1, []) ::
  (25, .aload_n 0, 1, []) ::
  (26, .dup, 1, []) ::
  (27, .getfield 22, 3, []) ::
  (30, .iconst 1, 1, []) ::
  (31, .iadd, 1, []) ::
  (32, .putfield 22, 3, []) ::
  (35, .return_, 1, []) ::
  []
theorem kX2_say_ok : ∀ q ∈ kX2_say, am_cok cX2_say q := am_cok_all (by decide +kernel)
def kX2_isAs_51 : am_C := (51, .istore_n 2, 1, []) ::
  (52, .iinc 3 1, 3, []) ::
  (55, .goto (-36), 3, [19]) ::
  (58, .iload_n 2, 1, []) ::
  (59, .ireturn, 1, []) ::
  []
def kX2_isAs_50 : am_C := (50, .iconst 0, 1, []) ::
  kX2_isAs_51
def kX2_isAs_19 : am_C := (19, .iload_n 3, 1, []) ::
  (20, .aload_n 0, 1, []) ::
  (21, .getfield 22, 3, []) ::
  (24, .if_icmp .ge 34, 3, [58]) ::
  (27, .iload_n 2, 1, []) ::
  (28, .ifCond .eq 30, 3, [58]) ::
  (31, .aload_n 0, 1, []) ::
  (32, .getfield 9, 3, []) ::
  (35, .iload_n 3, 1, []) ::
  (36, .baload, 1, []) ::
  (37, .aload_n 1, 1, []) ::
  (38, .getfield 9, 3, []) ::
  (41, .iload_n 3, 1, []) ::
  (42, .baload, 1, []) ::
  (43, .if_icmp .ne 7, 3, [50]) ::
  (46, .iconst 1, 1, []) ::
  (47, .goto 4, 3, [51]) ::
  kX2_isAs_50
def kX2_isAs_16 : am_C := (16, .istore_n 2, 1, []) ::
  (17, .iconst 0, 1, []) ::
  (18, .istore_n 3, 1, []) ::
  kX2_isAs_19
def kX2_isAs_15 : am_C := (15, .iconst 0, 1, []) ::
  kX2_isAs_16
def kX2_isAs : am_C := (0, .aload_n 0, 1, []) ::
  (1, .getfield 22, 3, []) ::
  (4, .aload_n 1, 1, []) ::
  (5, .getfield 22, 3, []) ::
  (8, .if_icmp .ne 7, 3, [15]) ::
  (11, .iconst 1, 1, []) ::
  (12, .goto 4, 3, [16]) ::
  kX2_isAs_15
theorem kX2_isAs_ok : ∀ q ∈ kX2_isAs, am_cok cX2_isAs q := am_cok_all (by decide +kernel)
def kX4_keeps : am_C := (0, .aload_n 0, 1, []) ::
  (1, .getfield 7, 3, []) ::
  (4, .iload_n 1, 1, []) ::
  (5, .ishr, 1, []) ::
  (6, .iconst 1, 1, []) ::
  (7, .iand, 1, []) ::
  (8, .iconst 1, 1, []) ::
  (9, .if_icmp .ne 7, 3, [16]) ::
  (12, .iconst 1, 1, []) ::
  (13, .goto 4, 3, [17]) ::
  (16, .iconst 0, 1, []) ::
  (17, .ireturn, 1, []) ::
  []
theorem kX4_keeps_ok : ∀ q ∈ kX4_keeps, am_cok cX4_keeps q := am_cok_all (by decide +kernel)
def kX7_v : am_C := (0, .bipush (-2), 2, []) ::
  (2, .ireturn, 1, []) ::
  []
theorem kX7_v_ok : ∀ q ∈ kX7_v, am_cok cX7_v q := am_cok_all (by decide +kernel)
def kX7_x : am_C := (0, .aconst_null, 1, []) ::
  (1, .areturn, 1, []) ::
  []
theorem kX7_x_ok : ∀ q ∈ kX7_x, am_cok cX7_x q := am_cok_all (by decide +kernel)
def kX7_y : am_C := (0, .aconst_null, 1, []) ::
  (1, .areturn, 1, []) ::
  []
theorem kX7_y_ok : ∀ q ∈ kX7_y, am_cok cX7_y q := am_cok_all (by decide +kernel)
def kX7_isRight_18 : am_C := (18, .aload_n 0, 1, []) ::
  (19, .invokevirtual 59, 3, []) ::
  (22, .ifnull 14, 3, [36]) ::
  (25, .aload_n 0, 1, []) ::
  (26, .invokevirtual 59, 3, []) ::
  (29, .iload_n 1, 1, []) ::
  (30, .invokevirtual 62, 3, []) ::
  (33, .ifCond .eq 7, 3, [40]) ::
  (36, .iconst 1, 1, []) ::
  (37, .goto 4, 3, [41]) ::
  (40, .iconst 0, 1, []) ::
  (41, .ireturn, 1, []) ::
  []
def kX7_isRight_7 : am_C := (7, .aload_n 0, 1, []) ::
  (8, .invokevirtual 51, 3, []) ::
  (11, .iload_n 1, 1, []) ::
  (12, .invokevirtual 62, 3, []) ::
  (15, .ifCond .eq 25, 3, [40]) ::
  kX7_isRight_18
def kX7_isRight : am_C := (0, .aload_n 0, 1, []) ::
  (1, .invokevirtual 51, 3, []) ::
  (4, .ifnull 14, 3, [18]) ::
  kX7_isRight_7
theorem kX7_isRight_ok : ∀ q ∈ kX7_isRight, am_cok cX7_isRight q := am_cok_all (by decide +kernel)
def kX7_isLike_45 : am_C := (45, .aload_n 0, 1, []) ::
  (46, .invokevirtual 59, 3, []) ::
  (49, .ifnull 17, 3, [66]) ::
  (52, .aload_n 0, 1, []) ::
  (53, .invokevirtual 59, 3, []) ::
  (56, .aload_n 1, 1, []) ::
  (57, .invokevirtual 59, 3, []) ::
  (60, .invokevirtual 55, 3, []) ::
  (63, .ifCond .eq 7, 3, [70]) ::
  (66, .iconst 1, 1, []) ::
  (67, .goto 4, 3, [71]) ::
  (70, .iconst 0, 1, []) ::
  (71, .ireturn, 1, []) ::
  []
def kX7_isLike_31 : am_C := (31, .aload_n 0, 1, []) ::
  (32, .invokevirtual 51, 3, []) ::
  (35, .aload_n 1, 1, []) ::
  (36, .invokevirtual 51, 3, []) ::
  (39, .invokevirtual 55, 3, []) ::
  (42, .ifCond .eq 28, 3, [70]) ::
  kX7_isLike_45
def kX7_isLike : am_C := (0, .aload_n 1, 1, []) ::
  (1, .getfield 15, 3, []) ::
  (4, .aload_n 0, 1, []) ::
  (5, .getfield 15, 3, []) ::
  (8, .if_icmp .ne 14, 3, [22]) ::
  (11, .aload_n 1, 1, []) ::
  (12, .invokevirtual 47, 3, []) ::
  (15, .aload_n 0, 1, []) ::
  (16, .invokevirtual 47, 3, []) ::
  (19, .if_icmp .eq 5, 3, [24]) ::
  (22, .iconst 0, 1, []) ::
  (23, .ireturn, 1, []) ::
  (24, .aload_n 0, 1, []) ::
  (25, .invokevirtual 51, 3, []) ::
  (28, .ifnull 17, 3, [45]) ::
  kX7_isLike_31
theorem kX7_isLike_ok : ∀ q ∈ kX7_isLike, am_cok cX7_isLike q := am_cok_all (by decide +kernel)
def kX7_says_50 : am_C := (50, .aload_n 0, 1, []) ::
  (51, .aload_n 1, 1, []) ::
  (52, .aload_n 2, 1, []) ::
  (53, .iload_n 3, 1, []) ::
  (54, .invokevirtual 43, 3, []) ::
  (57, .iload 4, 2, []) ::
  (59, .ifCond .eq 9, 3, [68]) ::
  (62, .aload_n 1, 1, []) ::
  (63, .bipush 30, 2, []) ::
  (65, .invokevirtual 29, 3, []) ::
  (68, .return_, 1, []) ::
  []
def kX7_says_44 : am_C := (44, .aload_n 1, 1, []) ::
  (45, .bipush 29, 2, []) ::
  (47, .invokevirtual 29, 3, []) ::
  kX7_says_50
def kX7_says_37 : am_C := (37, .istore 4, 2, []) ::
  (39, .iload 4, 2, []) ::
  (41, .ifCond .eq 9, 3, [50]) ::
  kX7_says_44
def kX7_says_36 : am_C := (36, .iconst 0, 1, []) ::
  kX7_says_37
def kX7_says_32 : am_C := (32, .iconst 1, 1, []) ::
  (33, .goto 4, 3, [37]) ::
  kX7_says_36
def kX7_says_21 : am_C := (21, .aload_n 2, 1, []) ::
  (22, .aload_n 0, 1, []) ::
  (23, .getfield 15, 3, []) ::
  (26, .invokevirtual 39, 3, []) ::
  (29, .ifCond .eq 7, 3, [36]) ::
  kX7_says_32
def kX7_says : am_C := (0, .iload_n 3, 1, []) ::
  (1, .aload_n 2, 1, []) ::
  (2, .getfield 24, 3, []) ::
  (5, .if_icmp .le 9, 3, [14]) ::
  (8, .aload_n 1, 1, []) ::
  (9, .iconst 0, 1, []) ::
  (10, .invokevirtual 29, 3, []) ::
  (13, .return_, 1, []) ::
  (14, .aload_n 0, 1, []) ::
  (15, .invokevirtual 35, 3, []) ::
  (18, .ifCond .eq 18, 3, [36]) ::
  kX7_says_21
theorem kX7_says_ok : ∀ q ∈ kX7_says, am_cok cX7_says q := am_cok_all (by decide +kernel)
def kX7_mayKeep : am_C := (0, .iconst 1, 1, []) ::
  (1, .ireturn, 1, []) ::
  []
theorem kX7_mayKeep_ok : ∀ q ∈ kX7_mayKeep, am_cok cX7_mayKeep q := am_cok_all (by decide +kernel)
def kX8_v : am_C := (0, .aload_n 0, 1, []) ::
  (1, .getfield 7, 3, []) ::
  (4, .ireturn, 1, []) ::
  []
theorem kX8_v_ok : ∀ q ∈ kX8_v, am_cok cX8_v q := am_cok_all (by decide +kernel)
def kX8_isRight : am_C := (0, .iload_n 1, 1, []) ::
  (1, .aload_n 0, 1, []) ::
  (2, .getfield 7, 3, []) ::
  (5, .ishr, 1, []) ::
  (6, .iconst 1, 1, []) ::
  (7, .iand, 1, []) ::
  (8, .ifCond .ne 7, 3, [15]) ::
  (11, .iconst 1, 1, []) ::
  (12, .goto 4, 3, [16]) ::
  (15, .iconst 0, 1, []) ::
  (16, .ireturn, 1, []) ::
  []
theorem kX8_isRight_ok : ∀ q ∈ kX8_isRight, am_cok cX8_isRight q := am_cok_all (by decide +kernel)
def kX8_mayKeep : am_C := (0, .iconst 0, 1, []) ::
  (1, .ireturn, 1, []) ::
  []
theorem kX8_mayKeep_ok : ∀ q ∈ kX8_mayKeep, am_cok cX8_mayKeep q := am_cok_all (by decide +kernel)
def kX8_tells : am_C := (0, .aload_n 1, 1, []) ::
  (1, .aload_n 0, 1, []) ::
  (2, .getfield 7, 3, []) ::
  (5, .invokevirtual 13, 3, []) ::
  (8, .return_, 1, []) ::
  []
theorem kX8_tells_ok : ∀ q ∈ kX8_tells, am_cok cX8_tells q := am_cok_all (by decide +kernel)
def kX9_isRight : am_C := (0, .iconst 1, 1, []) ::
  (1, .ireturn, 1, []) ::
  []
theorem kX9_isRight_ok : ∀ q ∈ kX9_isRight, am_cok cX9_isRight q := am_cok_all (by decide +kernel)
def kX9_tells_47 : am_C := (47, .iload 4, 2, []) ::
  (49, .ifCond .le 30, 3, [79]) ::
  (52, .aload_n 1, 1, []) ::
  (53, .bipush 10, 2, []) ::
  (55, .aload_n 0, 1, []) ::
  (56, .getfield 9, 3, []) ::
  (59, .iload 4, 2, []) ::
  (61, .idiv, 1, []) ::
  (62, .bipush 10, 2, []) ::
  (64, .irem, 1, []) ::
  (65, .iadd, 1, []) ::
  (66, .invokevirtual 15, 3, []) ::
  (69, .iload 4, 2, []) ::
  (71, .bipush 10, 2, []) ::
  (73, .idiv, 1, []) ::
  (74, .istore 4, 2, []) ::
  (76, .goto (-29), 3, [47]) ::
  (79, .return_, 1, []) ::
  []
def kX9_tells_45 : am_C := (45, .istore 4, 2, []) ::
  kX9_tells_47
def kX9_tells_44 : am_C := (44, .iconst 1, 1, []) ::
  kX9_tells_45
def kX9_tells_30 : am_C := (30, .aload_n 0, 1, []) ::
  (31, .getfield 9, 3, []) ::
  (34, .bipush 9, 2, []) ::
  (36, .if_icmp .le 8, 3, [44]) ::
  (39, .bipush 10, 2, []) ::
  (41, .goto 4, 3, [45]) ::
  kX9_tells_44
def kX9_tells_16 : am_C := (16, .aload_n 0, 1, []) ::
  (17, .getfield 9, 3, []) ::
  (20, .bipush 99, 2, []) ::
  (22, .if_icmp .le 8, 3, [30]) ::
  (25, .bipush 100, 2, []) ::
  (27, .goto 18, 3, [45]) ::
  kX9_tells_30
def kX9_tells : am_C := (0, .aload_n 0, 1, []) ::
  (1, .getfield 9, 3, []) ::
  (4, .sipush 999, 3, []) ::
  (7, .if_icmp .le 9, 3, [16]) ::
  (10, .sipush 1000, 3, []) ::
  (13, .goto 32, 3, [45]) ::
  kX9_tells_16
theorem kX9_tells_ok : ∀ q ∈ kX9_tells, am_cok cX9_tells q := am_cok_all (by decide +kernel)
def kX10_x : am_C := (0, .aload_n 0, 1, []) ::
  (1, .getfield 22, 3, []) ::
  (4, .areturn, 1, []) ::
  []
theorem kX10_x_ok : ∀ q ∈ kX10_x, am_cok cX10_x q := am_cok_all (by decide +kernel)
def kX10_y : am_C := (0, .aload_n 0, 1, []) ::
  (1, .getfield 28, 3, []) ::
  (4, .areturn, 1, []) ::
  []
theorem kX10_y_ok : ∀ q ∈ kX10_y, am_cok cX10_y q := am_cok_all (by decide +kernel)
def kX10_tells : am_C := (0, .aload_n 0, 1, []) ::
  (1, .getfield 22, 3, []) ::
  (4, .aload_n 1, 1, []) ::
  (5, .aload_n 2, 1, []) ::
  (6, .iload_n 3, 1, []) ::
  (7, .iconst 1, 1, []) ::
  (8, .iadd, 1, []) ::
  (9, .invokevirtual 31, 3, []) ::
  (12, .aload_n 1, 1, []) ::
  (13, .bipush 20, 2, []) ::
  (15, .aload_n 0, 1, []) ::
  (16, .getfield 35, 3, []) ::
  (19, .iadd, 1, []) ::
  (20, .iconst 2, 1, []) ::
  (21, .isub, 1, []) ::
  (22, .invokevirtual 38, 3, []) ::
  (25, .aload_n 0, 1, []) ::
  (26, .getfield 28, 3, []) ::
  (29, .aload_n 1, 1, []) ::
  (30, .aload_n 2, 1, []) ::
  (31, .iload_n 3, 1, []) ::
  (32, .iconst 1, 1, []) ::
  (33, .iadd, 1, []) ::
  (34, .invokevirtual 31, 3, []) ::
  (37, .return_, 1, []) ::
  []
theorem kX10_tells_ok : ∀ q ∈ kX10_tells, am_cok cX10_tells q := am_cok_all (by decide +kernel)
def kX12_x : am_C := (0, .aload_n 0, 1, []) ::
  (1, .getfield 16, 3, []) ::
  (4, .areturn, 1, []) ::
  []
theorem kX12_x_ok : ∀ q ∈ kX12_x, am_cok cX12_x q := am_cok_all (by decide +kernel)
def kX12_tells : am_C := (0, .aload_n 1, 1, []) ::
  (1, .bipush 25, 2, []) ::
  (3, .invokevirtual 22, 3, []) ::
  (6, .aload_n 0, 1, []) ::
  (7, .getfield 16, 3, []) ::
  (10, .aload_n 1, 1, []) ::
  (11, .aload_n 2, 1, []) ::
  (12, .iload_n 3, 1, []) ::
  (13, .iconst 1, 1, []) ::
  (14, .iadd, 1, []) ::
  (15, .invokevirtual 28, 3, []) ::
  (18, .return_, 1, []) ::
  []
theorem kX12_tells_ok : ∀ q ∈ kX12_tells, am_cok cX12_tells q := am_cok_all (by decide +kernel)
def kX13_mayKeep : am_C := (0, .iconst 0, 1, []) ::
  (1, .ireturn, 1, []) ::
  []
theorem kX13_mayKeep_ok : ∀ q ∈ kX13_mayKeep, am_cok cX13_mayKeep q := am_cok_all (by decide +kernel)
def kX13_tells : am_C := (0, .aload_n 1, 1, []) ::
  (1, .bipush 26, 2, []) ::
  (3, .invokevirtual 9, 3, []) ::
  (6, .aload_n 0, 1, []) ::
  (7, .invokevirtual 15, 3, []) ::
  (10, .aload_n 1, 1, []) ::
  (11, .aload_n 2, 1, []) ::
  (12, .iload_n 3, 1, []) ::
  (13, .iconst 1, 1, []) ::
  (14, .iadd, 1, []) ::
  (15, .invokevirtual 21, 3, []) ::
  (18, .aload_n 1, 1, []) ::
  (19, .bipush 27, 2, []) ::
  (21, .invokevirtual 9, 3, []) ::
  (24, .return_, 1, []) ::
  []
theorem kX13_tells_ok : ∀ q ∈ kX13_tells, am_cok cX13_tells q := am_cok_all (by decide +kernel)
def kX14_v : am_C := (0, .aload_n 0, 1, []) ::
  (1, .getfield 9, 3, []) ::
  (4, .ireturn, 1, []) ::
  []
theorem kX14_v_ok : ∀ q ∈ kX14_v, am_cok cX14_v q := am_cok_all (by decide +kernel)
def kX14_isRight : am_C := (0, .iload_n 1, 1, []) ::
  (1, .aload_n 0, 1, []) ::
  (2, .getfield 9, 3, []) ::
  (5, .ishr, 1, []) ::
  (6, .iconst 1, 1, []) ::
  (7, .iand, 1, []) ::
  (8, .iconst 1, 1, []) ::
  (9, .if_icmp .ne 15, 3, [24]) ::
  (12, .aload_n 0, 1, []) ::
  (13, .iload_n 1, 1, []) ::
  (14, .invokespecial 31, 3, []) ::
  (17, .ifCond .eq 7, 3, [24]) ::
  (20, .iconst 1, 1, []) ::
  (21, .goto 4, 3, [25]) ::
  (24, .iconst 0, 1, []) ::
  (25, .ireturn, 1, []) ::
  []
theorem kX14_isRight_ok : ∀ q ∈ kX14_isRight, am_cok cX14_isRight q := am_cok_all (by decide +kernel)
def kX14_tells : am_C := (0, .aload_n 1, 1, []) ::
  (1, .aload_n 0, 1, []) ::
  (2, .getfield 9, 3, []) ::
  (5, .invokevirtual 15, 3, []) ::
  (8, .aload_n 1, 1, []) ::
  (9, .bipush 28, 2, []) ::
  (11, .invokevirtual 15, 3, []) ::
  (14, .aload_n 0, 1, []) ::
  (15, .invokevirtual 21, 3, []) ::
  (18, .aload_n 1, 1, []) ::
  (19, .aload_n 2, 1, []) ::
  (20, .iload_n 3, 1, []) ::
  (21, .iconst 1, 1, []) ::
  (22, .iadd, 1, []) ::
  (23, .invokevirtual 25, 3, []) ::
  (26, .return_, 1, []) ::
  []
theorem kX14_tells_ok : ∀ q ∈ kX14_tells, am_cok cX14_tells q := am_cok_all (by decide +kernel)
/-- fields by their links: 100 times the index, the class -/
def cs_F : List (Nat × Nat) := [(704, 30), (708, 44), (902, 20), (909, 44), (914, 48), (1507, 41), (1612, 47), (1802, 22), (2202, 21), (2210, 45), (2407, 31), (2810, 46), (3501, 0), (3510, 41), (7901, 42), (8201, 17), (8501, 15), (8901, 40), (9501, 1), (9801, 41), (11101, 43), (13101, 2), (13501, 5), (16001, 3), (16701, 21), (16801, 20), (17201, 4), (17901, 6), (18201, 7), (19701, 9), (20001, 8), (22301, 10), (23601, 11), (29201, 13), (29501, 12), (30901, 14), (32001, 16)]
def cs_Fp : List (Nat × Nat) := [(2202, 21), (8201, 17), (9501, 1), (13901, 30), (14301, 31), (19701, 9), (23601, 11), (29201, 13), (29501, 12)]
def cs_K : List (Nat × Int64) := [(4901, (7)), (5501, (9)), (5701, (9999)), (6701, (2)), (18501, (4)), (19001, (30)), (19201, (5)), (21301, (1000000000000000)), (25401, (8)), (27901, (-1)), (28401, (-2)), (32401, (3))]
def cs_Iv : List (Nat × (cs_ct → cs_ft)) := [(913, fun call => cs_cl call 2 64 2 0),
  (1308, fun call => cs_cl call 2 64 2 0),
  (1509, fun call => cs_cl call 2 64 2 0),
  (1513, fun call => cs_su call 8 8 83 1 3),
  (1514, fun call => cs_cl call 2 64 2 0),
  (2113, fun call => cs_vt call [72, 72, 72, 72, 72, 72, 72, 72, 72, 72] 4 0),
  (2114, fun call => cs_su call 9 9 83 1 3),
  (2212, fun call => cs_cl call 2 64 2 0),
  (2514, fun call => cs_vt call [72, 72, 72, 72, 72, 72, 72, 72, 72, 72] 4 0),
  (2812, fun call => cs_vt call [72, 72, 72, 72, 72, 72, 72, 72, 72, 72] 4 0),
  (2907, fun call => cs_cl call 2 64 2 0),
  (3110, fun call => cs_vt call [72, 72, 72, 72, 72, 72, 72, 72, 72, 72] 4 0),
  (3507, fun call => cs_vt call [76, 76, 73, 73, 73, 73, 73, 73, 85, 73] 1 1),
  (3810, fun call => cs_cl call 2 64 2 0),
  (3901, fun call => cs_cl call 4 200 1 1),
  (3907, fun call => cs_cl call 3 66 2 1),
  (4307, fun call => cs_vt call [77, 79, 82, 82, 82, 82, 82, 84, 86, 89] 4 0),
  (4707, fun call => cs_vt call [74, 74, 67, 67, 67, 67, 67, 67, 67, 87] 1 1),
  (5101, fun call => cs_cl call 4 202 2 1),
  (5107, fun call => cs_vt call [68, 68, 80, 80, 80, 80, 80, 83, 83, 83] 1 3),
  (5507, fun call => cs_vt call [71, 71, 71, 71, 71, 71, 71, 71, 71, 71] 2 1),
  (5907, fun call => cs_vt call [69, 69, 81, 81, 81, 81, 81, 69, 69, 69] 1 3),
  (6207, fun call => cs_vt call [75, 78, 70, 70, 70, 70, 70, 70, 70, 88] 2 1),
  (6301, fun call => cs_cl call 1 3 2 1),
  (6901, fun call => cs_cl call 1 5 2 1),
  (7301, fun call => cs_cl call 4 201 2 3),
  (9201, fun call => cs_cl call 4 203 2 3),
  (10101, fun call => cs_vt call [74, 74, 67, 67, 67, 67, 67, 67, 67, 87] 1 1),
  (10401, fun call => cs_vt call [68, 68, 80, 80, 80, 80, 80, 83, 83, 83] 1 3),
  (10801, fun call => cs_vt call [69, 69, 81, 81, 81, 81, 81, 69, 69, 69] 1 3),
  (11401, fun call => cs_vt call [75, 78, 70, 70, 70, 70, 70, 70, 70, 88] 2 1),
  (11701, fun call => cs_vt call [71, 71, 71, 71, 71, 71, 71, 71, 71, 71] 2 1),
  (14401, fun call => cs_cl call 1 17 3 1),
  (14801, fun call => cs_cl call 2 63 1 0),
  (15401, fun call => cs_vt call [72, 72, 72, 72, 72, 72, 72, 72, 72, 72] 4 0),
  (16401, fun call => cs_cl call 1 16 5 1),
  (17501, fun call => cs_cl call 2 65 2 1),
  (18701, fun call => cs_cl call 1 21 1 0),
  (20901, fun call => cs_cl call 1 25 2 0),
  (21501, fun call => cs_cl call 1 35 3 1),
  (21901, fun call => cs_cl call 1 36 3 1),
  (23901, fun call => cs_cl call 1 33 3 1),
  (24201, fun call => cs_cl call 1 34 5 2),
  (24601, fun call => cs_cl call 1 32 6 2),
  (25001, fun call => cs_cl call 1 31 3 2),
  (26301, fun call => cs_cl call 1 30 2 2),
  (26701, fun call => cs_cl call 1 39 7 3),
  (27101, fun call => cs_cl call 1 38 5 3),
  (27501, fun call => cs_cl call 1 42 5 2),
  (28101, fun call => cs_cl call 1 41 4 2),
  (29801, fun call => cs_cl call 2 64 2 0),
  (30201, fun call => cs_vt call [77, 79, 82, 82, 82, 82, 82, 84, 86, 89] 4 0),
  (30501, fun call => cs_cl call 1 48 2 0),
  (31601, fun call => cs_cl call 1 47 3 1),
  (32601, fun call => cs_cl call 1 51 2 1)]
def cs_Is : List (Nat × (cs_ct → cs_ft)) := [(4501, fun call => cs_cl call 0 2 3 1),
  (5901, fun call => cs_cl call 0 205 5 3),
  (12101, fun call => cs_cl call 0 11 2 1),
  (12501, fun call => cs_cl call 0 13 1 1),
  (12801, fun call => cs_cl call 0 14 1 1),
  (19401, fun call => cs_cl call 0 23 1 1),
  (20301, fun _ => cs_copy),
  (22701, fun call => cs_cl call 0 37 2 2),
  (23101, fun _ => cs_minl),
  (25601, fun call => cs_cl call 0 29 1 1),
  (28601, fun _ => cs_maxl),
  (28901, fun call => cs_cl call 0 45 1 1),
  (31201, fun call => cs_cl call 0 46 1 1),
  (33301, fun call => cs_cl call 0 56 2 1),
  (33601, fun _ => cs_mini),
  (33801, fun call => cs_cl call 0 55 2 1),
  (34101, fun call => cs_cl call 0 58 2 1)]
def cs_Ip : List (Nat × (cs_ct → cs_ft)) := [(3114, fun call => cs_su call 9 9 70 2 1),
  (27401, fun call => cs_cl call 4 204 1 0)]
/-- handlers: from, to, where -/
def cs_H : List (Nat × Nat × Nat × Nat) := [(17, 4, 15, 16), (47, 12, 17, 20)]
/-- locals, answer, code, name, bytes, class -/
abbrev cs_M : Type := Nat × Option FieldType × am_C × MethodName × ByteArray × Nat
def cs_T : List (Nat × cs_M) := [(1, 3, (some .int), kX1_leaf, yX1_leaf, cX1_leaf, 1),
  (2, 6, (some .boolean), kX1_isIn, yX1_isIn, cX1_isIn, 1),
  (3, 2, (some .int), kX1_adds, yX1_adds, cX1_adds, 1),
  (4, 5, (some .int), kX1_node, yX1_node, cX1_node, 1),
  (5, 2, (some .boolean), kX1_isNode, yX1_isNode, cX1_isNode, 1),
  (6, 3, (some .int), kX1_undo, yX1_undo, cX1_undo, 1),
  (7, 4, (some .int), kX1_means, yX1_means, cX1_means, 1),
  (8, 4, (some .int), kX1_look, yX1_look, cX1_look, 1),
  (9, 3, (some .int), kX1_alike, yX1_alike, cX1_alike, 1),
  (10, 3, (some .int), kX1_times, yX1_times, cX1_times, 1),
  (11, 3, (some .int), kX1_timesIn, yX1_timesIn, cX1_timesIn, 1),
  (12, 5, (some .int), kX1_keeps, yX1_keeps, cX1_keeps, 1),
  (13, 1, (some .boolean), kX1_isStyle, yX1_isStyle, cX1_isStyle, 1),
  (14, 1, (some .boolean), kX1_isKeeper, yX1_isKeeper, cX1_isKeeper, 1),
  (15, 3, (some .int), kX1_words, yX1_words, cX1_words, 1),
  (16, 5, (some .boolean), kX1_says, yX1_says, cX1_says, 1),
  (17, 4, (some .boolean), kX1_saysSo, yX1_saysSo, cX1_saysSo, 1),
  (18, 4, (some .int), kX1_word, yX1_word, cX1_word, 1),
  (19, 4, (some .int), kX1_sound, yX1_sound, cX1_sound, 1),
  (20, 7, (some .int), kX1_clear, yX1_clear, cX1_clear, 1),
  (21, 6, none, kX1_grows, yX1_grows, cX1_grows, 1),
  (22, 4, (some .int), kX1_hear, yX1_hear, cX1_hear, 1),
  (23, 1, (some .boolean), kX1_isWord, yX1_isWord, cX1_isWord, 1),
  (24, 4, (some .int), kX1_listen, yX1_listen, cX1_listen, 1),
  (25, 2, none, kX1_takes, yX1_takes, cX1_takes, 1),
  (26, 2, (some .int), kX1_hush, yX1_hush, cX1_hush, 1),
  (27, 2, (some .int), kX1_ear, yX1_ear, cX1_ear, 1),
  (28, 7, (some .int), kX1_write, yX1_write, cX1_write, 1),
  (29, 1, (some .boolean), kX1_isEar, yX1_isEar, cX1_isEar, 1),
  (30, 4, (some .long), kX1_listens, yX1_listens, cX1_listens, 1),
  (31, 6, (some .long), kX1_span, yX1_span, cX1_span, 1),
  (32, 6, (some .long), kX1_ofKind, yX1_ofKind, cX1_ofKind, 1),
  (33, 3, (some .boolean), kX1_mayBe, yX1_mayBe, cX1_mayBe, 1),
  (34, 8, (some .long), kX1_plain, yX1_plain, cX1_plain, 1),
  (35, 3, (some .boolean), kX1_isLetter, yX1_isLetter, cX1_isLetter, 1),
  (36, 5, (some .int), kX1_numberOf, yX1_numberOf, cX1_numberOf, 1),
  (37, 4, (some .long), kX1_times_2, yX1_times_2, cX1_times_2, 1),
  (38, 14, (some (.object "FormulaVoice$Node")), kX1_reading, yX1_reading, cX1_reading, 1),
  (39, 13, (some (.object "FormulaVoice$Node")), kX1_reading_2, yX1_reading_2, cX1_reading_2, 1),
  (40, 5, (some .long), kX1_place, yX1_place, cX1_place, 1),
  (41, 15, (some .long), kX1_placeOf, yX1_placeOf, cX1_placeOf, 1),
  (42, 9, (some .long), kX1_placeOf_2, yX1_placeOf_2, cX1_placeOf_2, 1),
  (43, 11, (some .int), kX1_doubt, yX1_doubt, cX1_doubt, 1),
  (44, 6, (some .int), kX1_fewest, yX1_fewest, cX1_fewest, 1),
  (45, 2, (some .int), kX1_keepers, yX1_keepers, cX1_keepers, 1),
  (46, 3, (some .int), kX1_many, yX1_many, cX1_many, 1),
  (47, 4, (some .boolean), kX1_isSure, yX1_isSure, cX1_isSure, 1),
  (48, 3, none, kX1_chooses, yX1_chooses, cX1_chooses, 1),
  (49, 2, (some .int), kX1_walk, yX1_walk, cX1_walk, 1),
  (50, 4, (some .int), kX1_go, yX1_go, cX1_go, 1),
  (51, 3, (some .boolean), kX1_goesDown, yX1_goesDown, cX1_goesDown, 1),
  (52, 5, (some .int), kX1_lead, yX1_lead, cX1_lead, 1),
  (53, 3, (some .int), kX1_glance, yX1_glance, cX1_glance, 1),
  (54, 3, (some .int), kX1_changed, yX1_changed, cX1_changed, 1),
  (55, 3, (some .int), kX1_difference, yX1_difference, cX1_difference, 1),
  (56, 3, (some .int), kX1_parts, yX1_parts, cX1_parts, 1),
  (57, 3, (some .int), kX1_exchanged, yX1_exchanged, cX1_exchanged, 1),
  (58, 3, (some .int), kX1_exchanges, yX1_exchanges, cX1_exchanges, 1),
  (59, 2, (some .int), kX1_count, yX1_count, cX1_count, 1),
  (60, 1, (some .boolean), kX1_isShelf, yX1_isShelf, cX1_isShelf, 1),
  (61, 2, (some .long), kX1_readings, yX1_readings, cX1_readings, 1),
  (62, 4, (some .int), kX1_where, yX1_where, cX1_where, 1),
  (63, 1, none, kX2_clear, yX2_clear, cX2_clear, 2),
  (64, 2, none, kX2_say, yX2_say, cX2_say, 2),
  (65, 4, (some .boolean), kX2_isAs, yX2_isAs, cX2_isAs, 2),
  (66, 2, (some .boolean), kX4_keeps, yX4_keeps, cX4_keeps, 4),
  (67, 1, (some .int), kX7_v, yX7_v, cX7_v, 7),
  (68, 1, (some (.object "FormulaVoice$Node")), kX7_x, yX7_x, cX7_x, 7),
  (69, 1, (some (.object "FormulaVoice$Node")), kX7_y, yX7_y, cX7_y, 7),
  (70, 2, (some .boolean), kX7_isRight, yX7_isRight, cX7_isRight, 7),
  (71, 2, (some .boolean), kX7_isLike, yX7_isLike, cX7_isLike, 7),
  (72, 5, none, kX7_says, yX7_says, cX7_says, 7),
  (73, 1, (some .boolean), kX7_mayKeep, yX7_mayKeep, cX7_mayKeep, 7),
  (74, 1, (some .int), kX8_v, yX8_v, cX8_v, 8),
  (75, 2, (some .boolean), kX8_isRight, yX8_isRight, cX8_isRight, 8),
  (76, 1, (some .boolean), kX8_mayKeep, yX8_mayKeep, cX8_mayKeep, 8),
  (77, 4, none, kX8_tells, yX8_tells, cX8_tells, 8),
  (78, 2, (some .boolean), kX9_isRight, yX9_isRight, cX9_isRight, 9),
  (79, 5, none, kX9_tells, yX9_tells, cX9_tells, 9),
  (80, 1, (some (.object "FormulaVoice$Node")), kX10_x, yX10_x, cX10_x, 10),
  (81, 1, (some (.object "FormulaVoice$Node")), kX10_y, yX10_y, cX10_y, 10),
  (82, 4, none, kX10_tells, yX10_tells, cX10_tells, 10),
  (83, 1, (some (.object "FormulaVoice$Node")), kX12_x, yX12_x, cX12_x, 12),
  (84, 4, none, kX12_tells, yX12_tells, cX12_tells, 12),
  (85, 1, (some .boolean), kX13_mayKeep, yX13_mayKeep, cX13_mayKeep, 13),
  (86, 4, none, kX13_tells, yX13_tells, cX13_tells, 13),
  (87, 1, (some .int), kX14_v, yX14_v, cX14_v, 14),
  (88, 2, (some .boolean), kX14_isRight, yX14_isRight, cX14_isRight, 14),
  (89, 4, none, kX14_tells, yX14_tells, cX14_tells, 14)]
