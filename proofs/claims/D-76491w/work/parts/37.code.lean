/-! ===== THE CODE as data: a method by its number, its blocks by their places; its handlers; how many locals (written by gen/code.py) ===== -/
/-- GeeseKeys.<init>()V -/
def gp_x_init (l : Nat) : List gI := match l with
  | 0 => [(0, .aload_n 0, 0, 0, 0, []), (1, .invokespecial 9, 0, 0, 1, []), (4, .aload_n 0, 0, 0, 0, []), (5, .bipush 6, 0, 0, 0, []), (7, .anewarray 15, 0, 0, 0, []), (10, .putfield 17, 0, 0, 2, []), (13, .aload_n 0, 0, 0, 0, []), (14, .bipush 24, 0, 0, 0, []), (16, .newarray .int, 0, 0, 0, []), (18, .putfield 21, 1, 0, 2, []), (21, .aload_n 0, 0, 0, 0, []), (22, .new 25, 1, 9, 0, []), (25, .dup, 0, 0, 0, []), (26, .invokespecial 27, 270, 0, 0, []), (29, .putfield 28, 2, 0, 2, []), (32, .aload_n 0, 0, 0, 0, []), (33, .new 25, 1, 9, 0, []), (36, .dup, 0, 0, 0, []), (37, .invokespecial 27, 270, 0, 0, []), (40, .putfield 32, 3, 0, 2, []), (43, .aload_n 0, 0, 0, 0, []), (44, .bipush 100, 0, 0, 0, []), (46, .newarray .byte, 0, 0, 0, []), (48, .putfield 35, 4, 0, 2, []), (51, .aload_n 0, 0, 0, 0, []), (52, .new 39, 2, 3, 0, []), (55, .dup, 0, 0, 0, []), (56, .invokespecial 41, 300, 0, 0, []), (59, .putfield 42, 7, 0, 2, []), (62, .aload_n 0, 0, 0, 0, []), (63, .new 46, 4, 6, 0, []), (66, .dup, 0, 0, 0, []), (67, .invokespecial 48, 303, 0, 0, []), (70, .putfield 49, 8, 0, 2, []), (73, .aload_n 0, 0, 0, 0, []), (74, .new 53, 5, 2, 0, []), (77, .dup, 0, 0, 0, []), (78, .invokespecial 55, 305, 0, 0, []), (81, .putfield 56, 9, 0, 2, []), (84, .aload_n 0, 0, 0, 0, []), (85, .iconst 5, 0, 0, 0, []), (86, .newarray .int, 0, 0, 0, []), (88, .putfield 60, 10, 0, 2, []), (91, .aload_n 0, 0, 0, 0, []), (92, .iconst 5, 0, 0, 0, []), (93, .newarray .int, 0, 0, 0, []), (95, .putfield 63, 11, 0, 2, []), (98, .aload_n 0, 0, 0, 0, []), (99, .iconst 5, 0, 0, 0, []), (100, .newarray .int, 0, 0, 0, []), (102, .putfield 66, 12, 0, 2, []), (105, .aload_n 0, 0, 0, 0, []), (106, .bipush 10, 0, 0, 0, []), (108, .newarray .int, 0, 0, 0, []), (110, .putfield 69, 13, 0, 2, []), (113, .aload_n 0, 0, 0, 0, []), (114, .bipush 10, 0, 0, 0, []), (116, .newarray .int, 0, 0, 0, []), (118, .putfield 72, 14, 0, 2, []), (121, .aload_n 0, 0, 0, 0, []), (122, .bipush 8, 0, 0, 0, []), (124, .newarray .int, 0, 0, 0, []), (126, .putfield 75, 15, 0, 2, []), (129, .aload_n 0, 0, 0, 0, []), (130, .bipush 8, 0, 0, 0, []), (132, .newarray .int, 0, 0, 0, []), (134, .putfield 78, 16, 0, 2, []), (137, .aload_n 0, 0, 0, 0, []), (138, .bipush 6, 0, 0, 0, []), (140, .anewarray 81, 1, 0, 0, []), (143, .putfield 83, 20, 0, 2, []), (146, .aload_n 0, 0, 0, 0, []), (147, .new 25, 1, 9, 0, []), (150, .dup, 0, 0, 0, []), (151, .invokespecial 27, 270, 0, 0, []), (154, .putfield 87, 21, 0, 2, []), (157, .aload_n 0, 0, 0, 0, []), (158, .bipush 6, 0, 0, 0, []), (160, .anewarray 15, 0, 0, 0, []), (163, .putfield 90, 22, 0, 2, []), (166, .aload_n 0, 0, 0, 0, []), (167, .bipush 24, 0, 0, 0, []), (169, .newarray .int, 0, 0, 0, []), (171, .putfield 93, 23, 0, 2, []), (174, .aload_n 0, 0, 0, 0, []), (175, .iconst 5, 0, 0, 0, []), (176, .newarray .int, 0, 0, 0, []), (178, .putfield 96, 24, 0, 2, []), (181, .aload_n 0, 0, 0, 0, []), (182, .iconst 5, 0, 0, 0, []), (183, .newarray .int, 0, 0, 0, []), (185, .putfield 99, 25, 0, 2, []), (188, .aload_n 0, 0, 0, 0, []), (189, .iconst 5, 0, 0, 0, []), (190, .newarray .int, 0, 0, 0, []), (192, .putfield 102, 26, 0, 2, []), (195, .aload_n 0, 0, 0, 0, []), (196, .bipush 10, 0, 0, 0, []), (198, .newarray .int, 0, 0, 0, []), (200, .putfield 105, 27, 0, 2, []), (203, .aload_n 0, 0, 0, 0, []), (204, .bipush 10, 0, 0, 0, []), (206, .newarray .int, 0, 0, 0, []), (208, .putfield 108, 28, 0, 2, []), (211, .aload_n 0, 0, 0, 0, []), (212, .bipush 8, 0, 0, 0, []), (214, .newarray .int, 0, 0, 0, []), (216, .putfield 111, 29, 0, 2, []), (219, .aload_n 0, 0, 0, 0, []), (220, .bipush 8, 0, 0, 0, []), (222, .newarray .int, 0, 0, 0, []), (224, .putfield 114, 30, 0, 2, []), (227, .iconst 0, 0, 0, 0, []), (228, .istore_n 1, 0, 0, 0, []), (229, .nop, 229, 0, 0, [])]
  | 229 => [(229, .iload_n 1, 0, 0, 0, []), (230, .bipush 6, 0, 0, 0, []), (232, .if_icmp .ge 22, 254, 0, 0, []), (235, .aload_n 0, 0, 0, 0, []), (236, .getfield 83, 20, 0, 2, []), (239, .iload_n 1, 0, 0, 0, []), (240, .new 81, 6, 1, 0, []), (243, .dup, 0, 0, 0, []), (244, .invokespecial 117, 307, 0, 0, []), (247, .aastore, 0, 0, 0, []), (248, .iinc 1 1, 0, 0, 0, []), (251, .goto (-22), 229, 0, 0, [])]
  | 254 => [(254, .return_, 0, 0, 0, [])]
  | _ => []
/-- GeeseKeys.gate(II)I -/
def gp_x_gate (l : Nat) : List gI := match l with
  | 0 => [(0, .iload_n 1, 0, 0, 0, []), (1, .invokestatic 148, 2, 1, 0, []), (4, .ifCond .eq 10, 14, 0, 0, []), (7, .iload_n 2, 0, 0, 0, []), (8, .invokestatic 148, 2, 1, 0, []), (11, .ifCond .ne 5, 16, 0, 0, []), (14, .nop, 14, 0, 0, [])]
  | 14 => [(14, .iconst (-1), 0, 0, 0, []), (15, .ireturn, 0, 0, 0, [])]
  | 16 => [(16, .iload_n 1, 0, 0, 0, []), (17, .iload_n 2, 0, 0, 0, []), (18, .if_icmp .ne 6, 24, 0, 0, []), (21, .bipush (-2), 0, 0, 0, []), (23, .ireturn, 0, 0, 0, [])]
  | 24 => [(24, .aload_n 0, 0, 0, 0, []), (25, .getfield 28, 2, 0, 2, []), (28, .getfield 122, 6, 1, 0, []), (31, .bipush 9, 0, 0, 0, []), (33, .if_icmp .ne 6, 39, 0, 0, []), (36, .bipush (-4), 0, 0, 0, []), (38, .ireturn, 0, 0, 0, [])]
  | 39 => [(39, .aload_n 0, 0, 0, 0, []), (40, .getfield 28, 2, 0, 2, []), (43, .getfield 152, 1, 1, 2, []), (46, .aload_n 0, 0, 0, 0, []), (47, .getfield 28, 2, 0, 2, []), (50, .getfield 122, 6, 1, 0, []), (53, .iload_n 1, 0, 0, 0, []), (54, .i2b, 0, 0, 0, []), (55, .bastore, 0, 0, 0, []), (56, .aload_n 0, 0, 0, 0, []), (57, .getfield 28, 2, 0, 2, []), (60, .getfield 155, 2, 1, 2, []), (63, .aload_n 0, 0, 0, 0, []), (64, .getfield 28, 2, 0, 2, []), (67, .getfield 122, 6, 1, 0, []), (70, .iload_n 2, 0, 0, 0, []), (71, .i2b, 0, 0, 0, []), (72, .bastore, 0, 0, 0, []), (73, .aload_n 0, 0, 0, 0, []), (74, .getfield 28, 2, 0, 2, []), (77, .dup, 0, 0, 0, []), (78, .getfield 122, 6, 1, 0, []), (81, .dup_x1, 0, 0, 0, []), (82, .iconst 1, 0, 0, 0, []), (83, .iadd, 0, 0, 0, []), (84, .putfield 122, 6, 1, 0, []), (87, .ireturn, 0, 0, 0, [])]
  | _ => []
/-- GeeseKeys.isCourt(I)Z -/
def gp_x_isCourt (l : Nat) : List gI := match l with
  | 0 => [(0, .iload_n 0, 0, 0, 0, []), (1, .iconst 0, 0, 0, 0, []), (2, .bipush 7, 0, 0, 0, []), (4, .invokestatic 5, 3, 3, 0, []), (7, .ireturn, 1, 0, 0, [])]
  | _ => []
/-- GeeseKeys.in(III)Z -/
def gp_x_in (l : Nat) : List gI := match l with
  | 0 => [(0, .iload_n 0, 0, 0, 0, []), (1, .iload_n 1, 0, 0, 0, []), (2, .if_icmp .lt 12, 14, 0, 0, []), (5, .iload_n 0, 0, 0, 0, []), (6, .iload_n 2, 0, 0, 0, []), (7, .if_icmp .gt 7, 14, 0, 0, []), (10, .iconst 1, 0, 0, 0, []), (11, .goto 4, 15, 0, 0, [])]
  | 14 => [(14, .iconst 0, 0, 0, 0, []), (15, .nop, 15, 0, 0, [])]
  | 15 => [(15, .ireturn, 1, 0, 0, [])]
  | _ => []
/-- GeeseKeys.goose(IIII)I -/
def gp_x_goose (l : Nat) : List gI := match l with
  | 0 => [(0, .iload_n 1, 0, 0, 0, []), (1, .iconst 0, 0, 0, 0, []), (2, .bipush 6, 0, 0, 0, []), (4, .invokestatic 5, 3, 3, 0, []), (7, .ifCond .eq 18, 25, 0, 0, []), (10, .iload_n 3, 0, 0, 0, []), (11, .invokestatic 148, 2, 1, 0, []), (14, .ifCond .eq 11, 25, 0, 0, []), (17, .iload 4, 0, 0, 0, []), (19, .invokestatic 158, 5, 1, 0, []), (22, .ifCond .ne 5, 27, 0, 0, []), (25, .nop, 25, 0, 0, [])]
  | 25 => [(25, .iconst (-1), 0, 0, 0, []), (26, .ireturn, 0, 0, 0, [])]
  | 27 => [(27, .iload_n 2, 0, 0, 0, []), (28, .iconst 0, 0, 0, 0, []), (29, .bipush 9, 0, 0, 0, []), (31, .invokestatic 5, 3, 3, 0, []), (34, .ifCond .ne 6, 40, 0, 0, []), (37, .bipush (-2), 0, 0, 0, []), (39, .ireturn, 0, 0, 0, [])]
  | 40 => [(40, .aload_n 0, 0, 0, 0, []), (41, .getfield 28, 2, 0, 2, []), (44, .getfield 118, 5, 1, 0, []), (47, .bipush 6, 0, 0, 0, []), (49, .if_icmp .ne 6, 55, 0, 0, []), (52, .bipush (-4), 0, 0, 0, []), (54, .ireturn, 0, 0, 0, [])]
  | 55 => [(55, .aload_n 0, 0, 0, 0, []), (56, .getfield 28, 2, 0, 2, []), (59, .getfield 118, 5, 1, 0, []), (62, .istore 5, 0, 0, 0, []), (64, .aload_n 0, 0, 0, 0, []), (65, .getfield 17, 0, 0, 2, []), (68, .iload 5, 0, 0, 0, []), (70, .aload_n 0, 0, 0, 0, []), (71, .iload_n 1, 0, 0, 0, []), (72, .iload_n 2, 0, 0, 0, []), (73, .invokevirtual 161, 6, 2, 0, []), (76, .aastore, 0, 0, 0, []), (77, .aload_n 0, 0, 0, 0, []), (78, .getfield 28, 2, 0, 2, []), (81, .getfield 165, 3, 1, 2, []), (84, .iload 5, 0, 0, 0, []), (86, .iload_n 3, 0, 0, 0, []), (87, .i2b, 0, 0, 0, []), (88, .bastore, 0, 0, 0, []), (89, .aload_n 0, 0, 0, 0, []), (90, .getfield 28, 2, 0, 2, []), (93, .getfield 168, 4, 1, 2, []), (96, .iload 5, 0, 0, 0, []), (98, .iload 4, 0, 0, 0, []), (100, .invokestatic 171, 7, 1, 0, []), (103, .bastore, 0, 0, 0, []), (104, .aload_n 0, 0, 0, 0, []), (105, .getfield 28, 2, 0, 2, []), (108, .dup, 0, 0, 0, []), (109, .getfield 175, 7, 1, 0, []), (112, .iconst 1, 0, 0, 0, []), (113, .iload 5, 0, 0, 0, []), (115, .ishl, 0, 0, 0, []), (116, .iconst (-1), 0, 0, 0, []), (117, .ixor, 0, 0, 0, []), (118, .iand, 0, 0, 0, []), (119, .putfield 175, 7, 1, 0, []), (122, .iconst 0, 0, 0, 0, []), (123, .istore 6, 0, 0, 0, []), (125, .nop, 125, 0, 0, [])]
  | 125 => [(125, .iload 6, 0, 0, 0, []), (127, .iconst 4, 0, 0, 0, []), (128, .if_icmp .ge 22, 150, 0, 0, []), (131, .aload_n 0, 0, 0, 0, []), (132, .getfield 21, 1, 0, 2, []), (135, .iconst 4, 0, 0, 0, []), (136, .iload 5, 0, 0, 0, []), (138, .imul, 0, 0, 0, []), (139, .iload 6, 0, 0, 0, []), (141, .iadd, 0, 0, 0, []), (142, .iconst 0, 0, 0, 0, []), (143, .iastore, 0, 0, 0, []), (144, .iinc 6 1, 0, 0, 0, []), (147, .goto (-22), 125, 0, 0, [])]
  | 150 => [(150, .aload_n 0, 0, 0, 0, []), (151, .getfield 28, 2, 0, 2, []), (154, .dup, 0, 0, 0, []), (155, .getfield 118, 5, 1, 0, []), (158, .iconst 1, 0, 0, 0, []), (159, .iadd, 0, 0, 0, []), (160, .putfield 118, 5, 1, 0, []), (163, .iload 5, 0, 0, 0, []), (165, .ireturn, 0, 0, 0, [])]
  | _ => []
/-- GeeseKeys.isKey(I)Z -/
def gp_x_isKey (l : Nat) : List gI := match l with
  | 0 => [(0, .iload_n 0, 0, 0, 0, []), (1, .iconst (-1), 0, 0, 0, []), (2, .bipush 8, 0, 0, 0, []), (4, .invokestatic 5, 3, 3, 0, []), (7, .ireturn, 1, 0, 0, [])]
  | _ => []
/-- GeeseKeys.gooseOf(II)LGeeseKeys$Goose; -/
def gp_x_gooseOf (l : Nat) : List gI := match l with
  | 0 => [(0, .iload_n 1, 0, 0, 0, []), (1, .tableswitch 163 1 6 #[39, 59, 79, 99, 119, 139], 164, 0, 0, [(1, 40), (2, 60), (3, 80), (4, 100), (5, 120), (6, 140)])]
  | 40 => [(40, .new 125, 9, 3, 0, []), (43, .dup, 0, 0, 0, []), (44, .aload_n 0, 0, 0, 0, []), (45, .getfield 56, 9, 0, 2, []), (48, .aload_n 0, 0, 0, 0, []), (49, .getfield 28, 2, 0, 2, []), (52, .getfield 118, 5, 1, 0, []), (55, .iload_n 2, 0, 0, 0, []), (56, .invokespecial 127, 261, 3, 0, []), (59, .areturn, 0, 0, 0, [])]
  | 60 => [(60, .new 130, 10, 3, 0, []), (63, .dup, 0, 0, 0, []), (64, .aload_n 0, 0, 0, 0, []), (65, .getfield 56, 9, 0, 2, []), (68, .aload_n 0, 0, 0, 0, []), (69, .getfield 28, 2, 0, 2, []), (72, .getfield 118, 5, 1, 0, []), (75, .iload_n 2, 0, 0, 0, []), (76, .invokespecial 132, 262, 3, 0, []), (79, .areturn, 0, 0, 0, [])]
  | 80 => [(80, .new 133, 11, 3, 0, []), (83, .dup, 0, 0, 0, []), (84, .aload_n 0, 0, 0, 0, []), (85, .getfield 56, 9, 0, 2, []), (88, .aload_n 0, 0, 0, 0, []), (89, .getfield 28, 2, 0, 2, []), (92, .getfield 118, 5, 1, 0, []), (95, .iload_n 2, 0, 0, 0, []), (96, .invokespecial 135, 263, 3, 0, []), (99, .areturn, 0, 0, 0, [])]
  | 100 => [(100, .new 136, 12, 3, 0, []), (103, .dup, 0, 0, 0, []), (104, .aload_n 0, 0, 0, 0, []), (105, .getfield 56, 9, 0, 2, []), (108, .aload_n 0, 0, 0, 0, []), (109, .getfield 28, 2, 0, 2, []), (112, .getfield 118, 5, 1, 0, []), (115, .iload_n 2, 0, 0, 0, []), (116, .invokespecial 138, 264, 3, 0, []), (119, .areturn, 0, 0, 0, [])]
  | 120 => [(120, .new 139, 13, 3, 0, []), (123, .dup, 0, 0, 0, []), (124, .aload_n 0, 0, 0, 0, []), (125, .getfield 56, 9, 0, 2, []), (128, .aload_n 0, 0, 0, 0, []), (129, .getfield 28, 2, 0, 2, []), (132, .getfield 118, 5, 1, 0, []), (135, .iload_n 2, 0, 0, 0, []), (136, .invokespecial 141, 265, 3, 0, []), (139, .areturn, 0, 0, 0, [])]
  | 140 => [(140, .new 142, 14, 4, 0, []), (143, .dup, 0, 0, 0, []), (144, .aload_n 0, 0, 0, 0, []), (145, .getfield 56, 9, 0, 2, []), (148, .aload_n 0, 0, 0, 0, []), (149, .getfield 28, 2, 0, 2, []), (152, .getfield 118, 5, 1, 0, []), (155, .iload_n 2, 0, 0, 0, []), (156, .aload_n 0, 0, 0, 0, []), (157, .getfield 21, 1, 0, 2, []), (160, .invokespecial 144, 266, 4, 0, []), (163, .areturn, 0, 0, 0, [])]
  | 164 => [(164, .new 15, 8, 3, 0, []), (167, .dup, 0, 0, 0, []), (168, .aload_n 0, 0, 0, 0, []), (169, .getfield 56, 9, 0, 2, []), (172, .aload_n 0, 0, 0, 0, []), (173, .getfield 28, 2, 0, 2, []), (176, .getfield 118, 5, 1, 0, []), (179, .iload_n 2, 0, 0, 0, []), (180, .invokespecial 147, 260, 3, 0, []), (183, .areturn, 0, 0, 0, [])]
  | _ => []
/-- GeeseKeys.keyOf(I)B -/
def gp_x_keyOf (l : Nat) : List gI := match l with
  | 0 => [(0, .iload_n 0, 0, 0, 0, []), (1, .iconst (-1), 0, 0, 0, []), (2, .if_icmp .ne 8, 10, 0, 0, []), (5, .bipush (-5), 0, 0, 0, []), (7, .goto 4, 11, 0, 0, [])]
  | 10 => [(10, .iload_n 0, 0, 0, 0, []), (11, .nop, 11, 0, 0, [])]
  | 11 => [(11, .i2b, 0, 0, 0, []), (12, .ireturn, 2, 0, 0, [])]
  | _ => []
/-- GeeseKeys.of(II)I -/
def gp_x_of (l : Nat) : List gI := match l with
  | 0 => [(0, .aload_n 0, 0, 0, 0, []), (1, .iload_n 1, 0, 0, 0, []), (2, .invokevirtual 229, 9, 1, 0, []), (5, .ifCond .ne 7, 12, 0, 0, []), (8, .sipush (-10001), 0, 0, 0, []), (11, .ireturn, 0, 0, 0, [])]
  | 12 => [(12, .iload_n 2, 0, 0, 0, []), (13, .tableswitch 106 0 5 #[39, 49, 59, 69, 79, 96], 119, 0, 0, [(0, 52), (1, 62), (2, 72), (3, 82), (4, 92), (5, 109)])]
  | 52 => [(52, .aload_n 0, 0, 0, 0, []), (53, .getfield 17, 0, 0, 2, []), (56, .iload_n 1, 0, 0, 0, []), (57, .aaload, 0, 0, 0, []), (58, .invokevirtual 181, 1000, 0, 30, []), (61, .ireturn, 0, 0, 0, [])]
  | 62 => [(62, .aload_n 0, 0, 0, 0, []), (63, .getfield 17, 0, 0, 2, []), (66, .iload_n 1, 0, 0, 0, []), (67, .aaload, 0, 0, 0, []), (68, .getfield 187, 2, 30, 0, []), (71, .ireturn, 0, 0, 0, [])]
  | 72 => [(72, .aload_n 0, 0, 0, 0, []), (73, .getfield 28, 2, 0, 2, []), (76, .getfield 165, 3, 1, 2, []), (79, .iload_n 1, 0, 0, 0, []), (80, .baload, 0, 0, 0, []), (81, .ireturn, 0, 0, 0, [])]
  | 82 => [(82, .aload_n 0, 0, 0, 0, []), (83, .getfield 28, 2, 0, 2, []), (86, .getfield 168, 4, 1, 2, []), (89, .iload_n 1, 0, 0, 0, []), (90, .baload, 0, 0, 0, []), (91, .ireturn, 0, 0, 0, [])]
  | 92 => [(92, .aload_n 0, 0, 0, 0, []), (93, .getfield 28, 2, 0, 2, []), (96, .iload_n 1, 0, 0, 0, []), (97, .invokevirtual 232, 271, 1, 1, []), (100, .ifCond .eq 7, 107, 0, 0, []), (103, .iconst 1, 0, 0, 0, []), (104, .goto 4, 108, 0, 0, [])]
  | 107 => [(107, .iconst 0, 0, 0, 0, []), (108, .nop, 108, 0, 0, [])]
  | 108 => [(108, .ireturn, 0, 0, 0, [])]
  | 109 => [(109, .aload_n 0, 0, 0, 0, []), (110, .aload_n 0, 0, 0, 0, []), (111, .getfield 28, 2, 0, 2, []), (114, .iload_n 1, 0, 0, 0, []), (115, .invokevirtual 235, 11, 2, 0, []), (118, .ireturn, 0, 0, 0, [])]
  | 119 => [(119, .iload_n 2, 0, 0, 0, []), (120, .bipush 10, 0, 0, 0, []), (122, .isub, 0, 0, 0, []), (123, .invokestatic 148, 2, 1, 0, []), (126, .ifCond .eq 19, 145, 0, 0, []), (129, .aload_n 0, 0, 0, 0, []), (130, .aload_n 0, 0, 0, 0, []), (131, .getfield 28, 2, 0, 2, []), (134, .iload_n 1, 0, 0, 0, []), (135, .iload_n 2, 0, 0, 0, []), (136, .bipush 10, 0, 0, 0, []), (138, .isub, 0, 0, 0, []), (139, .invokevirtual 218, 12, 3, 0, []), (142, .goto 6, 148, 0, 0, [])]
  | 145 => [(145, .sipush (-10001), 0, 0, 0, []), (148, .nop, 148, 0, 0, [])]
  | 148 => [(148, .ireturn, 0, 0, 0, [])]
  | _ => []
/-- GeeseKeys.isGoose(I)Z -/
def gp_x_isGoose (l : Nat) : List gI := match l with
  | 0 => [(0, .iload_n 1, 0, 0, 0, []), (1, .iconst 0, 0, 0, 0, []), (2, .aload_n 0, 0, 0, 0, []), (3, .getfield 28, 2, 0, 2, []), (6, .getfield 118, 5, 1, 0, []), (9, .iconst 1, 0, 0, 0, []), (10, .isub, 0, 0, 0, []), (11, .invokestatic 5, 3, 3, 0, []), (14, .ireturn, 1, 0, 0, [])]
  | _ => []
/-- GeeseKeys.isIn(II)Z -/
def gp_x_isIn (l : Nat) : List gI := match l with
  | 0 => [(0, .iload_n 0, 0, 0, 0, []), (1, .iload_n 1, 0, 0, 0, []), (2, .ishr, 0, 0, 0, []), (3, .iconst 1, 0, 0, 0, []), (4, .iand, 0, 0, 0, []), (5, .iconst 1, 0, 0, 0, []), (6, .if_icmp .ne 7, 13, 0, 0, []), (9, .iconst 1, 0, 0, 0, []), (10, .goto 4, 14, 0, 0, [])]
  | 13 => [(13, .iconst 0, 0, 0, 0, []), (14, .nop, 14, 0, 0, [])]
  | 14 => [(14, .ireturn, 1, 0, 0, [])]
  | _ => []
/-- GeeseKeys.whereTo(LGeeseKeys$Time;I)I -/
def gp_x_whereTo (l : Nat) : List gI := match l with
  | 0 => [(0, .aload_n 1, 0, 0, 0, []), (1, .getfield 165, 3, 1, 2, []), (4, .iload_n 2, 0, 0, 0, []), (5, .baload, 0, 0, 0, []), (6, .istore_n 3, 0, 0, 0, []), (7, .aload_n 0, 0, 0, 0, []), (8, .aload_n 1, 0, 0, 0, []), (9, .iload_n 2, 0, 0, 0, []), (10, .iload_n 3, 0, 0, 0, []), (11, .invokevirtual 218, 12, 3, 0, []), (14, .istore 4, 0, 0, 0, []), (16, .aload_n 1, 0, 0, 0, []), (17, .aload_n 1, 0, 0, 0, []), (18, .getfield 165, 3, 1, 2, []), (21, .iload_n 2, 0, 0, 0, []), (22, .baload, 0, 0, 0, []), (23, .invokevirtual 222, 275, 1, 1, []), (26, .istore 5, 0, 0, 0, []), (28, .iconst 0, 0, 0, 0, []), (29, .istore 6, 0, 0, 0, []), (31, .nop, 31, 0, 0, [])]
  | 31 => [(31, .iload 6, 0, 0, 0, []), (33, .bipush 8, 0, 0, 0, []), (35, .if_icmp .ge 49, 84, 0, 0, []), (38, .iload 5, 0, 0, 0, []), (40, .iload 6, 0, 0, 0, []), (42, .invokestatic 226, 10, 2, 0, []), (45, .ifCond .ne 6, 51, 0, 0, []), (48, .goto 30, 78, 0, 0, [])]
  | 51 => [(51, .aload_n 0, 0, 0, 0, []), (52, .aload_n 1, 0, 0, 0, []), (53, .iload_n 2, 0, 0, 0, []), (54, .iload 6, 0, 0, 0, []), (56, .invokevirtual 218, 12, 3, 0, []), (59, .istore 7, 0, 0, 0, []), (61, .iload 7, 0, 0, 0, []), (63, .iload 4, 0, 0, 0, []), (65, .if_icmp .gt 6, 71, 0, 0, []), (68, .goto 10, 78, 0, 0, [])]
  | 71 => [(71, .iload 7, 0, 0, 0, []), (73, .istore 4, 0, 0, 0, []), (75, .iload 6, 0, 0, 0, []), (77, .istore_n 3, 0, 0, 0, []), (78, .nop, 78, 0, 0, [])]
  | 78 => [(78, .iinc 6 1, 0, 0, 0, []), (81, .goto (-50), 31, 0, 0, [])]
  | 84 => [(84, .iload_n 3, 0, 0, 0, []), (85, .ireturn, 0, 0, 0, [])]
  | _ => []
/-- GeeseKeys.pullOf(LGeeseKeys$Time;II)I -/
def gp_x_pullOf (l : Nat) : List gI := match l with
  | 0 => [(0, .aload_n 0, 0, 0, 0, []), (1, .getfield 49, 8, 0, 2, []), (4, .iload_n 2, 0, 0, 0, []), (5, .putfield 178, 0, 4, 0, []), (8, .aload_n 0, 0, 0, 0, []), (9, .getfield 49, 8, 0, 2, []), (12, .aload_n 0, 0, 0, 0, []), (13, .getfield 17, 0, 0, 2, []), (16, .iload_n 2, 0, 0, 0, []), (17, .aaload, 0, 0, 0, []), (18, .invokevirtual 181, 1000, 0, 30, []), (21, .putfield 185, 1, 4, 0, []), (24, .aload_n 0, 0, 0, 0, []), (25, .getfield 49, 8, 0, 2, []), (28, .aload_n 0, 0, 0, 0, []), (29, .getfield 17, 0, 0, 2, []), (32, .iload_n 2, 0, 0, 0, []), (33, .aaload, 0, 0, 0, []), (34, .getfield 187, 2, 30, 0, []), (37, .putfield 190, 2, 4, 0, []), (40, .aload_n 0, 0, 0, 0, []), (41, .getfield 49, 8, 0, 2, []), (44, .iload_n 3, 0, 0, 0, []), (45, .putfield 191, 3, 4, 0, []), (48, .aload_n 0, 0, 0, 0, []), (49, .getfield 49, 8, 0, 2, []), (52, .aload_n 1, 0, 0, 0, []), (53, .getfield 194, 0, 1, 2, []), (56, .iload_n 3, 0, 0, 0, []), (57, .baload, 0, 0, 0, []), (58, .putfield 197, 4, 4, 0, []), (61, .aload_n 0, 0, 0, 0, []), (62, .getfield 49, 8, 0, 2, []), (65, .aload_n 1, 0, 0, 0, []), (66, .getfield 199, 8, 1, 0, []), (69, .bipush 10, 0, 0, 0, []), (71, .irem, 0, 0, 0, []), (72, .putfield 202, 5, 4, 0, []), (75, .aload_n 0, 0, 0, 0, []), (76, .getfield 17, 0, 0, 2, []), (79, .iload_n 2, 0, 0, 0, []), (80, .aaload, 0, 0, 0, []), (81, .aload_n 1, 0, 0, 0, []), (82, .getfield 194, 0, 1, 2, []), (85, .iload_n 3, 0, 0, 0, []), (86, .baload, 0, 0, 0, []), (87, .aload_n 0, 0, 0, 0, []), (88, .getfield 42, 7, 0, 2, []), (91, .aload_n 0, 0, 0, 0, []), (92, .getfield 49, 8, 0, 2, []), (95, .invokevirtual 203, 301, 1, 2, []), (98, .iadd, 0, 0, 0, []), (99, .iload_n 3, 0, 0, 0, []), (100, .iload_n 3, 0, 0, 0, []), (101, .aload_n 1, 0, 0, 0, []), (102, .getfield 165, 3, 1, 2, []), (105, .iload_n 2, 0, 0, 0, []), (106, .baload, 0, 0, 0, []), (107, .if_icmp .ne 7, 114, 0, 0, []), (110, .iconst 1, 0, 0, 0, []), (111, .goto 4, 115, 0, 0, [])]
  | 114 => [(114, .iconst 0, 0, 0, 0, []), (115, .nop, 115, 0, 0, [])]
  | 115 => [(115, .aload_n 1, 0, 0, 0, []), (116, .iload_n 2, 0, 0, 0, []), (117, .iload_n 3, 0, 0, 0, []), (118, .invokevirtual 207, 272, 2, 1, []), (121, .aload_n 1, 0, 0, 0, []), (122, .iload_n 2, 0, 0, 0, []), (123, .iload_n 3, 0, 0, 0, []), (124, .invokevirtual 211, 273, 2, 1, []), (127, .invokevirtual 214, 1001, 5, 30, []), (130, .ireturn, 0, 0, 0, [])]
  | _ => []
/-- GeeseKeys.key(II)I -/
def gp_x_key (l : Nat) : List gI := match l with
  | 0 => [(0, .aload_n 0, 0, 0, 0, []), (1, .iload_n 1, 0, 0, 0, []), (2, .invokevirtual 229, 9, 1, 0, []), (5, .ifCond .eq 10, 15, 0, 0, []), (8, .iload_n 2, 0, 0, 0, []), (9, .invokestatic 158, 5, 1, 0, []), (12, .ifCond .ne 5, 17, 0, 0, []), (15, .nop, 15, 0, 0, [])]
  | 15 => [(15, .iconst (-1), 0, 0, 0, []), (16, .ireturn, 0, 0, 0, [])]
  | 17 => [(17, .aload_n 0, 0, 0, 0, []), (18, .getfield 28, 2, 0, 2, []), (21, .getfield 168, 4, 1, 2, []), (24, .iload_n 1, 0, 0, 0, []), (25, .baload, 0, 0, 0, []), (26, .istore_n 3, 0, 0, 0, []), (27, .aload_n 0, 0, 0, 0, []), (28, .getfield 28, 2, 0, 2, []), (31, .getfield 168, 4, 1, 2, []), (34, .iload_n 1, 0, 0, 0, []), (35, .iload_n 2, 0, 0, 0, []), (36, .invokestatic 171, 7, 1, 0, []), (39, .bastore, 0, 0, 0, []), (40, .iload_n 3, 0, 0, 0, []), (41, .ireturn, 0, 0, 0, [])]
  | _ => []
/-- GeeseKeys.put(II)I -/
def gp_x_put (l : Nat) : List gI := match l with
  | 0 => [(0, .aload_n 0, 0, 0, 0, []), (1, .iload_n 1, 0, 0, 0, []), (2, .invokevirtual 229, 9, 1, 0, []), (5, .ifCond .eq 10, 15, 0, 0, []), (8, .iload_n 2, 0, 0, 0, []), (9, .invokestatic 148, 2, 1, 0, []), (12, .ifCond .ne 5, 17, 0, 0, []), (15, .nop, 15, 0, 0, [])]
  | 15 => [(15, .iconst (-1), 0, 0, 0, []), (16, .ireturn, 0, 0, 0, [])]
  | 17 => [(17, .aload_n 0, 0, 0, 0, []), (18, .getfield 28, 2, 0, 2, []), (21, .getfield 165, 3, 1, 2, []), (24, .iload_n 1, 0, 0, 0, []), (25, .baload, 0, 0, 0, []), (26, .istore_n 3, 0, 0, 0, []), (27, .aload_n 0, 0, 0, 0, []), (28, .getfield 28, 2, 0, 2, []), (31, .getfield 165, 3, 1, 2, []), (34, .iload_n 1, 0, 0, 0, []), (35, .iload_n 2, 0, 0, 0, []), (36, .i2b, 0, 0, 0, []), (37, .bastore, 0, 0, 0, []), (38, .iload_n 3, 0, 0, 0, []), (39, .ireturn, 0, 0, 0, [])]
  | _ => []
/-- GeeseKeys.take(IZ)I -/
def gp_x_take (l : Nat) : List gI := match l with
  | 0 => [(0, .aload_n 0, 0, 0, 0, []), (1, .iload_n 1, 0, 0, 0, []), (2, .invokevirtual 229, 9, 1, 0, []), (5, .ifCond .ne 5, 10, 0, 0, []), (8, .iconst (-1), 0, 0, 0, []), (9, .ireturn, 0, 0, 0, [])]
  | 10 => [(10, .aload_n 0, 0, 0, 0, []), (11, .getfield 28, 2, 0, 2, []), (14, .iload_n 1, 0, 0, 0, []), (15, .invokevirtual 232, 271, 1, 1, []), (18, .ifCond .eq 7, 25, 0, 0, []), (21, .iconst 1, 0, 0, 0, []), (22, .goto 4, 26, 0, 0, [])]
  | 25 => [(25, .iconst 0, 0, 0, 0, []), (26, .nop, 26, 0, 0, [])]
  | 26 => [(26, .istore_n 3, 0, 0, 0, []), (27, .aload_n 0, 0, 0, 0, []), (28, .getfield 28, 2, 0, 2, []), (31, .aload_n 0, 0, 0, 0, []), (32, .getfield 28, 2, 0, 2, []), (35, .getfield 175, 7, 1, 0, []), (38, .iconst 1, 0, 0, 0, []), (39, .iload_n 1, 0, 0, 0, []), (40, .ishl, 0, 0, 0, []), (41, .iconst (-1), 0, 0, 0, []), (42, .ixor, 0, 0, 0, []), (43, .iand, 0, 0, 0, []), (44, .iload_n 2, 0, 0, 0, []), (45, .ifCond .eq 9, 54, 0, 0, []), (48, .iconst 1, 0, 0, 0, []), (49, .iload_n 1, 0, 0, 0, []), (50, .ishl, 0, 0, 0, []), (51, .goto 4, 55, 0, 0, [])]
  | 54 => [(54, .iconst 0, 0, 0, 0, []), (55, .nop, 55, 0, 0, [])]
  | 55 => [(55, .ior, 0, 0, 0, []), (56, .putfield 175, 7, 1, 0, []), (59, .iload_n 3, 0, 0, 0, []), (60, .ireturn, 0, 0, 0, [])]
  | _ => []
/-- GeeseKeys.grain(II)I -/
def gp_x_grain (l : Nat) : List gI := match l with
  | 0 => [(0, .iload_n 1, 0, 0, 0, []), (1, .invokestatic 148, 2, 1, 0, []), (4, .ifCond .ne 5, 9, 0, 0, []), (7, .iconst (-1), 0, 0, 0, []), (8, .ireturn, 0, 0, 0, [])]
  | 9 => [(9, .iload_n 2, 0, 0, 0, []), (10, .invokestatic 239, 17, 1, 0, []), (13, .ifCond .ne 6, 19, 0, 0, []), (16, .bipush (-2), 0, 0, 0, []), (18, .ireturn, 0, 0, 0, [])]
  | 19 => [(19, .aload_n 0, 0, 0, 0, []), (20, .getfield 28, 2, 0, 2, []), (23, .getfield 194, 0, 1, 2, []), (26, .iload_n 1, 0, 0, 0, []), (27, .baload, 0, 0, 0, []), (28, .istore_n 3, 0, 0, 0, []), (29, .aload_n 0, 0, 0, 0, []), (30, .getfield 28, 2, 0, 2, []), (33, .getfield 194, 0, 1, 2, []), (36, .iload_n 1, 0, 0, 0, []), (37, .iload_n 2, 0, 0, 0, []), (38, .i2b, 0, 0, 0, []), (39, .bastore, 0, 0, 0, []), (40, .iload_n 3, 0, 0, 0, []), (41, .ireturn, 0, 0, 0, [])]
  | _ => []
/-- GeeseKeys.isGrain(I)Z -/
def gp_x_isGrain (l : Nat) : List gI := match l with
  | 0 => [(0, .iload_n 0, 0, 0, 0, []), (1, .iconst 0, 0, 0, 0, []), (2, .bipush 99, 0, 0, 0, []), (4, .invokestatic 5, 3, 3, 0, []), (7, .ireturn, 1, 0, 0, [])]
  | _ => []
/-- GeeseKeys.row(III)I -/
def gp_x_row (l : Nat) : List gI := match l with
  | 0 => [(0, .aload_n 0, 0, 0, 0, []), (1, .iload_n 1, 0, 0, 0, []), (2, .invokevirtual 229, 9, 1, 0, []), (5, .ifCond .eq 12, 17, 0, 0, []), (8, .iload_n 2, 0, 0, 0, []), (9, .iconst 0, 0, 0, 0, []), (10, .iconst 3, 0, 0, 0, []), (11, .invokestatic 5, 3, 3, 0, []), (14, .ifCond .ne 5, 19, 0, 0, []), (17, .nop, 17, 0, 0, [])]
  | 17 => [(17, .iconst (-1), 0, 0, 0, []), (18, .ireturn, 0, 0, 0, [])]
  | 19 => [(19, .iload_n 3, 0, 0, 0, []), (20, .iconst 0, 0, 0, 0, []), (21, .bipush 9, 0, 0, 0, []), (23, .invokestatic 5, 3, 3, 0, []), (26, .ifCond .ne 6, 32, 0, 0, []), (29, .bipush (-2), 0, 0, 0, []), (31, .ireturn, 0, 0, 0, [])]
  | 32 => [(32, .aload_n 0, 0, 0, 0, []), (33, .getfield 17, 0, 0, 2, []), (36, .iload_n 1, 0, 0, 0, []), (37, .aaload, 0, 0, 0, []), (38, .invokevirtual 181, 1000, 0, 30, []), (41, .bipush 6, 0, 0, 0, []), (43, .if_icmp .eq 6, 49, 0, 0, []), (46, .bipush (-3), 0, 0, 0, []), (48, .ireturn, 0, 0, 0, [])]
  | 49 => [(49, .aload_n 0, 0, 0, 0, []), (50, .getfield 21, 1, 0, 2, []), (53, .iconst 4, 0, 0, 0, []), (54, .iload_n 1, 0, 0, 0, []), (55, .imul, 0, 0, 0, []), (56, .iload_n 2, 0, 0, 0, []), (57, .iadd, 0, 0, 0, []), (58, .iaload, 0, 0, 0, []), (59, .istore 4, 0, 0, 0, []), (61, .aload_n 0, 0, 0, 0, []), (62, .getfield 21, 1, 0, 2, []), (65, .iconst 4, 0, 0, 0, []), (66, .iload_n 1, 0, 0, 0, []), (67, .imul, 0, 0, 0, []), (68, .iload_n 2, 0, 0, 0, []), (69, .iadd, 0, 0, 0, []), (70, .iload_n 3, 0, 0, 0, []), (71, .iastore, 0, 0, 0, []), (72, .iload 4, 0, 0, 0, []), (74, .ireturn, 0, 0, 0, [])]
  | _ => []
/-- GeeseKeys.feed(I)I -/
def gp_x_feed (l : Nat) : List gI := match l with
  | 0 => [(0, .iload_n 1, 0, 0, 0, []), (1, .iconst 0, 0, 0, 0, []), (2, .bipush 127, 0, 0, 0, []), (4, .invokestatic 5, 3, 3, 0, []), (7, .ifCond .ne 6, 13, 0, 0, []), (10, .bipush (-2), 0, 0, 0, []), (12, .ireturn, 0, 0, 0, [])]
  | 13 => [(13, .aload_n 0, 0, 0, 0, []), (14, .getfield 242, 5, 0, 0, []), (17, .bipush 100, 0, 0, 0, []), (19, .if_icmp .ne 6, 25, 0, 0, []), (22, .bipush (-4), 0, 0, 0, []), (24, .ireturn, 0, 0, 0, [])]
  | 25 => [(25, .aload_n 0, 0, 0, 0, []), (26, .getfield 35, 4, 0, 2, []), (29, .aload_n 0, 0, 0, 0, []), (30, .dup, 0, 0, 0, []), (31, .getfield 242, 5, 0, 0, []), (34, .dup_x1, 0, 0, 0, []), (35, .iconst 1, 0, 0, 0, []), (36, .iadd, 0, 0, 0, []), (37, .putfield 242, 5, 0, 0, []), (40, .iload_n 1, 0, 0, 0, []), (41, .i2b, 0, 0, 0, []), (42, .bastore, 0, 0, 0, []), (43, .aload_n 0, 0, 0, 0, []), (44, .getfield 242, 5, 0, 0, []), (47, .ireturn, 0, 0, 0, [])]
  | _ => []
/-- GeeseKeys.fortress()I -/
def gp_x_fortress (l : Nat) : List gI := match l with
  | 0 => [(0, .aload_n 0, 0, 0, 0, []), (1, .getfield 245, 6, 0, 0, []), (4, .bipush 6, 0, 0, 0, []), (6, .if_icmp .ne 6, 12, 0, 0, []), (9, .bipush (-4), 0, 0, 0, []), (11, .ireturn, 0, 0, 0, [])]
  | 12 => [(12, .aload_n 0, 0, 0, 0, []), (13, .getfield 242, 5, 0, 0, []), (16, .istore_n 1, 0, 0, 0, []), (17, .aload_n 0, 0, 0, 0, []), (18, .iconst 0, 0, 0, 0, []), (19, .putfield 242, 5, 0, 0, []), (22, .aload_n 0, 0, 0, 0, []), (23, .new 248, 15, 5, 0, []), (26, .dup, 0, 0, 0, []), (27, .aload_n 0, 0, 0, 0, []), (28, .getfield 35, 4, 0, 2, []), (31, .iload_n 1, 0, 0, 0, []), (32, .invokespecial 250, 282, 2, 0, []), (35, .invokevirtual 253, 283, 0, 15, []), (38, .putfield 42, 7, 0, 2, []), (41, .aload_n 0, 0, 0, 0, []), (42, .dup, 0, 0, 0, []), (43, .getfield 245, 6, 0, 0, []), (46, .dup_x1, 0, 0, 0, []), (47, .iconst 1, 0, 0, 0, []), (48, .iadd, 0, 0, 0, []), (49, .putfield 245, 6, 0, 0, []), (52, .ireturn, 0, 0, 0, [])]
  | 53 => [(53, .astore_n 2, 0, 0, 0, []), (54, .bipush (-10), 0, 0, 0, []), (56, .aload_n 2, 0, 0, 0, []), (57, .getfield 259, 0, 21, 0, []), (60, .isub, 0, 0, 0, []), (61, .ireturn, 0, 0, 0, [])]
  | _ => []
/-- GeeseKeys.pass(I)I -/
def gp_x_pass (l : Nat) : List gI := match l with
  | 0 => [(0, .iload_n 1, 0, 0, 0, []), (1, .invokestatic 269, 22, 1, 0, []), (4, .ifCond .ne 6, 10, 0, 0, []), (7, .bipush (-2), 0, 0, 0, []), (9, .ireturn, 0, 0, 0, [])]
  | 10 => [(10, .aload_n 0, 0, 0, 0, []), (11, .getfield 28, 2, 0, 2, []), (14, .getfield 199, 8, 1, 0, []), (17, .iload_n 1, 0, 0, 0, []), (18, .iadd, 0, 0, 0, []), (19, .sipush 9999, 0, 0, 0, []), (22, .if_icmp .le 6, 28, 0, 0, []), (25, .bipush (-3), 0, 0, 0, []), (27, .ireturn, 0, 0, 0, [])]
  | 28 => [(28, .iconst 0, 0, 0, 0, []), (29, .istore_n 2, 0, 0, 0, []), (30, .nop, 30, 0, 0, [])]
  | 30 => [(30, .iload_n 2, 0, 0, 0, []), (31, .iload_n 1, 0, 0, 0, []), (32, .if_icmp .ge 17, 49, 0, 0, []), (35, .aload_n 0, 0, 0, 0, []), (36, .aload_n 0, 0, 0, 0, []), (37, .getfield 28, 2, 0, 2, []), (40, .invokevirtual 272, 23, 1, 0, []), (43, .iinc 2 1, 0, 0, 0, []), (46, .goto (-16), 30, 0, 0, [])]
  | 49 => [(49, .aload_n 0, 0, 0, 0, []), (50, .getfield 28, 2, 0, 2, []), (53, .getfield 199, 8, 1, 0, []), (56, .ireturn, 0, 0, 0, [])]
  | _ => []
/-- GeeseKeys.isOn(I)Z -/
def gp_x_isOn (l : Nat) : List gI := match l with
  | 0 => [(0, .iload_n 0, 0, 0, 0, []), (1, .iconst 0, 0, 0, 0, []), (2, .bipush 60, 0, 0, 0, []), (4, .invokestatic 5, 3, 3, 0, []), (7, .ireturn, 1, 0, 0, [])]
  | _ => []
/-- GeeseKeys.goes(LGeeseKeys$Time;)V -/
def gp_x_goes (l : Nat) : List gI := match l with
  | 0 => [(0, .iconst 0, 0, 0, 0, []), (1, .istore_n 2, 0, 0, 0, []), (2, .nop, 2, 0, 0, [])]
  | 2 => [(2, .iload_n 2, 0, 0, 0, []), (3, .aload_n 1, 0, 0, 0, []), (4, .getfield 118, 5, 1, 0, []), (7, .if_icmp .ge 51, 58, 0, 0, []), (10, .aload_n 1, 0, 0, 0, []), (11, .iload_n 2, 0, 0, 0, []), (12, .invokevirtual 232, 271, 1, 1, []), (15, .ifCond .eq 6, 21, 0, 0, []), (18, .goto 34, 52, 0, 0, [])]
  | 21 => [(21, .aload_n 1, 0, 0, 0, []), (22, .getfield 165, 3, 1, 2, []), (25, .iload_n 2, 0, 0, 0, []), (26, .aload_n 0, 0, 0, 0, []), (27, .aload_n 1, 0, 0, 0, []), (28, .iload_n 2, 0, 0, 0, []), (29, .invokevirtual 235, 11, 2, 0, []), (32, .i2b, 0, 0, 0, []), (33, .bastore, 0, 0, 0, []), (34, .aload_n 1, 0, 0, 0, []), (35, .aload_n 1, 0, 0, 0, []), (36, .getfield 165, 3, 1, 2, []), (39, .iload_n 2, 0, 0, 0, []), (40, .baload, 0, 0, 0, []), (41, .aload_n 0, 0, 0, 0, []), (42, .getfield 42, 7, 0, 2, []), (45, .getfield 262, 2, 2, 0, []), (48, .ineg, 0, 0, 0, []), (49, .invokevirtual 265, 276, 2, 1, []), (52, .nop, 52, 0, 0, [])]
  | 52 => [(52, .iinc 2 1, 0, 0, 0, []), (55, .goto (-53), 2, 0, 0, [])]
  | 58 => [(58, .aload_n 1, 0, 0, 0, []), (59, .dup, 0, 0, 0, []), (60, .getfield 199, 8, 1, 0, []), (63, .iconst 1, 0, 0, 0, []), (64, .iadd, 0, 0, 0, []), (65, .putfield 199, 8, 1, 0, []), (68, .return_, 0, 0, 0, [])]
  | _ => []
/-- GeeseKeys.on(II)I -/
def gp_x_on (l : Nat) : List gI := match l with
  | 0 => [(0, .iload_n 2, 0, 0, 0, []), (1, .ifCond .eq 26, 27, 0, 0, []), (4, .iload_n 2, 0, 0, 0, []), (5, .bipush 10, 0, 0, 0, []), (7, .isub, 0, 0, 0, []), (8, .invokestatic 148, 2, 1, 0, []), (11, .ifCond .ne 16, 27, 0, 0, []), (14, .aload_n 0, 0, 0, 0, []), (15, .iload_n 2, 0, 0, 0, []), (16, .bipush 20, 0, 0, 0, []), (18, .isub, 0, 0, 0, []), (19, .invokevirtual 229, 9, 1, 0, []), (22, .ifCond .ne 5, 27, 0, 0, []), (25, .iconst (-1), 0, 0, 0, []), (26, .ireturn, 0, 0, 0, [])]
  | 27 => [(27, .iload_n 1, 0, 0, 0, []), (28, .invokestatic 269, 22, 1, 0, []), (31, .ifCond .ne 6, 37, 0, 0, []), (34, .bipush (-2), 0, 0, 0, []), (36, .ireturn, 0, 0, 0, [])]
  | 37 => [(37, .aload_n 0, 0, 0, 0, []), (38, .iload_n 1, 0, 0, 0, []), (39, .invokevirtual 283, 25, 1, 0, []), (42, .iload_n 2, 0, 0, 0, []), (43, .ifCond .ne 13, 56, 0, 0, []), (46, .aload_n 0, 0, 0, 0, []), (47, .getfield 32, 3, 0, 2, []), (50, .invokevirtual 286, 278, 0, 1, []), (53, .goto 36, 89, 0, 0, [])]
  | 56 => [(56, .iload_n 2, 0, 0, 0, []), (57, .bipush 20, 0, 0, 0, []), (59, .if_icmp .ge 18, 77, 0, 0, []), (62, .aload_n 0, 0, 0, 0, []), (63, .getfield 32, 3, 0, 2, []), (66, .getfield 194, 0, 1, 2, []), (69, .iload_n 2, 0, 0, 0, []), (70, .bipush 10, 0, 0, 0, []), (72, .isub, 0, 0, 0, []), (73, .baload, 0, 0, 0, []), (74, .goto 15, 89, 0, 0, [])]
  | 77 => [(77, .aload_n 0, 0, 0, 0, []), (78, .getfield 32, 3, 0, 2, []), (81, .getfield 165, 3, 1, 2, []), (84, .iload_n 2, 0, 0, 0, []), (85, .bipush 20, 0, 0, 0, []), (87, .isub, 0, 0, 0, []), (88, .baload, 0, 0, 0, []), (89, .nop, 89, 0, 0, [])]
  | 89 => [(89, .ireturn, 0, 0, 0, [])]
  | _ => []
/-- GeeseKeys.tries(I)V -/
def gp_x_tries (l : Nat) : List gI := match l with
  | 0 => [(0, .aload_n 0, 0, 0, 0, []), (1, .getfield 32, 3, 0, 2, []), (4, .aload_n 0, 0, 0, 0, []), (5, .getfield 28, 2, 0, 2, []), (8, .invokevirtual 276, 277, 1, 1, []), (11, .aload_n 0, 0, 0, 0, []), (12, .iload_n 1, 0, 0, 0, []), (13, .invokevirtual 279, 26, 1, 0, []), (16, .return_, 0, 0, 0, [])]
  | _ => []
/-- GeeseKeys.goesOn(I)V -/
def gp_x_goesOn (l : Nat) : List gI := match l with
  | 0 => [(0, .iconst 0, 0, 0, 0, []), (1, .istore_n 2, 0, 0, 0, []), (2, .nop, 2, 0, 0, [])]
  | 2 => [(2, .iload_n 2, 0, 0, 0, []), (3, .iload_n 1, 0, 0, 0, []), (4, .if_icmp .ge 17, 21, 0, 0, []), (7, .aload_n 0, 0, 0, 0, []), (8, .aload_n 0, 0, 0, 0, []), (9, .getfield 32, 3, 0, 2, []), (12, .invokevirtual 272, 23, 1, 0, []), (15, .iinc 2 1, 0, 0, 0, []), (18, .goto (-16), 2, 0, 0, [])]
  | 21 => [(21, .return_, 0, 0, 0, [])]
  | _ => []
/-- GeeseKeys.opens(I)I -/
def gp_x_opens (l : Nat) : List gI := match l with
  | 0 => [(0, .aload_n 0, 0, 0, 0, []), (1, .iload_n 1, 0, 0, 0, []), (2, .invokevirtual 292, 28, 1, 0, []), (5, .ifCond .ne 5, 10, 0, 0, []), (8, .iconst (-1), 0, 0, 0, []), (9, .ireturn, 0, 0, 0, [])]
  | 10 => [(10, .aload_n 0, 0, 0, 0, []), (11, .iconst 0, 0, 0, 0, []), (12, .invokevirtual 283, 25, 1, 0, []), (15, .aload_n 0, 0, 0, 0, []), (16, .iload_n 1, 0, 0, 0, []), (17, .bipush 21, 0, 0, 0, []), (19, .invokevirtual 295, 29, 2, 0, []), (22, .istore_n 2, 0, 0, 0, []), (23, .iload_n 2, 0, 0, 0, []), (24, .bipush 20, 0, 0, 0, []), (26, .if_icmp .le 8, 34, 0, 0, []), (29, .bipush (-5), 0, 0, 0, []), (31, .goto 4, 35, 0, 0, [])]
  | 34 => [(34, .iload_n 2, 0, 0, 0, []), (35, .nop, 35, 0, 0, [])]
  | 35 => [(35, .ireturn, 0, 0, 0, [])]
  | _ => []
/-- GeeseKeys.isGate(I)Z -/
def gp_x_isGate (l : Nat) : List gI := match l with
  | 0 => [(0, .iload_n 1, 0, 0, 0, []), (1, .iconst 0, 0, 0, 0, []), (2, .aload_n 0, 0, 0, 0, []), (3, .getfield 28, 2, 0, 2, []), (6, .getfield 122, 6, 1, 0, []), (9, .iconst 1, 0, 0, 0, []), (10, .isub, 0, 0, 0, []), (11, .invokestatic 5, 3, 3, 0, []), (14, .ireturn, 1, 0, 0, [])]
  | _ => []
/-- GeeseKeys.hoursTo(II)I -/
def gp_x_hoursTo (l : Nat) : List gI := match l with
  | 0 => [(0, .iconst 0, 0, 0, 0, []), (1, .istore_n 3, 0, 0, 0, []), (2, .nop, 2, 0, 0, [])]
  | 2 => [(2, .iload_n 3, 0, 0, 0, []), (3, .iload_n 2, 0, 0, 0, []), (4, .if_icmp .ge 30, 34, 0, 0, []), (7, .aload_n 0, 0, 0, 0, []), (8, .getfield 32, 3, 0, 2, []), (11, .iload_n 1, 0, 0, 0, []), (12, .invokevirtual 289, 279, 1, 1, []), (15, .ifCond .eq 5, 20, 0, 0, []), (18, .iload_n 3, 0, 0, 0, []), (19, .ireturn, 0, 0, 0, [])]
  | 20 => [(20, .aload_n 0, 0, 0, 0, []), (21, .aload_n 0, 0, 0, 0, []), (22, .getfield 32, 3, 0, 2, []), (25, .invokevirtual 272, 23, 1, 0, []), (28, .iinc 3 1, 0, 0, 0, []), (31, .goto (-29), 2, 0, 0, [])]
  | 34 => [(34, .iload_n 2, 0, 0, 0, []), (35, .ireturn, 0, 0, 0, [])]
  | _ => []
/-- GeeseKeys.way(III)I -/
def gp_x_way (l : Nat) : List gI := match l with
  | 0 => [(0, .iload_n 1, 0, 0, 0, []), (1, .invokestatic 148, 2, 1, 0, []), (4, .ifCond .eq 19, 23, 0, 0, []), (7, .iload_n 2, 0, 0, 0, []), (8, .invokestatic 148, 2, 1, 0, []), (11, .ifCond .eq 12, 23, 0, 0, []), (14, .iload_n 3, 0, 0, 0, []), (15, .iconst 0, 0, 0, 0, []), (16, .iconst 1, 0, 0, 0, []), (17, .invokestatic 5, 3, 3, 0, []), (20, .ifCond .ne 5, 25, 0, 0, []), (23, .nop, 23, 0, 0, [])]
  | 23 => [(23, .iconst (-1), 0, 0, 0, []), (24, .ireturn, 0, 0, 0, [])]
  | 25 => [(25, .iload_n 3, 0, 0, 0, []), (26, .ifCond .ne 12, 38, 0, 0, []), (29, .aload_n 0, 0, 0, 0, []), (30, .iload_n 1, 0, 0, 0, []), (31, .iload_n 2, 0, 0, 0, []), (32, .invokevirtual 306, 31, 2, 0, []), (35, .goto 9, 44, 0, 0, [])]
  | 38 => [(38, .aload_n 0, 0, 0, 0, []), (39, .iload_n 1, 0, 0, 0, []), (40, .iload_n 2, 0, 0, 0, []), (41, .invokevirtual 309, 33, 2, 0, []), (44, .nop, 44, 0, 0, [])]
  | 44 => [(44, .ireturn, 0, 0, 0, [])]
  | _ => []
/-- GeeseKeys.shortest(II)I -/
def gp_x_shortest (l : Nat) : List gI := match l with
  | 0 => [(0, .aload_n 0, 0, 0, 0, []), (1, .iconst 0, 0, 0, 0, []), (2, .invokevirtual 283, 25, 1, 0, []), (5, .aload_n 0, 0, 0, 0, []), (6, .iload_n 1, 0, 0, 0, []), (7, .iload_n 2, 0, 0, 0, []), (8, .bipush 16, 0, 0, 0, []), (10, .invokevirtual 302, 32, 3, 0, []), (13, .istore_n 3, 0, 0, 0, []), (14, .iload_n 3, 0, 0, 0, []), (15, .bipush 15, 0, 0, 0, []), (17, .if_icmp .le 8, 25, 0, 0, []), (20, .bipush (-5), 0, 0, 0, []), (22, .goto 4, 26, 0, 0, [])]
  | 25 => [(25, .iload_n 3, 0, 0, 0, []), (26, .nop, 26, 0, 0, [])]
  | 26 => [(26, .ireturn, 0, 0, 0, [])]
  | _ => []
/-- GeeseKeys.wayTo(III)I -/
def gp_x_wayTo (l : Nat) : List gI := match l with
  | 0 => [(0, .iconst 1, 0, 0, 0, []), (1, .iload_n 1, 0, 0, 0, []), (2, .ishl, 0, 0, 0, []), (3, .istore 4, 0, 0, 0, []), (5, .iconst 0, 0, 0, 0, []), (6, .istore 5, 0, 0, 0, []), (8, .nop, 8, 0, 0, [])]
  | 8 => [(8, .iload 5, 0, 0, 0, []), (10, .iload_n 3, 0, 0, 0, []), (11, .if_icmp .ge 40, 51, 0, 0, []), (14, .iload 4, 0, 0, 0, []), (16, .iload_n 2, 0, 0, 0, []), (17, .invokestatic 226, 10, 2, 0, []), (20, .ifCond .eq 6, 26, 0, 0, []), (23, .iload 5, 0, 0, 0, []), (25, .ireturn, 0, 0, 0, [])]
  | 26 => [(26, .aload_n 0, 0, 0, 0, []), (27, .getfield 32, 3, 0, 2, []), (30, .iload 4, 0, 0, 0, []), (32, .invokevirtual 299, 280, 1, 1, []), (35, .istore 4, 0, 0, 0, []), (37, .aload_n 0, 0, 0, 0, []), (38, .aload_n 0, 0, 0, 0, []), (39, .getfield 32, 3, 0, 2, []), (42, .invokevirtual 272, 23, 1, 0, []), (45, .iinc 5 1, 0, 0, 0, []), (48, .goto (-40), 8, 0, 0, [])]
  | 51 => [(51, .iload_n 3, 0, 0, 0, []), (52, .ireturn, 0, 0, 0, [])]
  | _ => []
/-- GeeseKeys.bestKeys(II)I -/
def gp_x_bestKeys (l : Nat) : List gI := match l with
  | 0 => [(0, .aload_n 0, 0, 0, 0, []), (1, .iconst 0, 0, 0, 0, []), (2, .invokevirtual 283, 25, 1, 0, []), (5, .aload_n 0, 0, 0, 0, []), (6, .iload_n 1, 0, 0, 0, []), (7, .iload_n 2, 0, 0, 0, []), (8, .bipush 16, 0, 0, 0, []), (10, .invokevirtual 302, 32, 3, 0, []), (13, .istore_n 3, 0, 0, 0, []), (14, .bipush (-5), 0, 0, 0, []), (16, .istore 4, 0, 0, 0, []), (18, .iconst 0, 0, 0, 0, []), (19, .istore 5, 0, 0, 0, []), (21, .nop, 21, 0, 0, [])]
  | 21 => [(21, .iload 5, 0, 0, 0, []), (23, .aload_n 0, 0, 0, 0, []), (24, .getfield 28, 2, 0, 2, []), (27, .getfield 118, 5, 1, 0, []), (30, .if_icmp .ge 109, 139, 0, 0, []), (33, .iload 5, 0, 0, 0, []), (35, .iconst 1, 0, 0, 0, []), (36, .iadd, 0, 0, 0, []), (37, .istore 6, 0, 0, 0, []), (39, .nop, 39, 0, 0, [])]
  | 39 => [(39, .iload 6, 0, 0, 0, []), (41, .aload_n 0, 0, 0, 0, []), (42, .getfield 28, 2, 0, 2, []), (45, .getfield 118, 5, 1, 0, []), (48, .if_icmp .ge 85, 133, 0, 0, []), (51, .aload_n 0, 0, 0, 0, []), (52, .iconst 0, 0, 0, 0, []), (53, .invokevirtual 283, 25, 1, 0, []), (56, .aload_n 0, 0, 0, 0, []), (57, .getfield 32, 3, 0, 2, []), (60, .getfield 168, 4, 1, 2, []), (63, .iload 5, 0, 0, 0, []), (65, .aload_n 0, 0, 0, 0, []), (66, .getfield 28, 2, 0, 2, []), (69, .getfield 168, 4, 1, 2, []), (72, .iload 6, 0, 0, 0, []), (74, .baload, 0, 0, 0, []), (75, .bastore, 0, 0, 0, []), (76, .aload_n 0, 0, 0, 0, []), (77, .getfield 32, 3, 0, 2, []), (80, .getfield 168, 4, 1, 2, []), (83, .iload 6, 0, 0, 0, []), (85, .aload_n 0, 0, 0, 0, []), (86, .getfield 28, 2, 0, 2, []), (89, .getfield 168, 4, 1, 2, []), (92, .iload 5, 0, 0, 0, []), (94, .baload, 0, 0, 0, []), (95, .bastore, 0, 0, 0, []), (96, .aload_n 0, 0, 0, 0, []), (97, .iload_n 1, 0, 0, 0, []), (98, .iload_n 2, 0, 0, 0, []), (99, .iload_n 3, 0, 0, 0, []), (100, .invokevirtual 302, 32, 3, 0, []), (103, .istore 7, 0, 0, 0, []), (105, .iload 7, 0, 0, 0, []), (107, .iload_n 3, 0, 0, 0, []), (108, .if_icmp .ne 6, 114, 0, 0, []), (111, .goto 16, 127, 0, 0, [])]
  | 114 => [(114, .iload 7, 0, 0, 0, []), (116, .istore_n 3, 0, 0, 0, []), (117, .bipush 10, 0, 0, 0, []), (119, .iload 5, 0, 0, 0, []), (121, .imul, 0, 0, 0, []), (122, .iload 6, 0, 0, 0, []), (124, .iadd, 0, 0, 0, []), (125, .istore 4, 0, 0, 0, []), (127, .nop, 127, 0, 0, [])]
  | 127 => [(127, .iinc 6 1, 0, 0, 0, []), (130, .goto (-91), 39, 0, 0, [])]
  | 133 => [(133, .iinc 5 1, 0, 0, 0, []), (136, .goto (-115), 21, 0, 0, [])]
  | 139 => [(139, .iload 4, 0, 0, 0, []), (141, .ireturn, 0, 0, 0, [])]
  | _ => []
/-- GeeseKeys.lead(II)I -/
def gp_x_lead (l : Nat) : List gI := match l with
  | 0 => [(0, .aload_n 0, 0, 0, 0, []), (1, .iload_n 1, 0, 0, 0, []), (2, .invokevirtual 292, 28, 1, 0, []), (5, .ifCond .ne 5, 10, 0, 0, []), (8, .iconst (-1), 0, 0, 0, []), (9, .ireturn, 0, 0, 0, [])]
  | 10 => [(10, .iload_n 2, 0, 0, 0, []), (11, .iconst 1, 0, 0, 0, []), (12, .bipush 99, 0, 0, 0, []), (14, .invokestatic 5, 3, 3, 0, []), (17, .ifCond .ne 6, 23, 0, 0, []), (20, .bipush (-2), 0, 0, 0, []), (22, .ireturn, 0, 0, 0, [])]
  | 23 => [(23, .aload_n 0, 0, 0, 0, []), (24, .iconst 0, 0, 0, 0, []), (25, .invokevirtual 283, 25, 1, 0, []), (28, .aload_n 0, 0, 0, 0, []), (29, .iload_n 1, 0, 0, 0, []), (30, .bipush 21, 0, 0, 0, []), (32, .invokevirtual 295, 29, 2, 0, []), (35, .istore_n 3, 0, 0, 0, []), (36, .bipush (-5), 0, 0, 0, []), (38, .istore 4, 0, 0, 0, []), (40, .iconst 0, 0, 0, 0, []), (41, .istore 5, 0, 0, 0, []), (43, .nop, 43, 0, 0, [])]
  | 43 => [(43, .iload 5, 0, 0, 0, []), (45, .bipush 8, 0, 0, 0, []), (47, .if_icmp .ge 48, 95, 0, 0, []), (50, .aload_n 0, 0, 0, 0, []), (51, .iconst 0, 0, 0, 0, []), (52, .invokevirtual 283, 25, 1, 0, []), (55, .aload_n 0, 0, 0, 0, []), (56, .getfield 32, 3, 0, 2, []), (59, .iload 5, 0, 0, 0, []), (61, .iload_n 2, 0, 0, 0, []), (62, .invokevirtual 265, 276, 2, 1, []), (65, .aload_n 0, 0, 0, 0, []), (66, .iload_n 1, 0, 0, 0, []), (67, .iload_n 3, 0, 0, 0, []), (68, .invokevirtual 295, 29, 2, 0, []), (71, .istore 6, 0, 0, 0, []), (73, .iload 6, 0, 0, 0, []), (75, .iload_n 3, 0, 0, 0, []), (76, .if_icmp .ne 6, 82, 0, 0, []), (79, .goto 10, 89, 0, 0, [])]
  | 82 => [(82, .iload 6, 0, 0, 0, []), (84, .istore_n 3, 0, 0, 0, []), (85, .iload 5, 0, 0, 0, []), (87, .istore 4, 0, 0, 0, []), (89, .nop, 89, 0, 0, [])]
  | 89 => [(89, .iinc 5 1, 0, 0, 0, []), (92, .goto (-49), 43, 0, 0, [])]
  | 95 => [(95, .iload 4, 0, 0, 0, []), (97, .ireturn, 0, 0, 0, [])]
  | _ => []
/-- GeeseKeys.told(I)I -/
def gp_x_told (l : Nat) : List gI := match l with
  | 0 => [(0, .iload_n 1, 0, 0, 0, []), (1, .tableswitch 72 0 4 #[35, 43, 51, 59, 64], 73, 0, 0, [(0, 36), (1, 44), (2, 52), (3, 60), (4, 65)])]
  | 36 => [(36, .aload_n 0, 0, 0, 0, []), (37, .getfield 28, 2, 0, 2, []), (40, .getfield 199, 8, 1, 0, []), (43, .ireturn, 0, 0, 0, [])]
  | 44 => [(44, .aload_n 0, 0, 0, 0, []), (45, .getfield 42, 7, 0, 2, []), (48, .getfield 262, 2, 2, 0, []), (51, .ireturn, 0, 0, 0, [])]
  | 52 => [(52, .aload_n 0, 0, 0, 0, []), (53, .getfield 28, 2, 0, 2, []), (56, .invokevirtual 286, 278, 0, 1, []), (59, .ireturn, 0, 0, 0, [])]
  | 60 => [(60, .aload_n 0, 0, 0, 0, []), (61, .invokevirtual 312, 36, 0, 0, []), (64, .ireturn, 0, 0, 0, [])]
  | 65 => [(65, .aload_n 0, 0, 0, 0, []), (66, .getfield 28, 2, 0, 2, []), (69, .invokevirtual 315, 281, 0, 1, []), (72, .ireturn, 0, 0, 0, [])]
  | 73 => [(73, .iload_n 1, 0, 0, 0, []), (74, .bipush 10, 0, 0, 0, []), (76, .isub, 0, 0, 0, []), (77, .invokestatic 148, 2, 1, 0, []), (80, .ifCond .eq 18, 98, 0, 0, []), (83, .aload_n 0, 0, 0, 0, []), (84, .getfield 28, 2, 0, 2, []), (87, .getfield 194, 0, 1, 2, []), (90, .iload_n 1, 0, 0, 0, []), (91, .bipush 10, 0, 0, 0, []), (93, .isub, 0, 0, 0, []), (94, .baload, 0, 0, 0, []), (95, .goto 25, 120, 0, 0, [])]
  | 98 => [(98, .iload_n 1, 0, 0, 0, []), (99, .bipush 20, 0, 0, 0, []), (101, .isub, 0, 0, 0, []), (102, .invokestatic 148, 2, 1, 0, []), (105, .ifCond .eq 14, 119, 0, 0, []), (108, .aload_n 0, 0, 0, 0, []), (109, .iload_n 1, 0, 0, 0, []), (110, .bipush 20, 0, 0, 0, []), (112, .isub, 0, 0, 0, []), (113, .invokevirtual 318, 37, 1, 0, []), (116, .goto 4, 120, 0, 0, [])]
  | 119 => [(119, .iconst (-1), 0, 0, 0, []), (120, .nop, 120, 0, 0, [])]
  | 120 => [(120, .ireturn, 0, 0, 0, [])]
  | _ => []
/-- GeeseKeys.shutOnes()I -/
def gp_x_shutOnes (l : Nat) : List gI := match l with
  | 0 => [(0, .aload_n 0, 0, 0, 0, []), (1, .iconst 0, 0, 0, 0, []), (2, .invokevirtual 283, 25, 1, 0, []), (5, .iconst 1, 0, 0, 0, []), (6, .aload_n 0, 0, 0, 0, []), (7, .getfield 28, 2, 0, 2, []), (10, .getfield 122, 6, 1, 0, []), (13, .ishl, 0, 0, 0, []), (14, .iconst 1, 0, 0, 0, []), (15, .isub, 0, 0, 0, []), (16, .istore_n 1, 0, 0, 0, []), (17, .iconst 0, 0, 0, 0, []), (18, .istore_n 2, 0, 0, 0, []), (19, .nop, 19, 0, 0, [])]
  | 19 => [(19, .iload_n 2, 0, 0, 0, []), (20, .bipush 20, 0, 0, 0, []), (22, .if_icmp .gt 29, 51, 0, 0, []), (25, .iload_n 1, 0, 0, 0, []), (26, .aload_n 0, 0, 0, 0, []), (27, .getfield 32, 3, 0, 2, []), (30, .invokevirtual 286, 278, 0, 1, []), (33, .iconst (-1), 0, 0, 0, []), (34, .ixor, 0, 0, 0, []), (35, .iand, 0, 0, 0, []), (36, .istore_n 1, 0, 0, 0, []), (37, .aload_n 0, 0, 0, 0, []), (38, .aload_n 0, 0, 0, 0, []), (39, .getfield 32, 3, 0, 2, []), (42, .invokevirtual 272, 23, 1, 0, []), (45, .iinc 2 1, 0, 0, 0, []), (48, .goto (-29), 19, 0, 0, [])]
  | 51 => [(51, .iload_n 1, 0, 0, 0, []), (52, .ireturn, 0, 0, 0, [])]
  | _ => []
/-- GeeseKeys.farFrom(I)I -/
def gp_x_farFrom (l : Nat) : List gI := match l with
  | 0 => [(0, .aload_n 0, 0, 0, 0, []), (1, .iconst 0, 0, 0, 0, []), (2, .invokevirtual 283, 25, 1, 0, []), (5, .iconst 1, 0, 0, 0, []), (6, .iload_n 1, 0, 0, 0, []), (7, .ishl, 0, 0, 0, []), (8, .istore_n 2, 0, 0, 0, []), (9, .iconst 0, 0, 0, 0, []), (10, .istore_n 3, 0, 0, 0, []), (11, .nop, 11, 0, 0, [])]
  | 11 => [(11, .iload_n 3, 0, 0, 0, []), (12, .bipush 15, 0, 0, 0, []), (14, .if_icmp .ge 26, 40, 0, 0, []), (17, .aload_n 0, 0, 0, 0, []), (18, .getfield 32, 3, 0, 2, []), (21, .iload_n 2, 0, 0, 0, []), (22, .invokevirtual 299, 280, 1, 1, []), (25, .istore_n 2, 0, 0, 0, []), (26, .aload_n 0, 0, 0, 0, []), (27, .aload_n 0, 0, 0, 0, []), (28, .getfield 32, 3, 0, 2, []), (31, .invokevirtual 272, 23, 1, 0, []), (34, .iinc 3 1, 0, 0, 0, []), (37, .goto (-26), 11, 0, 0, [])]
  | 40 => [(40, .iload_n 2, 0, 0, 0, []), (41, .ireturn, 0, 0, 0, [])]
  | _ => []
/-- GeeseKeys.see(III)I -/
def gp_x_see (l : Nat) : List gI := match l with
  | 0 => [(0, .iload_n 1, 0, 0, 0, []), (1, .iconst (-1), 0, 0, 0, []), (2, .if_icmp .ne 10, 12, 0, 0, []), (5, .aload_n 0, 0, 0, 0, []), (6, .iconst 0, 0, 0, 0, []), (7, .putfield 321, 17, 0, 0, []), (10, .iconst 0, 0, 0, 0, []), (11, .ireturn, 0, 0, 0, [])]
  | 12 => [(12, .aload_n 0, 0, 0, 0, []), (13, .iload_n 1, 0, 0, 0, []), (14, .invokevirtual 229, 9, 1, 0, []), (17, .ifCond .eq 10, 27, 0, 0, []), (20, .iload_n 3, 0, 0, 0, []), (21, .invokestatic 148, 2, 1, 0, []), (24, .ifCond .ne 5, 29, 0, 0, []), (27, .nop, 27, 0, 0, [])]
  | 27 => [(27, .iconst (-1), 0, 0, 0, []), (28, .ireturn, 0, 0, 0, [])]
  | 29 => [(29, .iload_n 2, 0, 0, 0, []), (30, .iconst 0, 0, 0, 0, []), (31, .bipush 12, 0, 0, 0, []), (33, .invokestatic 5, 3, 3, 0, []), (36, .ifCond .ne 6, 42, 0, 0, []), (39, .bipush (-2), 0, 0, 0, []), (41, .ireturn, 0, 0, 0, [])]
  | 42 => [(42, .aload_n 0, 0, 0, 0, []), (43, .getfield 321, 17, 0, 0, []), (46, .iconst 5, 0, 0, 0, []), (47, .if_icmp .ne 6, 53, 0, 0, []), (50, .bipush (-4), 0, 0, 0, []), (52, .ireturn, 0, 0, 0, [])]
  | 53 => [(53, .aload_n 0, 0, 0, 0, []), (54, .getfield 60, 10, 0, 2, []), (57, .aload_n 0, 0, 0, 0, []), (58, .getfield 321, 17, 0, 0, []), (61, .iload_n 1, 0, 0, 0, []), (62, .iastore, 0, 0, 0, []), (63, .aload_n 0, 0, 0, 0, []), (64, .getfield 63, 11, 0, 2, []), (67, .aload_n 0, 0, 0, 0, []), (68, .getfield 321, 17, 0, 0, []), (71, .iload_n 2, 0, 0, 0, []), (72, .iastore, 0, 0, 0, []), (73, .aload_n 0, 0, 0, 0, []), (74, .getfield 66, 12, 0, 2, []), (77, .aload_n 0, 0, 0, 0, []), (78, .dup, 0, 0, 0, []), (79, .getfield 321, 17, 0, 0, []), (82, .dup_x1, 0, 0, 0, []), (83, .iconst 1, 0, 0, 0, []), (84, .iadd, 0, 0, 0, []), (85, .putfield 321, 17, 0, 0, []), (88, .iload_n 3, 0, 0, 0, []), (89, .iastore, 0, 0, 0, []), (90, .aload_n 0, 0, 0, 0, []), (91, .getfield 321, 17, 0, 0, []), (94, .ireturn, 0, 0, 0, [])]
  | _ => []
/-- GeeseKeys.from(I)I -/
def gp_x_from (l : Nat) : List gI := match l with
  | 0 => [(0, .aload_n 0, 0, 0, 0, []), (1, .iload_n 1, 0, 0, 0, []), (2, .invokevirtual 229, 9, 1, 0, []), (5, .ifCond .ne 5, 10, 0, 0, []), (8, .iconst (-1), 0, 0, 0, []), (9, .ireturn, 0, 0, 0, [])]
  | 10 => [(10, .iconst 0, 0, 0, 0, []), (11, .istore_n 2, 0, 0, 0, []), (12, .iconst 0, 0, 0, 0, []), (13, .istore_n 3, 0, 0, 0, []), (14, .nop, 14, 0, 0, [])]
  | 14 => [(14, .iload_n 3, 0, 0, 0, []), (15, .bipush 8, 0, 0, 0, []), (17, .if_icmp .ge 38, 55, 0, 0, []), (20, .aload_n 0, 0, 0, 0, []), (21, .iconst 0, 0, 0, 0, []), (22, .invokevirtual 283, 25, 1, 0, []), (25, .aload_n 0, 0, 0, 0, []), (26, .getfield 32, 3, 0, 2, []), (29, .getfield 165, 3, 1, 2, []), (32, .iload_n 1, 0, 0, 0, []), (33, .iload_n 3, 0, 0, 0, []), (34, .i2b, 0, 0, 0, []), (35, .bastore, 0, 0, 0, []), (36, .aload_n 0, 0, 0, 0, []), (37, .invokevirtual 327, 40, 0, 0, []), (40, .ifCond .eq 9, 49, 0, 0, []), (43, .iload_n 2, 0, 0, 0, []), (44, .iconst 1, 0, 0, 0, []), (45, .iload_n 3, 0, 0, 0, []), (46, .ishl, 0, 0, 0, []), (47, .ior, 0, 0, 0, []), (48, .istore_n 2, 0, 0, 0, []), (49, .nop, 49, 0, 0, [])]
  | 49 => [(49, .iinc 3 1, 0, 0, 0, []), (52, .goto (-38), 14, 0, 0, [])]
  | 55 => [(55, .iload_n 2, 0, 0, 0, []), (56, .ireturn, 0, 0, 0, [])]
  | _ => []
/-- GeeseKeys.areAsSeen()Z -/
def gp_x_areAsSeen (l : Nat) : List gI := match l with
  | 0 => [(0, .iconst 0, 0, 0, 0, []), (1, .istore_n 1, 0, 0, 0, []), (2, .nop, 2, 0, 0, [])]
  | 2 => [(2, .iload_n 1, 0, 0, 0, []), (3, .bipush 12, 0, 0, 0, []), (5, .if_icmp .gt 27, 32, 0, 0, []), (8, .aload_n 0, 0, 0, 0, []), (9, .iload_n 1, 0, 0, 0, []), (10, .invokevirtual 324, 41, 1, 0, []), (13, .ifCond .ne 5, 18, 0, 0, []), (16, .iconst 0, 0, 0, 0, []), (17, .ireturn, 1, 0, 0, [])]
  | 18 => [(18, .aload_n 0, 0, 0, 0, []), (19, .aload_n 0, 0, 0, 0, []), (20, .getfield 32, 3, 0, 2, []), (23, .invokevirtual 272, 23, 1, 0, []), (26, .iinc 1 1, 0, 0, 0, []), (29, .goto (-27), 2, 0, 0, [])]
  | 32 => [(32, .iconst 1, 0, 0, 0, []), (33, .ireturn, 1, 0, 0, [])]
  | _ => []
/-- GeeseKeys.isAsSeen(I)Z -/
def gp_x_isAsSeen (l : Nat) : List gI := match l with
  | 0 => [(0, .iconst 0, 0, 0, 0, []), (1, .istore_n 2, 0, 0, 0, []), (2, .nop, 2, 0, 0, [])]
  | 2 => [(2, .iload_n 2, 0, 0, 0, []), (3, .aload_n 0, 0, 0, 0, []), (4, .getfield 321, 17, 0, 0, []), (7, .if_icmp .ge 44, 51, 0, 0, []), (10, .aload_n 0, 0, 0, 0, []), (11, .getfield 63, 11, 0, 2, []), (14, .iload_n 2, 0, 0, 0, []), (15, .iaload, 0, 0, 0, []), (16, .iload_n 1, 0, 0, 0, []), (17, .if_icmp .ne 28, 45, 0, 0, []), (20, .aload_n 0, 0, 0, 0, []), (21, .getfield 32, 3, 0, 2, []), (24, .getfield 165, 3, 1, 2, []), (27, .aload_n 0, 0, 0, 0, []), (28, .getfield 60, 10, 0, 2, []), (31, .iload_n 2, 0, 0, 0, []), (32, .iaload, 0, 0, 0, []), (33, .baload, 0, 0, 0, []), (34, .aload_n 0, 0, 0, 0, []), (35, .getfield 66, 12, 0, 2, []), (38, .iload_n 2, 0, 0, 0, []), (39, .iaload, 0, 0, 0, []), (40, .if_icmp .eq 5, 45, 0, 0, []), (43, .iconst 0, 0, 0, 0, []), (44, .ireturn, 1, 0, 0, [])]
  | 45 => [(45, .iinc 2 1, 0, 0, 0, []), (48, .goto (-46), 2, 0, 0, [])]
  | 51 => [(51, .iconst 1, 0, 0, 0, []), (52, .ireturn, 1, 0, 0, [])]
  | _ => []
/-- GeeseKeys.can(II)I -/
def gp_x_can (l : Nat) : List gI := match l with
  | 0 => [(0, .aload_n 0, 0, 0, 0, []), (1, .iload_n 1, 0, 0, 0, []), (2, .invokevirtual 229, 9, 1, 0, []), (5, .ifCond .eq 12, 17, 0, 0, []), (8, .iload_n 2, 0, 0, 0, []), (9, .iconst 0, 0, 0, 0, []), (10, .iconst 1, 0, 0, 0, []), (11, .invokestatic 5, 3, 3, 0, []), (14, .ifCond .ne 5, 19, 0, 0, []), (17, .nop, 17, 0, 0, [])]
  | 17 => [(17, .iconst (-1), 0, 0, 0, []), (18, .ireturn, 0, 0, 0, [])]
  | 19 => [(19, .aload_n 0, 0, 0, 0, []), (20, .getfield 17, 0, 0, 2, []), (23, .iload_n 1, 0, 0, 0, []), (24, .aaload, 0, 0, 0, []), (25, .getfield 187, 2, 30, 0, []), (28, .istore_n 3, 0, 0, 0, []), (29, .iconst 0, 0, 0, 0, []), (30, .istore 4, 0, 0, 0, []), (32, .bipush (-5), 0, 0, 0, []), (34, .istore 5, 0, 0, 0, []), (36, .bipush 9, 0, 0, 0, []), (38, .istore 6, 0, 0, 0, []), (40, .nop, 40, 0, 0, [])]
  | 40 => [(40, .iload 6, 0, 0, 0, []), (42, .ifCond .lt 42, 84, 0, 0, []), (45, .aload_n 0, 0, 0, 0, []), (46, .getfield 17, 0, 0, 2, []), (49, .iload_n 1, 0, 0, 0, []), (50, .aaload, 0, 0, 0, []), (51, .iload 6, 0, 0, 0, []), (53, .putfield 187, 2, 30, 0, []), (56, .aload_n 0, 0, 0, 0, []), (57, .iconst 0, 0, 0, 0, []), (58, .invokevirtual 283, 25, 1, 0, []), (61, .aload_n 0, 0, 0, 0, []), (62, .invokevirtual 327, 40, 0, 0, []), (65, .ifCond .ne 6, 71, 0, 0, []), (68, .goto 10, 78, 0, 0, [])]
  | 71 => [(71, .iinc 4 1, 0, 0, 0, []), (74, .iload 6, 0, 0, 0, []), (76, .istore 5, 0, 0, 0, []), (78, .nop, 78, 0, 0, [])]
  | 78 => [(78, .iinc 6 (-1), 0, 0, 0, []), (81, .goto (-41), 40, 0, 0, [])]
  | 84 => [(84, .iload_n 2, 0, 0, 0, []), (85, .ifCond .ne 8, 93, 0, 0, []), (88, .iload 4, 0, 0, 0, []), (90, .goto 5, 95, 0, 0, [])]
  | 93 => [(93, .iload 5, 0, 0, 0, []), (95, .nop, 95, 0, 0, [])]
  | 95 => [(95, .istore 6, 0, 0, 0, []), (97, .aload_n 0, 0, 0, 0, []), (98, .getfield 17, 0, 0, 2, []), (101, .iload_n 1, 0, 0, 0, []), (102, .aaload, 0, 0, 0, []), (103, .iload_n 3, 0, 0, 0, []), (104, .putfield 187, 2, 30, 0, []), (107, .iload 6, 0, 0, 0, []), (109, .ireturn, 0, 0, 0, [])]
  | 110 => [(110, .astore 7, 0, 0, 0, []), (112, .aload_n 0, 0, 0, 0, []), (113, .getfield 17, 0, 0, 2, []), (116, .iload_n 1, 0, 0, 0, []), (117, .aaload, 0, 0, 0, []), (118, .iload_n 3, 0, 0, 0, []), (119, .putfield 187, 2, 30, 0, []), (122, .aload 7, 0, 0, 0, []), (124, .athrow, 0, 0, 0, [])]
  | _ => []
/-- GeeseKeys.odds(III)J -/
def gp_x_odds (l : Nat) : List gI := match l with
  | 0 => [(0, .aload_n 0, 0, 0, 0, []), (1, .iload_n 1, 0, 0, 0, []), (2, .invokevirtual 292, 28, 1, 0, []), (5, .ifCond .eq 22, 27, 0, 0, []), (8, .iload_n 2, 0, 0, 0, []), (9, .iconst 0, 0, 0, 0, []), (10, .bipush 20, 0, 0, 0, []), (12, .invokestatic 5, 3, 3, 0, []), (15, .ifCond .eq 12, 27, 0, 0, []), (18, .iload_n 3, 0, 0, 0, []), (19, .iconst 0, 0, 0, 0, []), (20, .iconst 1, 0, 0, 0, []), (21, .invokestatic 5, 3, 3, 0, []), (24, .ifCond .ne 7, 31, 0, 0, []), (27, .nop, 27, 0, 0, [])]
  | 27 => [(27, .ldc2_w 335, 0, 9223372036854775808, 0, []), (30, .lreturn, 0, 0, 0, [])]
  | 31 => [(31, .lconst 0, 0, 0, 0, []), (32, .lstore 4, 0, 0, 0, []), (34, .iconst 0, 0, 0, 0, []), (35, .istore 6, 0, 0, 0, []), (37, .nop, 37, 0, 0, [])]
  | 37 => [(37, .iload 6, 0, 0, 0, []), (39, .bipush 8, 0, 0, 0, []), (41, .if_icmp .ge 47, 88, 0, 0, []), (44, .aload_n 0, 0, 0, 0, []), (45, .iconst 0, 0, 0, 0, []), (46, .invokevirtual 283, 25, 1, 0, []), (49, .aload_n 0, 0, 0, 0, []), (50, .getfield 32, 3, 0, 2, []), (53, .iload 6, 0, 0, 0, []), (55, .bipush 9, 0, 0, 0, []), (57, .invokevirtual 265, 276, 2, 1, []), (60, .aload_n 0, 0, 0, 0, []), (61, .iload_n 2, 0, 0, 0, []), (62, .invokevirtual 279, 26, 1, 0, []), (65, .aload_n 0, 0, 0, 0, []), (66, .getfield 32, 3, 0, 2, []), (69, .iload_n 1, 0, 0, 0, []), (70, .invokevirtual 289, 279, 1, 1, []), (73, .ifCond .eq 9, 82, 0, 0, []), (76, .lload 4, 0, 0, 0, []), (78, .lconst 1, 0, 0, 0, []), (79, .ladd, 0, 0, 0, []), (80, .lstore 4, 0, 0, 0, []), (82, .nop, 82, 0, 0, [])]
  | 82 => [(82, .iinc 6 1, 0, 0, 0, []), (85, .goto (-48), 37, 0, 0, [])]
  | 88 => [(88, .lload 4, 0, 0, 0, []), (90, .ldc2_w 337, 0, 8, 0, []), (93, .iload_n 3, 0, 0, 0, []), (94, .invokestatic 339, 44, 3, 0, []), (97, .lreturn, 0, 0, 0, [])]
  | _ => []
/-- GeeseKeys.lowest(JJI)J -/
def gp_x_lowest (l : Nat) : List gI := match l with
  | 0 => [(0, .iload 4, 0, 0, 0, []), (2, .ifCond .ne 7, 9, 0, 0, []), (5, .lload_n 0, 0, 0, 0, []), (6, .goto 4, 10, 0, 0, [])]
  | 9 => [(9, .lload_n 2, 0, 0, 0, []), (10, .nop, 10, 0, 0, [])]
  | 10 => [(10, .lload_n 0, 0, 0, 0, []), (11, .lload_n 2, 0, 0, 0, []), (12, .invokestatic 331, 45, 2, 0, []), (15, .ldiv, 0, 0, 0, []), (16, .lreturn, 0, 0, 0, [])]
  | _ => []
/-- GeeseKeys.divisor(JJ)J -/
def gp_x_divisor (l : Nat) : List gI := match l with
  | 0 => [(0, .lload_n 0, 0, 0, 0, []), (1, .lstore 4, 0, 0, 0, []), (3, .nop, 3, 0, 0, [])]
  | 3 => [(3, .lload_n 2, 0, 0, 0, []), (4, .lconst 0, 0, 0, 0, []), (5, .lcmp, 0, 0, 0, []), (6, .ifCond .eq 18, 24, 0, 0, []), (9, .lload 4, 0, 0, 0, []), (11, .lload_n 2, 0, 0, 0, []), (12, .lrem, 0, 0, 0, []), (13, .lstore 6, 0, 0, 0, []), (15, .lload_n 2, 0, 0, 0, []), (16, .lstore 4, 0, 0, 0, []), (18, .lload 6, 0, 0, 0, []), (20, .lstore_n 2, 0, 0, 0, []), (21, .goto (-18), 3, 0, 0, [])]
  | 24 => [(24, .lload 4, 0, 0, 0, []), (26, .lreturn, 0, 0, 0, [])]
  | _ => []
/-- GeeseKeys.mean(II)J -/
def gp_x_mean (l : Nat) : List gI := match l with
  | 0 => [(0, .iload_n 1, 0, 0, 0, []), (1, .invokestatic 269, 22, 1, 0, []), (4, .ifCond .eq 12, 16, 0, 0, []), (7, .iload_n 2, 0, 0, 0, []), (8, .iconst 0, 0, 0, 0, []), (9, .iconst 1, 0, 0, 0, []), (10, .invokestatic 5, 3, 3, 0, []), (13, .ifCond .ne 7, 20, 0, 0, []), (16, .nop, 16, 0, 0, [])]
  | 16 => [(16, .ldc2_w 335, 0, 9223372036854775808, 0, []), (19, .lreturn, 0, 0, 0, [])]
  | 20 => [(20, .aload_n 0, 0, 0, 0, []), (21, .iload_n 1, 0, 0, 0, []), (22, .invokevirtual 283, 25, 1, 0, []), (25, .aload_n 0, 0, 0, 0, []), (26, .getfield 32, 3, 0, 2, []), (29, .invokevirtual 315, 281, 0, 1, []), (32, .i2l, 0, 0, 0, []), (33, .ldc2_w 337, 0, 8, 0, []), (36, .iload_n 2, 0, 0, 0, []), (37, .invokestatic 339, 44, 3, 0, []), (40, .lreturn, 0, 0, 0, [])]
  | _ => []
/-- GeeseKeys.plan(II)I -/
def gp_x_plan (l : Nat) : List gI := match l with
  | 0 => [(0, .iload_n 1, 0, 0, 0, []), (1, .iconst (-1), 0, 0, 0, []), (2, .if_icmp .ne 10, 12, 0, 0, []), (5, .aload_n 0, 0, 0, 0, []), (6, .iconst 0, 0, 0, 0, []), (7, .putfield 343, 18, 0, 0, []), (10, .iconst 0, 0, 0, 0, []), (11, .ireturn, 0, 0, 0, [])]
  | 12 => [(12, .aload_n 0, 0, 0, 0, []), (13, .iload_n 1, 0, 0, 0, []), (14, .iload_n 2, 0, 0, 0, []), (15, .invokevirtual 346, 48, 2, 0, []), (18, .ifCond .ne 5, 23, 0, 0, []), (21, .iconst (-1), 0, 0, 0, []), (22, .ireturn, 0, 0, 0, [])]
  | 23 => [(23, .aload_n 0, 0, 0, 0, []), (24, .getfield 343, 18, 0, 0, []), (27, .bipush 10, 0, 0, 0, []), (29, .if_icmp .ne 6, 35, 0, 0, []), (32, .bipush (-4), 0, 0, 0, []), (34, .ireturn, 0, 0, 0, [])]
  | 35 => [(35, .aload_n 0, 0, 0, 0, []), (36, .getfield 69, 13, 0, 2, []), (39, .aload_n 0, 0, 0, 0, []), (40, .getfield 343, 18, 0, 0, []), (43, .iload_n 1, 0, 0, 0, []), (44, .iastore, 0, 0, 0, []), (45, .aload_n 0, 0, 0, 0, []), (46, .getfield 72, 14, 0, 2, []), (49, .aload_n 0, 0, 0, 0, []), (50, .dup, 0, 0, 0, []), (51, .getfield 343, 18, 0, 0, []), (54, .dup_x1, 0, 0, 0, []), (55, .iconst 1, 0, 0, 0, []), (56, .iadd, 0, 0, 0, []), (57, .putfield 343, 18, 0, 0, []), (60, .iload_n 2, 0, 0, 0, []), (61, .iastore, 0, 0, 0, []), (62, .aload_n 0, 0, 0, 0, []), (63, .getfield 343, 18, 0, 0, []), (66, .ireturn, 0, 0, 0, [])]
  | _ => []
/-- GeeseKeys.isPlan(II)Z -/
def gp_x_isPlan (l : Nat) : List gI := match l with
  | 0 => [(0, .iload_n 1, 0, 0, 0, []), (1, .ifCond .eq 32, 33, 0, 0, []), (4, .iload_n 1, 0, 0, 0, []), (5, .iconst 1, 0, 0, 0, []), (6, .if_icmp .ne 10, 16, 0, 0, []), (9, .iload_n 2, 0, 0, 0, []), (10, .invokestatic 148, 2, 1, 0, []), (13, .ifCond .ne 20, 33, 0, 0, []), (16, .nop, 16, 0, 0, [])]
  | 16 => [(16, .iload_n 1, 0, 0, 0, []), (17, .iconst 2, 0, 0, 0, []), (18, .iconst 3, 0, 0, 0, []), (19, .invokestatic 5, 3, 3, 0, []), (22, .ifCond .eq 15, 37, 0, 0, []), (25, .aload_n 0, 0, 0, 0, []), (26, .iload_n 2, 0, 0, 0, []), (27, .invokevirtual 229, 9, 1, 0, []), (30, .ifCond .eq 7, 37, 0, 0, []), (33, .nop, 33, 0, 0, [])]
  | 33 => [(33, .iconst 1, 0, 0, 0, []), (34, .goto 4, 38, 0, 0, [])]
  | 37 => [(37, .iconst 0, 0, 0, 0, []), (38, .nop, 38, 0, 0, [])]
  | 38 => [(38, .ireturn, 1, 0, 0, [])]
  | _ => []
/-- GeeseKeys.ends(I)I -/
def gp_x_ends (l : Nat) : List gI := match l with
  | 0 => [(0, .iload_n 1, 0, 0, 0, []), (1, .iconst 0, 0, 0, 0, []), (2, .iconst 1, 0, 0, 0, []), (3, .invokestatic 5, 3, 3, 0, []), (6, .ifCond .ne 5, 11, 0, 0, []), (9, .iconst (-1), 0, 0, 0, []), (10, .ireturn, 0, 0, 0, [])]
  | 11 => [(11, .aload_n 0, 0, 0, 0, []), (12, .iconst 0, 0, 0, 0, []), (13, .invokevirtual 283, 25, 1, 0, []), (16, .iconst 0, 0, 0, 0, []), (17, .istore_n 2, 0, 0, 0, []), (18, .nop, 18, 0, 0, [])]
  | 18 => [(18, .iload_n 2, 0, 0, 0, []), (19, .aload_n 0, 0, 0, 0, []), (20, .getfield 343, 18, 0, 0, []), (23, .if_icmp .ge 25, 48, 0, 0, []), (26, .aload_n 0, 0, 0, 0, []), (27, .aload_n 0, 0, 0, 0, []), (28, .getfield 69, 13, 0, 2, []), (31, .iload_n 2, 0, 0, 0, []), (32, .iaload, 0, 0, 0, []), (33, .aload_n 0, 0, 0, 0, []), (34, .getfield 72, 14, 0, 2, []), (37, .iload_n 2, 0, 0, 0, []), (38, .iaload, 0, 0, 0, []), (39, .invokevirtual 349, 50, 2, 0, []), (42, .iinc 2 1, 0, 0, 0, []), (45, .goto (-27), 18, 0, 0, [])]
  | 48 => [(48, .iload_n 1, 0, 0, 0, []), (49, .ifCond .ne 13, 62, 0, 0, []), (52, .aload_n 0, 0, 0, 0, []), (53, .getfield 32, 3, 0, 2, []), (56, .invokevirtual 286, 278, 0, 1, []), (59, .goto 10, 69, 0, 0, [])]
  | 62 => [(62, .aload_n 0, 0, 0, 0, []), (63, .getfield 32, 3, 0, 2, []), (66, .invokevirtual 315, 281, 0, 1, []), (69, .nop, 69, 0, 0, [])]
  | 69 => [(69, .ireturn, 0, 0, 0, [])]
  | _ => []
/-- GeeseKeys.does(II)V -/
def gp_x_does (l : Nat) : List gI := match l with
  | 0 => [(0, .iload_n 1, 0, 0, 0, []), (1, .tableswitch 69 0 2 #[27, 38, 51], 70, 0, 0, [(0, 28), (1, 39), (2, 52)])]
  | 28 => [(28, .aload_n 0, 0, 0, 0, []), (29, .aload_n 0, 0, 0, 0, []), (30, .getfield 32, 3, 0, 2, []), (33, .invokevirtual 272, 23, 1, 0, []), (36, .goto 51, 87, 0, 0, [])]
  | 39 => [(39, .aload_n 0, 0, 0, 0, []), (40, .getfield 32, 3, 0, 2, []), (43, .iload_n 2, 0, 0, 0, []), (44, .bipush 9, 0, 0, 0, []), (46, .invokevirtual 265, 276, 2, 1, []), (49, .goto 38, 87, 0, 0, [])]
  | 52 => [(52, .aload_n 0, 0, 0, 0, []), (53, .getfield 32, 3, 0, 2, []), (56, .dup, 0, 0, 0, []), (57, .getfield 175, 7, 1, 0, []), (60, .iconst 1, 0, 0, 0, []), (61, .iload_n 2, 0, 0, 0, []), (62, .ishl, 0, 0, 0, []), (63, .ior, 0, 0, 0, []), (64, .putfield 175, 7, 1, 0, []), (67, .goto 20, 87, 0, 0, [])]
  | 70 => [(70, .aload_n 0, 0, 0, 0, []), (71, .getfield 32, 3, 0, 2, []), (74, .dup, 0, 0, 0, []), (75, .getfield 175, 7, 1, 0, []), (78, .iconst 1, 0, 0, 0, []), (79, .iload_n 2, 0, 0, 0, []), (80, .ishl, 0, 0, 0, []), (81, .iconst (-1), 0, 0, 0, []), (82, .ixor, 0, 0, 0, []), (83, .iand, 0, 0, 0, []), (84, .putfield 175, 7, 1, 0, []), (87, .nop, 87, 0, 0, [])]
  | 87 => [(87, .return_, 0, 0, 0, [])]
  | _ => []
/-- GeeseKeys.book(II)I -/
def gp_x_book (l : Nat) : List gI := match l with
  | 0 => [(0, .iload_n 1, 0, 0, 0, []), (1, .iconst (-1), 0, 0, 0, []), (2, .if_icmp .ne 10, 12, 0, 0, []), (5, .aload_n 0, 0, 0, 0, []), (6, .iconst 0, 0, 0, 0, []), (7, .putfield 352, 19, 0, 0, []), (10, .iconst 0, 0, 0, 0, []), (11, .ireturn, 0, 0, 0, [])]
  | 12 => [(12, .iload_n 1, 0, 0, 0, []), (13, .invokestatic 148, 2, 1, 0, []), (16, .ifCond .ne 5, 21, 0, 0, []), (19, .iconst (-1), 0, 0, 0, []), (20, .ireturn, 0, 0, 0, [])]
  | 21 => [(21, .iload_n 2, 0, 0, 0, []), (22, .invokestatic 239, 17, 1, 0, []), (25, .ifCond .ne 6, 31, 0, 0, []), (28, .bipush (-2), 0, 0, 0, []), (30, .ireturn, 0, 0, 0, [])]
  | 31 => [(31, .aload_n 0, 0, 0, 0, []), (32, .getfield 352, 19, 0, 0, []), (35, .bipush 8, 0, 0, 0, []), (37, .if_icmp .ne 6, 43, 0, 0, []), (40, .bipush (-4), 0, 0, 0, []), (42, .ireturn, 0, 0, 0, [])]
  | 43 => [(43, .aload_n 0, 0, 0, 0, []), (44, .getfield 75, 15, 0, 2, []), (47, .aload_n 0, 0, 0, 0, []), (48, .getfield 352, 19, 0, 0, []), (51, .iload_n 1, 0, 0, 0, []), (52, .iastore, 0, 0, 0, []), (53, .aload_n 0, 0, 0, 0, []), (54, .getfield 78, 16, 0, 2, []), (57, .aload_n 0, 0, 0, 0, []), (58, .dup, 0, 0, 0, []), (59, .getfield 352, 19, 0, 0, []), (62, .dup_x1, 0, 0, 0, []), (63, .iconst 1, 0, 0, 0, []), (64, .iadd, 0, 0, 0, []), (65, .putfield 352, 19, 0, 0, []), (68, .iload_n 2, 0, 0, 0, []), (69, .iastore, 0, 0, 0, []), (70, .aload_n 0, 0, 0, 0, []), (71, .getfield 352, 19, 0, 0, []), (74, .ireturn, 0, 0, 0, [])]
  | _ => []
/-- GeeseKeys.looked()I -/
def gp_x_looked (l : Nat) : List gI := match l with
  | 0 => [(0, .iconst 0, 0, 0, 0, []), (1, .istore_n 1, 0, 0, 0, []), (2, .nop, 2, 0, 0, [])]
  | 2 => [(2, .iload_n 1, 0, 0, 0, []), (3, .aload_n 0, 0, 0, 0, []), (4, .getfield 352, 19, 0, 0, []), (7, .if_icmp .ge 34, 41, 0, 0, []), (10, .aload_n 0, 0, 0, 0, []), (11, .getfield 28, 2, 0, 2, []), (14, .getfield 194, 0, 1, 2, []), (17, .aload_n 0, 0, 0, 0, []), (18, .getfield 75, 15, 0, 2, []), (21, .iload_n 1, 0, 0, 0, []), (22, .iaload, 0, 0, 0, []), (23, .baload, 0, 0, 0, []), (24, .aload_n 0, 0, 0, 0, []), (25, .getfield 78, 16, 0, 2, []), (28, .iload_n 1, 0, 0, 0, []), (29, .iaload, 0, 0, 0, []), (30, .if_icmp .eq 5, 35, 0, 0, []), (33, .iload_n 1, 0, 0, 0, []), (34, .ireturn, 0, 0, 0, [])]
  | 35 => [(35, .iinc 1 1, 0, 0, 0, []), (38, .goto (-36), 2, 0, 0, [])]
  | 41 => [(41, .bipush (-5), 0, 0, 0, []), (43, .ireturn, 0, 0, 0, [])]
  | _ => []
/-- GeeseKeys.judge(II)I -/
def gp_x_judge (l : Nat) : List gI := match l with
  | 0 => [(0, .iload_n 1, 0, 0, 0, []), (1, .invokestatic 359, 54, 1, 0, []), (4, .ifCond .ne 5, 9, 0, 0, []), (7, .iconst (-1), 0, 0, 0, []), (8, .ireturn, 0, 0, 0, [])]
  | 9 => [(9, .aload_n 0, 0, 0, 0, []), (10, .aload_n 0, 0, 0, 0, []), (11, .getfield 83, 20, 0, 2, []), (14, .iload_n 1, 0, 0, 0, []), (15, .aaload, 0, 0, 0, []), (16, .getfield 362, 0, 6, 2, []), (19, .checkcast 366, 100, 1, 0, []), (22, .iload_n 2, 0, 0, 0, []), (23, .invokevirtual 367, 55, 2, 0, []), (26, .ireturn, 0, 0, 0, [])]
  | 27 => [(27, .astore_n 3, 0, 0, 0, []), (28, .bipush (-12), 0, 0, 0, []), (30, .ireturn, 0, 0, 0, [])]
  | _ => []
/-- GeeseKeys.isTape(I)Z -/
def gp_x_isTape (l : Nat) : List gI := match l with
  | 0 => [(0, .iload_n 0, 0, 0, 0, []), (1, .iconst 0, 0, 0, 0, []), (2, .iconst 5, 0, 0, 0, []), (3, .invokestatic 5, 3, 3, 0, []), (6, .ireturn, 1, 0, 0, [])]
  | _ => []
/-- GeeseKeys.firstOther([BI)I -/
def gp_x_firstOther (l : Nat) : List gI := match l with
  | 0 => [(0, .iconst 0, 0, 0, 0, []), (1, .istore_n 3, 0, 0, 0, []), (2, .nop, 2, 0, 0, [])]
  | 2 => [(2, .iload_n 3, 0, 0, 0, []), (3, .bipush 8, 0, 0, 0, []), (5, .if_icmp .ge 61, 66, 0, 0, []), (8, .iload_n 2, 0, 0, 0, []), (9, .i2l, 0, 0, 0, []), (10, .iload_n 3, 0, 0, 0, []), (11, .i2l, 0, 0, 0, []), (12, .ladd, 0, 0, 0, []), (13, .lstore 4, 0, 0, 0, []), (15, .lload 4, 0, 0, 0, []), (17, .aload_n 1, 0, 0, 0, []), (18, .arraylength, 1, 0, 0, []), (19, .i2l, 0, 0, 0, []), (20, .lcmp, 0, 0, 0, []), (21, .ifCond .ge 10, 31, 0, 0, []), (24, .lload 4, 0, 0, 0, []), (26, .lconst 0, 0, 0, 0, []), (27, .lcmp, 0, 0, 0, []), (28, .ifCond .ge 13, 41, 0, 0, []), (31, .nop, 31, 0, 0, [])]
  | 31 => [(31, .new 257, 16, 7, 0, []), (34, .dup, 0, 0, 0, []), (35, .bipush (-13), 0, 0, 0, []), (37, .invokespecial 355, 295, 1, 0, []), (40, .athrow, 0, 0, 0, [])]
  | 41 => [(41, .aload_n 1, 0, 0, 0, []), (42, .lload 4, 0, 0, 0, []), (44, .l2i, 0, 0, 0, []), (45, .baload, 0, 0, 0, []), (46, .aload_n 0, 0, 0, 0, []), (47, .getfield 28, 2, 0, 2, []), (50, .getfield 194, 0, 1, 2, []), (53, .iload_n 3, 0, 0, 0, []), (54, .baload, 0, 0, 0, []), (55, .if_icmp .eq 5, 60, 0, 0, []), (58, .iload_n 3, 0, 0, 0, []), (59, .ireturn, 0, 0, 0, [])]
  | 60 => [(60, .iinc 3 1, 0, 0, 0, []), (63, .goto (-61), 2, 0, 0, [])]
  | 66 => [(66, .bipush (-5), 0, 0, 0, []), (68, .ireturn, 0, 0, 0, [])]
  | 69 => [(69, .astore 4, 0, 0, 0, []), (71, .iload_n 3, 0, 0, 0, []), (72, .bipush 100, 0, 0, 0, []), (74, .iadd, 0, 0, 0, []), (75, .ireturn, 0, 0, 0, [])]
  | 76 => [(76, .astore 4, 0, 0, 0, []), (78, .iload_n 3, 0, 0, 0, []), (79, .bipush 100, 0, 0, 0, []), (81, .iadd, 0, 0, 0, []), (82, .ireturn, 0, 0, 0, [])]
  | _ => []
/-- GeeseKeys.image()I -/
def gp_x_image (l : Nat) : List gI := match l with
  | 0 => [(0, .aload_n 0, 0, 0, 0, []), (1, .getfield 87, 21, 0, 2, []), (4, .aload_n 0, 0, 0, 0, []), (5, .getfield 28, 2, 0, 2, []), (8, .invokevirtual 276, 277, 1, 1, []), (11, .aload_n 0, 0, 0, 0, []), (12, .getfield 17, 0, 0, 2, []), (15, .iconst 0, 0, 0, 0, []), (16, .aload_n 0, 0, 0, 0, []), (17, .getfield 90, 22, 0, 2, []), (20, .iconst 0, 0, 0, 0, []), (21, .bipush 6, 0, 0, 0, []), (23, .invokestatic 373, 0, 0, 1, []), (26, .aload_n 0, 0, 0, 0, []), (27, .getfield 21, 1, 0, 2, []), (30, .iconst 0, 0, 0, 0, []), (31, .aload_n 0, 0, 0, 0, []), (32, .getfield 93, 23, 0, 2, []), (35, .iconst 0, 0, 0, 0, []), (36, .bipush 24, 0, 0, 0, []), (38, .invokestatic 373, 0, 0, 1, []), (41, .aload_n 0, 0, 0, 0, []), (42, .getfield 60, 10, 0, 2, []), (45, .iconst 0, 0, 0, 0, []), (46, .aload_n 0, 0, 0, 0, []), (47, .getfield 96, 24, 0, 2, []), (50, .iconst 0, 0, 0, 0, []), (51, .iconst 5, 0, 0, 0, []), (52, .invokestatic 373, 0, 0, 1, []), (55, .aload_n 0, 0, 0, 0, []), (56, .getfield 63, 11, 0, 2, []), (59, .iconst 0, 0, 0, 0, []), (60, .aload_n 0, 0, 0, 0, []), (61, .getfield 99, 25, 0, 2, []), (64, .iconst 0, 0, 0, 0, []), (65, .iconst 5, 0, 0, 0, []), (66, .invokestatic 373, 0, 0, 1, []), (69, .aload_n 0, 0, 0, 0, []), (70, .getfield 66, 12, 0, 2, []), (73, .iconst 0, 0, 0, 0, []), (74, .aload_n 0, 0, 0, 0, []), (75, .getfield 102, 26, 0, 2, []), (78, .iconst 0, 0, 0, 0, []), (79, .iconst 5, 0, 0, 0, []), (80, .invokestatic 373, 0, 0, 1, []), (83, .aload_n 0, 0, 0, 0, []), (84, .getfield 69, 13, 0, 2, []), (87, .iconst 0, 0, 0, 0, []), (88, .aload_n 0, 0, 0, 0, []), (89, .getfield 105, 27, 0, 2, []), (92, .iconst 0, 0, 0, 0, []), (93, .bipush 10, 0, 0, 0, []), (95, .invokestatic 373, 0, 0, 1, []), (98, .aload_n 0, 0, 0, 0, []), (99, .getfield 72, 14, 0, 2, []), (102, .iconst 0, 0, 0, 0, []), (103, .aload_n 0, 0, 0, 0, []), (104, .getfield 108, 28, 0, 2, []), (107, .iconst 0, 0, 0, 0, []), (108, .bipush 10, 0, 0, 0, []), (110, .invokestatic 373, 0, 0, 1, []), (113, .aload_n 0, 0, 0, 0, []), (114, .getfield 75, 15, 0, 2, []), (117, .iconst 0, 0, 0, 0, []), (118, .aload_n 0, 0, 0, 0, []), (119, .getfield 111, 29, 0, 2, []), (122, .iconst 0, 0, 0, 0, []), (123, .bipush 8, 0, 0, 0, []), (125, .invokestatic 373, 0, 0, 1, []), (128, .aload_n 0, 0, 0, 0, []), (129, .getfield 78, 16, 0, 2, []), (132, .iconst 0, 0, 0, 0, []), (133, .aload_n 0, 0, 0, 0, []), (134, .getfield 114, 30, 0, 2, []), (137, .iconst 0, 0, 0, 0, []), (138, .bipush 8, 0, 0, 0, []), (140, .invokestatic 373, 0, 0, 1, []), (143, .aload_n 0, 0, 0, 0, []), (144, .aload_n 0, 0, 0, 0, []), (145, .getfield 321, 17, 0, 0, []), (148, .putfield 379, 31, 0, 0, []), (151, .aload_n 0, 0, 0, 0, []), (152, .aload_n 0, 0, 0, 0, []), (153, .getfield 343, 18, 0, 0, []), (156, .putfield 382, 32, 0, 0, []), (159, .aload_n 0, 0, 0, 0, []), (160, .aload_n 0, 0, 0, 0, []), (161, .getfield 352, 19, 0, 0, []), (164, .putfield 385, 33, 0, 0, []), (167, .aload_n 0, 0, 0, 0, []), (168, .aload_n 0, 0, 0, 0, []), (169, .getfield 42, 7, 0, 2, []), (172, .putfield 388, 34, 0, 2, []), (175, .aload_n 0, 0, 0, 0, []), (176, .getfield 28, 2, 0, 2, []), (179, .getfield 118, 5, 1, 0, []), (182, .ireturn, 0, 0, 0, [])]
  | _ => []
/-- GeeseKeys.undo()I -/
def gp_x_undo (l : Nat) : List gI := match l with
  | 0 => [(0, .aload_n 0, 0, 0, 0, []), (1, .getfield 388, 34, 0, 2, []), (4, .ifnonnull 6, 10, 0, 0, []), (7, .bipush (-3), 0, 0, 0, []), (9, .ireturn, 0, 0, 0, [])]
  | 10 => [(10, .aload_n 0, 0, 0, 0, []), (11, .getfield 28, 2, 0, 2, []), (14, .aload_n 0, 0, 0, 0, []), (15, .getfield 87, 21, 0, 2, []), (18, .invokevirtual 276, 277, 1, 1, []), (21, .aload_n 0, 0, 0, 0, []), (22, .getfield 90, 22, 0, 2, []), (25, .iconst 0, 0, 0, 0, []), (26, .aload_n 0, 0, 0, 0, []), (27, .getfield 17, 0, 0, 2, []), (30, .iconst 0, 0, 0, 0, []), (31, .bipush 6, 0, 0, 0, []), (33, .invokestatic 373, 0, 0, 1, []), (36, .aload_n 0, 0, 0, 0, []), (37, .getfield 93, 23, 0, 2, []), (40, .iconst 0, 0, 0, 0, []), (41, .aload_n 0, 0, 0, 0, []), (42, .getfield 21, 1, 0, 2, []), (45, .iconst 0, 0, 0, 0, []), (46, .bipush 24, 0, 0, 0, []), (48, .invokestatic 373, 0, 0, 1, []), (51, .aload_n 0, 0, 0, 0, []), (52, .getfield 96, 24, 0, 2, []), (55, .iconst 0, 0, 0, 0, []), (56, .aload_n 0, 0, 0, 0, []), (57, .getfield 60, 10, 0, 2, []), (60, .iconst 0, 0, 0, 0, []), (61, .iconst 5, 0, 0, 0, []), (62, .invokestatic 373, 0, 0, 1, []), (65, .aload_n 0, 0, 0, 0, []), (66, .getfield 99, 25, 0, 2, []), (69, .iconst 0, 0, 0, 0, []), (70, .aload_n 0, 0, 0, 0, []), (71, .getfield 63, 11, 0, 2, []), (74, .iconst 0, 0, 0, 0, []), (75, .iconst 5, 0, 0, 0, []), (76, .invokestatic 373, 0, 0, 1, []), (79, .aload_n 0, 0, 0, 0, []), (80, .getfield 102, 26, 0, 2, []), (83, .iconst 0, 0, 0, 0, []), (84, .aload_n 0, 0, 0, 0, []), (85, .getfield 66, 12, 0, 2, []), (88, .iconst 0, 0, 0, 0, []), (89, .iconst 5, 0, 0, 0, []), (90, .invokestatic 373, 0, 0, 1, []), (93, .aload_n 0, 0, 0, 0, []), (94, .getfield 105, 27, 0, 2, []), (97, .iconst 0, 0, 0, 0, []), (98, .aload_n 0, 0, 0, 0, []), (99, .getfield 69, 13, 0, 2, []), (102, .iconst 0, 0, 0, 0, []), (103, .bipush 10, 0, 0, 0, []), (105, .invokestatic 373, 0, 0, 1, []), (108, .aload_n 0, 0, 0, 0, []), (109, .getfield 108, 28, 0, 2, []), (112, .iconst 0, 0, 0, 0, []), (113, .aload_n 0, 0, 0, 0, []), (114, .getfield 72, 14, 0, 2, []), (117, .iconst 0, 0, 0, 0, []), (118, .bipush 10, 0, 0, 0, []), (120, .invokestatic 373, 0, 0, 1, []), (123, .aload_n 0, 0, 0, 0, []), (124, .getfield 111, 29, 0, 2, []), (127, .iconst 0, 0, 0, 0, []), (128, .aload_n 0, 0, 0, 0, []), (129, .getfield 75, 15, 0, 2, []), (132, .iconst 0, 0, 0, 0, []), (133, .bipush 8, 0, 0, 0, []), (135, .invokestatic 373, 0, 0, 1, []), (138, .aload_n 0, 0, 0, 0, []), (139, .getfield 114, 30, 0, 2, []), (142, .iconst 0, 0, 0, 0, []), (143, .aload_n 0, 0, 0, 0, []), (144, .getfield 78, 16, 0, 2, []), (147, .iconst 0, 0, 0, 0, []), (148, .bipush 8, 0, 0, 0, []), (150, .invokestatic 373, 0, 0, 1, []), (153, .aload_n 0, 0, 0, 0, []), (154, .aload_n 0, 0, 0, 0, []), (155, .getfield 379, 31, 0, 0, []), (158, .putfield 321, 17, 0, 0, []), (161, .aload_n 0, 0, 0, 0, []), (162, .aload_n 0, 0, 0, 0, []), (163, .getfield 382, 32, 0, 0, []), (166, .putfield 343, 18, 0, 0, []), (169, .aload_n 0, 0, 0, 0, []), (170, .aload_n 0, 0, 0, 0, []), (171, .getfield 385, 33, 0, 0, []), (174, .putfield 352, 19, 0, 0, []), (177, .aload_n 0, 0, 0, 0, []), (178, .aload_n 0, 0, 0, 0, []), (179, .getfield 388, 34, 0, 2, []), (182, .putfield 42, 7, 0, 2, []), (185, .aload_n 0, 0, 0, 0, []), (186, .getfield 28, 2, 0, 2, []), (189, .getfield 118, 5, 1, 0, []), (192, .ireturn, 0, 0, 0, [])]
  | _ => []
/-- GeeseKeys.act(III)I -/
def gp_x_act (l : Nat) : List gI := match l with
  | 0 => [(0, .aload_n 0, 0, 0, 0, []), (1, .getfield 56, 9, 0, 2, []), (4, .iconst 0, 0, 0, 0, []), (5, .putfield 391, 1, 5, 0, []), (8, .aload_n 0, 0, 0, 0, []), (9, .iload_n 1, 0, 0, 0, []), (10, .invokevirtual 229, 9, 1, 0, []), (13, .ifCond .eq 12, 25, 0, 0, []), (16, .iload_n 2, 0, 0, 0, []), (17, .iconst 0, 0, 0, 0, []), (18, .iconst 2, 0, 0, 0, []), (19, .invokestatic 5, 3, 3, 0, []), (22, .ifCond .ne 5, 27, 0, 0, []), (25, .nop, 25, 0, 0, [])]
  | 25 => [(25, .iconst 0, 0, 0, 0, []), (26, .ireturn, 0, 0, 0, [])]
  | 27 => [(27, .aload_n 0, 0, 0, 0, []), (28, .getfield 17, 0, 0, 2, []), (31, .iload_n 1, 0, 0, 0, []), (32, .aaload, 0, 0, 0, []), (33, .astore 4, 0, 0, 0, []), (35, .iload_n 2, 0, 0, 0, []), (36, .ifCond .ne 12, 48, 0, 0, []), (39, .aload 4, 0, 0, 0, []), (41, .iload_n 3, 0, 0, 0, []), (42, .invokevirtual 394, 1002, 1, 30, []), (45, .goto 23, 68, 0, 0, [])]
  | 48 => [(48, .iload_n 2, 0, 0, 0, []), (49, .iconst 1, 0, 0, 0, []), (50, .if_icmp .ne 12, 62, 0, 0, []), (53, .aload 4, 0, 0, 0, []), (55, .iload_n 3, 0, 0, 0, []), (56, .invokevirtual 397, 1003, 1, 30, []), (59, .goto 9, 68, 0, 0, [])]
  | 62 => [(62, .aload 4, 0, 0, 0, []), (64, .iload_n 3, 0, 0, 0, []), (65, .invokevirtual 400, 1004, 1, 30, []), (68, .nop, 68, 0, 0, [])]
  | 68 => [(68, .ireturn, 0, 0, 0, [])]
  | _ => []
/-- GeeseKeys.trace(I)I -/
def gp_x_trace (l : Nat) : List gI := match l with
  | 0 => [(0, .iload_n 1, 0, 0, 0, []), (1, .iconst 0, 0, 0, 0, []), (2, .aload_n 0, 0, 0, 0, []), (3, .getfield 56, 9, 0, 2, []), (6, .getfield 391, 1, 5, 0, []), (9, .bipush 20, 0, 0, 0, []), (11, .invokestatic 403, 0, 0, 3, []), (14, .iconst 1, 0, 0, 0, []), (15, .isub, 0, 0, 0, []), (16, .invokestatic 5, 3, 3, 0, []), (19, .ifCond .eq 15, 34, 0, 0, []), (22, .aload_n 0, 0, 0, 0, []), (23, .getfield 56, 9, 0, 2, []), (26, .getfield 408, 0, 5, 2, []), (29, .iload_n 1, 0, 0, 0, []), (30, .iaload, 0, 0, 0, []), (31, .goto 4, 35, 0, 0, [])]
  | 34 => [(34, .iconst (-1), 0, 0, 0, []), (35, .nop, 35, 0, 0, [])]
  | 35 => [(35, .ireturn, 0, 0, 0, [])]
  | _ => []
/-- GeeseKeys.taken(II)I -/
def gp_x_taken (l : Nat) : List gI := match l with
  | 0 => [(0, .iload_n 2, 0, 0, 0, []), (1, .iconst 0, 0, 0, 0, []), (2, .bipush 6, 0, 0, 0, []), (4, .invokestatic 5, 3, 3, 0, []), (7, .ifCond .ne 6, 13, 0, 0, []), (10, .bipush (-2), 0, 0, 0, []), (12, .ireturn, 0, 0, 0, [])]
  | 13 => [(13, .aload_n 0, 0, 0, 0, []), (14, .iload_n 1, 0, 0, 0, []), (15, .invokevirtual 229, 9, 1, 0, []), (18, .ifCond .eq 12, 30, 0, 0, []), (21, .aload_n 0, 0, 0, 0, []), (22, .getfield 17, 0, 0, 2, []), (25, .iload_n 1, 0, 0, 0, []), (26, .aaload, 0, 0, 0, []), (27, .goto 4, 31, 0, 0, [])]
  | 30 => [(30, .aconst_null, 0, 0, 0, []), (31, .nop, 31, 0, 0, [])]
  | 31 => [(31, .iload_n 2, 0, 0, 0, []), (32, .invokestatic 411, 61, 2, 0, []), (35, .invokevirtual 181, 1000, 0, 36, []), (38, .ireturn, 0, 0, 0, [])]
  | 39 => [(39, .astore_n 3, 0, 0, 0, []), (40, .bipush (-11), 0, 0, 0, []), (42, .ireturn, 0, 0, 0, [])]
  | 43 => [(43, .astore_n 3, 0, 0, 0, []), (44, .bipush (-12), 0, 0, 0, []), (46, .ireturn, 0, 0, 0, [])]
  | _ => []
/-- GeeseKeys.takenFor(LGeeseKeys$Tells;I)LGeeseKeys$Goose; -/
def gp_x_takenFor (l : Nat) : List gI := match l with
  | 0 => [(0, .iload_n 1, 0, 0, 0, []), (1, .tableswitch 69 0 5 #[39, 44, 49, 54, 59, 64], 70, 0, 0, [(0, 40), (1, 45), (2, 50), (3, 55), (4, 60), (5, 65)])]
  | 40 => [(40, .aload_n 0, 0, 0, 0, []), (41, .checkcast 15, 8, 1, 0, []), (44, .areturn, 0, 0, 0, [])]
  | 45 => [(45, .aload_n 0, 0, 0, 0, []), (46, .checkcast 125, 9, 1, 0, []), (49, .areturn, 0, 0, 0, [])]
  | 50 => [(50, .aload_n 0, 0, 0, 0, []), (51, .checkcast 130, 10, 1, 0, []), (54, .areturn, 0, 0, 0, [])]
  | 55 => [(55, .aload_n 0, 0, 0, 0, []), (56, .checkcast 133, 11, 1, 0, []), (59, .areturn, 0, 0, 0, [])]
  | 60 => [(60, .aload_n 0, 0, 0, 0, []), (61, .checkcast 136, 12, 1, 0, []), (64, .areturn, 0, 0, 0, [])]
  | 65 => [(65, .aload_n 0, 0, 0, 0, []), (66, .checkcast 139, 13, 1, 0, []), (69, .areturn, 0, 0, 0, [])]
  | 70 => [(70, .aload_n 0, 0, 0, 0, []), (71, .checkcast 142, 14, 1, 0, []), (74, .areturn, 0, 0, 0, [])]
  | _ => []
/-- GeeseKeys.count(I)I -/
def gp_x_count (l : Nat) : List gI := match l with
  | 0 => [(0, .iload_n 1, 0, 0, 0, []), (1, .tableswitch 96 0 7 #[47, 55, 63, 68, 73, 78, 83, 88], 97, 0, 0, [(0, 48), (1, 56), (2, 64), (3, 69), (4, 74), (5, 79), (6, 84), (7, 89)])]
  | 48 => [(48, .aload_n 0, 0, 0, 0, []), (49, .getfield 28, 2, 0, 2, []), (52, .getfield 118, 5, 1, 0, []), (55, .ireturn, 0, 0, 0, [])]
  | 56 => [(56, .aload_n 0, 0, 0, 0, []), (57, .getfield 28, 2, 0, 2, []), (60, .getfield 122, 6, 1, 0, []), (63, .ireturn, 0, 0, 0, [])]
  | 64 => [(64, .aload_n 0, 0, 0, 0, []), (65, .getfield 245, 6, 0, 0, []), (68, .ireturn, 0, 0, 0, [])]
  | 69 => [(69, .aload_n 0, 0, 0, 0, []), (70, .getfield 321, 17, 0, 0, []), (73, .ireturn, 0, 0, 0, [])]
  | 74 => [(74, .aload_n 0, 0, 0, 0, []), (75, .getfield 343, 18, 0, 0, []), (78, .ireturn, 0, 0, 0, [])]
  | 79 => [(79, .aload_n 0, 0, 0, 0, []), (80, .getfield 352, 19, 0, 0, []), (83, .ireturn, 0, 0, 0, [])]
  | 84 => [(84, .aload_n 0, 0, 0, 0, []), (85, .getfield 242, 5, 0, 0, []), (88, .ireturn, 0, 0, 0, [])]
  | 89 => [(89, .aload_n 0, 0, 0, 0, []), (90, .getfield 56, 9, 0, 2, []), (93, .getfield 391, 1, 5, 0, []), (96, .ireturn, 0, 0, 0, [])]
  | 97 => [(97, .bipush (-2), 0, 0, 0, []), (99, .ireturn, 0, 0, 0, [])]
  | _ => []
/-- GeeseKeys.tape(III)I -/
def gp_x_tape (l : Nat) : List gI := match l with
  | 0 => [(0, .iload_n 1, 0, 0, 0, []), (1, .invokestatic 359, 54, 1, 0, []), (4, .ifCond .ne 5, 9, 0, 0, []), (7, .iconst (-1), 0, 0, 0, []), (8, .ireturn, 0, 0, 0, [])]
  | 9 => [(9, .iload_n 2, 0, 0, 0, []), (10, .iconst (-1), 0, 0, 0, []), (11, .iconst 4, 0, 0, 0, []), (12, .invokestatic 5, 3, 3, 0, []), (15, .ifCond .eq 14, 29, 0, 0, []), (18, .iload_n 2, 0, 0, 0, []), (19, .iconst (-1), 0, 0, 0, []), (20, .if_icmp .eq 12, 32, 0, 0, []), (23, .iload_n 3, 0, 0, 0, []), (24, .bipush 60, 0, 0, 0, []), (26, .if_icmp .le 6, 32, 0, 0, []), (29, .nop, 29, 0, 0, [])]
  | 29 => [(29, .bipush (-2), 0, 0, 0, []), (31, .ireturn, 0, 0, 0, [])]
  | 32 => [(32, .aload_n 0, 0, 0, 0, []), (33, .getfield 83, 20, 0, 2, []), (36, .iload_n 1, 0, 0, 0, []), (37, .aaload, 0, 0, 0, []), (38, .iload_n 2, 0, 0, 0, []), (39, .iconst (-1), 0, 0, 0, []), (40, .if_icmp .ne 7, 47, 0, 0, []), (43, .aconst_null, 0, 0, 0, []), (44, .goto 8, 52, 0, 0, [])]
  | 47 => [(47, .iload_n 2, 0, 0, 0, []), (48, .iload_n 3, 0, 0, 0, []), (49, .invokestatic 415, 64, 2, 0, []), (52, .nop, 52, 0, 0, [])]
  | 52 => [(52, .putfield 362, 0, 6, 2, []), (55, .iconst 1, 0, 0, 0, []), (56, .ireturn, 0, 0, 0, [])]
  | 57 => [(57, .astore 4, 0, 0, 0, []), (59, .bipush (-14), 0, 0, 0, []), (61, .ireturn, 0, 0, 0, [])]
  | _ => []
/-- GeeseKeys.rowOf(II)Ljava/lang/Object; -/
def gp_x_rowOf (l : Nat) : List gI := match l with
  | 0 => [(0, .iload_n 0, 0, 0, 0, []), (1, .tableswitch 47 0 3 #[31, 35, 39, 43], 48, 0, 0, [(0, 32), (1, 36), (2, 40), (3, 44)])]
  | 32 => [(32, .iload_n 1, 0, 0, 0, []), (33, .newarray .byte, 0, 0, 0, []), (35, .areturn, 0, 0, 0, [])]
  | 36 => [(36, .iload_n 1, 0, 0, 0, []), (37, .newarray .short, 0, 0, 0, []), (39, .areturn, 0, 0, 0, [])]
  | 40 => [(40, .iload_n 1, 0, 0, 0, []), (41, .newarray .int, 0, 0, 0, []), (43, .areturn, 0, 0, 0, [])]
  | 44 => [(44, .iload_n 1, 0, 0, 0, []), (45, .newarray .long, 0, 0, 0, []), (47, .areturn, 0, 0, 0, [])]
  | 48 => [(48, .iload_n 1, 0, 0, 0, []), (49, .newarray .boolean, 0, 0, 0, []), (51, .areturn, 0, 0, 0, [])]
  | _ => []
/-- GeeseKeys.item(IIJ)I -/
def gp_x_item (l : Nat) : List gI := match l with
  | 0 => [(0, .iload_n 1, 0, 0, 0, []), (1, .invokestatic 359, 54, 1, 0, []), (4, .ifCond .ne 5, 9, 0, 0, []), (7, .iconst (-1), 0, 0, 0, []), (8, .ireturn, 0, 0, 0, [])]
  | 9 => [(9, .aload_n 0, 0, 0, 0, []), (10, .getfield 83, 20, 0, 2, []), (13, .iload_n 1, 0, 0, 0, []), (14, .aaload, 0, 0, 0, []), (15, .astore 5, 0, 0, 0, []), (17, .aload 5, 0, 0, 0, []), (19, .iload_n 2, 0, 0, 0, []), (20, .invokevirtual 421, 308, 1, 6, []), (23, .goto 11, 34, 0, 0, [])]
  | 26 => [(26, .astore 6, 0, 0, 0, []), (28, .aload 6, 0, 0, 0, []), (30, .getfield 259, 0, 21, 0, []), (33, .ireturn, 0, 0, 0, [])]
  | 34 => [(34, .aload 5, 0, 0, 0, []), (36, .getfield 362, 0, 6, 2, []), (39, .astore 10, 0, 0, 0, []), (41, .aload 10, 0, 0, 0, []), (43, .instanceof 366, 100, 0, 0, []), (46, .ifCond .eq 20, 66, 0, 0, []), (49, .aload 10, 0, 0, 0, []), (51, .checkcast 366, 100, 0, 0, []), (54, .astore 6, 0, 0, 0, []), (56, .aload 6, 0, 0, 0, []), (58, .iload_n 2, 0, 0, 0, []), (59, .lload_n 3, 0, 0, 0, []), (60, .l2i, 0, 0, 0, []), (61, .i2b, 0, 0, 0, []), (62, .bastore, 0, 0, 0, []), (63, .goto 117, 180, 0, 0, [])]
  | 66 => [(66, .aload 5, 0, 0, 0, []), (68, .getfield 362, 0, 6, 2, []), (71, .astore 10, 0, 0, 0, []), (73, .aload 10, 0, 0, 0, []), (75, .instanceof 424, 101, 0, 0, []), (78, .ifCond .eq 20, 98, 0, 0, []), (81, .aload 10, 0, 0, 0, []), (83, .checkcast 424, 101, 0, 0, []), (86, .astore 7, 0, 0, 0, []), (88, .aload 7, 0, 0, 0, []), (90, .iload_n 2, 0, 0, 0, []), (91, .lload_n 3, 0, 0, 0, []), (92, .l2i, 0, 0, 0, []), (93, .i2s, 0, 0, 0, []), (94, .sastore, 0, 0, 0, []), (95, .goto 85, 180, 0, 0, [])]
  | 98 => [(98, .aload 5, 0, 0, 0, []), (100, .getfield 362, 0, 6, 2, []), (103, .astore 10, 0, 0, 0, []), (105, .aload 10, 0, 0, 0, []), (107, .instanceof 426, 102, 0, 0, []), (110, .ifCond .eq 19, 129, 0, 0, []), (113, .aload 10, 0, 0, 0, []), (115, .checkcast 426, 102, 0, 0, []), (118, .astore 8, 0, 0, 0, []), (120, .aload 8, 0, 0, 0, []), (122, .iload_n 2, 0, 0, 0, []), (123, .lload_n 3, 0, 0, 0, []), (124, .l2i, 0, 0, 0, []), (125, .iastore, 0, 0, 0, []), (126, .goto 54, 180, 0, 0, [])]
  | 129 => [(129, .aload 5, 0, 0, 0, []), (131, .getfield 362, 0, 6, 2, []), (134, .astore 10, 0, 0, 0, []), (136, .aload 10, 0, 0, 0, []), (138, .instanceof 427, 103, 0, 0, []), (141, .ifCond .eq 18, 159, 0, 0, []), (144, .aload 10, 0, 0, 0, []), (146, .checkcast 427, 103, 0, 0, []), (149, .astore 9, 0, 0, 0, []), (151, .aload 9, 0, 0, 0, []), (153, .iload_n 2, 0, 0, 0, []), (154, .lload_n 3, 0, 0, 0, []), (155, .lastore, 0, 0, 0, []), (156, .goto 24, 180, 0, 0, [])]
  | 159 => [(159, .aload 5, 0, 0, 0, []), (161, .getfield 362, 0, 6, 2, []), (164, .checkcast 429, 104, 0, 0, []), (167, .iload_n 2, 0, 0, 0, []), (168, .lload_n 3, 0, 0, 0, []), (169, .lconst 0, 0, 0, 0, []), (170, .lcmp, 0, 0, 0, []), (171, .ifCond .eq 7, 178, 0, 0, []), (174, .iconst 1, 0, 0, 0, []), (175, .goto 4, 179, 0, 0, [])]
  | 178 => [(178, .iconst 0, 0, 0, 0, []), (179, .nop, 179, 0, 0, [])]
  | 179 => [(179, .bastore, 0, 0, 0, []), (180, .nop, 180, 0, 0, [])]
  | 180 => [(180, .iconst 1, 0, 0, 0, []), (181, .ireturn, 0, 0, 0, [])]
  | _ => []
/-- GeeseKeys.read(II)J -/
def gp_x_read (l : Nat) : List gI := match l with
  | 0 => [(0, .iload_n 1, 0, 0, 0, []), (1, .invokestatic 359, 54, 1, 0, []), (4, .ifCond .eq 34, 38, 0, 0, []), (7, .aload_n 0, 0, 0, 0, []), (8, .getfield 83, 20, 0, 2, []), (11, .iload_n 1, 0, 0, 0, []), (12, .aaload, 0, 0, 0, []), (13, .getfield 362, 0, 6, 2, []), (16, .ifnull 22, 38, 0, 0, []), (19, .iload_n 2, 0, 0, 0, []), (20, .iconst 0, 0, 0, 0, []), (21, .aload_n 0, 0, 0, 0, []), (22, .getfield 83, 20, 0, 2, []), (25, .iload_n 1, 0, 0, 0, []), (26, .aaload, 0, 0, 0, []), (27, .invokevirtual 431, 309, 0, 6, []), (30, .iconst 1, 0, 0, 0, []), (31, .isub, 0, 0, 0, []), (32, .invokestatic 5, 3, 3, 0, []), (35, .ifCond .ne 7, 42, 0, 0, []), (38, .nop, 38, 0, 0, [])]
  | 38 => [(38, .ldc2_w 335, 0, 9223372036854775808, 0, []), (41, .lreturn, 0, 0, 0, [])]
  | 42 => [(42, .aload_n 0, 0, 0, 0, []), (43, .getfield 83, 20, 0, 2, []), (46, .iload_n 1, 0, 0, 0, []), (47, .aaload, 0, 0, 0, []), (48, .astore_n 3, 0, 0, 0, []), (49, .aload_n 3, 0, 0, 0, []), (50, .getfield 362, 0, 6, 2, []), (53, .astore 5, 0, 0, 0, []), (55, .aload 5, 0, 0, 0, []), (57, .instanceof 366, 100, 0, 0, []), (60, .ifCond .eq 16, 76, 0, 0, []), (63, .aload 5, 0, 0, 0, []), (65, .checkcast 366, 100, 0, 0, []), (68, .astore 4, 0, 0, 0, []), (70, .aload 4, 0, 0, 0, []), (72, .iload_n 2, 0, 0, 0, []), (73, .baload, 0, 0, 0, []), (74, .i2l, 0, 0, 0, []), (75, .lreturn, 0, 0, 0, [])]
  | 76 => [(76, .aload_n 3, 0, 0, 0, []), (77, .getfield 362, 0, 6, 2, []), (80, .astore 5, 0, 0, 0, []), (82, .aload 5, 0, 0, 0, []), (84, .instanceof 424, 101, 0, 0, []), (87, .ifCond .eq 16, 103, 0, 0, []), (90, .aload 5, 0, 0, 0, []), (92, .checkcast 424, 101, 0, 0, []), (95, .astore 4, 0, 0, 0, []), (97, .aload 4, 0, 0, 0, []), (99, .iload_n 2, 0, 0, 0, []), (100, .saload, 0, 0, 0, []), (101, .i2l, 0, 0, 0, []), (102, .lreturn, 0, 0, 0, [])]
  | 103 => [(103, .aload_n 3, 0, 0, 0, []), (104, .getfield 362, 0, 6, 2, []), (107, .astore 5, 0, 0, 0, []), (109, .aload 5, 0, 0, 0, []), (111, .instanceof 426, 102, 0, 0, []), (114, .ifCond .eq 16, 130, 0, 0, []), (117, .aload 5, 0, 0, 0, []), (119, .checkcast 426, 102, 0, 0, []), (122, .astore 4, 0, 0, 0, []), (124, .aload 4, 0, 0, 0, []), (126, .iload_n 2, 0, 0, 0, []), (127, .iaload, 0, 0, 0, []), (128, .i2l, 0, 0, 0, []), (129, .lreturn, 0, 0, 0, [])]
  | 130 => [(130, .aload_n 3, 0, 0, 0, []), (131, .getfield 362, 0, 6, 2, []), (134, .astore 5, 0, 0, 0, []), (136, .aload 5, 0, 0, 0, []), (138, .instanceof 427, 103, 0, 0, []), (141, .ifCond .eq 17, 158, 0, 0, []), (144, .aload 5, 0, 0, 0, []), (146, .checkcast 427, 103, 0, 0, []), (149, .astore 4, 0, 0, 0, []), (151, .aload 4, 0, 0, 0, []), (153, .iload_n 2, 0, 0, 0, []), (154, .laload, 0, 0, 0, []), (155, .goto 20, 175, 0, 0, [])]
  | 158 => [(158, .aload_n 3, 0, 0, 0, []), (159, .getfield 362, 0, 6, 2, []), (162, .checkcast 429, 104, 0, 0, []), (165, .iload_n 2, 0, 0, 0, []), (166, .baload, 0, 0, 0, []), (167, .ifCond .eq 7, 174, 0, 0, []), (170, .lconst 1, 0, 0, 0, []), (171, .goto 4, 175, 0, 0, [])]
  | 174 => [(174, .lconst 0, 0, 0, 0, []), (175, .nop, 175, 0, 0, [])]
  | 175 => [(175, .lreturn, 0, 0, 0, [])]
  | _ => []
/-- GeeseKeys.shift(IIIII)I -/
def gp_x_shift (l : Nat) : List gI := match l with
  | 0 => [(0, .iload_n 1, 0, 0, 0, []), (1, .invokestatic 359, 54, 1, 0, []), (4, .ifCond .eq 10, 14, 0, 0, []), (7, .iload_n 3, 0, 0, 0, []), (8, .invokestatic 359, 54, 1, 0, []), (11, .ifCond .ne 5, 16, 0, 0, []), (14, .nop, 14, 0, 0, [])]
  | 14 => [(14, .iconst (-1), 0, 0, 0, []), (15, .ireturn, 0, 0, 0, [])]
  | 16 => [(16, .aload_n 0, 0, 0, 0, []), (17, .getfield 83, 20, 0, 2, []), (20, .iload_n 1, 0, 0, 0, []), (21, .aaload, 0, 0, 0, []), (22, .getfield 362, 0, 6, 2, []), (25, .iload_n 2, 0, 0, 0, []), (26, .aload_n 0, 0, 0, 0, []), (27, .getfield 83, 20, 0, 2, []), (30, .iload_n 3, 0, 0, 0, []), (31, .aaload, 0, 0, 0, []), (32, .getfield 362, 0, 6, 2, []), (35, .iload 4, 0, 0, 0, []), (37, .iload 5, 0, 0, 0, []), (39, .invokestatic 373, 0, 1, 1, []), (42, .iload 5, 0, 0, 0, []), (44, .ireturn, 0, 0, 0, [])]
  | 45 => [(45, .astore 6, 0, 0, 0, []), (47, .bipush (-11), 0, 0, 0, []), (49, .ireturn, 0, 0, 0, [])]
  | 50 => [(50, .astore 6, 0, 0, 0, []), (52, .bipush (-12), 0, 0, 0, []), (54, .ireturn, 0, 0, 0, [])]
  | 55 => [(55, .astore 6, 0, 0, 0, []), (57, .bipush (-13), 0, 0, 0, []), (59, .ireturn, 0, 0, 0, [])]
  | _ => []
/-- GeeseKeysModel.<init>()V -/
def gp_m_init (l : Nat) : List gI := match l with
  | 0 => [(0, .aload_n 0, 0, 0, 0, []), (1, .invokespecial 3, 0, 0, 1, []), (4, .aload_n 0, 0, 0, 0, []), (5, .invokestatic 9, 101, 0, 0, []), (8, .putfield 15, 0, 7, 2, []), (11, .aload_n 0, 0, 0, 0, []), (12, .sipush 552, 0, 0, 0, []), (15, .newarray .int, 0, 0, 0, []), (17, .putfield 19, 1, 7, 2, []), (20, .aload_n 0, 0, 0, 0, []), (21, .sipush 138, 0, 0, 0, []), (24, .newarray .int, 0, 0, 0, []), (26, .putfield 22, 2, 7, 2, []), (29, .aload_n 0, 0, 0, 0, []), (30, .bipush 100, 0, 0, 0, []), (32, .newarray .int, 0, 0, 0, []), (34, .putfield 25, 4, 7, 2, []), (37, .aload_n 0, 0, 0, 0, []), (38, .sipush 600, 0, 0, 0, []), (41, .newarray .int, 0, 0, 0, []), (43, .putfield 28, 6, 7, 2, []), (46, .aload_n 0, 0, 0, 0, []), (47, .bipush 6, 0, 0, 0, []), (49, .newarray .int, 0, 0, 0, []), (51, .putfield 31, 7, 7, 2, []), (54, .aload_n 0, 0, 0, 0, []), (55, .bipush 100, 0, 0, 0, []), (57, .newarray .int, 0, 0, 0, []), (59, .putfield 34, 9, 7, 2, []), (62, .aload_n 0, 0, 0, 0, []), (63, .bipush 6, 0, 0, 0, []), (65, .newarray .int, 0, 0, 0, []), (67, .putfield 37, 16, 7, 2, []), (70, .aload_n 0, 0, 0, 0, []), (71, .bipush 6, 0, 0, 0, []), (73, .newarray .char, 0, 0, 0, []), (75, .dup, 0, 0, 0, []), (76, .iconst 0, 0, 0, 0, []), (77, .bipush 112, 0, 0, 0, []), (79, .castore, 0, 0, 0, []), (80, .dup, 0, 0, 0, []), (81, .iconst 1, 0, 0, 0, []), (82, .bipush 107, 0, 0, 0, []), (84, .castore, 0, 0, 0, []), (85, .dup, 0, 0, 0, []), (86, .iconst 2, 0, 0, 0, []), (87, .bipush 118, 0, 0, 0, []), (89, .castore, 0, 0, 0, []), (90, .dup, 0, 0, 0, []), (91, .iconst 3, 0, 0, 0, []), (92, .bipush 99, 0, 0, 0, []), (94, .castore, 0, 0, 0, []), (95, .dup, 0, 0, 0, []), (96, .iconst 4, 0, 0, 0, []), (97, .bipush 103, 0, 0, 0, []), (99, .castore, 0, 0, 0, []), (100, .dup, 0, 0, 0, []), (101, .iconst 5, 0, 0, 0, []), (102, .bipush 104, 0, 0, 0, []), (104, .castore, 0, 0, 0, []), (105, .putfield 40, 17, 7, 2, []), (108, .aload_n 0, 0, 0, 0, []), (109, .iconst 3, 0, 0, 0, []), (110, .newarray .char, 0, 0, 0, []), (112, .dup, 0, 0, 0, []), (113, .iconst 0, 0, 0, 0, []), (114, .bipush 108, 0, 0, 0, []), (116, .castore, 0, 0, 0, []), (117, .dup, 0, 0, 0, []), (118, .iconst 1, 0, 0, 0, []), (119, .bipush 115, 0, 0, 0, []), (121, .castore, 0, 0, 0, []), (122, .dup, 0, 0, 0, []), (123, .iconst 2, 0, 0, 0, []), (124, .bipush 101, 0, 0, 0, []), (126, .castore, 0, 0, 0, []), (127, .putfield 44, 18, 7, 2, []), (130, .aload_n 0, 0, 0, 0, []), (131, .bipush 15, 0, 0, 0, []), (133, .newarray .char, 0, 0, 0, []), (135, .dup, 0, 0, 0, []), (136, .iconst 0, 0, 0, 0, []), (137, .bipush 108, 0, 0, 0, []), (139, .castore, 0, 0, 0, []), (140, .dup, 0, 0, 0, []), (141, .iconst 1, 0, 0, 0, []), (142, .bipush 117, 0, 0, 0, []), (144, .castore, 0, 0, 0, []), (145, .dup, 0, 0, 0, []), (146, .iconst 2, 0, 0, 0, []), (147, .bipush 114, 0, 0, 0, []), (149, .castore, 0, 0, 0, []), (150, .dup, 0, 0, 0, []), (151, .iconst 3, 0, 0, 0, []), (152, .bipush 101, 0, 0, 0, []), (154, .castore, 0, 0, 0, []), (155, .dup, 0, 0, 0, []), (156, .iconst 4, 0, 0, 0, []), (157, .iconst 0, 0, 0, 0, []), (158, .castore, 0, 0, 0, []), (159, .dup, 0, 0, 0, []), (160, .iconst 5, 0, 0, 0, []), (161, .bipush 115, 0, 0, 0, []), (163, .castore, 0, 0, 0, []), (164, .dup, 0, 0, 0, []), (165, .bipush 6, 0, 0, 0, []), (167, .bipush 99, 0, 0, 0, []), (169, .castore, 0, 0, 0, []), (170, .dup, 0, 0, 0, []), (171, .bipush 7, 0, 0, 0, []), (173, .bipush 97, 0, 0, 0, []), (175, .castore, 0, 0, 0, []), (176, .dup, 0, 0, 0, []), (177, .bipush 8, 0, 0, 0, []), (179, .bipush 114, 0, 0, 0, []), (181, .castore, 0, 0, 0, []), (182, .dup, 0, 0, 0, []), (183, .bipush 9, 0, 0, 0, []), (185, .bipush 101, 0, 0, 0, []), (187, .castore, 0, 0, 0, []), (188, .dup, 0, 0, 0, []), (189, .bipush 10, 0, 0, 0, []), (191, .bipush 101, 0, 0, 0, []), (193, .castore, 0, 0, 0, []), (194, .dup, 0, 0, 0, []), (195, .bipush 11, 0, 0, 0, []), (197, .bipush 97, 0, 0, 0, []), (199, .castore, 0, 0, 0, []), (200, .dup, 0, 0, 0, []), (201, .bipush 12, 0, 0, 0, []), (203, .bipush 116, 0, 0, 0, []), (205, .castore, 0, 0, 0, []), (206, .dup, 0, 0, 0, []), (207, .bipush 13, 0, 0, 0, []), (209, .iconst 0, 0, 0, 0, []), (210, .castore, 0, 0, 0, []), (211, .dup, 0, 0, 0, []), (212, .bipush 14, 0, 0, 0, []), (214, .iconst 0, 0, 0, 0, []), (215, .castore, 0, 0, 0, []), (216, .putfield 47, 19, 7, 2, []), (219, .aload_n 0, 0, 0, 0, []), (220, .bipush 16, 0, 0, 0, []), (222, .newarray .int, 0, 0, 0, []), (224, .putfield 50, 20, 7, 2, []), (227, .aload_n 0, 0, 0, 0, []), (228, .bipush 7, 0, 0, 0, []), (230, .newarray .int, 0, 0, 0, []), (232, .dup, 0, 0, 0, []), (233, .iconst 0, 0, 0, 0, []), (234, .iconst (-1), 0, 0, 0, []), (235, .iastore, 0, 0, 0, []), (236, .dup, 0, 0, 0, []), (237, .iconst 1, 0, 0, 0, []), (238, .iconst 0, 0, 0, 0, []), (239, .iastore, 0, 0, 0, []), (240, .dup, 0, 0, 0, []), (241, .iconst 2, 0, 0, 0, []), (242, .iconst 0, 0, 0, 0, []), (243, .iastore, 0, 0, 0, []), (244, .dup, 0, 0, 0, []), (245, .iconst 3, 0, 0, 0, []), (246, .iconst 0, 0, 0, 0, []), (247, .iastore, 0, 0, 0, []), (248, .dup, 0, 0, 0, []), (249, .iconst 4, 0, 0, 0, []), (250, .iconst 1, 0, 0, 0, []), (251, .iastore, 0, 0, 0, []), (252, .dup, 0, 0, 0, []), (253, .iconst 5, 0, 0, 0, []), (254, .iconst 2, 0, 0, 0, []), (255, .iastore, 0, 0, 0, []), (256, .dup, 0, 0, 0, []), (257, .bipush 6, 0, 0, 0, []), (259, .iconst 3, 0, 0, 0, []), (260, .iastore, 0, 0, 0, []), (261, .putfield 53, 21, 7, 2, []), (264, .aload_n 0, 0, 0, 0, []), (265, .bipush 21, 0, 0, 0, []), (267, .newarray .int, 0, 0, 0, []), (269, .dup, 0, 0, 0, []), (270, .iconst 0, 0, 0, 0, []), (271, .bipush 10, 0, 0, 0, []), (273, .iastore, 0, 0, 0, []), (274, .dup, 0, 0, 0, []), (275, .iconst 1, 0, 0, 0, []), (276, .bipush 11, 0, 0, 0, []), (278, .iastore, 0, 0, 0, []), (279, .dup, 0, 0, 0, []), (280, .iconst 2, 0, 0, 0, []), (281, .bipush 12, 0, 0, 0, []), (283, .iastore, 0, 0, 0, []), (284, .dup, 0, 0, 0, []), (285, .iconst 3, 0, 0, 0, []), (286, .iconst 0, 0, 0, 0, []), (287, .iastore, 0, 0, 0, []), (288, .dup, 0, 0, 0, []), (289, .iconst 4, 0, 0, 0, []), (290, .bipush 20, 0, 0, 0, []), (292, .iastore, 0, 0, 0, []), (293, .dup, 0, 0, 0, []), (294, .iconst 5, 0, 0, 0, []), (295, .iconst 0, 0, 0, 0, []), (296, .iastore, 0, 0, 0, []), (297, .dup, 0, 0, 0, []), (298, .bipush 6, 0, 0, 0, []), (300, .bipush 30, 0, 0, 0, []), (302, .iastore, 0, 0, 0, []), (303, .dup, 0, 0, 0, []), (304, .bipush 7, 0, 0, 0, []), (306, .iconst 0, 0, 0, 0, []), (307, .iastore, 0, 0, 0, []), (308, .dup, 0, 0, 0, []), (309, .bipush 8, 0, 0, 0, []), (311, .iconst 0, 0, 0, 0, []), (312, .iastore, 0, 0, 0, []), (313, .dup, 0, 0, 0, []), (314, .bipush 9, 0, 0, 0, []), (316, .iconst 0, 0, 0, 0, []), (317, .iastore, 0, 0, 0, []), (318, .dup, 0, 0, 0, []), (319, .bipush 10, 0, 0, 0, []), (321, .iconst 0, 0, 0, 0, []), (322, .iastore, 0, 0, 0, []), (323, .dup, 0, 0, 0, []), (324, .bipush 11, 0, 0, 0, []), (326, .bipush 40, 0, 0, 0, []), (328, .iastore, 0, 0, 0, []), (329, .dup, 0, 0, 0, []), (330, .bipush 12, 0, 0, 0, []), (332, .bipush 50, 0, 0, 0, []), (334, .iastore, 0, 0, 0, []), (335, .dup, 0, 0, 0, []), (336, .bipush 13, 0, 0, 0, []), (338, .bipush 51, 0, 0, 0, []), (340, .iastore, 0, 0, 0, []), (341, .dup, 0, 0, 0, []), (342, .bipush 14, 0, 0, 0, []), (344, .iconst 0, 0, 0, 0, []), (345, .iastore, 0, 0, 0, []), (346, .dup, 0, 0, 0, []), (347, .bipush 15, 0, 0, 0, []), (349, .iconst 0, 0, 0, 0, []), (350, .iastore, 0, 0, 0, []), (351, .dup, 0, 0, 0, []), (352, .bipush 16, 0, 0, 0, []), (354, .iconst 0, 0, 0, 0, []), (355, .iastore, 0, 0, 0, []), (356, .dup, 0, 0, 0, []), (357, .bipush 17, 0, 0, 0, []), (359, .bipush 60, 0, 0, 0, []), (361, .iastore, 0, 0, 0, []), (362, .dup, 0, 0, 0, []), (363, .bipush 18, 0, 0, 0, []), (365, .bipush 71, 0, 0, 0, []), (367, .iastore, 0, 0, 0, []), (368, .dup, 0, 0, 0, []), (369, .bipush 19, 0, 0, 0, []), (371, .bipush 70, 0, 0, 0, []), (373, .iastore, 0, 0, 0, []), (374, .dup, 0, 0, 0, []), (375, .bipush 20, 0, 0, 0, []), (377, .iconst 0, 0, 0, 0, []), (378, .iastore, 0, 0, 0, []), (379, .putfield 56, 22, 7, 2, []), (382, .aload_n 0, 0, 0, 0, []), (383, .bipush 20, 0, 0, 0, []), (385, .newarray .int, 0, 0, 0, []), (387, .putfield 59, 23, 7, 2, []), (390, .aload_n 0, 0, 0, 0, []), (391, .bipush 6, 0, 0, 0, []), (393, .newarray .int, 0, 0, 0, []), (395, .dup, 0, 0, 0, []), (396, .iconst 0, 0, 0, 0, []), (397, .iconst (-1), 0, 0, 0, []), (398, .iastore, 0, 0, 0, []), (399, .dup, 0, 0, 0, []), (400, .iconst 1, 0, 0, 0, []), (401, .iconst (-1), 0, 0, 0, []), (402, .iastore, 0, 0, 0, []), (403, .dup, 0, 0, 0, []), (404, .iconst 2, 0, 0, 0, []), (405, .iconst (-1), 0, 0, 0, []), (406, .iastore, 0, 0, 0, []), (407, .dup, 0, 0, 0, []), (408, .iconst 3, 0, 0, 0, []), (409, .iconst (-1), 0, 0, 0, []), (410, .iastore, 0, 0, 0, []), (411, .dup, 0, 0, 0, []), (412, .iconst 4, 0, 0, 0, []), (413, .iconst (-1), 0, 0, 0, []), (414, .iastore, 0, 0, 0, []), (415, .dup, 0, 0, 0, []), (416, .iconst 5, 0, 0, 0, []), (417, .iconst (-1), 0, 0, 0, []), (418, .iastore, 0, 0, 0, []), (419, .putfield 62, 25, 7, 2, []), (422, .aload_n 0, 0, 0, 0, []), (423, .bipush 6, 0, 0, 0, []), (425, .newarray .int, 0, 0, 0, []), (427, .putfield 65, 26, 7, 2, []), (430, .aload_n 0, 0, 0, 0, []), (431, .sipush 360, 0, 0, 0, []), (434, .newarray .long, 0, 0, 0, []), (436, .putfield 68, 27, 7, 2, []), (439, .aload_n 0, 0, 0, 0, []), (440, .bipush 60, 0, 0, 0, []), (442, .newarray .long, 0, 0, 0, []), (444, .putfield 72, 28, 7, 2, []), (447, .return_, 0, 0, 0, [])]
  | _ => []
/-- GeeseKeysModel.fresh()[I -/
def gp_m_fresh (l : Nat) : List gI := match l with
  | 0 => [(0, .sipush 138, 0, 0, 0, []), (3, .newarray .int, 0, 0, 0, []), (5, .astore_n 0, 0, 0, 0, []), (6, .iconst 0, 0, 0, 0, []), (7, .istore_n 1, 0, 0, 0, []), (8, .nop, 8, 0, 0, [])]
  | 8 => [(8, .iload_n 1, 0, 0, 0, []), (9, .bipush 8, 0, 0, 0, []), (11, .if_icmp .ge 13, 24, 0, 0, []), (14, .aload_n 0, 0, 0, 0, []), (15, .iload_n 1, 0, 0, 0, []), (16, .iconst 5, 0, 0, 0, []), (17, .iastore, 0, 0, 0, []), (18, .iinc 1 1, 0, 0, 0, []), (21, .goto (-13), 8, 0, 0, [])]
  | 24 => [(24, .aload_n 0, 0, 0, 0, []), (25, .areturn, 0, 0, 0, [])]
  | _ => []
/-- GeeseKeysModel.image()I -/
def gp_m_image (l : Nat) : List gI := match l with
  | 0 => [(0, .aload_n 0, 0, 0, 0, []), (1, .iconst 1, 0, 0, 0, []), (2, .putfield 75, 3, 7, 1, []), (5, .iconst 0, 0, 0, 0, []), (6, .istore_n 1, 0, 0, 0, []), (7, .nop, 7, 0, 0, [])]
  | 7 => [(7, .iload_n 1, 0, 0, 0, []), (8, .sipush 138, 0, 0, 0, []), (11, .if_icmp .ge 21, 32, 0, 0, []), (14, .aload_n 0, 0, 0, 0, []), (15, .getfield 22, 2, 7, 2, []), (18, .iload_n 1, 0, 0, 0, []), (19, .aload_n 0, 0, 0, 0, []), (20, .getfield 15, 0, 7, 2, []), (23, .iload_n 1, 0, 0, 0, []), (24, .iaload, 0, 0, 0, []), (25, .iastore, 0, 0, 0, []), (26, .iinc 1 1, 0, 0, 0, []), (29, .goto (-22), 7, 0, 0, [])]
  | 32 => [(32, .aload_n 0, 0, 0, 0, []), (33, .getfield 15, 0, 7, 2, []), (36, .bipush 80, 0, 0, 0, []), (38, .iaload, 0, 0, 0, []), (39, .ireturn, 0, 0, 0, [])]
  | _ => []
/-- GeeseKeysModel.undo()I -/
def gp_m_undo (l : Nat) : List gI := match l with
  | 0 => [(0, .aload_n 0, 0, 0, 0, []), (1, .getfield 75, 3, 7, 1, []), (4, .ifCond .ne 6, 10, 0, 0, []), (7, .bipush (-3), 0, 0, 0, []), (9, .ireturn, 0, 0, 0, [])]
  | 10 => [(10, .iconst 0, 0, 0, 0, []), (11, .istore_n 1, 0, 0, 0, []), (12, .nop, 12, 0, 0, [])]
  | 12 => [(12, .iload_n 1, 0, 0, 0, []), (13, .sipush 138, 0, 0, 0, []), (16, .if_icmp .ge 21, 37, 0, 0, []), (19, .aload_n 0, 0, 0, 0, []), (20, .getfield 15, 0, 7, 2, []), (23, .iload_n 1, 0, 0, 0, []), (24, .aload_n 0, 0, 0, 0, []), (25, .getfield 22, 2, 7, 2, []), (28, .iload_n 1, 0, 0, 0, []), (29, .iaload, 0, 0, 0, []), (30, .iastore, 0, 0, 0, []), (31, .iinc 1 1, 0, 0, 0, []), (34, .goto (-22), 12, 0, 0, [])]
  | 37 => [(37, .aload_n 0, 0, 0, 0, []), (38, .getfield 15, 0, 7, 2, []), (41, .bipush 80, 0, 0, 0, []), (43, .iaload, 0, 0, 0, []), (44, .ireturn, 0, 0, 0, [])]
  | _ => []
/-- GeeseKeysModel.gate(II)I -/
def gp_m_gate (l : Nat) : List gI := match l with
  | 0 => [(0, .iload_n 1, 0, 0, 0, []), (1, .invokestatic 87, 105, 1, 0, []), (4, .ifCond .eq 10, 14, 0, 0, []), (7, .iload_n 2, 0, 0, 0, []), (8, .invokestatic 87, 105, 1, 0, []), (11, .ifCond .ne 5, 16, 0, 0, []), (14, .nop, 14, 0, 0, [])]
  | 14 => [(14, .iconst (-1), 0, 0, 0, []), (15, .ireturn, 0, 0, 0, [])]
  | 16 => [(16, .iload_n 1, 0, 0, 0, []), (17, .iload_n 2, 0, 0, 0, []), (18, .if_icmp .ne 6, 24, 0, 0, []), (21, .bipush (-2), 0, 0, 0, []), (23, .ireturn, 0, 0, 0, [])]
  | 24 => [(24, .aload_n 0, 0, 0, 0, []), (25, .getfield 15, 0, 7, 2, []), (28, .bipush 81, 0, 0, 0, []), (30, .iaload, 0, 0, 0, []), (31, .istore_n 3, 0, 0, 0, []), (32, .iload_n 3, 0, 0, 0, []), (33, .bipush 9, 0, 0, 0, []), (35, .if_icmp .ne 6, 41, 0, 0, []), (38, .bipush (-4), 0, 0, 0, []), (40, .ireturn, 0, 0, 0, [])]
  | 41 => [(41, .aload_n 0, 0, 0, 0, []), (42, .getfield 15, 0, 7, 2, []), (45, .bipush 8, 0, 0, 0, []), (47, .iconst 2, 0, 0, 0, []), (48, .iload_n 3, 0, 0, 0, []), (49, .imul, 0, 0, 0, []), (50, .iadd, 0, 0, 0, []), (51, .iload_n 1, 0, 0, 0, []), (52, .iastore, 0, 0, 0, []), (53, .aload_n 0, 0, 0, 0, []), (54, .getfield 15, 0, 7, 2, []), (57, .bipush 8, 0, 0, 0, []), (59, .iconst 2, 0, 0, 0, []), (60, .iload_n 3, 0, 0, 0, []), (61, .imul, 0, 0, 0, []), (62, .iadd, 0, 0, 0, []), (63, .iconst 1, 0, 0, 0, []), (64, .iadd, 0, 0, 0, []), (65, .iload_n 2, 0, 0, 0, []), (66, .iastore, 0, 0, 0, []), (67, .aload_n 0, 0, 0, 0, []), (68, .getfield 15, 0, 7, 2, []), (71, .bipush 81, 0, 0, 0, []), (73, .dup2, 0, 0, 0, []), (74, .iaload, 0, 0, 0, []), (75, .iconst 1, 0, 0, 0, []), (76, .iadd, 0, 0, 0, []), (77, .iastore, 0, 0, 0, []), (78, .iload_n 3, 0, 0, 0, []), (79, .ireturn, 0, 0, 0, [])]
  | _ => []
/-- GeeseKeysModel.isCourt(I)Z -/
def gp_m_isCourt (l : Nat) : List gI := match l with
  | 0 => [(0, .iload_n 0, 0, 0, 0, []), (1, .iconst 0, 0, 0, 0, []), (2, .bipush 7, 0, 0, 0, []), (4, .invokestatic 79, 106, 3, 0, []), (7, .ireturn, 1, 0, 0, [])]
  | _ => []
/-- GeeseKeysModel.isIn(III)Z -/
def gp_m_isIn (l : Nat) : List gI := match l with
  | 0 => [(0, .iload_n 0, 0, 0, 0, []), (1, .iload_n 1, 0, 0, 0, []), (2, .if_icmp .lt 12, 14, 0, 0, []), (5, .iload_n 0, 0, 0, 0, []), (6, .iload_n 2, 0, 0, 0, []), (7, .if_icmp .gt 7, 14, 0, 0, []), (10, .iconst 1, 0, 0, 0, []), (11, .goto 4, 15, 0, 0, [])]
  | 14 => [(14, .iconst 0, 0, 0, 0, []), (15, .nop, 15, 0, 0, [])]
  | 15 => [(15, .ireturn, 1, 0, 0, [])]
  | _ => []
/-- GeeseKeysModel.goose(IIII)I -/
def gp_m_goose (l : Nat) : List gI := match l with
  | 0 => [(0, .iload_n 1, 0, 0, 0, []), (1, .iconst 0, 0, 0, 0, []), (2, .bipush 6, 0, 0, 0, []), (4, .invokestatic 79, 106, 3, 0, []), (7, .ifCond .eq 21, 28, 0, 0, []), (10, .iload_n 3, 0, 0, 0, []), (11, .invokestatic 87, 105, 1, 0, []), (14, .ifCond .eq 14, 28, 0, 0, []), (17, .iload 4, 0, 0, 0, []), (19, .iconst (-1), 0, 0, 0, []), (20, .bipush 8, 0, 0, 0, []), (22, .invokestatic 79, 106, 3, 0, []), (25, .ifCond .ne 5, 30, 0, 0, []), (28, .nop, 28, 0, 0, [])]
  | 28 => [(28, .iconst (-1), 0, 0, 0, []), (29, .ireturn, 0, 0, 0, [])]
  | 30 => [(30, .iload_n 2, 0, 0, 0, []), (31, .iconst 0, 0, 0, 0, []), (32, .bipush 9, 0, 0, 0, []), (34, .invokestatic 79, 106, 3, 0, []), (37, .ifCond .ne 6, 43, 0, 0, []), (40, .bipush (-2), 0, 0, 0, []), (42, .ireturn, 0, 0, 0, [])]
  | 43 => [(43, .aload_n 0, 0, 0, 0, []), (44, .getfield 15, 0, 7, 2, []), (47, .bipush 80, 0, 0, 0, []), (49, .iaload, 0, 0, 0, []), (50, .istore 5, 0, 0, 0, []), (52, .iload 5, 0, 0, 0, []), (54, .bipush 6, 0, 0, 0, []), (56, .if_icmp .ne 6, 62, 0, 0, []), (59, .bipush (-4), 0, 0, 0, []), (61, .ireturn, 0, 0, 0, [])]
  | 62 => [(62, .iconst 0, 0, 0, 0, []), (63, .istore 6, 0, 0, 0, []), (65, .nop, 65, 0, 0, [])]
  | 65 => [(65, .iload 6, 0, 0, 0, []), (67, .bipush 9, 0, 0, 0, []), (69, .if_icmp .ge 26, 95, 0, 0, []), (72, .aload_n 0, 0, 0, 0, []), (73, .getfield 15, 0, 7, 2, []), (76, .bipush 26, 0, 0, 0, []), (78, .bipush 9, 0, 0, 0, []), (80, .iload 5, 0, 0, 0, []), (82, .imul, 0, 0, 0, []), (83, .iadd, 0, 0, 0, []), (84, .iload 6, 0, 0, 0, []), (86, .iadd, 0, 0, 0, []), (87, .iconst 0, 0, 0, 0, []), (88, .iastore, 0, 0, 0, []), (89, .iinc 6 1, 0, 0, 0, []), (92, .goto (-27), 65, 0, 0, [])]
  | 95 => [(95, .aload_n 0, 0, 0, 0, []), (96, .getfield 15, 0, 7, 2, []), (99, .bipush 26, 0, 0, 0, []), (101, .bipush 9, 0, 0, 0, []), (103, .iload 5, 0, 0, 0, []), (105, .imul, 0, 0, 0, []), (106, .iadd, 0, 0, 0, []), (107, .iload_n 1, 0, 0, 0, []), (108, .iastore, 0, 0, 0, []), (109, .aload_n 0, 0, 0, 0, []), (110, .getfield 15, 0, 7, 2, []), (113, .bipush 26, 0, 0, 0, []), (115, .bipush 9, 0, 0, 0, []), (117, .iload 5, 0, 0, 0, []), (119, .imul, 0, 0, 0, []), (120, .iadd, 0, 0, 0, []), (121, .iconst 1, 0, 0, 0, []), (122, .iadd, 0, 0, 0, []), (123, .iload_n 2, 0, 0, 0, []), (124, .iastore, 0, 0, 0, []), (125, .aload_n 0, 0, 0, 0, []), (126, .getfield 15, 0, 7, 2, []), (129, .bipush 26, 0, 0, 0, []), (131, .bipush 9, 0, 0, 0, []), (133, .iload 5, 0, 0, 0, []), (135, .imul, 0, 0, 0, []), (136, .iadd, 0, 0, 0, []), (137, .iconst 2, 0, 0, 0, []), (138, .iadd, 0, 0, 0, []), (139, .iload_n 3, 0, 0, 0, []), (140, .iastore, 0, 0, 0, []), (141, .aload_n 0, 0, 0, 0, []), (142, .getfield 15, 0, 7, 2, []), (145, .bipush 26, 0, 0, 0, []), (147, .bipush 9, 0, 0, 0, []), (149, .iload 5, 0, 0, 0, []), (151, .imul, 0, 0, 0, []), (152, .iadd, 0, 0, 0, []), (153, .iconst 3, 0, 0, 0, []), (154, .iadd, 0, 0, 0, []), (155, .iload 4, 0, 0, 0, []), (157, .iastore, 0, 0, 0, []), (158, .aload_n 0, 0, 0, 0, []), (159, .getfield 15, 0, 7, 2, []), (162, .bipush 80, 0, 0, 0, []), (164, .dup2, 0, 0, 0, []), (165, .iaload, 0, 0, 0, []), (166, .iconst 1, 0, 0, 0, []), (167, .iadd, 0, 0, 0, []), (168, .iastore, 0, 0, 0, []), (169, .iload 5, 0, 0, 0, []), (171, .ireturn, 0, 0, 0, [])]
  | _ => []
/-- GeeseKeysModel.of(II)I -/
def gp_m_of (l : Nat) : List gI := match l with
  | 0 => [(0, .aload_n 0, 0, 0, 0, []), (1, .iload_n 1, 0, 0, 0, []), (2, .invokevirtual 91, 109, 1, 7, []), (5, .ifCond .ne 7, 12, 0, 0, []), (8, .sipush (-10001), 0, 0, 0, []), (11, .ireturn, 0, 0, 0, [])]
  | 12 => [(12, .iload_n 2, 0, 0, 0, []), (13, .iconst 0, 0, 0, 0, []), (14, .iconst 4, 0, 0, 0, []), (15, .invokestatic 79, 106, 3, 0, []), (18, .ifCond .eq 27, 45, 0, 0, []), (21, .iload_n 2, 0, 0, 0, []), (22, .iconst 3, 0, 0, 0, []), (23, .if_icmp .ne 15, 38, 0, 0, []), (26, .aload_n 0, 0, 0, 0, []), (27, .iload_n 1, 0, 0, 0, []), (28, .iconst 3, 0, 0, 0, []), (29, .invokevirtual 83, 110, 2, 7, []), (32, .invokestatic 94, 111, 1, 0, []), (35, .goto 9, 44, 0, 0, [])]
  | 38 => [(38, .aload_n 0, 0, 0, 0, []), (39, .iload_n 1, 0, 0, 0, []), (40, .iload_n 2, 0, 0, 0, []), (41, .invokevirtual 83, 110, 2, 7, []), (44, .nop, 44, 0, 0, [])]
  | 44 => [(44, .ireturn, 0, 0, 0, [])]
  | 45 => [(45, .iload_n 2, 0, 0, 0, []), (46, .iconst 5, 0, 0, 0, []), (47, .if_icmp .ne 11, 58, 0, 0, []), (50, .aload_n 0, 0, 0, 0, []), (51, .iload_n 1, 0, 0, 0, []), (52, .invokevirtual 98, 112, 1, 7, []), (55, .goto 28, 83, 0, 0, [])]
  | 58 => [(58, .iload_n 2, 0, 0, 0, []), (59, .bipush 10, 0, 0, 0, []), (61, .isub, 0, 0, 0, []), (62, .invokestatic 87, 105, 1, 0, []), (65, .ifCond .eq 15, 80, 0, 0, []), (68, .aload_n 0, 0, 0, 0, []), (69, .iload_n 1, 0, 0, 0, []), (70, .iload_n 2, 0, 0, 0, []), (71, .bipush 10, 0, 0, 0, []), (73, .isub, 0, 0, 0, []), (74, .invokevirtual 101, 113, 2, 7, []), (77, .goto 6, 83, 0, 0, [])]
  | 80 => [(80, .sipush (-10001), 0, 0, 0, []), (83, .nop, 83, 0, 0, [])]
  | 83 => [(83, .ireturn, 0, 0, 0, [])]
  | _ => []
/-- GeeseKeysModel.isGoose(I)Z -/
def gp_m_isGoose (l : Nat) : List gI := match l with
  | 0 => [(0, .iload_n 1, 0, 0, 0, []), (1, .iconst 0, 0, 0, 0, []), (2, .aload_n 0, 0, 0, 0, []), (3, .getfield 15, 0, 7, 2, []), (6, .bipush 80, 0, 0, 0, []), (8, .iaload, 0, 0, 0, []), (9, .iconst 1, 0, 0, 0, []), (10, .isub, 0, 0, 0, []), (11, .invokestatic 79, 106, 3, 0, []), (14, .ireturn, 1, 0, 0, [])]
  | _ => []
/-- GeeseKeysModel.goose(II)I -/
def gp_m_goose_2 (l : Nat) : List gI := match l with
  | 0 => [(0, .aload_n 0, 0, 0, 0, []), (1, .getfield 15, 0, 7, 2, []), (4, .bipush 26, 0, 0, 0, []), (6, .bipush 9, 0, 0, 0, []), (8, .iload_n 1, 0, 0, 0, []), (9, .imul, 0, 0, 0, []), (10, .iadd, 0, 0, 0, []), (11, .iload_n 2, 0, 0, 0, []), (12, .iadd, 0, 0, 0, []), (13, .iaload, 0, 0, 0, []), (14, .ireturn, 0, 0, 0, [])]
  | _ => []
/-- GeeseKeysModel.orNever(I)I -/
def gp_m_orNever (l : Nat) : List gI := match l with
  | 0 => [(0, .iload_n 0, 0, 0, 0, []), (1, .iconst (-1), 0, 0, 0, []), (2, .if_icmp .ne 8, 10, 0, 0, []), (5, .bipush (-5), 0, 0, 0, []), (7, .goto 4, 11, 0, 0, [])]
  | 10 => [(10, .iload_n 0, 0, 0, 0, []), (11, .nop, 11, 0, 0, [])]
  | 11 => [(11, .ireturn, 0, 0, 0, [])]
  | _ => []
/-- GeeseKeysModel.goesTo(I)I -/
def gp_m_goesTo (l : Nat) : List gI := match l with
  | 0 => [(0, .aload_n 0, 0, 0, 0, []), (1, .iload_n 1, 0, 0, 0, []), (2, .iconst 2, 0, 0, 0, []), (3, .invokevirtual 83, 110, 2, 7, []), (6, .istore_n 2, 0, 0, 0, []), (7, .iload_n 2, 0, 0, 0, []), (8, .istore_n 3, 0, 0, 0, []), (9, .aload_n 0, 0, 0, 0, []), (10, .iload_n 1, 0, 0, 0, []), (11, .iload_n 2, 0, 0, 0, []), (12, .invokevirtual 101, 113, 2, 7, []), (15, .istore 4, 0, 0, 0, []), (17, .iconst 0, 0, 0, 0, []), (18, .istore 5, 0, 0, 0, []), (20, .nop, 20, 0, 0, [])]
  | 20 => [(20, .iload 5, 0, 0, 0, []), (22, .bipush 8, 0, 0, 0, []), (24, .if_icmp .ge 94, 118, 0, 0, []), (27, .iconst 0, 0, 0, 0, []), (28, .istore 6, 0, 0, 0, []), (30, .iconst 0, 0, 0, 0, []), (31, .istore 7, 0, 0, 0, []), (33, .nop, 33, 0, 0, [])]
  | 33 => [(33, .iload 7, 0, 0, 0, []), (35, .aload_n 0, 0, 0, 0, []), (36, .getfield 15, 0, 7, 2, []), (39, .bipush 81, 0, 0, 0, []), (41, .iaload, 0, 0, 0, []), (42, .if_icmp .ge 33, 75, 0, 0, []), (45, .iload 6, 0, 0, 0, []), (47, .ifCond .ne 15, 62, 0, 0, []), (50, .aload_n 0, 0, 0, 0, []), (51, .iload 7, 0, 0, 0, []), (53, .iload_n 2, 0, 0, 0, []), (54, .invokevirtual 186, 130, 2, 7, []), (57, .iload 5, 0, 0, 0, []), (59, .if_icmp .ne 7, 66, 0, 0, []), (62, .nop, 62, 0, 0, [])]
  | 62 => [(62, .iconst 1, 0, 0, 0, []), (63, .goto 4, 67, 0, 0, [])]
  | 66 => [(66, .iconst 0, 0, 0, 0, []), (67, .nop, 67, 0, 0, [])]
  | 67 => [(67, .istore 6, 0, 0, 0, []), (69, .iinc 7 1, 0, 0, 0, []), (72, .goto (-39), 33, 0, 0, [])]
  | 75 => [(75, .iload 6, 0, 0, 0, []), (77, .ifCond .eq 13, 90, 0, 0, []), (80, .aload_n 0, 0, 0, 0, []), (81, .iload_n 1, 0, 0, 0, []), (82, .iload 5, 0, 0, 0, []), (84, .invokevirtual 101, 113, 2, 7, []), (87, .goto 4, 91, 0, 0, [])]
  | 90 => [(90, .iconst 0, 0, 0, 0, []), (91, .nop, 91, 0, 0, [])]
  | 91 => [(91, .istore 7, 0, 0, 0, []), (93, .iload 6, 0, 0, 0, []), (95, .ifCond .eq 17, 112, 0, 0, []), (98, .iload 7, 0, 0, 0, []), (100, .iload 4, 0, 0, 0, []), (102, .if_icmp .le 10, 112, 0, 0, []), (105, .iload 5, 0, 0, 0, []), (107, .istore_n 3, 0, 0, 0, []), (108, .iload 7, 0, 0, 0, []), (110, .istore 4, 0, 0, 0, []), (112, .nop, 112, 0, 0, [])]
  | 112 => [(112, .iinc 5 1, 0, 0, 0, []), (115, .goto (-95), 20, 0, 0, [])]
  | 118 => [(118, .iload_n 3, 0, 0, 0, []), (119, .ireturn, 0, 0, 0, [])]
  | _ => []
/-- GeeseKeysModel.pull(II)I -/
def gp_m_pull (l : Nat) : List gI := match l with
  | 0 => [(0, .aload_n 0, 0, 0, 0, []), (1, .iload_n 1, 0, 0, 0, []), (2, .iload_n 2, 0, 0, 0, []), (3, .invokevirtual 175, 114, 2, 7, []), (6, .aload_n 0, 0, 0, 0, []), (7, .getfield 154, 14, 7, 0, []), (10, .aload_n 0, 0, 0, 0, []), (11, .iload_n 1, 0, 0, 0, []), (12, .iload_n 2, 0, 0, 0, []), (13, .invokevirtual 179, 125, 2, 7, []), (16, .ifCond .eq 12, 28, 0, 0, []), (19, .aload_n 0, 0, 0, 0, []), (20, .iload_n 1, 0, 0, 0, []), (21, .iconst 1, 0, 0, 0, []), (22, .invokevirtual 83, 110, 2, 7, []), (25, .goto 4, 29, 0, 0, [])]
  | 28 => [(28, .iconst 0, 0, 0, 0, []), (29, .nop, 29, 0, 0, [])]
  | 29 => [(29, .isub, 0, 0, 0, []), (30, .istore_n 3, 0, 0, 0, []), (31, .aload_n 0, 0, 0, 0, []), (32, .iload_n 1, 0, 0, 0, []), (33, .iconst 2, 0, 0, 0, []), (34, .invokevirtual 83, 110, 2, 7, []), (37, .iload_n 2, 0, 0, 0, []), (38, .if_icmp .ne 10, 48, 0, 0, []), (41, .aload_n 0, 0, 0, 0, []), (42, .getfield 154, 14, 7, 0, []), (45, .goto 4, 49, 0, 0, [])]
  | 48 => [(48, .iconst 0, 0, 0, 0, []), (49, .nop, 49, 0, 0, [])]
  | 49 => [(49, .istore 4, 0, 0, 0, []), (51, .aload_n 0, 0, 0, 0, []), (52, .iload_n 1, 0, 0, 0, []), (53, .iconst 0, 0, 0, 0, []), (54, .invokevirtual 83, 110, 2, 7, []), (57, .tableswitch 105 1 6 #[39, 41, 48, 51, 74, 91], 162, 0, 0, [(1, 96), (2, 98), (3, 105), (4, 108), (5, 131), (6, 148)])]
  | 96 => [(96, .iload_n 3, 0, 0, 0, []), (97, .ireturn, 0, 0, 0, [])]
  | 98 => [(98, .aload_n 0, 0, 0, 0, []), (99, .getfield 154, 14, 7, 0, []), (102, .iconst 2, 0, 0, 0, []), (103, .idiv, 0, 0, 0, []), (104, .ireturn, 0, 0, 0, [])]
  | 105 => [(105, .iload 4, 0, 0, 0, []), (107, .ireturn, 0, 0, 0, [])]
  | 108 => [(108, .iload_n 3, 0, 0, 0, []), (109, .aload_n 0, 0, 0, 0, []), (110, .aload_n 0, 0, 0, 0, []), (111, .iload_n 1, 0, 0, 0, []), (112, .iconst 3, 0, 0, 0, []), (113, .invokevirtual 83, 110, 2, 7, []), (116, .iload_n 2, 0, 0, 0, []), (117, .invokevirtual 183, 127, 2, 7, []), (120, .ifCond .eq 8, 128, 0, 0, []), (123, .bipush 10, 0, 0, 0, []), (125, .goto 4, 129, 0, 0, [])]
  | 128 => [(128, .iconst 0, 0, 0, 0, []), (129, .nop, 129, 0, 0, [])]
  | 129 => [(129, .iadd, 0, 0, 0, []), (130, .ireturn, 0, 0, 0, [])]
  | 131 => [(131, .aload_n 0, 0, 0, 0, []), (132, .getfield 154, 14, 7, 0, []), (135, .iconst 2, 0, 0, 0, []), (136, .idiv, 0, 0, 0, []), (137, .iload_n 2, 0, 0, 0, []), (138, .ifCond .ne 7, 145, 0, 0, []), (141, .iconst 5, 0, 0, 0, []), (142, .goto 4, 146, 0, 0, [])]
  | 145 => [(145, .iconst 0, 0, 0, 0, []), (146, .nop, 146, 0, 0, [])]
  | 146 => [(146, .iadd, 0, 0, 0, []), (147, .ireturn, 0, 0, 0, [])]
  | 148 => [(148, .iload 4, 0, 0, 0, []), (150, .aload_n 0, 0, 0, 0, []), (151, .iload_n 1, 0, 0, 0, []), (152, .iconst 5, 0, 0, 0, []), (153, .iload_n 2, 0, 0, 0, []), (154, .iconst 4, 0, 0, 0, []), (155, .irem, 0, 0, 0, []), (156, .iadd, 0, 0, 0, []), (157, .invokevirtual 83, 110, 2, 7, []), (160, .iadd, 0, 0, 0, []), (161, .ireturn, 0, 0, 0, [])]
  | 162 => [(162, .aload_n 0, 0, 0, 0, []), (163, .getfield 154, 14, 7, 0, []), (166, .ireturn, 0, 0, 0, [])]
  | _ => []
/-- GeeseKeysModel.readFor(II)V -/
def gp_m_readFor (l : Nat) : List gI := match l with
  | 0 => [(0, .aload_n 0, 0, 0, 0, []), (1, .getfield 37, 16, 7, 2, []), (4, .iconst 0, 0, 0, 0, []), (5, .iload_n 1, 0, 0, 0, []), (6, .iastore, 0, 0, 0, []), (7, .aload_n 0, 0, 0, 0, []), (8, .getfield 37, 16, 7, 2, []), (11, .iconst 1, 0, 0, 0, []), (12, .aload_n 0, 0, 0, 0, []), (13, .iload_n 1, 0, 0, 0, []), (14, .iconst 0, 0, 0, 0, []), (15, .invokevirtual 83, 110, 2, 7, []), (18, .iastore, 0, 0, 0, []), (19, .aload_n 0, 0, 0, 0, []), (20, .getfield 37, 16, 7, 2, []), (23, .iconst 2, 0, 0, 0, []), (24, .aload_n 0, 0, 0, 0, []), (25, .iload_n 1, 0, 0, 0, []), (26, .iconst 1, 0, 0, 0, []), (27, .invokevirtual 83, 110, 2, 7, []), (30, .iastore, 0, 0, 0, []), (31, .aload_n 0, 0, 0, 0, []), (32, .getfield 37, 16, 7, 2, []), (35, .iconst 3, 0, 0, 0, []), (36, .iload_n 2, 0, 0, 0, []), (37, .iastore, 0, 0, 0, []), (38, .aload_n 0, 0, 0, 0, []), (39, .getfield 37, 16, 7, 2, []), (42, .iconst 4, 0, 0, 0, []), (43, .aload_n 0, 0, 0, 0, []), (44, .getfield 15, 0, 7, 2, []), (47, .iload_n 2, 0, 0, 0, []), (48, .iaload, 0, 0, 0, []), (49, .iastore, 0, 0, 0, []), (50, .aload_n 0, 0, 0, 0, []), (51, .getfield 37, 16, 7, 2, []), (54, .iconst 5, 0, 0, 0, []), (55, .aload_n 0, 0, 0, 0, []), (56, .getfield 15, 0, 7, 2, []), (59, .bipush 82, 0, 0, 0, []), (61, .iaload, 0, 0, 0, []), (62, .bipush 10, 0, 0, 0, []), (64, .irem, 0, 0, 0, []), (65, .iastore, 0, 0, 0, []), (66, .aload_n 0, 0, 0, 0, []), (67, .getfield 15, 0, 7, 2, []), (70, .bipush 83, 0, 0, 0, []), (72, .iaload, 0, 0, 0, []), (73, .ifCond .ne 19, 92, 0, 0, []), (76, .aload_n 0, 0, 0, 0, []), (77, .aload_n 0, 0, 0, 0, []), (78, .getfield 15, 0, 7, 2, []), (81, .iload_n 2, 0, 0, 0, []), (82, .iaload, 0, 0, 0, []), (83, .putfield 154, 14, 7, 0, []), (86, .aload_n 0, 0, 0, 0, []), (87, .iconst 1, 0, 0, 0, []), (88, .putfield 151, 15, 7, 0, []), (91, .return_, 0, 0, 0, [])]
  | 92 => [(92, .aload_n 0, 0, 0, 0, []), (93, .getfield 15, 0, 7, 2, []), (96, .bipush 83, 0, 0, 0, []), (98, .iaload, 0, 0, 0, []), (99, .iconst 1, 0, 0, 0, []), (100, .isub, 0, 0, 0, []), (101, .istore_n 3, 0, 0, 0, []), (102, .aload_n 0, 0, 0, 0, []), (103, .aload_n 0, 0, 0, 0, []), (104, .getfield 31, 7, 7, 2, []), (107, .iload_n 3, 0, 0, 0, []), (108, .iaload, 0, 0, 0, []), (109, .putfield 118, 10, 7, 0, []), (112, .iconst 0, 0, 0, 0, []), (113, .istore 4, 0, 0, 0, []), (115, .nop, 115, 0, 0, [])]
  | 115 => [(115, .iload 4, 0, 0, 0, []), (117, .aload_n 0, 0, 0, 0, []), (118, .getfield 118, 10, 7, 0, []), (121, .if_icmp .ge 28, 149, 0, 0, []), (124, .aload_n 0, 0, 0, 0, []), (125, .getfield 34, 9, 7, 2, []), (128, .iload 4, 0, 0, 0, []), (130, .aload_n 0, 0, 0, 0, []), (131, .getfield 28, 6, 7, 2, []), (134, .bipush 100, 0, 0, 0, []), (136, .iload_n 3, 0, 0, 0, []), (137, .imul, 0, 0, 0, []), (138, .iload 4, 0, 0, 0, []), (140, .iadd, 0, 0, 0, []), (141, .iaload, 0, 0, 0, []), (142, .iastore, 0, 0, 0, []), (143, .iinc 4 1, 0, 0, 0, []), (146, .goto (-31), 115, 0, 0, [])]
  | 149 => [(149, .aload_n 0, 0, 0, 0, []), (150, .invokevirtual 160, 115, 0, 7, []), (153, .pop, 0, 0, 0, []), (154, .return_, 0, 0, 0, [])]
  | _ => []
/-- GeeseKeysModel.readAll()Z -/
def gp_m_readAll (l : Nat) : List gI := match l with
  | 0 => [(0, .aload_n 0, 0, 0, 0, []), (1, .iconst 0, 0, 0, 0, []), (2, .putfield 115, 11, 7, 0, []), (5, .aload_n 0, 0, 0, 0, []), (6, .iconst 1, 0, 0, 0, []), (7, .putfield 112, 12, 7, 1, []), (10, .aload_n 0, 0, 0, 0, []), (11, .aload_n 0, 0, 0, 0, []), (12, .getfield 37, 16, 7, 2, []), (15, .iconst 4, 0, 0, 0, []), (16, .iaload, 0, 0, 0, []), (17, .putfield 154, 14, 7, 0, []), (20, .aload_n 0, 0, 0, 0, []), (21, .iconst 1, 0, 0, 0, []), (22, .putfield 151, 15, 7, 0, []), (25, .iconst 1, 0, 0, 0, []), (26, .istore_n 1, 0, 0, 0, []), (27, .aload_n 0, 0, 0, 0, []), (28, .invokevirtual 157, 116, 0, 7, []), (31, .nop, 31, 0, 0, [])]
  | 31 => [(31, .iload_n 1, 0, 0, 0, []), (32, .bipush 10, 0, 0, 0, []), (34, .if_icmp .ge 32, 66, 0, 0, []), (37, .aload_n 0, 0, 0, 0, []), (38, .bipush 59, 0, 0, 0, []), (40, .invokevirtual 121, 117, 1, 7, []), (43, .ifCond .eq 23, 66, 0, 0, []), (46, .aload_n 0, 0, 0, 0, []), (47, .dup, 0, 0, 0, []), (48, .getfield 115, 11, 7, 0, []), (51, .iconst 1, 0, 0, 0, []), (52, .iadd, 0, 0, 0, []), (53, .putfield 115, 11, 7, 0, []), (56, .aload_n 0, 0, 0, 0, []), (57, .invokevirtual 157, 116, 0, 7, []), (60, .iinc 1 1, 0, 0, 0, []), (63, .goto (-32), 31, 0, 0, [])]
  | 66 => [(66, .aload_n 0, 0, 0, 0, []), (67, .getfield 112, 12, 7, 1, []), (70, .ifCond .eq 18, 88, 0, 0, []), (73, .aload_n 0, 0, 0, 0, []), (74, .getfield 115, 11, 7, 0, []), (77, .aload_n 0, 0, 0, 0, []), (78, .getfield 118, 10, 7, 0, []), (81, .if_icmp .ne 7, 88, 0, 0, []), (84, .iconst 1, 0, 0, 0, []), (85, .goto 4, 89, 0, 0, [])]
  | 88 => [(88, .iconst 0, 0, 0, 0, []), (89, .nop, 89, 0, 0, [])]
  | 89 => [(89, .ireturn, 1, 0, 0, [])]
  | _ => []
/-- GeeseKeysModel.clause()V -/
def gp_m_clause (l : Nat) : List gI := match l with
  | 0 => [(0, .iconst (-1), 0, 0, 0, []), (1, .istore_n 1, 0, 0, 0, []), (2, .iconst 0, 0, 0, 0, []), (3, .istore_n 2, 0, 0, 0, []), (4, .nop, 4, 0, 0, [])]
  | 4 => [(4, .iload_n 2, 0, 0, 0, []), (5, .iconst 3, 0, 0, 0, []), (6, .if_icmp .ge 28, 34, 0, 0, []), (9, .aload_n 0, 0, 0, 0, []), (10, .aload_n 0, 0, 0, 0, []), (11, .getfield 44, 18, 7, 2, []), (14, .iload_n 2, 0, 0, 0, []), (15, .caload, 0, 0, 0, []), (16, .invokevirtual 121, 117, 1, 7, []), (19, .ifCond .eq 7, 26, 0, 0, []), (22, .iload_n 2, 0, 0, 0, []), (23, .goto 4, 27, 0, 0, [])]
  | 26 => [(26, .iload_n 1, 0, 0, 0, []), (27, .nop, 27, 0, 0, [])]
  | 27 => [(27, .istore_n 1, 0, 0, 0, []), (28, .iinc 2 1, 0, 0, 0, []), (31, .goto (-27), 4, 0, 0, [])]
  | 34 => [(34, .iload_n 1, 0, 0, 0, []), (35, .iconst (-1), 0, 0, 0, []), (36, .if_icmp .ne 9, 45, 0, 0, []), (39, .aload_n 0, 0, 0, 0, []), (40, .iconst 0, 0, 0, 0, []), (41, .putfield 112, 12, 7, 1, []), (44, .return_, 0, 0, 0, [])]
  | 45 => [(45, .iconst 0, 0, 0, 0, []), (46, .istore_n 2, 0, 0, 0, []), (47, .nop, 47, 0, 0, [])]
  | 47 => [(47, .iload_n 2, 0, 0, 0, []), (48, .iconst 5, 0, 0, 0, []), (49, .if_icmp .ge 36, 85, 0, 0, []), (52, .aload_n 0, 0, 0, 0, []), (53, .getfield 47, 19, 7, 2, []), (56, .iconst 5, 0, 0, 0, []), (57, .iload_n 1, 0, 0, 0, []), (58, .imul, 0, 0, 0, []), (59, .iload_n 2, 0, 0, 0, []), (60, .iadd, 0, 0, 0, []), (61, .caload, 0, 0, 0, []), (62, .ifCond .eq 23, 85, 0, 0, []), (65, .aload_n 0, 0, 0, 0, []), (66, .aload_n 0, 0, 0, 0, []), (67, .getfield 47, 19, 7, 2, []), (70, .iconst 5, 0, 0, 0, []), (71, .iload_n 1, 0, 0, 0, []), (72, .imul, 0, 0, 0, []), (73, .iload_n 2, 0, 0, 0, []), (74, .iadd, 0, 0, 0, []), (75, .caload, 0, 0, 0, []), (76, .invokevirtual 128, 118, 1, 7, []), (79, .iinc 2 1, 0, 0, 0, []), (82, .goto (-35), 47, 0, 0, [])]
  | 85 => [(85, .aload_n 0, 0, 0, 0, []), (86, .bipush 32, 0, 0, 0, []), (88, .invokevirtual 128, 118, 1, 7, []), (91, .aload_n 0, 0, 0, 0, []), (92, .invokevirtual 132, 119, 0, 7, []), (95, .istore_n 2, 0, 0, 0, []), (96, .iload_n 1, 0, 0, 0, []), (97, .iconst 2, 0, 0, 0, []), (98, .if_icmp .ne 9, 107, 0, 0, []), (101, .aload_n 0, 0, 0, 0, []), (102, .iload_n 2, 0, 0, 0, []), (103, .putfield 151, 15, 7, 0, []), (106, .return_, 0, 0, 0, [])]
  | 107 => [(107, .aload_n 0, 0, 0, 0, []), (108, .bipush 32, 0, 0, 0, []), (110, .invokevirtual 128, 118, 1, 7, []), (113, .aload_n 0, 0, 0, 0, []), (114, .iconst 0, 0, 0, 0, []), (115, .putfield 136, 13, 7, 0, []), (118, .aload_n 0, 0, 0, 0, []), (119, .invokevirtual 142, 121, 0, 7, []), (122, .istore_n 3, 0, 0, 0, []), (123, .aload_n 0, 0, 0, 0, []), (124, .dup, 0, 0, 0, []), (125, .getfield 154, 14, 7, 0, []), (128, .iload_n 3, 0, 0, 0, []), (129, .ifCond .ne 7, 136, 0, 0, []), (132, .iconst 0, 0, 0, 0, []), (133, .goto 13, 146, 0, 0, [])]
  | 136 => [(136, .iload_n 1, 0, 0, 0, []), (137, .ifCond .ne 7, 144, 0, 0, []), (140, .iload_n 2, 0, 0, 0, []), (141, .goto 5, 146, 0, 0, [])]
  | 144 => [(144, .iload_n 2, 0, 0, 0, []), (145, .ineg, 0, 0, 0, []), (146, .nop, 146, 0, 0, [])]
  | 146 => [(146, .iadd, 0, 0, 0, []), (147, .putfield 154, 14, 7, 0, []), (150, .return_, 0, 0, 0, [])]
  | _ => []
/-- GeeseKeysModel.isAt(I)Z -/
def gp_m_isAt (l : Nat) : List gI := match l with
  | 0 => [(0, .aload_n 0, 0, 0, 0, []), (1, .getfield 112, 12, 7, 1, []), (4, .ifCond .eq 31, 35, 0, 0, []), (7, .aload_n 0, 0, 0, 0, []), (8, .getfield 115, 11, 7, 0, []), (11, .aload_n 0, 0, 0, 0, []), (12, .getfield 118, 10, 7, 0, []), (15, .if_icmp .ge 20, 35, 0, 0, []), (18, .aload_n 0, 0, 0, 0, []), (19, .getfield 34, 9, 7, 2, []), (22, .aload_n 0, 0, 0, 0, []), (23, .getfield 115, 11, 7, 0, []), (26, .iaload, 0, 0, 0, []), (27, .iload_n 1, 0, 0, 0, []), (28, .if_icmp .ne 7, 35, 0, 0, []), (31, .iconst 1, 0, 0, 0, []), (32, .goto 4, 36, 0, 0, [])]
  | 35 => [(35, .iconst 0, 0, 0, 0, []), (36, .nop, 36, 0, 0, [])]
  | 36 => [(36, .ireturn, 1, 0, 0, [])]
  | _ => []
/-- GeeseKeysModel.takes(I)V -/
def gp_m_takes (l : Nat) : List gI := match l with
  | 0 => [(0, .aload_n 0, 0, 0, 0, []), (1, .iload_n 1, 0, 0, 0, []), (2, .invokevirtual 121, 117, 1, 7, []), (5, .ifCond .eq 16, 21, 0, 0, []), (8, .aload_n 0, 0, 0, 0, []), (9, .dup, 0, 0, 0, []), (10, .getfield 115, 11, 7, 0, []), (13, .iconst 1, 0, 0, 0, []), (14, .iadd, 0, 0, 0, []), (15, .putfield 115, 11, 7, 0, []), (18, .goto 8, 26, 0, 0, [])]
  | 21 => [(21, .aload_n 0, 0, 0, 0, []), (22, .iconst 0, 0, 0, 0, []), (23, .putfield 112, 12, 7, 1, []), (26, .nop, 26, 0, 0, [])]
  | 26 => [(26, .return_, 0, 0, 0, [])]
  | _ => []
/-- GeeseKeysModel.number()I -/
def gp_m_number (l : Nat) : List gI := match l with
  | 0 => [(0, .aload_n 0, 0, 0, 0, []), (1, .invokevirtual 124, 120, 0, 7, []), (4, .ifCond .ne 10, 14, 0, 0, []), (7, .aload_n 0, 0, 0, 0, []), (8, .iconst 0, 0, 0, 0, []), (9, .putfield 112, 12, 7, 1, []), (12, .iconst 0, 0, 0, 0, []), (13, .ireturn, 0, 0, 0, [])]
  | 14 => [(14, .aload_n 0, 0, 0, 0, []), (15, .getfield 34, 9, 7, 2, []), (18, .aload_n 0, 0, 0, 0, []), (19, .getfield 115, 11, 7, 0, []), (22, .iaload, 0, 0, 0, []), (23, .bipush 48, 0, 0, 0, []), (25, .isub, 0, 0, 0, []), (26, .istore_n 1, 0, 0, 0, []), (27, .aload_n 0, 0, 0, 0, []), (28, .dup, 0, 0, 0, []), (29, .getfield 115, 11, 7, 0, []), (32, .iconst 1, 0, 0, 0, []), (33, .iadd, 0, 0, 0, []), (34, .putfield 115, 11, 7, 0, []), (37, .aload_n 0, 0, 0, 0, []), (38, .invokevirtual 124, 120, 0, 7, []), (41, .ifCond .eq 31, 72, 0, 0, []), (44, .bipush 10, 0, 0, 0, []), (46, .iload_n 1, 0, 0, 0, []), (47, .imul, 0, 0, 0, []), (48, .aload_n 0, 0, 0, 0, []), (49, .getfield 34, 9, 7, 2, []), (52, .aload_n 0, 0, 0, 0, []), (53, .getfield 115, 11, 7, 0, []), (56, .iaload, 0, 0, 0, []), (57, .iadd, 0, 0, 0, []), (58, .bipush 48, 0, 0, 0, []), (60, .isub, 0, 0, 0, []), (61, .istore_n 1, 0, 0, 0, []), (62, .aload_n 0, 0, 0, 0, []), (63, .dup, 0, 0, 0, []), (64, .getfield 115, 11, 7, 0, []), (67, .iconst 1, 0, 0, 0, []), (68, .iadd, 0, 0, 0, []), (69, .putfield 115, 11, 7, 0, []), (72, .nop, 72, 0, 0, [])]
  | 72 => [(72, .iload_n 1, 0, 0, 0, []), (73, .ireturn, 0, 0, 0, [])]
  | _ => []
/-- GeeseKeysModel.isDigit()Z -/
def gp_m_isDigit (l : Nat) : List gI := match l with
  | 0 => [(0, .aload_n 0, 0, 0, 0, []), (1, .getfield 112, 12, 7, 1, []), (4, .ifCond .eq 46, 50, 0, 0, []), (7, .aload_n 0, 0, 0, 0, []), (8, .getfield 115, 11, 7, 0, []), (11, .aload_n 0, 0, 0, 0, []), (12, .getfield 118, 10, 7, 0, []), (15, .if_icmp .ge 35, 50, 0, 0, []), (18, .aload_n 0, 0, 0, 0, []), (19, .getfield 34, 9, 7, 2, []), (22, .aload_n 0, 0, 0, 0, []), (23, .getfield 115, 11, 7, 0, []), (26, .iaload, 0, 0, 0, []), (27, .bipush 48, 0, 0, 0, []), (29, .if_icmp .lt 21, 50, 0, 0, []), (32, .aload_n 0, 0, 0, 0, []), (33, .getfield 34, 9, 7, 2, []), (36, .aload_n 0, 0, 0, 0, []), (37, .getfield 115, 11, 7, 0, []), (40, .iaload, 0, 0, 0, []), (41, .bipush 57, 0, 0, 0, []), (43, .if_icmp .gt 7, 50, 0, 0, []), (46, .iconst 1, 0, 0, 0, []), (47, .goto 4, 51, 0, 0, [])]
  | 50 => [(50, .iconst 0, 0, 0, 0, []), (51, .nop, 51, 0, 0, [])]
  | 51 => [(51, .ireturn, 1, 0, 0, [])]
  | _ => []
/-- GeeseKeysModel.any()Z -/
def gp_m_any (l : Nat) : List gI := match l with
  | 0 => [(0, .aload_n 0, 0, 0, 0, []), (1, .invokevirtual 148, 122, 0, 7, []), (4, .istore_n 1, 0, 0, 0, []), (5, .nop, 5, 0, 0, [])]
  | 5 => [(5, .aload_n 0, 0, 0, 0, []), (6, .bipush 124, 0, 0, 0, []), (8, .invokevirtual 121, 117, 1, 7, []), (11, .ifCond .eq 35, 46, 0, 0, []), (14, .aload_n 0, 0, 0, 0, []), (15, .dup, 0, 0, 0, []), (16, .getfield 115, 11, 7, 0, []), (19, .iconst 1, 0, 0, 0, []), (20, .iadd, 0, 0, 0, []), (21, .putfield 115, 11, 7, 0, []), (24, .aload_n 0, 0, 0, 0, []), (25, .invokevirtual 148, 122, 0, 7, []), (28, .istore_n 2, 0, 0, 0, []), (29, .iload_n 1, 0, 0, 0, []), (30, .ifCond .ne 7, 37, 0, 0, []), (33, .iload_n 2, 0, 0, 0, []), (34, .ifCond .eq 7, 41, 0, 0, []), (37, .nop, 37, 0, 0, [])]
  | 37 => [(37, .iconst 1, 0, 0, 0, []), (38, .goto 4, 42, 0, 0, [])]
  | 41 => [(41, .iconst 0, 0, 0, 0, []), (42, .nop, 42, 0, 0, [])]
  | 42 => [(42, .istore_n 1, 0, 0, 0, []), (43, .goto (-38), 5, 0, 0, [])]
  | 46 => [(46, .iload_n 1, 0, 0, 0, []), (47, .ireturn, 1, 0, 0, [])]
  | _ => []
/-- GeeseKeysModel.both()Z -/
def gp_m_both (l : Nat) : List gI := match l with
  | 0 => [(0, .aload_n 0, 0, 0, 0, []), (1, .invokevirtual 139, 123, 0, 7, []), (4, .istore_n 1, 0, 0, 0, []), (5, .nop, 5, 0, 0, [])]
  | 5 => [(5, .aload_n 0, 0, 0, 0, []), (6, .bipush 38, 0, 0, 0, []), (8, .invokevirtual 121, 117, 1, 7, []), (11, .ifCond .eq 35, 46, 0, 0, []), (14, .aload_n 0, 0, 0, 0, []), (15, .dup, 0, 0, 0, []), (16, .getfield 115, 11, 7, 0, []), (19, .iconst 1, 0, 0, 0, []), (20, .iadd, 0, 0, 0, []), (21, .putfield 115, 11, 7, 0, []), (24, .aload_n 0, 0, 0, 0, []), (25, .invokevirtual 139, 123, 0, 7, []), (28, .istore_n 2, 0, 0, 0, []), (29, .iload_n 1, 0, 0, 0, []), (30, .ifCond .eq 11, 41, 0, 0, []), (33, .iload_n 2, 0, 0, 0, []), (34, .ifCond .eq 7, 41, 0, 0, []), (37, .iconst 1, 0, 0, 0, []), (38, .goto 4, 42, 0, 0, [])]
  | 41 => [(41, .iconst 0, 0, 0, 0, []), (42, .nop, 42, 0, 0, [])]
  | 42 => [(42, .istore_n 1, 0, 0, 0, []), (43, .goto (-38), 5, 0, 0, [])]
  | 46 => [(46, .iload_n 1, 0, 0, 0, []), (47, .ireturn, 1, 0, 0, [])]
  | _ => []
/-- GeeseKeysModel.factor()Z -/
def gp_m_factor (l : Nat) : List gI := match l with
  | 0 => [(0, .aload_n 0, 0, 0, 0, []), (1, .getfield 136, 13, 7, 0, []), (4, .iconst 4, 0, 0, 0, []), (5, .if_icmp .ge 58, 63, 0, 0, []), (8, .aload_n 0, 0, 0, 0, []), (9, .bipush 33, 0, 0, 0, []), (11, .invokevirtual 121, 117, 1, 7, []), (14, .ifCond .eq 49, 63, 0, 0, []), (17, .aload_n 0, 0, 0, 0, []), (18, .dup, 0, 0, 0, []), (19, .getfield 115, 11, 7, 0, []), (22, .iconst 1, 0, 0, 0, []), (23, .iadd, 0, 0, 0, []), (24, .putfield 115, 11, 7, 0, []), (27, .aload_n 0, 0, 0, 0, []), (28, .dup, 0, 0, 0, []), (29, .getfield 136, 13, 7, 0, []), (32, .iconst 1, 0, 0, 0, []), (33, .iadd, 0, 0, 0, []), (34, .putfield 136, 13, 7, 0, []), (37, .aload_n 0, 0, 0, 0, []), (38, .invokevirtual 139, 123, 0, 7, []), (41, .ifCond .ne 7, 48, 0, 0, []), (44, .iconst 1, 0, 0, 0, []), (45, .goto 4, 49, 0, 0, [])]
  | 48 => [(48, .iconst 0, 0, 0, 0, []), (49, .nop, 49, 0, 0, [])]
  | 49 => [(49, .istore_n 1, 0, 0, 0, []), (50, .aload_n 0, 0, 0, 0, []), (51, .dup, 0, 0, 0, []), (52, .getfield 136, 13, 7, 0, []), (55, .iconst 1, 0, 0, 0, []), (56, .isub, 0, 0, 0, []), (57, .putfield 136, 13, 7, 0, []), (60, .goto 69, 129, 0, 0, [])]
  | 63 => [(63, .aload_n 0, 0, 0, 0, []), (64, .getfield 136, 13, 7, 0, []), (67, .iconst 4, 0, 0, 0, []), (68, .if_icmp .ge 56, 124, 0, 0, []), (71, .aload_n 0, 0, 0, 0, []), (72, .bipush 40, 0, 0, 0, []), (74, .invokevirtual 121, 117, 1, 7, []), (77, .ifCond .eq 47, 124, 0, 0, []), (80, .aload_n 0, 0, 0, 0, []), (81, .dup, 0, 0, 0, []), (82, .getfield 115, 11, 7, 0, []), (85, .iconst 1, 0, 0, 0, []), (86, .iadd, 0, 0, 0, []), (87, .putfield 115, 11, 7, 0, []), (90, .aload_n 0, 0, 0, 0, []), (91, .dup, 0, 0, 0, []), (92, .getfield 136, 13, 7, 0, []), (95, .iconst 1, 0, 0, 0, []), (96, .iadd, 0, 0, 0, []), (97, .putfield 136, 13, 7, 0, []), (100, .aload_n 0, 0, 0, 0, []), (101, .invokevirtual 142, 121, 0, 7, []), (104, .istore_n 1, 0, 0, 0, []), (105, .aload_n 0, 0, 0, 0, []), (106, .dup, 0, 0, 0, []), (107, .getfield 136, 13, 7, 0, []), (110, .iconst 1, 0, 0, 0, []), (111, .isub, 0, 0, 0, []), (112, .putfield 136, 13, 7, 0, []), (115, .aload_n 0, 0, 0, 0, []), (116, .bipush 41, 0, 0, 0, []), (118, .invokevirtual 128, 118, 1, 7, []), (121, .goto 8, 129, 0, 0, [])]
  | 124 => [(124, .aload_n 0, 0, 0, 0, []), (125, .invokevirtual 145, 124, 0, 7, []), (128, .istore_n 1, 0, 0, 0, []), (129, .nop, 129, 0, 0, [])]
  | 129 => [(129, .iload_n 1, 0, 0, 0, []), (130, .ireturn, 1, 0, 0, [])]
  | _ => []
/-- GeeseKeysModel.test()Z -/
def gp_m_test (l : Nat) : List gI := match l with
  | 0 => [(0, .iconst (-1), 0, 0, 0, []), (1, .istore_n 1, 0, 0, 0, []), (2, .iconst 0, 0, 0, 0, []), (3, .istore_n 2, 0, 0, 0, []), (4, .nop, 4, 0, 0, [])]
  | 4 => [(4, .iload_n 2, 0, 0, 0, []), (5, .bipush 6, 0, 0, 0, []), (7, .if_icmp .ge 28, 35, 0, 0, []), (10, .aload_n 0, 0, 0, 0, []), (11, .aload_n 0, 0, 0, 0, []), (12, .getfield 40, 17, 7, 2, []), (15, .iload_n 2, 0, 0, 0, []), (16, .caload, 0, 0, 0, []), (17, .invokevirtual 121, 117, 1, 7, []), (20, .ifCond .eq 7, 27, 0, 0, []), (23, .iload_n 2, 0, 0, 0, []), (24, .goto 4, 28, 0, 0, [])]
  | 27 => [(27, .iload_n 1, 0, 0, 0, []), (28, .nop, 28, 0, 0, [])]
  | 28 => [(28, .istore_n 1, 0, 0, 0, []), (29, .iinc 2 1, 0, 0, 0, []), (32, .goto (-28), 4, 0, 0, [])]
  | 35 => [(35, .iload_n 1, 0, 0, 0, []), (36, .iconst (-1), 0, 0, 0, []), (37, .if_icmp .ne 10, 47, 0, 0, []), (40, .aload_n 0, 0, 0, 0, []), (41, .iconst 0, 0, 0, 0, []), (42, .putfield 112, 12, 7, 1, []), (45, .iconst 0, 0, 0, 0, []), (46, .ireturn, 1, 0, 0, [])]
  | 47 => [(47, .aload_n 0, 0, 0, 0, []), (48, .dup, 0, 0, 0, []), (49, .getfield 115, 11, 7, 0, []), (52, .iconst 1, 0, 0, 0, []), (53, .iadd, 0, 0, 0, []), (54, .putfield 115, 11, 7, 0, []), (57, .aload_n 0, 0, 0, 0, []), (58, .bipush 60, 0, 0, 0, []), (60, .invokevirtual 121, 117, 1, 7, []), (63, .ifCond .eq 7, 70, 0, 0, []), (66, .iconst (-1), 0, 0, 0, []), (67, .goto 17, 84, 0, 0, [])]
  | 70 => [(70, .aload_n 0, 0, 0, 0, []), (71, .bipush 62, 0, 0, 0, []), (73, .invokevirtual 121, 117, 1, 7, []), (76, .ifCond .eq 7, 83, 0, 0, []), (79, .iconst 1, 0, 0, 0, []), (80, .goto 4, 84, 0, 0, [])]
  | 83 => [(83, .iconst 0, 0, 0, 0, []), (84, .nop, 84, 0, 0, [])]
  | 84 => [(84, .istore_n 2, 0, 0, 0, []), (85, .aload_n 0, 0, 0, 0, []), (86, .iload_n 2, 0, 0, 0, []), (87, .ifCond .ge 8, 95, 0, 0, []), (90, .bipush 60, 0, 0, 0, []), (92, .goto 14, 106, 0, 0, [])]
  | 95 => [(95, .iload_n 2, 0, 0, 0, []), (96, .ifCond .le 8, 104, 0, 0, []), (99, .bipush 62, 0, 0, 0, []), (101, .goto 5, 106, 0, 0, [])]
  | 104 => [(104, .bipush 61, 0, 0, 0, []), (106, .nop, 106, 0, 0, [])]
  | 106 => [(106, .invokevirtual 128, 118, 1, 7, []), (109, .aload_n 0, 0, 0, 0, []), (110, .invokevirtual 132, 119, 0, 7, []), (113, .istore_n 3, 0, 0, 0, []), (114, .iload_n 2, 0, 0, 0, []), (115, .ifCond .ge 21, 136, 0, 0, []), (118, .aload_n 0, 0, 0, 0, []), (119, .getfield 37, 16, 7, 2, []), (122, .iload_n 1, 0, 0, 0, []), (123, .iaload, 0, 0, 0, []), (124, .iload_n 3, 0, 0, 0, []), (125, .if_icmp .ge 7, 132, 0, 0, []), (128, .iconst 1, 0, 0, 0, []), (129, .goto 44, 173, 0, 0, [])]
  | 132 => [(132, .iconst 0, 0, 0, 0, []), (133, .goto 40, 173, 0, 0, [])]
  | 136 => [(136, .iload_n 2, 0, 0, 0, []), (137, .ifCond .le 21, 158, 0, 0, []), (140, .aload_n 0, 0, 0, 0, []), (141, .getfield 37, 16, 7, 2, []), (144, .iload_n 1, 0, 0, 0, []), (145, .iaload, 0, 0, 0, []), (146, .iload_n 3, 0, 0, 0, []), (147, .if_icmp .le 7, 154, 0, 0, []), (150, .iconst 1, 0, 0, 0, []), (151, .goto 22, 173, 0, 0, [])]
  | 154 => [(154, .iconst 0, 0, 0, 0, []), (155, .goto 18, 173, 0, 0, [])]
  | 158 => [(158, .aload_n 0, 0, 0, 0, []), (159, .getfield 37, 16, 7, 2, []), (162, .iload_n 1, 0, 0, 0, []), (163, .iaload, 0, 0, 0, []), (164, .iload_n 3, 0, 0, 0, []), (165, .if_icmp .ne 7, 172, 0, 0, []), (168, .iconst 1, 0, 0, 0, []), (169, .goto 4, 173, 0, 0, [])]
  | 172 => [(172, .iconst 0, 0, 0, 0, []), (173, .nop, 173, 0, 0, [])]
  | 173 => [(173, .ireturn, 1, 0, 0, [])]
  | _ => []
/-- GeeseKeysModel.isAnother(II)Z -/
def gp_m_isAnother (l : Nat) : List gI := match l with
  | 0 => [(0, .iconst 0, 0, 0, 0, []), (1, .istore_n 3, 0, 0, 0, []), (2, .iconst 0, 0, 0, 0, []), (3, .istore 4, 0, 0, 0, []), (5, .nop, 5, 0, 0, [])]
  | 5 => [(5, .iload 4, 0, 0, 0, []), (7, .aload_n 0, 0, 0, 0, []), (8, .getfield 15, 0, 7, 2, []), (11, .bipush 80, 0, 0, 0, []), (13, .iaload, 0, 0, 0, []), (14, .if_icmp .ge 45, 59, 0, 0, []), (17, .iload_n 3, 0, 0, 0, []), (18, .ifCond .ne 29, 47, 0, 0, []), (21, .iload 4, 0, 0, 0, []), (23, .iload_n 1, 0, 0, 0, []), (24, .if_icmp .eq 27, 51, 0, 0, []), (27, .aload_n 0, 0, 0, 0, []), (28, .iload 4, 0, 0, 0, []), (30, .invokevirtual 166, 126, 1, 7, []), (33, .ifCond .ne 18, 51, 0, 0, []), (36, .aload_n 0, 0, 0, 0, []), (37, .iload 4, 0, 0, 0, []), (39, .iconst 2, 0, 0, 0, []), (40, .invokevirtual 83, 110, 2, 7, []), (43, .iload_n 2, 0, 0, 0, []), (44, .if_icmp .ne 7, 51, 0, 0, []), (47, .nop, 47, 0, 0, [])]
  | 47 => [(47, .iconst 1, 0, 0, 0, []), (48, .goto 4, 52, 0, 0, [])]
  | 51 => [(51, .iconst 0, 0, 0, 0, []), (52, .nop, 52, 0, 0, [])]
  | 52 => [(52, .istore_n 3, 0, 0, 0, []), (53, .iinc 4 1, 0, 0, 0, []), (56, .goto (-51), 5, 0, 0, [])]
  | 59 => [(59, .iload_n 3, 0, 0, 0, []), (60, .ireturn, 1, 0, 0, [])]
  | _ => []
/-- GeeseKeysModel.isTaken(I)Z -/
def gp_m_isTaken (l : Nat) : List gI := match l with
  | 0 => [(0, .aload_n 0, 0, 0, 0, []), (1, .iload_n 1, 0, 0, 0, []), (2, .iconst 4, 0, 0, 0, []), (3, .invokevirtual 83, 110, 2, 7, []), (6, .iconst 1, 0, 0, 0, []), (7, .if_icmp .ne 7, 14, 0, 0, []), (10, .iconst 1, 0, 0, 0, []), (11, .goto 4, 15, 0, 0, [])]
  | 14 => [(14, .iconst 0, 0, 0, 0, []), (15, .nop, 15, 0, 0, [])]
  | 15 => [(15, .ireturn, 1, 0, 0, [])]
  | _ => []
/-- GeeseKeysModel.isEnd(II)Z -/
def gp_m_isEnd (l : Nat) : List gI := match l with
  | 0 => [(0, .aload_n 0, 0, 0, 0, []), (1, .iload_n 1, 0, 0, 0, []), (2, .invokevirtual 169, 128, 1, 7, []), (5, .ifCond .eq 27, 32, 0, 0, []), (8, .aload_n 0, 0, 0, 0, []), (9, .iload_n 1, 0, 0, 0, []), (10, .iconst 0, 0, 0, 0, []), (11, .invokevirtual 172, 129, 2, 7, []), (14, .iload_n 2, 0, 0, 0, []), (15, .if_icmp .eq 13, 28, 0, 0, []), (18, .aload_n 0, 0, 0, 0, []), (19, .iload_n 1, 0, 0, 0, []), (20, .iconst 1, 0, 0, 0, []), (21, .invokevirtual 172, 129, 2, 7, []), (24, .iload_n 2, 0, 0, 0, []), (25, .if_icmp .ne 7, 32, 0, 0, []), (28, .nop, 28, 0, 0, [])]
  | 28 => [(28, .iconst 1, 0, 0, 0, []), (29, .goto 4, 33, 0, 0, [])]
  | 32 => [(32, .iconst 0, 0, 0, 0, []), (33, .nop, 33, 0, 0, [])]
  | 33 => [(33, .ireturn, 1, 0, 0, [])]
  | _ => []
/-- GeeseKeysModel.isGate(I)Z -/
def gp_m_isGate (l : Nat) : List gI := match l with
  | 0 => [(0, .iload_n 1, 0, 0, 0, []), (1, .iconst 0, 0, 0, 0, []), (2, .aload_n 0, 0, 0, 0, []), (3, .getfield 15, 0, 7, 2, []), (6, .bipush 81, 0, 0, 0, []), (8, .iaload, 0, 0, 0, []), (9, .iconst 1, 0, 0, 0, []), (10, .isub, 0, 0, 0, []), (11, .invokestatic 79, 106, 3, 0, []), (14, .ireturn, 1, 0, 0, [])]
  | _ => []
/-- GeeseKeysModel.end(II)I -/
def gp_m_end (l : Nat) : List gI := match l with
  | 0 => [(0, .aload_n 0, 0, 0, 0, []), (1, .getfield 15, 0, 7, 2, []), (4, .bipush 8, 0, 0, 0, []), (6, .iconst 2, 0, 0, 0, []), (7, .iload_n 1, 0, 0, 0, []), (8, .imul, 0, 0, 0, []), (9, .iadd, 0, 0, 0, []), (10, .iload_n 2, 0, 0, 0, []), (11, .iadd, 0, 0, 0, []), (12, .iaload, 0, 0, 0, []), (13, .ireturn, 0, 0, 0, [])]
  | _ => []
/-- GeeseKeysModel.beyond(II)I -/
def gp_m_beyond (l : Nat) : List gI := match l with
  | 0 => [(0, .aload_n 0, 0, 0, 0, []), (1, .iload_n 1, 0, 0, 0, []), (2, .iconst 0, 0, 0, 0, []), (3, .invokevirtual 172, 129, 2, 7, []), (6, .iload_n 2, 0, 0, 0, []), (7, .if_icmp .ne 12, 19, 0, 0, []), (10, .aload_n 0, 0, 0, 0, []), (11, .iload_n 1, 0, 0, 0, []), (12, .iconst 1, 0, 0, 0, []), (13, .invokevirtual 172, 129, 2, 7, []), (16, .goto 23, 39, 0, 0, [])]
  | 19 => [(19, .aload_n 0, 0, 0, 0, []), (20, .iload_n 1, 0, 0, 0, []), (21, .iconst 1, 0, 0, 0, []), (22, .invokevirtual 172, 129, 2, 7, []), (25, .iload_n 2, 0, 0, 0, []), (26, .if_icmp .ne 12, 38, 0, 0, []), (29, .aload_n 0, 0, 0, 0, []), (30, .iload_n 1, 0, 0, 0, []), (31, .iconst 0, 0, 0, 0, []), (32, .invokevirtual 172, 129, 2, 7, []), (35, .goto 4, 39, 0, 0, [])]
  | 38 => [(38, .iconst (-1), 0, 0, 0, []), (39, .nop, 39, 0, 0, [])]
  | 39 => [(39, .ireturn, 0, 0, 0, [])]
  | _ => []
/-- GeeseKeysModel.key(II)I -/
def gp_m_key (l : Nat) : List gI := match l with
  | 0 => [(0, .aload_n 0, 0, 0, 0, []), (1, .iload_n 1, 0, 0, 0, []), (2, .invokevirtual 91, 109, 1, 7, []), (5, .ifCond .eq 26, 31, 0, 0, []), (8, .iload_n 2, 0, 0, 0, []), (9, .iconst (-1), 0, 0, 0, []), (10, .bipush 8, 0, 0, 0, []), (12, .invokestatic 79, 106, 3, 0, []), (15, .ifCond .eq 16, 31, 0, 0, []), (18, .aload_n 0, 0, 0, 0, []), (19, .iload_n 1, 0, 0, 0, []), (20, .iconst 3, 0, 0, 0, []), (21, .iload_n 2, 0, 0, 0, []), (22, .invokevirtual 104, 132, 3, 7, []), (25, .invokestatic 94, 111, 1, 0, []), (28, .goto 4, 32, 0, 0, [])]
  | 31 => [(31, .iconst (-1), 0, 0, 0, []), (32, .nop, 32, 0, 0, [])]
  | 32 => [(32, .ireturn, 0, 0, 0, [])]
  | _ => []
/-- GeeseKeysModel.change(III)I -/
def gp_m_change (l : Nat) : List gI := match l with
  | 0 => [(0, .aload_n 0, 0, 0, 0, []), (1, .iload_n 1, 0, 0, 0, []), (2, .iload_n 2, 0, 0, 0, []), (3, .invokevirtual 83, 110, 2, 7, []), (6, .istore 4, 0, 0, 0, []), (8, .aload_n 0, 0, 0, 0, []), (9, .getfield 15, 0, 7, 2, []), (12, .bipush 26, 0, 0, 0, []), (14, .bipush 9, 0, 0, 0, []), (16, .iload_n 1, 0, 0, 0, []), (17, .imul, 0, 0, 0, []), (18, .iadd, 0, 0, 0, []), (19, .iload_n 2, 0, 0, 0, []), (20, .iadd, 0, 0, 0, []), (21, .iload_n 3, 0, 0, 0, []), (22, .iastore, 0, 0, 0, []), (23, .iload 4, 0, 0, 0, []), (25, .ireturn, 0, 0, 0, [])]
  | _ => []
/-- GeeseKeysModel.put(II)I -/
def gp_m_put (l : Nat) : List gI := match l with
  | 0 => [(0, .aload_n 0, 0, 0, 0, []), (1, .iload_n 1, 0, 0, 0, []), (2, .invokevirtual 91, 109, 1, 7, []), (5, .ifCond .eq 20, 25, 0, 0, []), (8, .iload_n 2, 0, 0, 0, []), (9, .invokestatic 87, 105, 1, 0, []), (12, .ifCond .eq 13, 25, 0, 0, []), (15, .aload_n 0, 0, 0, 0, []), (16, .iload_n 1, 0, 0, 0, []), (17, .iconst 2, 0, 0, 0, []), (18, .iload_n 2, 0, 0, 0, []), (19, .invokevirtual 104, 132, 3, 7, []), (22, .goto 4, 26, 0, 0, [])]
  | 25 => [(25, .iconst (-1), 0, 0, 0, []), (26, .nop, 26, 0, 0, [])]
  | 26 => [(26, .ireturn, 0, 0, 0, [])]
  | _ => []
/-- GeeseKeysModel.take(IZ)I -/
def gp_m_take (l : Nat) : List gI := match l with
  | 0 => [(0, .aload_n 0, 0, 0, 0, []), (1, .iload_n 1, 0, 0, 0, []), (2, .invokevirtual 91, 109, 1, 7, []), (5, .ifCond .eq 21, 26, 0, 0, []), (8, .aload_n 0, 0, 0, 0, []), (9, .iload_n 1, 0, 0, 0, []), (10, .iconst 4, 0, 0, 0, []), (11, .iload_n 2, 0, 0, 0, []), (12, .ifCond .eq 7, 19, 0, 0, []), (15, .iconst 1, 0, 0, 0, []), (16, .goto 4, 20, 0, 0, [])]
  | 19 => [(19, .iconst 0, 0, 0, 0, []), (20, .nop, 20, 0, 0, [])]
  | 20 => [(20, .invokevirtual 104, 132, 3, 7, []), (23, .goto 4, 27, 0, 0, [])]
  | 26 => [(26, .iconst (-1), 0, 0, 0, []), (27, .nop, 27, 0, 0, [])]
  | 27 => [(27, .ireturn, 0, 0, 0, [])]
  | _ => []
/-- GeeseKeysModel.grain(II)I -/
def gp_m_grain (l : Nat) : List gI := match l with
  | 0 => [(0, .iload_n 1, 0, 0, 0, []), (1, .invokestatic 87, 105, 1, 0, []), (4, .ifCond .ne 5, 9, 0, 0, []), (7, .iconst (-1), 0, 0, 0, []), (8, .ireturn, 0, 0, 0, [])]
  | 9 => [(9, .iload_n 2, 0, 0, 0, []), (10, .iconst 0, 0, 0, 0, []), (11, .bipush 99, 0, 0, 0, []), (13, .invokestatic 79, 106, 3, 0, []), (16, .ifCond .ne 6, 22, 0, 0, []), (19, .bipush (-2), 0, 0, 0, []), (21, .ireturn, 0, 0, 0, [])]
  | 22 => [(22, .aload_n 0, 0, 0, 0, []), (23, .getfield 15, 0, 7, 2, []), (26, .iload_n 1, 0, 0, 0, []), (27, .iaload, 0, 0, 0, []), (28, .istore_n 3, 0, 0, 0, []), (29, .aload_n 0, 0, 0, 0, []), (30, .getfield 15, 0, 7, 2, []), (33, .iload_n 1, 0, 0, 0, []), (34, .iload_n 2, 0, 0, 0, []), (35, .iastore, 0, 0, 0, []), (36, .iload_n 3, 0, 0, 0, []), (37, .ireturn, 0, 0, 0, [])]
  | _ => []
/-- GeeseKeysModel.row(III)I -/
def gp_m_row (l : Nat) : List gI := match l with
  | 0 => [(0, .aload_n 0, 0, 0, 0, []), (1, .iload_n 1, 0, 0, 0, []), (2, .invokevirtual 91, 109, 1, 7, []), (5, .ifCond .eq 12, 17, 0, 0, []), (8, .iload_n 2, 0, 0, 0, []), (9, .iconst 0, 0, 0, 0, []), (10, .iconst 3, 0, 0, 0, []), (11, .invokestatic 79, 106, 3, 0, []), (14, .ifCond .ne 5, 19, 0, 0, []), (17, .nop, 17, 0, 0, [])]
  | 17 => [(17, .iconst (-1), 0, 0, 0, []), (18, .ireturn, 0, 0, 0, [])]
  | 19 => [(19, .iload_n 3, 0, 0, 0, []), (20, .iconst 0, 0, 0, 0, []), (21, .bipush 9, 0, 0, 0, []), (23, .invokestatic 79, 106, 3, 0, []), (26, .ifCond .ne 6, 32, 0, 0, []), (29, .bipush (-2), 0, 0, 0, []), (31, .ireturn, 0, 0, 0, [])]
  | 32 => [(32, .aload_n 0, 0, 0, 0, []), (33, .iload_n 1, 0, 0, 0, []), (34, .iconst 0, 0, 0, 0, []), (35, .invokevirtual 83, 110, 2, 7, []), (38, .bipush 6, 0, 0, 0, []), (40, .if_icmp .ne 15, 55, 0, 0, []), (43, .aload_n 0, 0, 0, 0, []), (44, .iload_n 1, 0, 0, 0, []), (45, .iconst 5, 0, 0, 0, []), (46, .iload_n 2, 0, 0, 0, []), (47, .iadd, 0, 0, 0, []), (48, .iload_n 3, 0, 0, 0, []), (49, .invokevirtual 104, 132, 3, 7, []), (52, .goto 5, 57, 0, 0, [])]
  | 55 => [(55, .bipush (-3), 0, 0, 0, []), (57, .nop, 57, 0, 0, [])]
  | 57 => [(57, .ireturn, 0, 0, 0, [])]
  | _ => []
/-- GeeseKeysModel.feed(I)I -/
def gp_m_feed (l : Nat) : List gI := match l with
  | 0 => [(0, .iload_n 1, 0, 0, 0, []), (1, .iconst 0, 0, 0, 0, []), (2, .bipush 127, 0, 0, 0, []), (4, .invokestatic 79, 106, 3, 0, []), (7, .ifCond .ne 6, 13, 0, 0, []), (10, .bipush (-2), 0, 0, 0, []), (12, .ireturn, 0, 0, 0, [])]
  | 13 => [(13, .aload_n 0, 0, 0, 0, []), (14, .getfield 108, 5, 7, 0, []), (17, .bipush 100, 0, 0, 0, []), (19, .if_icmp .ne 6, 25, 0, 0, []), (22, .bipush (-4), 0, 0, 0, []), (24, .ireturn, 0, 0, 0, [])]
  | 25 => [(25, .aload_n 0, 0, 0, 0, []), (26, .getfield 25, 4, 7, 2, []), (29, .aload_n 0, 0, 0, 0, []), (30, .getfield 108, 5, 7, 0, []), (33, .iload_n 1, 0, 0, 0, []), (34, .iastore, 0, 0, 0, []), (35, .aload_n 0, 0, 0, 0, []), (36, .dup, 0, 0, 0, []), (37, .getfield 108, 5, 7, 0, []), (40, .iconst 1, 0, 0, 0, []), (41, .iadd, 0, 0, 0, []), (42, .putfield 108, 5, 7, 0, []), (45, .aload_n 0, 0, 0, 0, []), (46, .getfield 108, 5, 7, 0, []), (49, .ireturn, 0, 0, 0, [])]
  | _ => []
/-- GeeseKeysModel.fortress()I -/
def gp_m_fortress (l : Nat) : List gI := match l with
  | 0 => [(0, .aload_n 0, 0, 0, 0, []), (1, .getfield 163, 8, 7, 0, []), (4, .bipush 6, 0, 0, 0, []), (6, .if_icmp .ne 6, 12, 0, 0, []), (9, .bipush (-4), 0, 0, 0, []), (11, .ireturn, 0, 0, 0, [])]
  | 12 => [(12, .aload_n 0, 0, 0, 0, []), (13, .aload_n 0, 0, 0, 0, []), (14, .getfield 108, 5, 7, 0, []), (17, .putfield 118, 10, 7, 0, []), (20, .iconst 0, 0, 0, 0, []), (21, .istore_n 1, 0, 0, 0, []), (22, .nop, 22, 0, 0, [])]
  | 22 => [(22, .iload_n 1, 0, 0, 0, []), (23, .aload_n 0, 0, 0, 0, []), (24, .getfield 118, 10, 7, 0, []), (27, .if_icmp .ge 21, 48, 0, 0, []), (30, .aload_n 0, 0, 0, 0, []), (31, .getfield 34, 9, 7, 2, []), (34, .iload_n 1, 0, 0, 0, []), (35, .aload_n 0, 0, 0, 0, []), (36, .getfield 25, 4, 7, 2, []), (39, .iload_n 1, 0, 0, 0, []), (40, .iaload, 0, 0, 0, []), (41, .iastore, 0, 0, 0, []), (42, .iinc 1 1, 0, 0, 0, []), (45, .goto (-23), 22, 0, 0, [])]
  | 48 => [(48, .aload_n 0, 0, 0, 0, []), (49, .iconst 0, 0, 0, 0, []), (50, .putfield 108, 5, 7, 0, []), (53, .aload_n 0, 0, 0, 0, []), (54, .invokevirtual 160, 115, 0, 7, []), (57, .ifCond .ne 11, 68, 0, 0, []), (60, .bipush (-10), 0, 0, 0, []), (62, .aload_n 0, 0, 0, 0, []), (63, .getfield 115, 11, 7, 0, []), (66, .isub, 0, 0, 0, []), (67, .ireturn, 0, 0, 0, [])]
  | 68 => [(68, .iconst 0, 0, 0, 0, []), (69, .istore_n 1, 0, 0, 0, []), (70, .nop, 70, 0, 0, [])]
  | 70 => [(70, .iload_n 1, 0, 0, 0, []), (71, .aload_n 0, 0, 0, 0, []), (72, .getfield 118, 10, 7, 0, []), (75, .if_icmp .ge 29, 104, 0, 0, []), (78, .aload_n 0, 0, 0, 0, []), (79, .getfield 28, 6, 7, 2, []), (82, .bipush 100, 0, 0, 0, []), (84, .aload_n 0, 0, 0, 0, []), (85, .getfield 163, 8, 7, 0, []), (88, .imul, 0, 0, 0, []), (89, .iload_n 1, 0, 0, 0, []), (90, .iadd, 0, 0, 0, []), (91, .aload_n 0, 0, 0, 0, []), (92, .getfield 34, 9, 7, 2, []), (95, .iload_n 1, 0, 0, 0, []), (96, .iaload, 0, 0, 0, []), (97, .iastore, 0, 0, 0, []), (98, .iinc 1 1, 0, 0, 0, []), (101, .goto (-31), 70, 0, 0, [])]
  | 104 => [(104, .aload_n 0, 0, 0, 0, []), (105, .getfield 31, 7, 7, 2, []), (108, .aload_n 0, 0, 0, 0, []), (109, .getfield 163, 8, 7, 0, []), (112, .aload_n 0, 0, 0, 0, []), (113, .getfield 118, 10, 7, 0, []), (116, .iastore, 0, 0, 0, []), (117, .aload_n 0, 0, 0, 0, []), (118, .dup, 0, 0, 0, []), (119, .getfield 163, 8, 7, 0, []), (122, .iconst 1, 0, 0, 0, []), (123, .iadd, 0, 0, 0, []), (124, .putfield 163, 8, 7, 0, []), (127, .aload_n 0, 0, 0, 0, []), (128, .getfield 15, 0, 7, 2, []), (131, .bipush 83, 0, 0, 0, []), (133, .aload_n 0, 0, 0, 0, []), (134, .getfield 163, 8, 7, 0, []), (137, .iastore, 0, 0, 0, []), (138, .aload_n 0, 0, 0, 0, []), (139, .getfield 163, 8, 7, 0, []), (142, .iconst 1, 0, 0, 0, []), (143, .isub, 0, 0, 0, []), (144, .ireturn, 0, 0, 0, [])]
  | _ => []
/-- GeeseKeysModel.told(I)I -/
def gp_m_told (l : Nat) : List gI := match l with
  | 0 => [(0, .iload_n 1, 0, 0, 0, []), (1, .tableswitch 63 0 4 #[35, 43, 48, 53, 58], 64, 0, 0, [(0, 36), (1, 44), (2, 49), (3, 54), (4, 59)])]
  | 36 => [(36, .aload_n 0, 0, 0, 0, []), (37, .getfield 15, 0, 7, 2, []), (40, .bipush 82, 0, 0, 0, []), (42, .iaload, 0, 0, 0, []), (43, .ireturn, 0, 0, 0, [])]
  | 44 => [(44, .aload_n 0, 0, 0, 0, []), (45, .invokevirtual 189, 140, 0, 7, []), (48, .ireturn, 0, 0, 0, [])]
  | 49 => [(49, .aload_n 0, 0, 0, 0, []), (50, .invokevirtual 200, 141, 0, 7, []), (53, .ireturn, 0, 0, 0, [])]
  | 54 => [(54, .aload_n 0, 0, 0, 0, []), (55, .invokevirtual 212, 142, 0, 7, []), (58, .ireturn, 0, 0, 0, [])]
  | 59 => [(59, .aload_n 0, 0, 0, 0, []), (60, .invokevirtual 215, 146, 0, 7, []), (63, .ireturn, 0, 0, 0, [])]
  | 64 => [(64, .iload_n 1, 0, 0, 0, []), (65, .bipush 10, 0, 0, 0, []), (67, .isub, 0, 0, 0, []), (68, .invokestatic 87, 105, 1, 0, []), (71, .ifCond .eq 15, 86, 0, 0, []), (74, .aload_n 0, 0, 0, 0, []), (75, .getfield 15, 0, 7, 2, []), (78, .iload_n 1, 0, 0, 0, []), (79, .bipush 10, 0, 0, 0, []), (81, .isub, 0, 0, 0, []), (82, .iaload, 0, 0, 0, []), (83, .goto 25, 108, 0, 0, [])]
  | 86 => [(86, .iload_n 1, 0, 0, 0, []), (87, .bipush 20, 0, 0, 0, []), (89, .isub, 0, 0, 0, []), (90, .invokestatic 87, 105, 1, 0, []), (93, .ifCond .eq 14, 107, 0, 0, []), (96, .aload_n 0, 0, 0, 0, []), (97, .iload_n 1, 0, 0, 0, []), (98, .bipush 20, 0, 0, 0, []), (100, .isub, 0, 0, 0, []), (101, .invokevirtual 218, 147, 1, 7, []), (104, .goto 4, 108, 0, 0, [])]
  | 107 => [(107, .iconst (-1), 0, 0, 0, []), (108, .nop, 108, 0, 0, [])]
  | 108 => [(108, .ireturn, 0, 0, 0, [])]
  | _ => []
/-- GeeseKeysModel.eatNow()I -/
def gp_m_eatNow (l : Nat) : List gI := match l with
  | 0 => [(0, .aload_n 0, 0, 0, 0, []), (1, .iconst 0, 0, 0, 0, []), (2, .iconst 0, 0, 0, 0, []), (3, .invokevirtual 175, 114, 2, 7, []), (6, .aload_n 0, 0, 0, 0, []), (7, .getfield 151, 15, 7, 0, []), (10, .ireturn, 0, 0, 0, [])]
  | _ => []
/-- GeeseKeysModel.open()I -/
def gp_m_open (l : Nat) : List gI := match l with
  | 0 => [(0, .iconst 0, 0, 0, 0, []), (1, .istore_n 1, 0, 0, 0, []), (2, .iconst 0, 0, 0, 0, []), (3, .istore_n 2, 0, 0, 0, []), (4, .nop, 4, 0, 0, [])]
  | 4 => [(4, .iload_n 2, 0, 0, 0, []), (5, .aload_n 0, 0, 0, 0, []), (6, .getfield 15, 0, 7, 2, []), (9, .bipush 80, 0, 0, 0, []), (11, .iaload, 0, 0, 0, []), (12, .if_icmp .ge 51, 63, 0, 0, []), (15, .iload_n 1, 0, 0, 0, []), (16, .aload_n 0, 0, 0, 0, []), (17, .iload_n 2, 0, 0, 0, []), (18, .invokevirtual 166, 126, 1, 7, []), (21, .ifCond .ne 33, 54, 0, 0, []), (24, .aload_n 0, 0, 0, 0, []), (25, .aload_n 0, 0, 0, 0, []), (26, .iload_n 2, 0, 0, 0, []), (27, .iconst 3, 0, 0, 0, []), (28, .invokevirtual 83, 110, 2, 7, []), (31, .aload_n 0, 0, 0, 0, []), (32, .iload_n 2, 0, 0, 0, []), (33, .iconst 2, 0, 0, 0, []), (34, .invokevirtual 83, 110, 2, 7, []), (37, .invokevirtual 183, 127, 2, 7, []), (40, .ifCond .eq 14, 54, 0, 0, []), (43, .iconst 1, 0, 0, 0, []), (44, .aload_n 0, 0, 0, 0, []), (45, .iload_n 2, 0, 0, 0, []), (46, .iconst 3, 0, 0, 0, []), (47, .invokevirtual 83, 110, 2, 7, []), (50, .ishl, 0, 0, 0, []), (51, .goto 4, 55, 0, 0, [])]
  | 54 => [(54, .iconst 0, 0, 0, 0, []), (55, .nop, 55, 0, 0, [])]
  | 55 => [(55, .ior, 0, 0, 0, []), (56, .istore_n 1, 0, 0, 0, []), (57, .iinc 2 1, 0, 0, 0, []), (60, .goto (-56), 4, 0, 0, [])]
  | 63 => [(63, .iload_n 1, 0, 0, 0, []), (64, .ireturn, 0, 0, 0, [])]
  | _ => []
/-- GeeseKeysModel.shut()I -/
def gp_m_shut (l : Nat) : List gI := match l with
  | 0 => [(0, .aload_n 0, 0, 0, 0, []), (1, .iconst 0, 0, 0, 0, []), (2, .invokevirtual 197, 143, 1, 7, []), (5, .iconst 1, 0, 0, 0, []), (6, .aload_n 0, 0, 0, 0, []), (7, .getfield 15, 0, 7, 2, []), (10, .bipush 81, 0, 0, 0, []), (12, .iaload, 0, 0, 0, []), (13, .ishl, 0, 0, 0, []), (14, .iconst 1, 0, 0, 0, []), (15, .isub, 0, 0, 0, []), (16, .istore_n 1, 0, 0, 0, []), (17, .iconst 0, 0, 0, 0, []), (18, .istore_n 2, 0, 0, 0, []), (19, .nop, 19, 0, 0, [])]
  | 19 => [(19, .iload_n 2, 0, 0, 0, []), (20, .bipush 20, 0, 0, 0, []), (22, .if_icmp .gt 22, 44, 0, 0, []), (25, .iload_n 1, 0, 0, 0, []), (26, .aload_n 0, 0, 0, 0, []), (27, .invokevirtual 200, 141, 0, 7, []), (30, .iconst (-1), 0, 0, 0, []), (31, .ixor, 0, 0, 0, []), (32, .iand, 0, 0, 0, []), (33, .istore_n 1, 0, 0, 0, []), (34, .aload_n 0, 0, 0, 0, []), (35, .invokevirtual 203, 144, 0, 7, []), (38, .iinc 2 1, 0, 0, 0, []), (41, .goto (-22), 19, 0, 0, [])]
  | 44 => [(44, .aload_n 0, 0, 0, 0, []), (45, .iconst 0, 0, 0, 0, []), (46, .invokevirtual 206, 145, 1, 7, []), (49, .iload_n 1, 0, 0, 0, []), (50, .ireturn, 0, 0, 0, [])]
  | _ => []
/-- GeeseKeysModel.keep(I)V -/
def gp_m_keep (l : Nat) : List gI := match l with
  | 0 => [(0, .iconst 0, 0, 0, 0, []), (1, .istore_n 2, 0, 0, 0, []), (2, .nop, 2, 0, 0, [])]
  | 2 => [(2, .iload_n 2, 0, 0, 0, []), (3, .sipush 138, 0, 0, 0, []), (6, .if_icmp .ge 27, 33, 0, 0, []), (9, .aload_n 0, 0, 0, 0, []), (10, .getfield 19, 1, 7, 2, []), (13, .sipush 138, 0, 0, 0, []), (16, .iload_n 1, 0, 0, 0, []), (17, .imul, 0, 0, 0, []), (18, .iload_n 2, 0, 0, 0, []), (19, .iadd, 0, 0, 0, []), (20, .aload_n 0, 0, 0, 0, []), (21, .getfield 15, 0, 7, 2, []), (24, .iload_n 2, 0, 0, 0, []), (25, .iaload, 0, 0, 0, []), (26, .iastore, 0, 0, 0, []), (27, .iinc 2 1, 0, 0, 0, []), (30, .goto (-28), 2, 0, 0, [])]
  | 33 => [(33, .return_, 0, 0, 0, [])]
  | _ => []
/-- GeeseKeysModel.hour()V -/
def gp_m_hour (l : Nat) : List gI := match l with
  | 0 => [(0, .aload_n 0, 0, 0, 0, []), (1, .invokevirtual 189, 140, 0, 7, []), (4, .istore_n 1, 0, 0, 0, []), (5, .iconst 0, 0, 0, 0, []), (6, .istore_n 2, 0, 0, 0, []), (7, .nop, 7, 0, 0, [])]
  | 7 => [(7, .iload_n 2, 0, 0, 0, []), (8, .aload_n 0, 0, 0, 0, []), (9, .getfield 15, 0, 7, 2, []), (12, .bipush 80, 0, 0, 0, []), (14, .iaload, 0, 0, 0, []), (15, .if_icmp .ge 49, 64, 0, 0, []), (18, .aload_n 0, 0, 0, 0, []), (19, .iload_n 2, 0, 0, 0, []), (20, .invokevirtual 166, 126, 1, 7, []), (23, .ifCond .ne 35, 58, 0, 0, []), (26, .aload_n 0, 0, 0, 0, []), (27, .iload_n 2, 0, 0, 0, []), (28, .invokevirtual 98, 112, 1, 7, []), (31, .istore_n 3, 0, 0, 0, []), (32, .aload_n 0, 0, 0, 0, []), (33, .iload_n 2, 0, 0, 0, []), (34, .iconst 2, 0, 0, 0, []), (35, .iload_n 3, 0, 0, 0, []), (36, .invokevirtual 104, 132, 3, 7, []), (39, .pop, 0, 0, 0, []), (40, .aload_n 0, 0, 0, 0, []), (41, .getfield 15, 0, 7, 2, []), (44, .iload_n 3, 0, 0, 0, []), (45, .iconst 0, 0, 0, 0, []), (46, .aload_n 0, 0, 0, 0, []), (47, .getfield 15, 0, 7, 2, []), (50, .iload_n 3, 0, 0, 0, []), (51, .iaload, 0, 0, 0, []), (52, .iload_n 1, 0, 0, 0, []), (53, .isub, 0, 0, 0, []), (54, .invokestatic 192, 0, 0, 2, []), (57, .iastore, 0, 0, 0, []), (58, .nop, 58, 0, 0, [])]
  | 58 => [(58, .iinc 2 1, 0, 0, 0, []), (61, .goto (-54), 7, 0, 0, [])]
  | 64 => [(64, .aload_n 0, 0, 0, 0, []), (65, .getfield 15, 0, 7, 2, []), (68, .bipush 82, 0, 0, 0, []), (70, .dup2, 0, 0, 0, []), (71, .iaload, 0, 0, 0, []), (72, .iconst 1, 0, 0, 0, []), (73, .iadd, 0, 0, 0, []), (74, .iastore, 0, 0, 0, []), (75, .return_, 0, 0, 0, [])]
  | _ => []
/-- GeeseKeysModel.lay(I)V -/
def gp_m_lay (l : Nat) : List gI := match l with
  | 0 => [(0, .iconst 0, 0, 0, 0, []), (1, .istore_n 2, 0, 0, 0, []), (2, .nop, 2, 0, 0, [])]
  | 2 => [(2, .iload_n 2, 0, 0, 0, []), (3, .sipush 138, 0, 0, 0, []), (6, .if_icmp .ge 27, 33, 0, 0, []), (9, .aload_n 0, 0, 0, 0, []), (10, .getfield 15, 0, 7, 2, []), (13, .iload_n 2, 0, 0, 0, []), (14, .aload_n 0, 0, 0, 0, []), (15, .getfield 19, 1, 7, 2, []), (18, .sipush 138, 0, 0, 0, []), (21, .iload_n 1, 0, 0, 0, []), (22, .imul, 0, 0, 0, []), (23, .iload_n 2, 0, 0, 0, []), (24, .iadd, 0, 0, 0, []), (25, .iaload, 0, 0, 0, []), (26, .iastore, 0, 0, 0, []), (27, .iinc 2 1, 0, 0, 0, []), (30, .goto (-28), 2, 0, 0, [])]
  | 33 => [(33, .return_, 0, 0, 0, [])]
  | _ => []
/-- GeeseKeysModel.grains()I -/
def gp_m_grains (l : Nat) : List gI := match l with
  | 0 => [(0, .iconst 0, 0, 0, 0, []), (1, .istore_n 1, 0, 0, 0, []), (2, .iconst 0, 0, 0, 0, []), (3, .istore_n 2, 0, 0, 0, []), (4, .nop, 4, 0, 0, [])]
  | 4 => [(4, .iload_n 2, 0, 0, 0, []), (5, .bipush 8, 0, 0, 0, []), (7, .if_icmp .ge 18, 25, 0, 0, []), (10, .iload_n 1, 0, 0, 0, []), (11, .aload_n 0, 0, 0, 0, []), (12, .getfield 15, 0, 7, 2, []), (15, .iload_n 2, 0, 0, 0, []), (16, .iaload, 0, 0, 0, []), (17, .iadd, 0, 0, 0, []), (18, .istore_n 1, 0, 0, 0, []), (19, .iinc 2 1, 0, 0, 0, []), (22, .goto (-18), 4, 0, 0, [])]
  | 25 => [(25, .iload_n 1, 0, 0, 0, []), (26, .ireturn, 0, 0, 0, [])]
  | _ => []
/-- GeeseKeysModel.far(I)I -/
def gp_m_far (l : Nat) : List gI := match l with
  | 0 => [(0, .aload_n 0, 0, 0, 0, []), (1, .iload_n 1, 0, 0, 0, []), (2, .invokevirtual 209, 148, 1, 7, []), (5, .aload_n 0, 0, 0, 0, []), (6, .getfield 50, 20, 7, 2, []), (9, .bipush 15, 0, 0, 0, []), (11, .iaload, 0, 0, 0, []), (12, .ireturn, 0, 0, 0, [])]
  | _ => []
/-- GeeseKeysModel.walk(I)V -/
def gp_m_walk (l : Nat) : List gI := match l with
  | 0 => [(0, .aload_n 0, 0, 0, 0, []), (1, .iconst 0, 0, 0, 0, []), (2, .invokevirtual 197, 143, 1, 7, []), (5, .aload_n 0, 0, 0, 0, []), (6, .getfield 50, 20, 7, 2, []), (9, .iconst 0, 0, 0, 0, []), (10, .iconst 1, 0, 0, 0, []), (11, .iload_n 1, 0, 0, 0, []), (12, .ishl, 0, 0, 0, []), (13, .iastore, 0, 0, 0, []), (14, .iconst 1, 0, 0, 0, []), (15, .istore_n 2, 0, 0, 0, []), (16, .nop, 16, 0, 0, [])]
  | 16 => [(16, .iload_n 2, 0, 0, 0, []), (17, .bipush 16, 0, 0, 0, []), (19, .if_icmp .ge 138, 157, 0, 0, []), (22, .aload_n 0, 0, 0, 0, []), (23, .invokevirtual 200, 141, 0, 7, []), (26, .istore_n 3, 0, 0, 0, []), (27, .aload_n 0, 0, 0, 0, []), (28, .getfield 50, 20, 7, 2, []), (31, .iload_n 2, 0, 0, 0, []), (32, .aload_n 0, 0, 0, 0, []), (33, .getfield 50, 20, 7, 2, []), (36, .iload_n 2, 0, 0, 0, []), (37, .iconst 1, 0, 0, 0, []), (38, .isub, 0, 0, 0, []), (39, .iaload, 0, 0, 0, []), (40, .iastore, 0, 0, 0, []), (41, .iconst 0, 0, 0, 0, []), (42, .istore 4, 0, 0, 0, []), (44, .nop, 44, 0, 0, [])]
  | 44 => [(44, .iload 4, 0, 0, 0, []), (46, .aload_n 0, 0, 0, 0, []), (47, .getfield 15, 0, 7, 2, []), (50, .bipush 81, 0, 0, 0, []), (52, .iaload, 0, 0, 0, []), (53, .if_icmp .ge 94, 147, 0, 0, []), (56, .iconst 0, 0, 0, 0, []), (57, .istore 5, 0, 0, 0, []), (59, .nop, 59, 0, 0, [])]
  | 59 => [(59, .iload 5, 0, 0, 0, []), (61, .iconst 2, 0, 0, 0, []), (62, .if_icmp .ge 79, 141, 0, 0, []), (65, .iload_n 3, 0, 0, 0, []), (66, .iload 4, 0, 0, 0, []), (68, .ishr, 0, 0, 0, []), (69, .iconst 1, 0, 0, 0, []), (70, .iand, 0, 0, 0, []), (71, .iconst 1, 0, 0, 0, []), (72, .if_icmp .ne 30, 102, 0, 0, []), (75, .aload_n 0, 0, 0, 0, []), (76, .getfield 50, 20, 7, 2, []), (79, .iload_n 2, 0, 0, 0, []), (80, .iconst 1, 0, 0, 0, []), (81, .isub, 0, 0, 0, []), (82, .iaload, 0, 0, 0, []), (83, .aload_n 0, 0, 0, 0, []), (84, .iload 4, 0, 0, 0, []), (86, .iload 5, 0, 0, 0, []), (88, .invokevirtual 172, 129, 2, 7, []), (91, .ishr, 0, 0, 0, []), (92, .iconst 1, 0, 0, 0, []), (93, .iand, 0, 0, 0, []), (94, .iconst 1, 0, 0, 0, []), (95, .if_icmp .ne 7, 102, 0, 0, []), (98, .iconst 1, 0, 0, 0, []), (99, .goto 4, 103, 0, 0, [])]
  | 102 => [(102, .iconst 0, 0, 0, 0, []), (103, .nop, 103, 0, 0, [])]
  | 103 => [(103, .istore 6, 0, 0, 0, []), (105, .aload_n 0, 0, 0, 0, []), (106, .getfield 50, 20, 7, 2, []), (109, .iload_n 2, 0, 0, 0, []), (110, .dup2, 0, 0, 0, []), (111, .iaload, 0, 0, 0, []), (112, .iload 6, 0, 0, 0, []), (114, .ifCond .eq 18, 132, 0, 0, []), (117, .iconst 1, 0, 0, 0, []), (118, .aload_n 0, 0, 0, 0, []), (119, .iload 4, 0, 0, 0, []), (121, .iconst 1, 0, 0, 0, []), (122, .iload 5, 0, 0, 0, []), (124, .isub, 0, 0, 0, []), (125, .invokevirtual 172, 129, 2, 7, []), (128, .ishl, 0, 0, 0, []), (129, .goto 4, 133, 0, 0, [])]
  | 132 => [(132, .iconst 0, 0, 0, 0, []), (133, .nop, 133, 0, 0, [])]
  | 133 => [(133, .ior, 0, 0, 0, []), (134, .iastore, 0, 0, 0, []), (135, .iinc 5 1, 0, 0, 0, []), (138, .goto (-79), 59, 0, 0, [])]
  | 141 => [(141, .iinc 4 1, 0, 0, 0, []), (144, .goto (-100), 44, 0, 0, [])]
  | 147 => [(147, .aload_n 0, 0, 0, 0, []), (148, .invokevirtual 203, 144, 0, 7, []), (151, .iinc 2 1, 0, 0, 0, []), (154, .goto (-138), 16, 0, 0, [])]
  | 157 => [(157, .aload_n 0, 0, 0, 0, []), (158, .iconst 0, 0, 0, 0, []), (159, .invokevirtual 206, 145, 1, 7, []), (162, .return_, 0, 0, 0, [])]
  | _ => []
/-- GeeseKeysModel.pass(I)I -/
def gp_m_pass (l : Nat) : List gI := match l with
  | 0 => [(0, .iload_n 1, 0, 0, 0, []), (1, .iconst 0, 0, 0, 0, []), (2, .bipush 60, 0, 0, 0, []), (4, .invokestatic 79, 106, 3, 0, []), (7, .ifCond .ne 6, 13, 0, 0, []), (10, .bipush (-2), 0, 0, 0, []), (12, .ireturn, 0, 0, 0, [])]
  | 13 => [(13, .aload_n 0, 0, 0, 0, []), (14, .getfield 15, 0, 7, 2, []), (17, .bipush 82, 0, 0, 0, []), (19, .iaload, 0, 0, 0, []), (20, .iload_n 1, 0, 0, 0, []), (21, .iadd, 0, 0, 0, []), (22, .sipush 9999, 0, 0, 0, []), (25, .if_icmp .le 6, 31, 0, 0, []), (28, .bipush (-3), 0, 0, 0, []), (30, .ireturn, 0, 0, 0, [])]
  | 31 => [(31, .iconst 0, 0, 0, 0, []), (32, .istore_n 2, 0, 0, 0, []), (33, .nop, 33, 0, 0, [])]
  | 33 => [(33, .iload_n 2, 0, 0, 0, []), (34, .iload_n 1, 0, 0, 0, []), (35, .if_icmp .ge 13, 48, 0, 0, []), (38, .aload_n 0, 0, 0, 0, []), (39, .invokevirtual 203, 144, 0, 7, []), (42, .iinc 2 1, 0, 0, 0, []), (45, .goto (-12), 33, 0, 0, [])]
  | 48 => [(48, .aload_n 0, 0, 0, 0, []), (49, .getfield 15, 0, 7, 2, []), (52, .bipush 82, 0, 0, 0, []), (54, .iaload, 0, 0, 0, []), (55, .ireturn, 0, 0, 0, [])]
  | _ => []
/-- GeeseKeysModel.on(II)I -/
def gp_m_on (l : Nat) : List gI := match l with
  | 0 => [(0, .iload_n 2, 0, 0, 0, []), (1, .ifCond .eq 26, 27, 0, 0, []), (4, .iload_n 2, 0, 0, 0, []), (5, .bipush 10, 0, 0, 0, []), (7, .isub, 0, 0, 0, []), (8, .invokestatic 87, 105, 1, 0, []), (11, .ifCond .ne 16, 27, 0, 0, []), (14, .aload_n 0, 0, 0, 0, []), (15, .iload_n 2, 0, 0, 0, []), (16, .bipush 20, 0, 0, 0, []), (18, .isub, 0, 0, 0, []), (19, .invokevirtual 91, 109, 1, 7, []), (22, .ifCond .ne 5, 27, 0, 0, []), (25, .iconst (-1), 0, 0, 0, []), (26, .ireturn, 0, 0, 0, [])]
  | 27 => [(27, .iload_n 1, 0, 0, 0, []), (28, .iconst 0, 0, 0, 0, []), (29, .bipush 60, 0, 0, 0, []), (31, .invokestatic 79, 106, 3, 0, []), (34, .ifCond .ne 6, 40, 0, 0, []), (37, .bipush (-2), 0, 0, 0, []), (39, .ireturn, 0, 0, 0, [])]
  | 40 => [(40, .aload_n 0, 0, 0, 0, []), (41, .iconst 0, 0, 0, 0, []), (42, .invokevirtual 197, 143, 1, 7, []), (45, .iconst 0, 0, 0, 0, []), (46, .istore_n 3, 0, 0, 0, []), (47, .nop, 47, 0, 0, [])]
  | 47 => [(47, .iload_n 3, 0, 0, 0, []), (48, .iload_n 1, 0, 0, 0, []), (49, .if_icmp .ge 13, 62, 0, 0, []), (52, .aload_n 0, 0, 0, 0, []), (53, .invokevirtual 203, 144, 0, 7, []), (56, .iinc 3 1, 0, 0, 0, []), (59, .goto (-12), 47, 0, 0, [])]
  | 62 => [(62, .iload_n 2, 0, 0, 0, []), (63, .ifCond .ne 10, 73, 0, 0, []), (66, .aload_n 0, 0, 0, 0, []), (67, .invokevirtual 200, 141, 0, 7, []), (70, .goto 30, 100, 0, 0, [])]
  | 73 => [(73, .iload_n 2, 0, 0, 0, []), (74, .bipush 20, 0, 0, 0, []), (76, .if_icmp .ge 15, 91, 0, 0, []), (79, .aload_n 0, 0, 0, 0, []), (80, .getfield 15, 0, 7, 2, []), (83, .iload_n 2, 0, 0, 0, []), (84, .bipush 10, 0, 0, 0, []), (86, .isub, 0, 0, 0, []), (87, .iaload, 0, 0, 0, []), (88, .goto 12, 100, 0, 0, [])]
  | 91 => [(91, .aload_n 0, 0, 0, 0, []), (92, .iload_n 2, 0, 0, 0, []), (93, .bipush 20, 0, 0, 0, []), (95, .isub, 0, 0, 0, []), (96, .iconst 2, 0, 0, 0, []), (97, .invokevirtual 83, 110, 2, 7, []), (100, .nop, 100, 0, 0, [])]
  | 100 => [(100, .istore_n 3, 0, 0, 0, []), (101, .aload_n 0, 0, 0, 0, []), (102, .iconst 0, 0, 0, 0, []), (103, .invokevirtual 206, 145, 1, 7, []), (106, .iload_n 3, 0, 0, 0, []), (107, .ireturn, 0, 0, 0, [])]
  | _ => []
/-- GeeseKeysModel.opens(I)I -/
def gp_m_opens (l : Nat) : List gI := match l with
  | 0 => [(0, .aload_n 0, 0, 0, 0, []), (1, .iload_n 1, 0, 0, 0, []), (2, .invokevirtual 169, 128, 1, 7, []), (5, .ifCond .eq 11, 16, 0, 0, []), (8, .aload_n 0, 0, 0, 0, []), (9, .iload_n 1, 0, 0, 0, []), (10, .invokevirtual 221, 152, 1, 7, []), (13, .goto 4, 17, 0, 0, [])]
  | 16 => [(16, .iconst (-1), 0, 0, 0, []), (17, .nop, 17, 0, 0, [])]
  | 17 => [(17, .ireturn, 0, 0, 0, [])]
  | _ => []
/-- GeeseKeysModel.soon(I)I -/
def gp_m_soon (l : Nat) : List gI := match l with
  | 0 => [(0, .aload_n 0, 0, 0, 0, []), (1, .iconst 0, 0, 0, 0, []), (2, .invokevirtual 197, 143, 1, 7, []), (5, .bipush (-5), 0, 0, 0, []), (7, .istore_n 2, 0, 0, 0, []), (8, .iconst 0, 0, 0, 0, []), (9, .istore_n 3, 0, 0, 0, []), (10, .nop, 10, 0, 0, [])]
  | 10 => [(10, .iload_n 3, 0, 0, 0, []), (11, .bipush 20, 0, 0, 0, []), (13, .if_icmp .gt 38, 51, 0, 0, []), (16, .iload_n 2, 0, 0, 0, []), (17, .bipush (-5), 0, 0, 0, []), (19, .if_icmp .ne 32, 51, 0, 0, []), (22, .aload_n 0, 0, 0, 0, []), (23, .invokevirtual 200, 141, 0, 7, []), (26, .iload_n 1, 0, 0, 0, []), (27, .ishr, 0, 0, 0, []), (28, .iconst 1, 0, 0, 0, []), (29, .iand, 0, 0, 0, []), (30, .iconst 1, 0, 0, 0, []), (31, .if_icmp .ne 7, 38, 0, 0, []), (34, .iload_n 3, 0, 0, 0, []), (35, .goto 5, 40, 0, 0, [])]
  | 38 => [(38, .bipush (-5), 0, 0, 0, []), (40, .nop, 40, 0, 0, [])]
  | 40 => [(40, .istore_n 2, 0, 0, 0, []), (41, .aload_n 0, 0, 0, 0, []), (42, .invokevirtual 203, 144, 0, 7, []), (45, .iinc 3 1, 0, 0, 0, []), (48, .goto (-38), 10, 0, 0, [])]
  | 51 => [(51, .aload_n 0, 0, 0, 0, []), (52, .iconst 0, 0, 0, 0, []), (53, .invokevirtual 206, 145, 1, 7, []), (56, .iload_n 2, 0, 0, 0, []), (57, .ireturn, 0, 0, 0, [])]
  | _ => []
/-- GeeseKeysModel.way(III)I -/
def gp_m_way (l : Nat) : List gI := match l with
  | 0 => [(0, .iload_n 1, 0, 0, 0, []), (1, .invokestatic 87, 105, 1, 0, []), (4, .ifCond .eq 19, 23, 0, 0, []), (7, .iload_n 2, 0, 0, 0, []), (8, .invokestatic 87, 105, 1, 0, []), (11, .ifCond .eq 12, 23, 0, 0, []), (14, .iload_n 3, 0, 0, 0, []), (15, .iconst 0, 0, 0, 0, []), (16, .iconst 1, 0, 0, 0, []), (17, .invokestatic 79, 106, 3, 0, []), (20, .ifCond .ne 5, 25, 0, 0, []), (23, .nop, 23, 0, 0, [])]
  | 23 => [(23, .iconst (-1), 0, 0, 0, []), (24, .ireturn, 0, 0, 0, [])]
  | 25 => [(25, .iload_n 3, 0, 0, 0, []), (26, .ifCond .ne 12, 38, 0, 0, []), (29, .aload_n 0, 0, 0, 0, []), (30, .iload_n 1, 0, 0, 0, []), (31, .iload_n 2, 0, 0, 0, []), (32, .invokevirtual 224, 154, 2, 7, []), (35, .goto 9, 44, 0, 0, [])]
  | 38 => [(38, .aload_n 0, 0, 0, 0, []), (39, .iload_n 1, 0, 0, 0, []), (40, .iload_n 2, 0, 0, 0, []), (41, .invokevirtual 233, 155, 2, 7, []), (44, .nop, 44, 0, 0, [])]
  | 44 => [(44, .ireturn, 0, 0, 0, [])]
  | _ => []
/-- GeeseKeysModel.wayTo(II)I -/
def gp_m_wayTo (l : Nat) : List gI := match l with
  | 0 => [(0, .aload_n 0, 0, 0, 0, []), (1, .iload_n 1, 0, 0, 0, []), (2, .invokevirtual 209, 148, 1, 7, []), (5, .iconst 0, 0, 0, 0, []), (6, .istore_n 3, 0, 0, 0, []), (7, .nop, 7, 0, 0, [])]
  | 7 => [(7, .iload_n 3, 0, 0, 0, []), (8, .bipush 16, 0, 0, 0, []), (10, .if_icmp .ge 25, 35, 0, 0, []), (13, .aload_n 0, 0, 0, 0, []), (14, .getfield 50, 20, 7, 2, []), (17, .iload_n 3, 0, 0, 0, []), (18, .iaload, 0, 0, 0, []), (19, .iload_n 2, 0, 0, 0, []), (20, .ishr, 0, 0, 0, []), (21, .iconst 1, 0, 0, 0, []), (22, .iand, 0, 0, 0, []), (23, .iconst 1, 0, 0, 0, []), (24, .if_icmp .ne 5, 29, 0, 0, []), (27, .iload_n 3, 0, 0, 0, []), (28, .ireturn, 0, 0, 0, [])]
  | 29 => [(29, .iinc 3 1, 0, 0, 0, []), (32, .goto (-25), 7, 0, 0, [])]
  | 35 => [(35, .bipush (-5), 0, 0, 0, []), (37, .ireturn, 0, 0, 0, [])]
  | _ => []
/-- GeeseKeysModel.keys(II)I -/
def gp_m_keys (l : Nat) : List gI := match l with
  | 0 => [(0, .aload_n 0, 0, 0, 0, []), (1, .iload_n 1, 0, 0, 0, []), (2, .iload_n 2, 0, 0, 0, []), (3, .invokevirtual 224, 154, 2, 7, []), (6, .invokestatic 227, 156, 1, 0, []), (9, .istore_n 3, 0, 0, 0, []), (10, .bipush (-5), 0, 0, 0, []), (12, .istore 4, 0, 0, 0, []), (14, .iconst 0, 0, 0, 0, []), (15, .istore 5, 0, 0, 0, []), (17, .nop, 17, 0, 0, [])]
  | 17 => [(17, .iload 5, 0, 0, 0, []), (19, .aload_n 0, 0, 0, 0, []), (20, .getfield 15, 0, 7, 2, []), (23, .bipush 80, 0, 0, 0, []), (25, .iaload, 0, 0, 0, []), (26, .if_icmp .ge 130, 156, 0, 0, []), (29, .iload 5, 0, 0, 0, []), (31, .iconst 1, 0, 0, 0, []), (32, .iadd, 0, 0, 0, []), (33, .istore 6, 0, 0, 0, []), (35, .nop, 35, 0, 0, [])]
  | 35 => [(35, .iload 6, 0, 0, 0, []), (37, .aload_n 0, 0, 0, 0, []), (38, .getfield 15, 0, 7, 2, []), (41, .bipush 80, 0, 0, 0, []), (43, .iaload, 0, 0, 0, []), (44, .if_icmp .ge 106, 150, 0, 0, []), (47, .aload_n 0, 0, 0, 0, []), (48, .iload 5, 0, 0, 0, []), (50, .iconst 3, 0, 0, 0, []), (51, .invokevirtual 83, 110, 2, 7, []), (54, .istore 7, 0, 0, 0, []), (56, .aload_n 0, 0, 0, 0, []), (57, .iload 6, 0, 0, 0, []), (59, .iconst 3, 0, 0, 0, []), (60, .invokevirtual 83, 110, 2, 7, []), (63, .istore 8, 0, 0, 0, []), (65, .aload_n 0, 0, 0, 0, []), (66, .iload 5, 0, 0, 0, []), (68, .iconst 3, 0, 0, 0, []), (69, .iload 8, 0, 0, 0, []), (71, .invokevirtual 104, 132, 3, 7, []), (74, .pop, 0, 0, 0, []), (75, .aload_n 0, 0, 0, 0, []), (76, .iload 6, 0, 0, 0, []), (78, .iconst 3, 0, 0, 0, []), (79, .iload 7, 0, 0, 0, []), (81, .invokevirtual 104, 132, 3, 7, []), (84, .pop, 0, 0, 0, []), (85, .aload_n 0, 0, 0, 0, []), (86, .iload_n 1, 0, 0, 0, []), (87, .iload_n 2, 0, 0, 0, []), (88, .invokevirtual 224, 154, 2, 7, []), (91, .invokestatic 227, 156, 1, 0, []), (94, .istore 9, 0, 0, 0, []), (96, .aload_n 0, 0, 0, 0, []), (97, .iload 5, 0, 0, 0, []), (99, .iconst 3, 0, 0, 0, []), (100, .iload 7, 0, 0, 0, []), (102, .invokevirtual 104, 132, 3, 7, []), (105, .pop, 0, 0, 0, []), (106, .aload_n 0, 0, 0, 0, []), (107, .iload 6, 0, 0, 0, []), (109, .iconst 3, 0, 0, 0, []), (110, .iload 8, 0, 0, 0, []), (112, .invokevirtual 104, 132, 3, 7, []), (115, .pop, 0, 0, 0, []), (116, .iload 9, 0, 0, 0, []), (118, .iload_n 3, 0, 0, 0, []), (119, .if_icmp .ge 14, 133, 0, 0, []), (122, .bipush 10, 0, 0, 0, []), (124, .iload 5, 0, 0, 0, []), (126, .imul, 0, 0, 0, []), (127, .iload 6, 0, 0, 0, []), (129, .iadd, 0, 0, 0, []), (130, .goto 5, 135, 0, 0, [])]
  | 133 => [(133, .iload 4, 0, 0, 0, []), (135, .nop, 135, 0, 0, [])]
  | 135 => [(135, .istore 4, 0, 0, 0, []), (137, .iload 9, 0, 0, 0, []), (139, .iload_n 3, 0, 0, 0, []), (140, .invokestatic 230, 0, 0, 3, []), (143, .istore_n 3, 0, 0, 0, []), (144, .iinc 6 1, 0, 0, 0, []), (147, .goto (-112), 35, 0, 0, [])]
  | 150 => [(150, .iinc 5 1, 0, 0, 0, []), (153, .goto (-136), 17, 0, 0, [])]
  | 156 => [(156, .iload 4, 0, 0, 0, []), (158, .ireturn, 0, 0, 0, [])]
  | _ => []
/-- GeeseKeysModel.late(I)I -/
def gp_m_late (l : Nat) : List gI := match l with
  | 0 => [(0, .iload_n 0, 0, 0, 0, []), (1, .bipush (-5), 0, 0, 0, []), (3, .if_icmp .ne 9, 12, 0, 0, []), (6, .sipush 1000, 0, 0, 0, []), (9, .goto 4, 13, 0, 0, [])]
  | 12 => [(12, .iload_n 0, 0, 0, 0, []), (13, .nop, 13, 0, 0, [])]
  | 13 => [(13, .ireturn, 0, 0, 0, [])]
  | _ => []
/-- GeeseKeysModel.lead(II)I -/
def gp_m_lead (l : Nat) : List gI := match l with
  | 0 => [(0, .aload_n 0, 0, 0, 0, []), (1, .iload_n 1, 0, 0, 0, []), (2, .invokevirtual 169, 128, 1, 7, []), (5, .ifCond .ne 5, 10, 0, 0, []), (8, .iconst (-1), 0, 0, 0, []), (9, .ireturn, 0, 0, 0, [])]
  | 10 => [(10, .iload_n 2, 0, 0, 0, []), (11, .iconst 1, 0, 0, 0, []), (12, .bipush 99, 0, 0, 0, []), (14, .invokestatic 79, 106, 3, 0, []), (17, .ifCond .ne 6, 23, 0, 0, []), (20, .bipush (-2), 0, 0, 0, []), (22, .ireturn, 0, 0, 0, [])]
  | 23 => [(23, .aload_n 0, 0, 0, 0, []), (24, .iload_n 1, 0, 0, 0, []), (25, .invokevirtual 221, 152, 1, 7, []), (28, .invokestatic 227, 156, 1, 0, []), (31, .istore_n 3, 0, 0, 0, []), (32, .bipush (-5), 0, 0, 0, []), (34, .istore 4, 0, 0, 0, []), (36, .iconst 0, 0, 0, 0, []), (37, .istore 5, 0, 0, 0, []), (39, .nop, 39, 0, 0, [])]
  | 39 => [(39, .iload 5, 0, 0, 0, []), (41, .bipush 8, 0, 0, 0, []), (43, .if_icmp .ge 75, 118, 0, 0, []), (46, .aload_n 0, 0, 0, 0, []), (47, .getfield 15, 0, 7, 2, []), (50, .iload 5, 0, 0, 0, []), (52, .iaload, 0, 0, 0, []), (53, .istore 6, 0, 0, 0, []), (55, .aload_n 0, 0, 0, 0, []), (56, .getfield 15, 0, 7, 2, []), (59, .iload 5, 0, 0, 0, []), (61, .bipush 99, 0, 0, 0, []), (63, .iload 6, 0, 0, 0, []), (65, .iload_n 2, 0, 0, 0, []), (66, .iadd, 0, 0, 0, []), (67, .invokestatic 230, 0, 0, 3, []), (70, .iastore, 0, 0, 0, []), (71, .aload_n 0, 0, 0, 0, []), (72, .iload_n 1, 0, 0, 0, []), (73, .invokevirtual 221, 152, 1, 7, []), (76, .invokestatic 227, 156, 1, 0, []), (79, .istore 7, 0, 0, 0, []), (81, .aload_n 0, 0, 0, 0, []), (82, .getfield 15, 0, 7, 2, []), (85, .iload 5, 0, 0, 0, []), (87, .iload 6, 0, 0, 0, []), (89, .iastore, 0, 0, 0, []), (90, .iload 7, 0, 0, 0, []), (92, .iload_n 3, 0, 0, 0, []), (93, .if_icmp .ge 8, 101, 0, 0, []), (96, .iload 5, 0, 0, 0, []), (98, .goto 5, 103, 0, 0, [])]
  | 101 => [(101, .iload 4, 0, 0, 0, []), (103, .nop, 103, 0, 0, [])]
  | 103 => [(103, .istore 4, 0, 0, 0, []), (105, .iload 7, 0, 0, 0, []), (107, .iload_n 3, 0, 0, 0, []), (108, .invokestatic 230, 0, 0, 3, []), (111, .istore_n 3, 0, 0, 0, []), (112, .iinc 5 1, 0, 0, 0, []), (115, .goto (-76), 39, 0, 0, [])]
  | 118 => [(118, .iload 4, 0, 0, 0, []), (120, .ireturn, 0, 0, 0, [])]
  | _ => []
/-- GeeseKeysModel.see(III)I -/
def gp_m_see (l : Nat) : List gI := match l with
  | 0 => [(0, .iload_n 1, 0, 0, 0, []), (1, .iconst (-1), 0, 0, 0, []), (2, .if_icmp .ne 13, 15, 0, 0, []), (5, .aload_n 0, 0, 0, 0, []), (6, .getfield 15, 0, 7, 2, []), (9, .bipush 84, 0, 0, 0, []), (11, .iconst 0, 0, 0, 0, []), (12, .iastore, 0, 0, 0, []), (13, .iconst 0, 0, 0, 0, []), (14, .ireturn, 0, 0, 0, [])]
  | 15 => [(15, .aload_n 0, 0, 0, 0, []), (16, .iload_n 1, 0, 0, 0, []), (17, .invokevirtual 91, 109, 1, 7, []), (20, .ifCond .eq 10, 30, 0, 0, []), (23, .iload_n 3, 0, 0, 0, []), (24, .invokestatic 87, 105, 1, 0, []), (27, .ifCond .ne 5, 32, 0, 0, []), (30, .nop, 30, 0, 0, [])]
  | 30 => [(30, .iconst (-1), 0, 0, 0, []), (31, .ireturn, 0, 0, 0, [])]
  | 32 => [(32, .iload_n 2, 0, 0, 0, []), (33, .iconst 0, 0, 0, 0, []), (34, .bipush 12, 0, 0, 0, []), (36, .invokestatic 79, 106, 3, 0, []), (39, .ifCond .ne 6, 45, 0, 0, []), (42, .bipush (-2), 0, 0, 0, []), (44, .ireturn, 0, 0, 0, [])]
  | 45 => [(45, .aload_n 0, 0, 0, 0, []), (46, .getfield 15, 0, 7, 2, []), (49, .bipush 84, 0, 0, 0, []), (51, .iaload, 0, 0, 0, []), (52, .iconst 5, 0, 0, 0, []), (53, .if_icmp .ne 6, 59, 0, 0, []), (56, .bipush (-4), 0, 0, 0, []), (58, .ireturn, 0, 0, 0, [])]
  | 59 => [(59, .bipush 85, 0, 0, 0, []), (61, .iconst 3, 0, 0, 0, []), (62, .aload_n 0, 0, 0, 0, []), (63, .getfield 15, 0, 7, 2, []), (66, .bipush 84, 0, 0, 0, []), (68, .iaload, 0, 0, 0, []), (69, .imul, 0, 0, 0, []), (70, .iadd, 0, 0, 0, []), (71, .istore 4, 0, 0, 0, []), (73, .aload_n 0, 0, 0, 0, []), (74, .getfield 15, 0, 7, 2, []), (77, .iload 4, 0, 0, 0, []), (79, .iload_n 1, 0, 0, 0, []), (80, .iastore, 0, 0, 0, []), (81, .aload_n 0, 0, 0, 0, []), (82, .getfield 15, 0, 7, 2, []), (85, .iload 4, 0, 0, 0, []), (87, .iconst 1, 0, 0, 0, []), (88, .iadd, 0, 0, 0, []), (89, .iload_n 2, 0, 0, 0, []), (90, .iastore, 0, 0, 0, []), (91, .aload_n 0, 0, 0, 0, []), (92, .getfield 15, 0, 7, 2, []), (95, .iload 4, 0, 0, 0, []), (97, .iconst 2, 0, 0, 0, []), (98, .iadd, 0, 0, 0, []), (99, .iload_n 3, 0, 0, 0, []), (100, .iastore, 0, 0, 0, []), (101, .aload_n 0, 0, 0, 0, []), (102, .getfield 15, 0, 7, 2, []), (105, .bipush 84, 0, 0, 0, []), (107, .dup2, 0, 0, 0, []), (108, .iaload, 0, 0, 0, []), (109, .iconst 1, 0, 0, 0, []), (110, .iadd, 0, 0, 0, []), (111, .iastore, 0, 0, 0, []), (112, .aload_n 0, 0, 0, 0, []), (113, .getfield 15, 0, 7, 2, []), (116, .bipush 84, 0, 0, 0, []), (118, .iaload, 0, 0, 0, []), (119, .ireturn, 0, 0, 0, [])]
  | _ => []
/-- GeeseKeysModel.from(I)I -/
def gp_m_from (l : Nat) : List gI := match l with
  | 0 => [(0, .aload_n 0, 0, 0, 0, []), (1, .iload_n 1, 0, 0, 0, []), (2, .invokevirtual 91, 109, 1, 7, []), (5, .ifCond .eq 14, 19, 0, 0, []), (8, .aload_n 0, 0, 0, 0, []), (9, .iload_n 1, 0, 0, 0, []), (10, .iconst 2, 0, 0, 0, []), (11, .bipush 7, 0, 0, 0, []), (13, .invokevirtual 239, 160, 3, 7, []), (16, .goto 4, 20, 0, 0, [])]
  | 19 => [(19, .iconst (-1), 0, 0, 0, []), (20, .nop, 20, 0, 0, [])]
  | 20 => [(20, .ireturn, 0, 0, 0, [])]
  | _ => []
/-- GeeseKeysModel.fits(III)I -/
def gp_m_fits (l : Nat) : List gI := match l with
  | 0 => [(0, .aload_n 0, 0, 0, 0, []), (1, .iload_n 1, 0, 0, 0, []), (2, .iload_n 2, 0, 0, 0, []), (3, .invokevirtual 83, 110, 2, 7, []), (6, .istore 4, 0, 0, 0, []), (8, .iconst 0, 0, 0, 0, []), (9, .istore 5, 0, 0, 0, []), (11, .iconst 0, 0, 0, 0, []), (12, .istore 6, 0, 0, 0, []), (14, .nop, 14, 0, 0, [])]
  | 14 => [(14, .iload 6, 0, 0, 0, []), (16, .iload_n 3, 0, 0, 0, []), (17, .if_icmp .gt 38, 55, 0, 0, []), (20, .aload_n 0, 0, 0, 0, []), (21, .iload_n 1, 0, 0, 0, []), (22, .iload_n 2, 0, 0, 0, []), (23, .iload 6, 0, 0, 0, []), (25, .invokevirtual 104, 132, 3, 7, []), (28, .pop, 0, 0, 0, []), (29, .iload 5, 0, 0, 0, []), (31, .aload_n 0, 0, 0, 0, []), (32, .invokevirtual 236, 161, 0, 7, []), (35, .ifCond .eq 10, 45, 0, 0, []), (38, .iconst 1, 0, 0, 0, []), (39, .iload 6, 0, 0, 0, []), (41, .ishl, 0, 0, 0, []), (42, .goto 4, 46, 0, 0, [])]
  | 45 => [(45, .iconst 0, 0, 0, 0, []), (46, .nop, 46, 0, 0, [])]
  | 46 => [(46, .ior, 0, 0, 0, []), (47, .istore 5, 0, 0, 0, []), (49, .iinc 6 1, 0, 0, 0, []), (52, .goto (-38), 14, 0, 0, [])]
  | 55 => [(55, .aload_n 0, 0, 0, 0, []), (56, .iload_n 1, 0, 0, 0, []), (57, .iload_n 2, 0, 0, 0, []), (58, .iload 4, 0, 0, 0, []), (60, .invokevirtual 104, 132, 3, 7, []), (63, .pop, 0, 0, 0, []), (64, .iload 5, 0, 0, 0, []), (66, .ireturn, 0, 0, 0, [])]
  | _ => []
/-- GeeseKeysModel.isAllSeen()Z -/
def gp_m_isAllSeen (l : Nat) : List gI := match l with
  | 0 => [(0, .aload_n 0, 0, 0, 0, []), (1, .iconst 0, 0, 0, 0, []), (2, .invokevirtual 197, 143, 1, 7, []), (5, .iconst 1, 0, 0, 0, []), (6, .istore_n 1, 0, 0, 0, []), (7, .iconst 0, 0, 0, 0, []), (8, .istore_n 2, 0, 0, 0, []), (9, .nop, 9, 0, 0, [])]
  | 9 => [(9, .iload_n 2, 0, 0, 0, []), (10, .bipush 12, 0, 0, 0, []), (12, .if_icmp .gt 91, 103, 0, 0, []), (15, .iload_n 1, 0, 0, 0, []), (16, .ifCond .eq 87, 103, 0, 0, []), (19, .iconst 0, 0, 0, 0, []), (20, .istore_n 3, 0, 0, 0, []), (21, .nop, 21, 0, 0, [])]
  | 21 => [(21, .iload_n 3, 0, 0, 0, []), (22, .aload_n 0, 0, 0, 0, []), (23, .getfield 15, 0, 7, 2, []), (26, .bipush 84, 0, 0, 0, []), (28, .iaload, 0, 0, 0, []), (29, .if_icmp .ge 64, 93, 0, 0, []), (32, .bipush 85, 0, 0, 0, []), (34, .iconst 3, 0, 0, 0, []), (35, .iload_n 3, 0, 0, 0, []), (36, .imul, 0, 0, 0, []), (37, .iadd, 0, 0, 0, []), (38, .istore 4, 0, 0, 0, []), (40, .iload_n 1, 0, 0, 0, []), (41, .ifCond .eq 44, 85, 0, 0, []), (44, .aload_n 0, 0, 0, 0, []), (45, .getfield 15, 0, 7, 2, []), (48, .iload 4, 0, 0, 0, []), (50, .iconst 1, 0, 0, 0, []), (51, .iadd, 0, 0, 0, []), (52, .iaload, 0, 0, 0, []), (53, .iload_n 2, 0, 0, 0, []), (54, .if_icmp .ne 27, 81, 0, 0, []), (57, .aload_n 0, 0, 0, 0, []), (58, .aload_n 0, 0, 0, 0, []), (59, .getfield 15, 0, 7, 2, []), (62, .iload 4, 0, 0, 0, []), (64, .iaload, 0, 0, 0, []), (65, .iconst 2, 0, 0, 0, []), (66, .invokevirtual 83, 110, 2, 7, []), (69, .aload_n 0, 0, 0, 0, []), (70, .getfield 15, 0, 7, 2, []), (73, .iload 4, 0, 0, 0, []), (75, .iconst 2, 0, 0, 0, []), (76, .iadd, 0, 0, 0, []), (77, .iaload, 0, 0, 0, []), (78, .if_icmp .ne 7, 85, 0, 0, []), (81, .nop, 81, 0, 0, [])]
  | 81 => [(81, .iconst 1, 0, 0, 0, []), (82, .goto 4, 86, 0, 0, [])]
  | 85 => [(85, .iconst 0, 0, 0, 0, []), (86, .nop, 86, 0, 0, [])]
  | 86 => [(86, .istore_n 1, 0, 0, 0, []), (87, .iinc 3 1, 0, 0, 0, []), (90, .goto (-69), 21, 0, 0, [])]
  | 93 => [(93, .aload_n 0, 0, 0, 0, []), (94, .invokevirtual 203, 144, 0, 7, []), (97, .iinc 2 1, 0, 0, 0, []), (100, .goto (-91), 9, 0, 0, [])]
  | 103 => [(103, .aload_n 0, 0, 0, 0, []), (104, .iconst 0, 0, 0, 0, []), (105, .invokevirtual 206, 145, 1, 7, []), (108, .iload_n 1, 0, 0, 0, []), (109, .ireturn, 1, 0, 0, [])]
  | _ => []
/-- GeeseKeysModel.can(II)I -/
def gp_m_can (l : Nat) : List gI := match l with
  | 0 => [(0, .aload_n 0, 0, 0, 0, []), (1, .iload_n 1, 0, 0, 0, []), (2, .invokevirtual 91, 109, 1, 7, []), (5, .ifCond .eq 12, 17, 0, 0, []), (8, .iload_n 2, 0, 0, 0, []), (9, .iconst 0, 0, 0, 0, []), (10, .iconst 1, 0, 0, 0, []), (11, .invokestatic 79, 106, 3, 0, []), (14, .ifCond .ne 5, 19, 0, 0, []), (17, .nop, 17, 0, 0, [])]
  | 17 => [(17, .iconst (-1), 0, 0, 0, []), (18, .ireturn, 0, 0, 0, [])]
  | 19 => [(19, .aload_n 0, 0, 0, 0, []), (20, .iload_n 1, 0, 0, 0, []), (21, .iconst 1, 0, 0, 0, []), (22, .bipush 9, 0, 0, 0, []), (24, .invokevirtual 239, 160, 3, 7, []), (27, .istore_n 3, 0, 0, 0, []), (28, .iconst 0, 0, 0, 0, []), (29, .istore 4, 0, 0, 0, []), (31, .bipush (-5), 0, 0, 0, []), (33, .istore 5, 0, 0, 0, []), (35, .bipush 9, 0, 0, 0, []), (37, .istore 6, 0, 0, 0, []), (39, .nop, 39, 0, 0, [])]
  | 39 => [(39, .iload 6, 0, 0, 0, []), (41, .ifCond .lt 39, 80, 0, 0, []), (44, .iload 4, 0, 0, 0, []), (46, .iload_n 3, 0, 0, 0, []), (47, .iload 6, 0, 0, 0, []), (49, .ishr, 0, 0, 0, []), (50, .iconst 1, 0, 0, 0, []), (51, .iand, 0, 0, 0, []), (52, .iadd, 0, 0, 0, []), (53, .istore 4, 0, 0, 0, []), (55, .iload_n 3, 0, 0, 0, []), (56, .iload 6, 0, 0, 0, []), (58, .ishr, 0, 0, 0, []), (59, .iconst 1, 0, 0, 0, []), (60, .iand, 0, 0, 0, []), (61, .iconst 1, 0, 0, 0, []), (62, .if_icmp .ne 8, 70, 0, 0, []), (65, .iload 6, 0, 0, 0, []), (67, .goto 5, 72, 0, 0, [])]
  | 70 => [(70, .iload 5, 0, 0, 0, []), (72, .nop, 72, 0, 0, [])]
  | 72 => [(72, .istore 5, 0, 0, 0, []), (74, .iinc 6 (-1), 0, 0, 0, []), (77, .goto (-38), 39, 0, 0, [])]
  | 80 => [(80, .iload_n 2, 0, 0, 0, []), (81, .ifCond .ne 8, 89, 0, 0, []), (84, .iload 4, 0, 0, 0, []), (86, .goto 5, 91, 0, 0, [])]
  | 89 => [(89, .iload 5, 0, 0, 0, []), (91, .nop, 91, 0, 0, [])]
  | 91 => [(91, .ireturn, 0, 0, 0, [])]
  | _ => []
/-- GeeseKeysModel.odds(III)J -/
def gp_m_odds (l : Nat) : List gI := match l with
  | 0 => [(0, .aload_n 0, 0, 0, 0, []), (1, .iload_n 1, 0, 0, 0, []), (2, .invokevirtual 169, 128, 1, 7, []), (5, .ifCond .eq 22, 27, 0, 0, []), (8, .iload_n 2, 0, 0, 0, []), (9, .iconst 0, 0, 0, 0, []), (10, .bipush 20, 0, 0, 0, []), (12, .invokestatic 79, 106, 3, 0, []), (15, .ifCond .eq 12, 27, 0, 0, []), (18, .iload_n 3, 0, 0, 0, []), (19, .iconst 0, 0, 0, 0, []), (20, .iconst 1, 0, 0, 0, []), (21, .invokestatic 79, 106, 3, 0, []), (24, .ifCond .ne 7, 31, 0, 0, []), (27, .nop, 27, 0, 0, [])]
  | 27 => [(27, .ldc2_w 242, 0, 9223372036854775808, 0, []), (30, .lreturn, 0, 0, 0, [])]
  | 31 => [(31, .iconst 0, 0, 0, 0, []), (32, .istore 4, 0, 0, 0, []), (34, .iconst 0, 0, 0, 0, []), (35, .istore 5, 0, 0, 0, []), (37, .nop, 37, 0, 0, [])]
  | 37 => [(37, .iload 5, 0, 0, 0, []), (39, .bipush 8, 0, 0, 0, []), (41, .if_icmp .ge 59, 100, 0, 0, []), (44, .aload_n 0, 0, 0, 0, []), (45, .getfield 15, 0, 7, 2, []), (48, .iload 5, 0, 0, 0, []), (50, .iaload, 0, 0, 0, []), (51, .istore 6, 0, 0, 0, []), (53, .aload_n 0, 0, 0, 0, []), (54, .getfield 15, 0, 7, 2, []), (57, .iload 5, 0, 0, 0, []), (59, .bipush 99, 0, 0, 0, []), (61, .iload 6, 0, 0, 0, []), (63, .bipush 9, 0, 0, 0, []), (65, .iadd, 0, 0, 0, []), (66, .invokestatic 230, 0, 0, 3, []), (69, .iastore, 0, 0, 0, []), (70, .iload 4, 0, 0, 0, []), (72, .aload_n 0, 0, 0, 0, []), (73, .iload_n 2, 0, 0, 0, []), (74, .iconst 0, 0, 0, 0, []), (75, .invokevirtual 244, 150, 2, 7, []), (78, .iload_n 1, 0, 0, 0, []), (79, .ishr, 0, 0, 0, []), (80, .iconst 1, 0, 0, 0, []), (81, .iand, 0, 0, 0, []), (82, .iadd, 0, 0, 0, []), (83, .istore 4, 0, 0, 0, []), (85, .aload_n 0, 0, 0, 0, []), (86, .getfield 15, 0, 7, 2, []), (89, .iload 5, 0, 0, 0, []), (91, .iload 6, 0, 0, 0, []), (93, .iastore, 0, 0, 0, []), (94, .iinc 5 1, 0, 0, 0, []), (97, .goto (-60), 37, 0, 0, [])]
  | 100 => [(100, .iload 4, 0, 0, 0, []), (102, .i2l, 0, 0, 0, []), (103, .ldc2_w 247, 0, 8, 0, []), (106, .iload_n 3, 0, 0, 0, []), (107, .invokestatic 249, 164, 3, 0, []), (110, .lreturn, 0, 0, 0, [])]
  | _ => []
/-- GeeseKeysModel.fraction(JJI)J -/
def gp_m_fraction (l : Nat) : List gI := match l with
  | 0 => [(0, .lload_n 0, 0, 0, 0, []), (1, .lstore 5, 0, 0, 0, []), (3, .lload_n 2, 0, 0, 0, []), (4, .lstore 7, 0, 0, 0, []), (6, .nop, 6, 0, 0, [])]
  | 6 => [(6, .lload 7, 0, 0, 0, []), (8, .lconst 0, 0, 0, 0, []), (9, .lcmp, 0, 0, 0, []), (10, .ifCond .eq 21, 31, 0, 0, []), (13, .lload 5, 0, 0, 0, []), (15, .lload 7, 0, 0, 0, []), (17, .lrem, 0, 0, 0, []), (18, .lstore 9, 0, 0, 0, []), (20, .lload 7, 0, 0, 0, []), (22, .lstore 5, 0, 0, 0, []), (24, .lload 9, 0, 0, 0, []), (26, .lstore 7, 0, 0, 0, []), (28, .goto (-22), 6, 0, 0, [])]
  | 31 => [(31, .iload 4, 0, 0, 0, []), (33, .ifCond .ne 10, 43, 0, 0, []), (36, .lload_n 0, 0, 0, 0, []), (37, .lload 5, 0, 0, 0, []), (39, .ldiv, 0, 0, 0, []), (40, .goto 7, 47, 0, 0, [])]
  | 43 => [(43, .lload_n 2, 0, 0, 0, []), (44, .lload 5, 0, 0, 0, []), (46, .ldiv, 0, 0, 0, []), (47, .nop, 47, 0, 0, [])]
  | 47 => [(47, .lreturn, 0, 0, 0, [])]
  | _ => []
/-- GeeseKeysModel.mean(II)J -/
def gp_m_mean (l : Nat) : List gI := match l with
  | 0 => [(0, .iload_n 1, 0, 0, 0, []), (1, .iconst 0, 0, 0, 0, []), (2, .bipush 60, 0, 0, 0, []), (4, .invokestatic 79, 106, 3, 0, []), (7, .ifCond .eq 12, 19, 0, 0, []), (10, .iload_n 2, 0, 0, 0, []), (11, .iconst 0, 0, 0, 0, []), (12, .iconst 1, 0, 0, 0, []), (13, .invokestatic 79, 106, 3, 0, []), (16, .ifCond .ne 7, 23, 0, 0, []), (19, .nop, 19, 0, 0, [])]
  | 19 => [(19, .ldc2_w 242, 0, 9223372036854775808, 0, []), (22, .lreturn, 0, 0, 0, [])]
  | 23 => [(23, .aload_n 0, 0, 0, 0, []), (24, .iconst 0, 0, 0, 0, []), (25, .invokevirtual 197, 143, 1, 7, []), (28, .iconst 0, 0, 0, 0, []), (29, .istore_n 3, 0, 0, 0, []), (30, .nop, 30, 0, 0, [])]
  | 30 => [(30, .iload_n 3, 0, 0, 0, []), (31, .iload_n 1, 0, 0, 0, []), (32, .if_icmp .ge 13, 45, 0, 0, []), (35, .aload_n 0, 0, 0, 0, []), (36, .invokevirtual 203, 144, 0, 7, []), (39, .iinc 3 1, 0, 0, 0, []), (42, .goto (-12), 30, 0, 0, [])]
  | 45 => [(45, .aload_n 0, 0, 0, 0, []), (46, .invokevirtual 215, 146, 0, 7, []), (49, .istore_n 3, 0, 0, 0, []), (50, .aload_n 0, 0, 0, 0, []), (51, .iconst 0, 0, 0, 0, []), (52, .invokevirtual 206, 145, 1, 7, []), (55, .iload_n 3, 0, 0, 0, []), (56, .i2l, 0, 0, 0, []), (57, .ldc2_w 247, 0, 8, 0, []), (60, .iload_n 2, 0, 0, 0, []), (61, .invokestatic 249, 164, 3, 0, []), (64, .lreturn, 0, 0, 0, [])]
  | _ => []
/-- GeeseKeysModel.plan(II)I -/
def gp_m_plan (l : Nat) : List gI := match l with
  | 0 => [(0, .iload_n 1, 0, 0, 0, []), (1, .iconst (-1), 0, 0, 0, []), (2, .if_icmp .ne 13, 15, 0, 0, []), (5, .aload_n 0, 0, 0, 0, []), (6, .getfield 15, 0, 7, 2, []), (9, .bipush 100, 0, 0, 0, []), (11, .iconst 0, 0, 0, 0, []), (12, .iastore, 0, 0, 0, []), (13, .iconst 0, 0, 0, 0, []), (14, .ireturn, 0, 0, 0, [])]
  | 15 => [(15, .iload_n 1, 0, 0, 0, []), (16, .ifCond .eq 33, 49, 0, 0, []), (19, .iload_n 1, 0, 0, 0, []), (20, .iconst 1, 0, 0, 0, []), (21, .if_icmp .ne 10, 31, 0, 0, []), (24, .iload_n 2, 0, 0, 0, []), (25, .invokestatic 87, 105, 1, 0, []), (28, .ifCond .ne 21, 49, 0, 0, []), (31, .nop, 31, 0, 0, [])]
  | 31 => [(31, .iload_n 1, 0, 0, 0, []), (32, .iconst 2, 0, 0, 0, []), (33, .if_icmp .eq 8, 41, 0, 0, []), (36, .iload_n 1, 0, 0, 0, []), (37, .iconst 3, 0, 0, 0, []), (38, .if_icmp .ne 15, 53, 0, 0, []), (41, .nop, 41, 0, 0, [])]
  | 41 => [(41, .aload_n 0, 0, 0, 0, []), (42, .iload_n 2, 0, 0, 0, []), (43, .invokevirtual 91, 109, 1, 7, []), (46, .ifCond .eq 7, 53, 0, 0, []), (49, .nop, 49, 0, 0, [])]
  | 49 => [(49, .iconst 1, 0, 0, 0, []), (50, .goto 4, 54, 0, 0, [])]
  | 53 => [(53, .iconst 0, 0, 0, 0, []), (54, .nop, 54, 0, 0, [])]
  | 54 => [(54, .istore_n 3, 0, 0, 0, []), (55, .iload_n 3, 0, 0, 0, []), (56, .ifCond .ne 5, 61, 0, 0, []), (59, .iconst (-1), 0, 0, 0, []), (60, .ireturn, 0, 0, 0, [])]
  | 61 => [(61, .aload_n 0, 0, 0, 0, []), (62, .getfield 15, 0, 7, 2, []), (65, .bipush 100, 0, 0, 0, []), (67, .iaload, 0, 0, 0, []), (68, .bipush 10, 0, 0, 0, []), (70, .if_icmp .ne 6, 76, 0, 0, []), (73, .bipush (-4), 0, 0, 0, []), (75, .ireturn, 0, 0, 0, [])]
  | 76 => [(76, .aload_n 0, 0, 0, 0, []), (77, .getfield 15, 0, 7, 2, []), (80, .bipush 101, 0, 0, 0, []), (82, .iconst 2, 0, 0, 0, []), (83, .aload_n 0, 0, 0, 0, []), (84, .getfield 15, 0, 7, 2, []), (87, .bipush 100, 0, 0, 0, []), (89, .iaload, 0, 0, 0, []), (90, .imul, 0, 0, 0, []), (91, .iadd, 0, 0, 0, []), (92, .iload_n 1, 0, 0, 0, []), (93, .iastore, 0, 0, 0, []), (94, .aload_n 0, 0, 0, 0, []), (95, .getfield 15, 0, 7, 2, []), (98, .bipush 102, 0, 0, 0, []), (100, .iconst 2, 0, 0, 0, []), (101, .aload_n 0, 0, 0, 0, []), (102, .getfield 15, 0, 7, 2, []), (105, .bipush 100, 0, 0, 0, []), (107, .iaload, 0, 0, 0, []), (108, .imul, 0, 0, 0, []), (109, .iadd, 0, 0, 0, []), (110, .iload_n 2, 0, 0, 0, []), (111, .iastore, 0, 0, 0, []), (112, .aload_n 0, 0, 0, 0, []), (113, .getfield 15, 0, 7, 2, []), (116, .bipush 100, 0, 0, 0, []), (118, .dup2, 0, 0, 0, []), (119, .iaload, 0, 0, 0, []), (120, .iconst 1, 0, 0, 0, []), (121, .iadd, 0, 0, 0, []), (122, .iastore, 0, 0, 0, []), (123, .aload_n 0, 0, 0, 0, []), (124, .getfield 15, 0, 7, 2, []), (127, .bipush 100, 0, 0, 0, []), (129, .iaload, 0, 0, 0, []), (130, .ireturn, 0, 0, 0, [])]
  | _ => []
/-- GeeseKeysModel.ends(I)I -/
def gp_m_ends (l : Nat) : List gI := match l with
  | 0 => [(0, .iload_n 1, 0, 0, 0, []), (1, .iconst 0, 0, 0, 0, []), (2, .iconst 1, 0, 0, 0, []), (3, .invokestatic 79, 106, 3, 0, []), (6, .ifCond .ne 5, 11, 0, 0, []), (9, .iconst (-1), 0, 0, 0, []), (10, .ireturn, 0, 0, 0, [])]
  | 11 => [(11, .aload_n 0, 0, 0, 0, []), (12, .iconst 0, 0, 0, 0, []), (13, .invokevirtual 197, 143, 1, 7, []), (16, .iconst 0, 0, 0, 0, []), (17, .istore_n 2, 0, 0, 0, []), (18, .nop, 18, 0, 0, [])]
  | 18 => [(18, .iload_n 2, 0, 0, 0, []), (19, .aload_n 0, 0, 0, 0, []), (20, .getfield 15, 0, 7, 2, []), (23, .bipush 100, 0, 0, 0, []), (25, .iaload, 0, 0, 0, []), (26, .if_icmp .ge 93, 119, 0, 0, []), (29, .aload_n 0, 0, 0, 0, []), (30, .getfield 15, 0, 7, 2, []), (33, .bipush 101, 0, 0, 0, []), (35, .iconst 2, 0, 0, 0, []), (36, .iload_n 2, 0, 0, 0, []), (37, .imul, 0, 0, 0, []), (38, .iadd, 0, 0, 0, []), (39, .iaload, 0, 0, 0, []), (40, .istore_n 3, 0, 0, 0, []), (41, .aload_n 0, 0, 0, 0, []), (42, .getfield 15, 0, 7, 2, []), (45, .bipush 102, 0, 0, 0, []), (47, .iconst 2, 0, 0, 0, []), (48, .iload_n 2, 0, 0, 0, []), (49, .imul, 0, 0, 0, []), (50, .iadd, 0, 0, 0, []), (51, .iaload, 0, 0, 0, []), (52, .istore 4, 0, 0, 0, []), (54, .iload_n 3, 0, 0, 0, []), (55, .ifCond .ne 10, 65, 0, 0, []), (58, .aload_n 0, 0, 0, 0, []), (59, .invokevirtual 203, 144, 0, 7, []), (62, .goto 51, 113, 0, 0, [])]
  | 65 => [(65, .iload_n 3, 0, 0, 0, []), (66, .iconst 1, 0, 0, 0, []), (67, .if_icmp .ne 28, 95, 0, 0, []), (70, .aload_n 0, 0, 0, 0, []), (71, .getfield 15, 0, 7, 2, []), (74, .iload 4, 0, 0, 0, []), (76, .bipush 99, 0, 0, 0, []), (78, .aload_n 0, 0, 0, 0, []), (79, .getfield 15, 0, 7, 2, []), (82, .iload 4, 0, 0, 0, []), (84, .iaload, 0, 0, 0, []), (85, .bipush 9, 0, 0, 0, []), (87, .iadd, 0, 0, 0, []), (88, .invokestatic 230, 0, 0, 3, []), (91, .iastore, 0, 0, 0, []), (92, .goto 21, 113, 0, 0, [])]
  | 95 => [(95, .aload_n 0, 0, 0, 0, []), (96, .iload 4, 0, 0, 0, []), (98, .iconst 4, 0, 0, 0, []), (99, .iload_n 3, 0, 0, 0, []), (100, .iconst 2, 0, 0, 0, []), (101, .if_icmp .ne 7, 108, 0, 0, []), (104, .iconst 1, 0, 0, 0, []), (105, .goto 4, 109, 0, 0, [])]
  | 108 => [(108, .iconst 0, 0, 0, 0, []), (109, .nop, 109, 0, 0, [])]
  | 109 => [(109, .invokevirtual 104, 132, 3, 7, []), (112, .pop, 0, 0, 0, []), (113, .nop, 113, 0, 0, [])]
  | 113 => [(113, .iinc 2 1, 0, 0, 0, []), (116, .goto (-98), 18, 0, 0, [])]
  | 119 => [(119, .iload_n 1, 0, 0, 0, []), (120, .ifCond .ne 10, 130, 0, 0, []), (123, .aload_n 0, 0, 0, 0, []), (124, .invokevirtual 200, 141, 0, 7, []), (127, .goto 7, 134, 0, 0, [])]
  | 130 => [(130, .aload_n 0, 0, 0, 0, []), (131, .invokevirtual 215, 146, 0, 7, []), (134, .nop, 134, 0, 0, [])]
  | 134 => [(134, .istore_n 2, 0, 0, 0, []), (135, .aload_n 0, 0, 0, 0, []), (136, .iconst 0, 0, 0, 0, []), (137, .invokevirtual 206, 145, 1, 7, []), (140, .iload_n 2, 0, 0, 0, []), (141, .ireturn, 0, 0, 0, [])]
  | _ => []
/-- GeeseKeysModel.book(II)I -/
def gp_m_book (l : Nat) : List gI := match l with
  | 0 => [(0, .iload_n 1, 0, 0, 0, []), (1, .iconst (-1), 0, 0, 0, []), (2, .if_icmp .ne 13, 15, 0, 0, []), (5, .aload_n 0, 0, 0, 0, []), (6, .getfield 15, 0, 7, 2, []), (9, .bipush 121, 0, 0, 0, []), (11, .iconst 0, 0, 0, 0, []), (12, .iastore, 0, 0, 0, []), (13, .iconst 0, 0, 0, 0, []), (14, .ireturn, 0, 0, 0, [])]
  | 15 => [(15, .iload_n 1, 0, 0, 0, []), (16, .invokestatic 87, 105, 1, 0, []), (19, .ifCond .ne 5, 24, 0, 0, []), (22, .iconst (-1), 0, 0, 0, []), (23, .ireturn, 0, 0, 0, [])]
  | 24 => [(24, .iload_n 2, 0, 0, 0, []), (25, .iconst 0, 0, 0, 0, []), (26, .bipush 99, 0, 0, 0, []), (28, .invokestatic 79, 106, 3, 0, []), (31, .ifCond .ne 6, 37, 0, 0, []), (34, .bipush (-2), 0, 0, 0, []), (36, .ireturn, 0, 0, 0, [])]
  | 37 => [(37, .aload_n 0, 0, 0, 0, []), (38, .getfield 15, 0, 7, 2, []), (41, .bipush 121, 0, 0, 0, []), (43, .iaload, 0, 0, 0, []), (44, .bipush 8, 0, 0, 0, []), (46, .if_icmp .ne 6, 52, 0, 0, []), (49, .bipush (-4), 0, 0, 0, []), (51, .ireturn, 0, 0, 0, [])]
  | 52 => [(52, .aload_n 0, 0, 0, 0, []), (53, .getfield 15, 0, 7, 2, []), (56, .bipush 122, 0, 0, 0, []), (58, .iconst 2, 0, 0, 0, []), (59, .aload_n 0, 0, 0, 0, []), (60, .getfield 15, 0, 7, 2, []), (63, .bipush 121, 0, 0, 0, []), (65, .iaload, 0, 0, 0, []), (66, .imul, 0, 0, 0, []), (67, .iadd, 0, 0, 0, []), (68, .iload_n 1, 0, 0, 0, []), (69, .iastore, 0, 0, 0, []), (70, .aload_n 0, 0, 0, 0, []), (71, .getfield 15, 0, 7, 2, []), (74, .bipush 123, 0, 0, 0, []), (76, .iconst 2, 0, 0, 0, []), (77, .aload_n 0, 0, 0, 0, []), (78, .getfield 15, 0, 7, 2, []), (81, .bipush 121, 0, 0, 0, []), (83, .iaload, 0, 0, 0, []), (84, .imul, 0, 0, 0, []), (85, .iadd, 0, 0, 0, []), (86, .iload_n 2, 0, 0, 0, []), (87, .iastore, 0, 0, 0, []), (88, .aload_n 0, 0, 0, 0, []), (89, .getfield 15, 0, 7, 2, []), (92, .bipush 121, 0, 0, 0, []), (94, .dup2, 0, 0, 0, []), (95, .iaload, 0, 0, 0, []), (96, .iconst 1, 0, 0, 0, []), (97, .iadd, 0, 0, 0, []), (98, .iastore, 0, 0, 0, []), (99, .aload_n 0, 0, 0, 0, []), (100, .getfield 15, 0, 7, 2, []), (103, .bipush 121, 0, 0, 0, []), (105, .iaload, 0, 0, 0, []), (106, .ireturn, 0, 0, 0, [])]
  | _ => []
/-- GeeseKeysModel.looked()I -/
def gp_m_looked (l : Nat) : List gI := match l with
  | 0 => [(0, .iconst 0, 0, 0, 0, []), (1, .istore_n 1, 0, 0, 0, []), (2, .nop, 2, 0, 0, [])]
  | 2 => [(2, .iload_n 1, 0, 0, 0, []), (3, .aload_n 0, 0, 0, 0, []), (4, .getfield 15, 0, 7, 2, []), (7, .bipush 121, 0, 0, 0, []), (9, .iaload, 0, 0, 0, []), (10, .if_icmp .ge 41, 51, 0, 0, []), (13, .aload_n 0, 0, 0, 0, []), (14, .getfield 15, 0, 7, 2, []), (17, .aload_n 0, 0, 0, 0, []), (18, .getfield 15, 0, 7, 2, []), (21, .bipush 122, 0, 0, 0, []), (23, .iconst 2, 0, 0, 0, []), (24, .iload_n 1, 0, 0, 0, []), (25, .imul, 0, 0, 0, []), (26, .iadd, 0, 0, 0, []), (27, .iaload, 0, 0, 0, []), (28, .iaload, 0, 0, 0, []), (29, .aload_n 0, 0, 0, 0, []), (30, .getfield 15, 0, 7, 2, []), (33, .bipush 123, 0, 0, 0, []), (35, .iconst 2, 0, 0, 0, []), (36, .iload_n 1, 0, 0, 0, []), (37, .imul, 0, 0, 0, []), (38, .iadd, 0, 0, 0, []), (39, .iaload, 0, 0, 0, []), (40, .if_icmp .eq 5, 45, 0, 0, []), (43, .iload_n 1, 0, 0, 0, []), (44, .ireturn, 0, 0, 0, [])]
  | 45 => [(45, .iinc 1 1, 0, 0, 0, []), (48, .goto (-46), 2, 0, 0, [])]
  | 51 => [(51, .bipush (-5), 0, 0, 0, []), (53, .ireturn, 0, 0, 0, [])]
  | _ => []
/-- GeeseKeysModel.act(III)I -/
def gp_m_act (l : Nat) : List gI := match l with
  | 0 => [(0, .aload_n 0, 0, 0, 0, []), (1, .iconst 0, 0, 0, 0, []), (2, .putfield 253, 24, 7, 0, []), (5, .aload_n 0, 0, 0, 0, []), (6, .iload_n 1, 0, 0, 0, []), (7, .invokevirtual 91, 109, 1, 7, []), (10, .ifCond .eq 22, 32, 0, 0, []), (13, .iload_n 2, 0, 0, 0, []), (14, .iconst 0, 0, 0, 0, []), (15, .iconst 2, 0, 0, 0, []), (16, .invokestatic 79, 106, 3, 0, []), (19, .ifCond .eq 13, 32, 0, 0, []), (22, .aload_n 0, 0, 0, 0, []), (23, .iload_n 1, 0, 0, 0, []), (24, .iload_n 2, 0, 0, 0, []), (25, .iload_n 3, 0, 0, 0, []), (26, .invokevirtual 263, 171, 3, 7, []), (29, .goto 4, 33, 0, 0, [])]
  | 32 => [(32, .iconst 0, 0, 0, 0, []), (33, .nop, 33, 0, 0, [])]
  | 33 => [(33, .ireturn, 0, 0, 0, [])]
  | _ => []
/-- GeeseKeysModel.all(III)I -/
def gp_m_all (l : Nat) : List gI := match l with
  | 0 => [(0, .aload_n 0, 0, 0, 0, []), (1, .aload_n 0, 0, 0, 0, []), (2, .iload_n 1, 0, 0, 0, []), (3, .iconst 0, 0, 0, 0, []), (4, .invokevirtual 83, 110, 2, 7, []), (7, .iload_n 1, 0, 0, 0, []), (8, .iload_n 2, 0, 0, 0, []), (9, .iload_n 3, 0, 0, 0, []), (10, .invokevirtual 256, 172, 4, 7, []), (13, .ireturn, 0, 0, 0, [])]
  | _ => []
/-- GeeseKeysModel.byKind(IIII)I -/
def gp_m_byKind (l : Nat) : List gI := match l with
  | 0 => [(0, .iload_n 1, 0, 0, 0, []), (1, .istore 5, 0, 0, 0, []), (3, .nop, 3, 0, 0, [])]
  | 3 => [(3, .aload_n 0, 0, 0, 0, []), (4, .getfield 56, 22, 7, 2, []), (7, .iconst 3, 0, 0, 0, []), (8, .iload 5, 0, 0, 0, []), (10, .imul, 0, 0, 0, []), (11, .iload_n 3, 0, 0, 0, []), (12, .iadd, 0, 0, 0, []), (13, .iaload, 0, 0, 0, []), (14, .ifCond .ne 15, 29, 0, 0, []), (17, .aload_n 0, 0, 0, 0, []), (18, .getfield 53, 21, 7, 2, []), (21, .iload 5, 0, 0, 0, []), (23, .iaload, 0, 0, 0, []), (24, .istore 5, 0, 0, 0, []), (26, .goto (-23), 3, 0, 0, [])]
  | 29 => [(29, .aload_n 0, 0, 0, 0, []), (30, .getfield 53, 21, 7, 2, []), (33, .iload 5, 0, 0, 0, []), (35, .iaload, 0, 0, 0, []), (36, .istore 6, 0, 0, 0, []), (38, .aload_n 0, 0, 0, 0, []), (39, .aload_n 0, 0, 0, 0, []), (40, .getfield 56, 22, 7, 2, []), (43, .iconst 3, 0, 0, 0, []), (44, .iload 5, 0, 0, 0, []), (46, .imul, 0, 0, 0, []), (47, .iload_n 3, 0, 0, 0, []), (48, .iadd, 0, 0, 0, []), (49, .iaload, 0, 0, 0, []), (50, .invokevirtual 260, 173, 1, 7, []), (53, .lookupswitch 228 #[(10, 91), (11, 96), (12, 112), (20, 123), (30, 137), (40, 150), (50, 169), (51, 181), (60, 194), (70, 207)], 281, 0, 0, [(10, 144), (11, 149), (12, 165), (20, 176), (30, 190), (40, 203), (50, 222), (51, 234), (60, 247), (70, 260)])]
  | 144 => [(144, .iload 4, 0, 0, 0, []), (146, .iload_n 2, 0, 0, 0, []), (147, .iadd, 0, 0, 0, []), (148, .ireturn, 0, 0, 0, [])]
  | 149 => [(149, .aload_n 0, 0, 0, 0, []), (150, .iload_n 2, 0, 0, 0, []), (151, .iconst 0, 0, 0, 0, []), (152, .iload 4, 0, 0, 0, []), (154, .invokevirtual 263, 171, 3, 7, []), (157, .aload_n 0, 0, 0, 0, []), (158, .iload_n 2, 0, 0, 0, []), (159, .iconst 1, 0, 0, 0, []), (160, .invokevirtual 83, 110, 2, 7, []), (163, .isub, 0, 0, 0, []), (164, .ireturn, 0, 0, 0, [])]
  | 165 => [(165, .aload_n 0, 0, 0, 0, []), (166, .iload_n 2, 0, 0, 0, []), (167, .iconst 1, 0, 0, 0, []), (168, .iload 4, 0, 0, 0, []), (170, .invokevirtual 263, 171, 3, 7, []), (173, .iconst 2, 0, 0, 0, []), (174, .imul, 0, 0, 0, []), (175, .ireturn, 0, 0, 0, [])]
  | 176 => [(176, .aload_n 0, 0, 0, 0, []), (177, .iload 6, 0, 0, 0, []), (179, .iload_n 2, 0, 0, 0, []), (180, .iconst 1, 0, 0, 0, []), (181, .iload 4, 0, 0, 0, []), (183, .invokevirtual 256, 172, 4, 7, []), (186, .bipush 6, 0, 0, 0, []), (188, .ixor, 0, 0, 0, []), (189, .ireturn, 0, 0, 0, [])]
  | 190 => [(190, .aload_n 0, 0, 0, 0, []), (191, .iload 6, 0, 0, 0, []), (193, .iload_n 2, 0, 0, 0, []), (194, .iconst 0, 0, 0, 0, []), (195, .iload 4, 0, 0, 0, []), (197, .iconst 3, 0, 0, 0, []), (198, .imul, 0, 0, 0, []), (199, .invokevirtual 256, 172, 4, 7, []), (202, .ireturn, 0, 0, 0, [])]
  | 203 => [(203, .aload_n 0, 0, 0, 0, []), (204, .iload 6, 0, 0, 0, []), (206, .iload_n 2, 0, 0, 0, []), (207, .iconst 2, 0, 0, 0, []), (208, .iload 4, 0, 0, 0, []), (210, .invokevirtual 256, 172, 4, 7, []), (213, .aload_n 0, 0, 0, 0, []), (214, .iload_n 2, 0, 0, 0, []), (215, .iconst 1, 0, 0, 0, []), (216, .iconst 1, 0, 0, 0, []), (217, .invokevirtual 263, 171, 3, 7, []), (220, .iadd, 0, 0, 0, []), (221, .ireturn, 0, 0, 0, [])]
  | 222 => [(222, .aload_n 0, 0, 0, 0, []), (223, .iload 6, 0, 0, 0, []), (225, .iload_n 2, 0, 0, 0, []), (226, .iconst 0, 0, 0, 0, []), (227, .iload 4, 0, 0, 0, []), (229, .invokevirtual 256, 172, 4, 7, []), (232, .ineg, 0, 0, 0, []), (233, .ireturn, 0, 0, 0, [])]
  | 234 => [(234, .aload_n 0, 0, 0, 0, []), (235, .iload 6, 0, 0, 0, []), (237, .iload_n 2, 0, 0, 0, []), (238, .iconst 1, 0, 0, 0, []), (239, .iload 4, 0, 0, 0, []), (241, .iconst 1, 0, 0, 0, []), (242, .iadd, 0, 0, 0, []), (243, .invokevirtual 256, 172, 4, 7, []), (246, .ireturn, 0, 0, 0, [])]
  | 247 => [(247, .aload_n 0, 0, 0, 0, []), (248, .iload 6, 0, 0, 0, []), (250, .iload_n 2, 0, 0, 0, []), (251, .iconst 2, 0, 0, 0, []), (252, .iload 4, 0, 0, 0, []), (254, .iload_n 2, 0, 0, 0, []), (255, .isub, 0, 0, 0, []), (256, .invokevirtual 256, 172, 4, 7, []), (259, .ireturn, 0, 0, 0, [])]
  | 260 => [(260, .aload_n 0, 0, 0, 0, []), (261, .iload 6, 0, 0, 0, []), (263, .iload_n 2, 0, 0, 0, []), (264, .iconst 1, 0, 0, 0, []), (265, .iload 4, 0, 0, 0, []), (267, .invokevirtual 256, 172, 4, 7, []), (270, .aload_n 0, 0, 0, 0, []), (271, .iload 6, 0, 0, 0, []), (273, .iload_n 2, 0, 0, 0, []), (274, .iconst 0, 0, 0, 0, []), (275, .iconst 2, 0, 0, 0, []), (276, .invokevirtual 256, 172, 4, 7, []), (279, .iadd, 0, 0, 0, []), (280, .ireturn, 0, 0, 0, [])]
  | 281 => [(281, .aload_n 0, 0, 0, 0, []), (282, .iload 6, 0, 0, 0, []), (284, .iload_n 2, 0, 0, 0, []), (285, .iconst 0, 0, 0, 0, []), (286, .iload 4, 0, 0, 0, []), (288, .invokevirtual 256, 172, 4, 7, []), (291, .aload_n 0, 0, 0, 0, []), (292, .iload_n 2, 0, 0, 0, []), (293, .iconst 1, 0, 0, 0, []), (294, .invokevirtual 83, 110, 2, 7, []), (297, .ixor, 0, 0, 0, []), (298, .ireturn, 0, 0, 0, [])]
  | _ => []
/-- GeeseKeysModel.body(I)I -/
def gp_m_body (l : Nat) : List gI := match l with
  | 0 => [(0, .aload_n 0, 0, 0, 0, []), (1, .getfield 253, 24, 7, 0, []), (4, .bipush 20, 0, 0, 0, []), (6, .if_icmp .ge 13, 19, 0, 0, []), (9, .aload_n 0, 0, 0, 0, []), (10, .getfield 59, 23, 7, 2, []), (13, .aload_n 0, 0, 0, 0, []), (14, .getfield 253, 24, 7, 0, []), (17, .iload_n 1, 0, 0, 0, []), (18, .iastore, 0, 0, 0, []), (19, .nop, 19, 0, 0, [])]
  | 19 => [(19, .aload_n 0, 0, 0, 0, []), (20, .dup, 0, 0, 0, []), (21, .getfield 253, 24, 7, 0, []), (24, .iconst 1, 0, 0, 0, []), (25, .iadd, 0, 0, 0, []), (26, .putfield 253, 24, 7, 0, []), (29, .iload_n 1, 0, 0, 0, []), (30, .ireturn, 0, 0, 0, [])]
  | _ => []
/-- GeeseKeysModel.trace(I)I -/
def gp_m_trace (l : Nat) : List gI := match l with
  | 0 => [(0, .iload_n 1, 0, 0, 0, []), (1, .iconst 0, 0, 0, 0, []), (2, .bipush 20, 0, 0, 0, []), (4, .aload_n 0, 0, 0, 0, []), (5, .getfield 253, 24, 7, 0, []), (8, .invokestatic 230, 0, 0, 3, []), (11, .iconst 1, 0, 0, 0, []), (12, .isub, 0, 0, 0, []), (13, .invokestatic 79, 106, 3, 0, []), (16, .ifCond .eq 12, 28, 0, 0, []), (19, .aload_n 0, 0, 0, 0, []), (20, .getfield 59, 23, 7, 2, []), (23, .iload_n 1, 0, 0, 0, []), (24, .iaload, 0, 0, 0, []), (25, .goto 4, 29, 0, 0, [])]
  | 28 => [(28, .iconst (-1), 0, 0, 0, []), (29, .nop, 29, 0, 0, [])]
  | 29 => [(29, .ireturn, 0, 0, 0, [])]
  | _ => []
/-- GeeseKeysModel.taken(II)I -/
def gp_m_taken (l : Nat) : List gI := match l with
  | 0 => [(0, .iload_n 2, 0, 0, 0, []), (1, .iconst 0, 0, 0, 0, []), (2, .bipush 6, 0, 0, 0, []), (4, .invokestatic 79, 106, 3, 0, []), (7, .ifCond .ne 6, 13, 0, 0, []), (10, .bipush (-2), 0, 0, 0, []), (12, .ireturn, 0, 0, 0, [])]
  | 13 => [(13, .aload_n 0, 0, 0, 0, []), (14, .iload_n 1, 0, 0, 0, []), (15, .invokevirtual 91, 109, 1, 7, []), (18, .ifCond .ne 6, 24, 0, 0, []), (21, .bipush (-11), 0, 0, 0, []), (23, .ireturn, 0, 0, 0, [])]
  | 24 => [(24, .aload_n 0, 0, 0, 0, []), (25, .iload_n 1, 0, 0, 0, []), (26, .iconst 0, 0, 0, 0, []), (27, .invokevirtual 83, 110, 2, 7, []), (30, .istore_n 3, 0, 0, 0, []), (31, .nop, 31, 0, 0, [])]
  | 31 => [(31, .iload_n 3, 0, 0, 0, []), (32, .iconst (-1), 0, 0, 0, []), (33, .if_icmp .eq 18, 51, 0, 0, []), (36, .iload_n 3, 0, 0, 0, []), (37, .iload_n 2, 0, 0, 0, []), (38, .if_icmp .eq 13, 51, 0, 0, []), (41, .aload_n 0, 0, 0, 0, []), (42, .getfield 53, 21, 7, 2, []), (45, .iload_n 3, 0, 0, 0, []), (46, .iaload, 0, 0, 0, []), (47, .istore_n 3, 0, 0, 0, []), (48, .goto (-17), 31, 0, 0, [])]
  | 51 => [(51, .iload_n 3, 0, 0, 0, []), (52, .iload_n 2, 0, 0, 0, []), (53, .if_icmp .ne 12, 65, 0, 0, []), (56, .aload_n 0, 0, 0, 0, []), (57, .iload_n 1, 0, 0, 0, []), (58, .iconst 0, 0, 0, 0, []), (59, .invokevirtual 83, 110, 2, 7, []), (62, .goto 5, 67, 0, 0, [])]
  | 65 => [(65, .bipush (-12), 0, 0, 0, []), (67, .nop, 67, 0, 0, [])]
  | 67 => [(67, .ireturn, 0, 0, 0, [])]
  | _ => []
/-- GeeseKeysModel.count(I)I -/
def gp_m_count (l : Nat) : List gI := match l with
  | 0 => [(0, .iload_n 1, 0, 0, 0, []), (1, .tableswitch 102 0 7 #[47, 55, 63, 68, 76, 84, 92, 97], 103, 0, 0, [(0, 48), (1, 56), (2, 64), (3, 69), (4, 77), (5, 85), (6, 93), (7, 98)])]
  | 48 => [(48, .aload_n 0, 0, 0, 0, []), (49, .getfield 15, 0, 7, 2, []), (52, .bipush 80, 0, 0, 0, []), (54, .iaload, 0, 0, 0, []), (55, .ireturn, 0, 0, 0, [])]
  | 56 => [(56, .aload_n 0, 0, 0, 0, []), (57, .getfield 15, 0, 7, 2, []), (60, .bipush 81, 0, 0, 0, []), (62, .iaload, 0, 0, 0, []), (63, .ireturn, 0, 0, 0, [])]
  | 64 => [(64, .aload_n 0, 0, 0, 0, []), (65, .getfield 163, 8, 7, 0, []), (68, .ireturn, 0, 0, 0, [])]
  | 69 => [(69, .aload_n 0, 0, 0, 0, []), (70, .getfield 15, 0, 7, 2, []), (73, .bipush 84, 0, 0, 0, []), (75, .iaload, 0, 0, 0, []), (76, .ireturn, 0, 0, 0, [])]
  | 77 => [(77, .aload_n 0, 0, 0, 0, []), (78, .getfield 15, 0, 7, 2, []), (81, .bipush 100, 0, 0, 0, []), (83, .iaload, 0, 0, 0, []), (84, .ireturn, 0, 0, 0, [])]
  | 85 => [(85, .aload_n 0, 0, 0, 0, []), (86, .getfield 15, 0, 7, 2, []), (89, .bipush 121, 0, 0, 0, []), (91, .iaload, 0, 0, 0, []), (92, .ireturn, 0, 0, 0, [])]
  | 93 => [(93, .aload_n 0, 0, 0, 0, []), (94, .getfield 108, 5, 7, 0, []), (97, .ireturn, 0, 0, 0, [])]
  | 98 => [(98, .aload_n 0, 0, 0, 0, []), (99, .getfield 253, 24, 7, 0, []), (102, .ireturn, 0, 0, 0, [])]
  | 103 => [(103, .bipush (-2), 0, 0, 0, []), (105, .ireturn, 0, 0, 0, [])]
  | _ => []
/-- GeeseKeysModel.tape(III)I -/
def gp_m_tape (l : Nat) : List gI := match l with
  | 0 => [(0, .iload_n 1, 0, 0, 0, []), (1, .invokestatic 266, 178, 1, 0, []), (4, .ifCond .ne 5, 9, 0, 0, []), (7, .iconst (-1), 0, 0, 0, []), (8, .ireturn, 0, 0, 0, [])]
  | 9 => [(9, .iload_n 2, 0, 0, 0, []), (10, .iconst (-1), 0, 0, 0, []), (11, .iconst 4, 0, 0, 0, []), (12, .invokestatic 79, 106, 3, 0, []), (15, .ifCond .eq 13, 28, 0, 0, []), (18, .iload_n 2, 0, 0, 0, []), (19, .ifCond .lt 12, 31, 0, 0, []), (22, .iload_n 3, 0, 0, 0, []), (23, .bipush 60, 0, 0, 0, []), (25, .if_icmp .le 6, 31, 0, 0, []), (28, .nop, 28, 0, 0, [])]
  | 28 => [(28, .bipush (-2), 0, 0, 0, []), (30, .ireturn, 0, 0, 0, [])]
  | 31 => [(31, .iload_n 2, 0, 0, 0, []), (32, .ifCond .lt 10, 42, 0, 0, []), (35, .iload_n 3, 0, 0, 0, []), (36, .ifCond .ge 6, 42, 0, 0, []), (39, .bipush (-14), 0, 0, 0, []), (41, .ireturn, 0, 0, 0, [])]
  | 42 => [(42, .aload_n 0, 0, 0, 0, []), (43, .getfield 62, 25, 7, 2, []), (46, .iload_n 1, 0, 0, 0, []), (47, .iload_n 2, 0, 0, 0, []), (48, .iastore, 0, 0, 0, []), (49, .aload_n 0, 0, 0, 0, []), (50, .getfield 65, 26, 7, 2, []), (53, .iload_n 1, 0, 0, 0, []), (54, .iload_n 2, 0, 0, 0, []), (55, .ifCond .ge 7, 62, 0, 0, []), (58, .iconst 0, 0, 0, 0, []), (59, .goto 4, 63, 0, 0, [])]
  | 62 => [(62, .iload_n 3, 0, 0, 0, []), (63, .nop, 63, 0, 0, [])]
  | 63 => [(63, .iastore, 0, 0, 0, []), (64, .iconst 0, 0, 0, 0, []), (65, .istore 4, 0, 0, 0, []), (67, .nop, 67, 0, 0, [])]
  | 67 => [(67, .iload 4, 0, 0, 0, []), (69, .bipush 60, 0, 0, 0, []), (71, .if_icmp .ge 22, 93, 0, 0, []), (74, .aload_n 0, 0, 0, 0, []), (75, .getfield 68, 27, 7, 2, []), (78, .bipush 60, 0, 0, 0, []), (80, .iload_n 1, 0, 0, 0, []), (81, .imul, 0, 0, 0, []), (82, .iload 4, 0, 0, 0, []), (84, .iadd, 0, 0, 0, []), (85, .lconst 0, 0, 0, 0, []), (86, .lastore, 0, 0, 0, []), (87, .iinc 4 1, 0, 0, 0, []), (90, .goto (-23), 67, 0, 0, [])]
  | 93 => [(93, .iconst 1, 0, 0, 0, []), (94, .ireturn, 0, 0, 0, [])]
  | _ => []
/-- GeeseKeysModel.isTape(I)Z -/
def gp_m_isTape (l : Nat) : List gI := match l with
  | 0 => [(0, .iload_n 0, 0, 0, 0, []), (1, .iconst 0, 0, 0, 0, []), (2, .iconst 5, 0, 0, 0, []), (3, .invokestatic 79, 106, 3, 0, []), (6, .ireturn, 1, 0, 0, [])]
  | _ => []
/-- GeeseKeysModel.item(IIJ)I -/
def gp_m_item (l : Nat) : List gI := match l with
  | 0 => [(0, .iload_n 1, 0, 0, 0, []), (1, .invokestatic 266, 178, 1, 0, []), (4, .ifCond .ne 5, 9, 0, 0, []), (7, .iconst (-1), 0, 0, 0, []), (8, .ireturn, 0, 0, 0, [])]
  | 9 => [(9, .aload_n 0, 0, 0, 0, []), (10, .getfield 62, 25, 7, 2, []), (13, .iload_n 1, 0, 0, 0, []), (14, .iaload, 0, 0, 0, []), (15, .ifCond .ge 6, 21, 0, 0, []), (18, .bipush (-11), 0, 0, 0, []), (20, .ireturn, 0, 0, 0, [])]
  | 21 => [(21, .iload_n 2, 0, 0, 0, []), (22, .iconst 0, 0, 0, 0, []), (23, .aload_n 0, 0, 0, 0, []), (24, .getfield 65, 26, 7, 2, []), (27, .iload_n 1, 0, 0, 0, []), (28, .iaload, 0, 0, 0, []), (29, .iconst 1, 0, 0, 0, []), (30, .isub, 0, 0, 0, []), (31, .invokestatic 79, 106, 3, 0, []), (34, .ifCond .ne 6, 40, 0, 0, []), (37, .bipush (-13), 0, 0, 0, []), (39, .ireturn, 0, 0, 0, [])]
  | 40 => [(40, .aload_n 0, 0, 0, 0, []), (41, .getfield 62, 25, 7, 2, []), (44, .iload_n 1, 0, 0, 0, []), (45, .iaload, 0, 0, 0, []), (46, .istore 5, 0, 0, 0, []), (48, .aload_n 0, 0, 0, 0, []), (49, .getfield 68, 27, 7, 2, []), (52, .bipush 60, 0, 0, 0, []), (54, .iload_n 1, 0, 0, 0, []), (55, .imul, 0, 0, 0, []), (56, .iload_n 2, 0, 0, 0, []), (57, .iadd, 0, 0, 0, []), (58, .iload 5, 0, 0, 0, []), (60, .ifCond .ne 10, 70, 0, 0, []), (63, .lload_n 3, 0, 0, 0, []), (64, .l2i, 0, 0, 0, []), (65, .i2b, 0, 0, 0, []), (66, .i2l, 0, 0, 0, []), (67, .goto 49, 116, 0, 0, [])]
  | 70 => [(70, .iload 5, 0, 0, 0, []), (72, .iconst 1, 0, 0, 0, []), (73, .if_icmp .ne 10, 83, 0, 0, []), (76, .lload_n 3, 0, 0, 0, []), (77, .l2i, 0, 0, 0, []), (78, .i2s, 0, 0, 0, []), (79, .i2l, 0, 0, 0, []), (80, .goto 36, 116, 0, 0, [])]
  | 83 => [(83, .iload 5, 0, 0, 0, []), (85, .iconst 2, 0, 0, 0, []), (86, .if_icmp .ne 9, 95, 0, 0, []), (89, .lload_n 3, 0, 0, 0, []), (90, .l2i, 0, 0, 0, []), (91, .i2l, 0, 0, 0, []), (92, .goto 24, 116, 0, 0, [])]
  | 95 => [(95, .iload 5, 0, 0, 0, []), (97, .iconst 3, 0, 0, 0, []), (98, .if_icmp .ne 7, 105, 0, 0, []), (101, .lload_n 3, 0, 0, 0, []), (102, .goto 14, 116, 0, 0, [])]
  | 105 => [(105, .lload_n 3, 0, 0, 0, []), (106, .lconst 0, 0, 0, 0, []), (107, .lcmp, 0, 0, 0, []), (108, .ifCond .eq 7, 115, 0, 0, []), (111, .lconst 1, 0, 0, 0, []), (112, .goto 4, 116, 0, 0, [])]
  | 115 => [(115, .lconst 0, 0, 0, 0, []), (116, .nop, 116, 0, 0, [])]
  | 116 => [(116, .lastore, 0, 0, 0, []), (117, .iconst 1, 0, 0, 0, []), (118, .ireturn, 0, 0, 0, [])]
  | _ => []
/-- GeeseKeysModel.read(II)J -/
def gp_m_read (l : Nat) : List gI := match l with
  | 0 => [(0, .iload_n 1, 0, 0, 0, []), (1, .invokestatic 266, 178, 1, 0, []), (4, .ifCond .eq 33, 37, 0, 0, []), (7, .iload_n 2, 0, 0, 0, []), (8, .iconst 0, 0, 0, 0, []), (9, .aload_n 0, 0, 0, 0, []), (10, .getfield 65, 26, 7, 2, []), (13, .iload_n 1, 0, 0, 0, []), (14, .iaload, 0, 0, 0, []), (15, .iconst 1, 0, 0, 0, []), (16, .isub, 0, 0, 0, []), (17, .invokestatic 79, 106, 3, 0, []), (20, .ifCond .eq 17, 37, 0, 0, []), (23, .aload_n 0, 0, 0, 0, []), (24, .getfield 68, 27, 7, 2, []), (27, .bipush 60, 0, 0, 0, []), (29, .iload_n 1, 0, 0, 0, []), (30, .imul, 0, 0, 0, []), (31, .iload_n 2, 0, 0, 0, []), (32, .iadd, 0, 0, 0, []), (33, .laload, 0, 0, 0, []), (34, .goto 6, 40, 0, 0, [])]
  | 37 => [(37, .ldc2_w 242, 0, 9223372036854775808, 0, []), (40, .nop, 40, 0, 0, [])]
  | 40 => [(40, .lreturn, 0, 0, 0, [])]
  | _ => []
/-- GeeseKeysModel.shift(IIIII)I -/
def gp_m_shift (l : Nat) : List gI := match l with
  | 0 => [(0, .iload_n 1, 0, 0, 0, []), (1, .invokestatic 266, 178, 1, 0, []), (4, .ifCond .eq 10, 14, 0, 0, []), (7, .iload_n 3, 0, 0, 0, []), (8, .invokestatic 266, 178, 1, 0, []), (11, .ifCond .ne 5, 16, 0, 0, []), (14, .nop, 14, 0, 0, [])]
  | 14 => [(14, .iconst (-1), 0, 0, 0, []), (15, .ireturn, 0, 0, 0, [])]
  | 16 => [(16, .aload_n 0, 0, 0, 0, []), (17, .getfield 62, 25, 7, 2, []), (20, .iload_n 1, 0, 0, 0, []), (21, .iaload, 0, 0, 0, []), (22, .ifCond .lt 12, 34, 0, 0, []), (25, .aload_n 0, 0, 0, 0, []), (26, .getfield 62, 25, 7, 2, []), (29, .iload_n 3, 0, 0, 0, []), (30, .iaload, 0, 0, 0, []), (31, .ifCond .ge 6, 37, 0, 0, []), (34, .nop, 34, 0, 0, [])]
  | 34 => [(34, .bipush (-11), 0, 0, 0, []), (36, .ireturn, 0, 0, 0, [])]
  | 37 => [(37, .aload_n 0, 0, 0, 0, []), (38, .getfield 62, 25, 7, 2, []), (41, .iload_n 1, 0, 0, 0, []), (42, .iaload, 0, 0, 0, []), (43, .aload_n 0, 0, 0, 0, []), (44, .getfield 62, 25, 7, 2, []), (47, .iload_n 3, 0, 0, 0, []), (48, .iaload, 0, 0, 0, []), (49, .if_icmp .eq 6, 55, 0, 0, []), (52, .bipush (-12), 0, 0, 0, []), (54, .ireturn, 0, 0, 0, [])]
  | 55 => [(55, .iload 5, 0, 0, 0, []), (57, .ifCond .lt 39, 96, 0, 0, []), (60, .iload_n 2, 0, 0, 0, []), (61, .ifCond .lt 35, 96, 0, 0, []), (64, .iload 4, 0, 0, 0, []), (66, .ifCond .lt 30, 96, 0, 0, []), (69, .iload 5, 0, 0, 0, []), (71, .aload_n 0, 0, 0, 0, []), (72, .getfield 65, 26, 7, 2, []), (75, .iload_n 1, 0, 0, 0, []), (76, .iaload, 0, 0, 0, []), (77, .iload_n 2, 0, 0, 0, []), (78, .isub, 0, 0, 0, []), (79, .if_icmp .gt 17, 96, 0, 0, []), (82, .iload 5, 0, 0, 0, []), (84, .aload_n 0, 0, 0, 0, []), (85, .getfield 65, 26, 7, 2, []), (88, .iload_n 3, 0, 0, 0, []), (89, .iaload, 0, 0, 0, []), (90, .iload 4, 0, 0, 0, []), (92, .isub, 0, 0, 0, []), (93, .if_icmp .le 6, 99, 0, 0, []), (96, .nop, 96, 0, 0, [])]
  | 96 => [(96, .bipush (-13), 0, 0, 0, []), (98, .ireturn, 0, 0, 0, [])]
  | 99 => [(99, .iconst 0, 0, 0, 0, []), (100, .istore 6, 0, 0, 0, []), (102, .nop, 102, 0, 0, [])]
  | 102 => [(102, .iload 6, 0, 0, 0, []), (104, .iload 5, 0, 0, 0, []), (106, .if_icmp .ge 30, 136, 0, 0, []), (109, .aload_n 0, 0, 0, 0, []), (110, .getfield 72, 28, 7, 2, []), (113, .iload 6, 0, 0, 0, []), (115, .aload_n 0, 0, 0, 0, []), (116, .getfield 68, 27, 7, 2, []), (119, .bipush 60, 0, 0, 0, []), (121, .iload_n 1, 0, 0, 0, []), (122, .imul, 0, 0, 0, []), (123, .iload_n 2, 0, 0, 0, []), (124, .iadd, 0, 0, 0, []), (125, .iload 6, 0, 0, 0, []), (127, .iadd, 0, 0, 0, []), (128, .laload, 0, 0, 0, []), (129, .lastore, 0, 0, 0, []), (130, .iinc 6 1, 0, 0, 0, []), (133, .goto (-31), 102, 0, 0, [])]
  | 136 => [(136, .iconst 0, 0, 0, 0, []), (137, .istore 6, 0, 0, 0, []), (139, .nop, 139, 0, 0, [])]
  | 139 => [(139, .iload 6, 0, 0, 0, []), (141, .iload 5, 0, 0, 0, []), (143, .if_icmp .ge 31, 174, 0, 0, []), (146, .aload_n 0, 0, 0, 0, []), (147, .getfield 68, 27, 7, 2, []), (150, .bipush 60, 0, 0, 0, []), (152, .iload_n 3, 0, 0, 0, []), (153, .imul, 0, 0, 0, []), (154, .iload 4, 0, 0, 0, []), (156, .iadd, 0, 0, 0, []), (157, .iload 6, 0, 0, 0, []), (159, .iadd, 0, 0, 0, []), (160, .aload_n 0, 0, 0, 0, []), (161, .getfield 72, 28, 7, 2, []), (164, .iload 6, 0, 0, 0, []), (166, .laload, 0, 0, 0, []), (167, .lastore, 0, 0, 0, []), (168, .iinc 6 1, 0, 0, 0, []), (171, .goto (-32), 139, 0, 0, [])]
  | 174 => [(174, .iload 5, 0, 0, 0, []), (176, .ireturn, 0, 0, 0, [])]
  | _ => []
/-- GeeseKeysModel.judge(II)I -/
def gp_m_judge (l : Nat) : List gI := match l with
  | 0 => [(0, .iload_n 1, 0, 0, 0, []), (1, .invokestatic 266, 178, 1, 0, []), (4, .ifCond .ne 5, 9, 0, 0, []), (7, .iconst (-1), 0, 0, 0, []), (8, .ireturn, 0, 0, 0, [])]
  | 9 => [(9, .aload_n 0, 0, 0, 0, []), (10, .getfield 62, 25, 7, 2, []), (13, .iload_n 1, 0, 0, 0, []), (14, .iaload, 0, 0, 0, []), (15, .ifCond .le 6, 21, 0, 0, []), (18, .bipush (-12), 0, 0, 0, []), (20, .ireturn, 0, 0, 0, [])]
  | 21 => [(21, .iconst 0, 0, 0, 0, []), (22, .istore_n 3, 0, 0, 0, []), (23, .nop, 23, 0, 0, [])]
  | 23 => [(23, .iload_n 3, 0, 0, 0, []), (24, .bipush 8, 0, 0, 0, []), (26, .if_icmp .ge 64, 90, 0, 0, []), (29, .iload_n 2, 0, 0, 0, []), (30, .i2l, 0, 0, 0, []), (31, .iload_n 3, 0, 0, 0, []), (32, .i2l, 0, 0, 0, []), (33, .ladd, 0, 0, 0, []), (34, .lstore 4, 0, 0, 0, []), (36, .iload_n 2, 0, 0, 0, []), (37, .ifCond .lt 16, 53, 0, 0, []), (40, .lload 4, 0, 0, 0, []), (42, .aload_n 0, 0, 0, 0, []), (43, .getfield 65, 26, 7, 2, []), (46, .iload_n 1, 0, 0, 0, []), (47, .iaload, 0, 0, 0, []), (48, .i2l, 0, 0, 0, []), (49, .lcmp, 0, 0, 0, []), (50, .ifCond .lt 8, 58, 0, 0, []), (53, .nop, 53, 0, 0, [])]
  | 53 => [(53, .bipush 100, 0, 0, 0, []), (55, .iload_n 3, 0, 0, 0, []), (56, .iadd, 0, 0, 0, []), (57, .ireturn, 0, 0, 0, [])]
  | 58 => [(58, .aload_n 0, 0, 0, 0, []), (59, .getfield 68, 27, 7, 2, []), (62, .bipush 60, 0, 0, 0, []), (64, .iload_n 1, 0, 0, 0, []), (65, .imul, 0, 0, 0, []), (66, .lload 4, 0, 0, 0, []), (68, .l2i, 0, 0, 0, []), (69, .iadd, 0, 0, 0, []), (70, .laload, 0, 0, 0, []), (71, .aload_n 0, 0, 0, 0, []), (72, .getfield 15, 0, 7, 2, []), (75, .iload_n 3, 0, 0, 0, []), (76, .iaload, 0, 0, 0, []), (77, .i2l, 0, 0, 0, []), (78, .lcmp, 0, 0, 0, []), (79, .ifCond .eq 5, 84, 0, 0, []), (82, .iload_n 3, 0, 0, 0, []), (83, .ireturn, 0, 0, 0, [])]
  | 84 => [(84, .iinc 3 1, 0, 0, 0, []), (87, .goto (-64), 23, 0, 0, [])]
  | 90 => [(90, .bipush (-5), 0, 0, 0, []), (92, .ireturn, 0, 0, 0, [])]
  | _ => []
/-- GeeseKeys$Goose.kind()I -/
def gp_kind7 (l : Nat) : List gI := match l with
  | 0 => [(0, .iconst 0, 0, 0, 0, []), (1, .ireturn, 0, 0, 0, [])]
  | _ => []
/-- GeeseKeys$Gander.kind()I -/
def gp_kind8 (l : Nat) : List gI := match l with
  | 0 => [(0, .iconst 1, 0, 0, 0, []), (1, .ireturn, 0, 0, 0, [])]
  | _ => []
/-- GeeseKeys$Gosling.kind()I -/
def gp_kind9 (l : Nat) : List gI := match l with
  | 0 => [(0, .iconst 2, 0, 0, 0, []), (1, .ireturn, 0, 0, 0, [])]
  | _ => []
/-- GeeseKeys$Old.kind()I -/
def gp_kind10 (l : Nat) : List gI := match l with
  | 0 => [(0, .iconst 3, 0, 0, 0, []), (1, .ireturn, 0, 0, 0, [])]
  | _ => []
/-- GeeseKeys$Sentry.kind()I -/
def gp_kind11 (l : Nat) : List gI := match l with
  | 0 => [(0, .iconst 4, 0, 0, 0, []), (1, .ireturn, 0, 0, 0, [])]
  | _ => []
/-- GeeseKeys$Larder.kind()I -/
def gp_kind12 (l : Nat) : List gI := match l with
  | 0 => [(0, .iconst 5, 0, 0, 0, []), (1, .ireturn, 0, 0, 0, [])]
  | _ => []
/-- GeeseKeys$Told.kind()I -/
def gp_kind13 (l : Nat) : List gI := match l with
  | 0 => [(0, .bipush 6, 0, 0, 0, []), (2, .ireturn, 0, 0, 0, [])]
  | _ => []
/-- GeeseKeys$Goose.feels(IIZZZ)I -/
def gp_feels7 (l : Nat) : List gI := match l with
  | 0 => [(0, .iload_n 1, 0, 0, 0, []), (1, .ireturn, 0, 0, 0, [])]
  | _ => []
/-- GeeseKeys$Gander.feels(IIZZZ)I -/
def gp_feels8 (l : Nat) : List gI := match l with
  | 0 => [(0, .aload_n 0, 0, 0, 0, []), (1, .iload_n 1, 0, 0, 0, []), (2, .iload_n 2, 0, 0, 0, []), (3, .iload_n 3, 0, 0, 0, []), (4, .iload 4, 0, 0, 0, []), (6, .iload 5, 0, 0, 0, []), (8, .invokespecial 9, 210, 5, 0, []), (11, .iload 4, 0, 0, 0, []), (13, .ifCond .eq 10, 23, 0, 0, []), (16, .aload_n 0, 0, 0, 0, []), (17, .getfield 13, 2, 31, 0, []), (20, .goto 4, 24, 0, 0, [])]
  | 23 => [(23, .iconst 0, 0, 0, 0, []), (24, .nop, 24, 0, 0, [])]
  | 24 => [(24, .isub, 0, 0, 0, []), (25, .ireturn, 0, 0, 0, [])]
  | _ => []
/-- GeeseKeys$Gosling.feels(IIZZZ)I -/
def gp_feels9 (l : Nat) : List gI := match l with
  | 0 => [(0, .aload_n 0, 0, 0, 0, []), (1, .iload_n 1, 0, 0, 0, []), (2, .iload_n 2, 0, 0, 0, []), (3, .iload_n 3, 0, 0, 0, []), (4, .iload 4, 0, 0, 0, []), (6, .iload 5, 0, 0, 0, []), (8, .invokespecial 9, 210, 5, 0, []), (11, .iconst 2, 0, 0, 0, []), (12, .idiv, 0, 0, 0, []), (13, .ireturn, 0, 0, 0, [])]
  | _ => []
/-- GeeseKeys$Old.feels(IIZZZ)I -/
def gp_feels10 (l : Nat) : List gI := match l with
  | 0 => [(0, .iload_n 3, 0, 0, 0, []), (1, .ifCond .eq 17, 18, 0, 0, []), (4, .aload_n 0, 0, 0, 0, []), (5, .iload_n 1, 0, 0, 0, []), (6, .iload_n 2, 0, 0, 0, []), (7, .iload_n 3, 0, 0, 0, []), (8, .iload 4, 0, 0, 0, []), (10, .iload 5, 0, 0, 0, []), (12, .invokespecial 9, 210, 5, 0, []), (15, .goto 4, 19, 0, 0, [])]
  | 18 => [(18, .iconst 0, 0, 0, 0, []), (19, .nop, 19, 0, 0, [])]
  | 19 => [(19, .ireturn, 0, 0, 0, [])]
  | _ => []
/-- GeeseKeys$Sentry.feels(IIZZZ)I -/
def gp_feels11 (l : Nat) : List gI := match l with
  | 0 => [(0, .aload_n 0, 0, 0, 0, []), (1, .iload_n 1, 0, 0, 0, []), (2, .iload_n 2, 0, 0, 0, []), (3, .iload_n 3, 0, 0, 0, []), (4, .iload 4, 0, 0, 0, []), (6, .iload 5, 0, 0, 0, []), (8, .invokespecial 9, 211, 5, 0, []), (11, .iload 5, 0, 0, 0, []), (13, .ifCond .eq 8, 21, 0, 0, []), (16, .bipush 10, 0, 0, 0, []), (18, .goto 4, 22, 0, 0, [])]
  | 21 => [(21, .iconst 0, 0, 0, 0, []), (22, .nop, 22, 0, 0, [])]
  | 22 => [(22, .iadd, 0, 0, 0, []), (23, .ireturn, 0, 0, 0, [])]
  | _ => []
/-- GeeseKeys$Larder.feels(IIZZZ)I -/
def gp_feels12 (l : Nat) : List gI := match l with
  | 0 => [(0, .aload_n 0, 0, 0, 0, []), (1, .iload_n 1, 0, 0, 0, []), (2, .iload_n 2, 0, 0, 0, []), (3, .iload_n 3, 0, 0, 0, []), (4, .iload 4, 0, 0, 0, []), (6, .iload 5, 0, 0, 0, []), (8, .invokespecial 9, 212, 5, 0, []), (11, .iload_n 2, 0, 0, 0, []), (12, .ifCond .ne 7, 19, 0, 0, []), (15, .iconst 5, 0, 0, 0, []), (16, .goto 4, 20, 0, 0, [])]
  | 19 => [(19, .iconst 0, 0, 0, 0, []), (20, .nop, 20, 0, 0, [])]
  | 20 => [(20, .iadd, 0, 0, 0, []), (21, .ireturn, 0, 0, 0, [])]
  | _ => []
/-- GeeseKeys$Told.feels(IIZZZ)I -/
def gp_feels13 (l : Nat) : List gI := match l with
  | 0 => [(0, .aload_n 0, 0, 0, 0, []), (1, .iload_n 1, 0, 0, 0, []), (2, .iload_n 2, 0, 0, 0, []), (3, .iload_n 3, 0, 0, 0, []), (4, .iload 4, 0, 0, 0, []), (6, .iload 5, 0, 0, 0, []), (8, .invokespecial 15, 213, 5, 0, []), (11, .aload_n 0, 0, 0, 0, []), (12, .getfield 9, 3, 14, 2, []), (15, .iconst 4, 0, 0, 0, []), (16, .aload_n 0, 0, 0, 0, []), (17, .getfield 19, 1, 14, 0, []), (20, .imul, 0, 0, 0, []), (21, .iload_n 2, 0, 0, 0, []), (22, .iconst 4, 0, 0, 0, []), (23, .irem, 0, 0, 0, []), (24, .iadd, 0, 0, 0, []), (25, .iaload, 0, 0, 0, []), (26, .iadd, 0, 0, 0, []), (27, .ireturn, 0, 0, 0, [])]
  | _ => []
/-- GeeseKeys$Goose.honks(I)I -/
def gp_honks7 (l : Nat) : List gI := match l with
  | 0 => [(0, .aload_n 0, 0, 0, 0, []), (1, .getfield 7, 0, 30, 2, []), (4, .bipush 10, 0, 0, 0, []), (6, .invokevirtual 20, 306, 1, 5, []), (9, .iload_n 1, 0, 0, 0, []), (10, .aload_n 0, 0, 0, 0, []), (11, .getfield 13, 1, 30, 0, []), (14, .iadd, 0, 0, 0, []), (15, .ireturn, 0, 0, 0, [])]
  | _ => []
/-- GeeseKeys$Gosling.honks(I)I -/
def gp_honks9 (l : Nat) : List gI := match l with
  | 0 => [(0, .aload_n 0, 0, 0, 0, []), (1, .getfield 13, 0, 32, 2, []), (4, .bipush 30, 0, 0, 0, []), (6, .invokevirtual 19, 306, 1, 5, []), (9, .aload_n 0, 0, 0, 0, []), (10, .iload_n 1, 0, 0, 0, []), (11, .iconst 3, 0, 0, 0, []), (12, .imul, 0, 0, 0, []), (13, .invokespecial 25, 220, 1, 0, []), (16, .ireturn, 0, 0, 0, [])]
  | _ => []
/-- GeeseKeys$Sentry.honks(I)I -/
def gp_honks11 (l : Nat) : List gI := match l with
  | 0 => [(0, .aload_n 0, 0, 0, 0, []), (1, .getfield 13, 0, 12, 2, []), (4, .bipush 50, 0, 0, 0, []), (6, .invokevirtual 19, 306, 1, 5, []), (9, .aload_n 0, 0, 0, 0, []), (10, .iload_n 1, 0, 0, 0, []), (11, .invokespecial 25, 220, 1, 0, []), (14, .ineg, 0, 0, 0, []), (15, .ireturn, 0, 0, 0, [])]
  | _ => []
/-- GeeseKeys$Told.honks(I)I -/
def gp_honks13 (l : Nat) : List gI := match l with
  | 0 => [(0, .aload_n 0, 0, 0, 0, []), (1, .getfield 23, 0, 14, 2, []), (4, .bipush 71, 0, 0, 0, []), (6, .invokevirtual 27, 306, 1, 5, []), (9, .aload_n 0, 0, 0, 0, []), (10, .iload_n 1, 0, 0, 0, []), (11, .invokespecial 37, 220, 1, 0, []), (14, .aload_n 0, 0, 0, 0, []), (15, .getfield 40, 2, 14, 0, []), (18, .ixor, 0, 0, 0, []), (19, .ireturn, 0, 0, 0, [])]
  | _ => []
/-- GeeseKeys$Goose.struts(I)I -/
def gp_struts7 (l : Nat) : List gI := match l with
  | 0 => [(0, .aload_n 0, 0, 0, 0, []), (1, .getfield 7, 0, 30, 2, []), (4, .bipush 11, 0, 0, 0, []), (6, .invokevirtual 20, 306, 1, 5, []), (9, .aload_n 0, 0, 0, 0, []), (10, .iload_n 1, 0, 0, 0, []), (11, .invokevirtual 26, 1002, 1, 30, []), (14, .aload_n 0, 0, 0, 0, []), (15, .getfield 17, 2, 30, 0, []), (18, .isub, 0, 0, 0, []), (19, .ireturn, 0, 0, 0, [])]
  | _ => []
/-- GeeseKeys$Gander.struts(I)I -/
def gp_struts8 (l : Nat) : List gI := match l with
  | 0 => [(0, .aload_n 0, 0, 0, 0, []), (1, .getfield 19, 0, 31, 2, []), (4, .bipush 20, 0, 0, 0, []), (6, .invokevirtual 23, 306, 1, 5, []), (9, .aload_n 0, 0, 0, 0, []), (10, .iload_n 1, 0, 0, 0, []), (11, .invokespecial 29, 230, 1, 0, []), (14, .bipush 6, 0, 0, 0, []), (16, .ixor, 0, 0, 0, []), (17, .ireturn, 0, 0, 0, [])]
  | _ => []
/-- GeeseKeys$Sentry.struts(I)I -/
def gp_struts11 (l : Nat) : List gI := match l with
  | 0 => [(0, .aload_n 0, 0, 0, 0, []), (1, .getfield 13, 0, 12, 2, []), (4, .bipush 51, 0, 0, 0, []), (6, .invokevirtual 19, 306, 1, 5, []), (9, .aload_n 0, 0, 0, 0, []), (10, .iload_n 1, 0, 0, 0, []), (11, .iconst 1, 0, 0, 0, []), (12, .iadd, 0, 0, 0, []), (13, .invokespecial 29, 231, 1, 0, []), (16, .ireturn, 0, 0, 0, [])]
  | _ => []
/-- GeeseKeys$Told.struts(I)I -/
def gp_struts13 (l : Nat) : List gI := match l with
  | 0 => [(0, .aload_n 0, 0, 0, 0, []), (1, .getfield 23, 0, 14, 2, []), (4, .bipush 70, 0, 0, 0, []), (6, .invokevirtual 27, 306, 1, 5, []), (9, .aload_n 0, 0, 0, 0, []), (10, .iload_n 1, 0, 0, 0, []), (11, .invokespecial 33, 230, 1, 0, []), (14, .istore_n 2, 0, 0, 0, []), (15, .iload_n 2, 0, 0, 0, []), (16, .aload_n 0, 0, 0, 0, []), (17, .iconst 2, 0, 0, 0, []), (18, .invokespecial 37, 220, 1, 0, []), (21, .iadd, 0, 0, 0, []), (22, .ireturn, 0, 0, 0, [])]
  | _ => []
/-- GeeseKeys$Goose.tells(I)I -/
def gp_tells7 (l : Nat) : List gI := match l with
  | 0 => [(0, .aload_n 0, 0, 0, 0, []), (1, .getfield 7, 0, 30, 2, []), (4, .bipush 12, 0, 0, 0, []), (6, .invokevirtual 20, 306, 1, 5, []), (9, .aload_n 0, 0, 0, 0, []), (10, .iload_n 1, 0, 0, 0, []), (11, .invokevirtual 30, 1003, 1, 30, []), (14, .iconst 2, 0, 0, 0, []), (15, .imul, 0, 0, 0, []), (16, .ireturn, 0, 0, 0, [])]
  | _ => []
/-- GeeseKeys$Old.tells(I)I -/
def gp_tells10 (l : Nat) : List gI := match l with
  | 0 => [(0, .aload_n 0, 0, 0, 0, []), (1, .getfield 13, 0, 33, 2, []), (4, .bipush 40, 0, 0, 0, []), (6, .invokevirtual 19, 306, 1, 5, []), (9, .aload_n 0, 0, 0, 0, []), (10, .iload_n 1, 0, 0, 0, []), (11, .invokespecial 25, 240, 1, 0, []), (14, .istore_n 2, 0, 0, 0, []), (15, .iload_n 2, 0, 0, 0, []), (16, .aload_n 0, 0, 0, 0, []), (17, .iconst 1, 0, 0, 0, []), (18, .invokevirtual 29, 1003, 1, 33, []), (21, .iadd, 0, 0, 0, []), (22, .ireturn, 0, 0, 0, [])]
  | _ => []
/-- GeeseKeys$Larder.tells(I)I -/
def gp_tells12 (l : Nat) : List gI := match l with
  | 0 => [(0, .aload_n 0, 0, 0, 0, []), (1, .getfield 13, 0, 13, 2, []), (4, .bipush 60, 0, 0, 0, []), (6, .invokevirtual 19, 306, 1, 5, []), (9, .aload_n 0, 0, 0, 0, []), (10, .iload_n 1, 0, 0, 0, []), (11, .aload_n 0, 0, 0, 0, []), (12, .getfield 25, 1, 13, 0, []), (15, .isub, 0, 0, 0, []), (16, .invokespecial 29, 240, 1, 0, []), (19, .ireturn, 0, 0, 0, [])]
  | _ => []
/-- GeeseKeys$Some.holds(LGeeseKeys$Look;)Z -/
def gp_holds18 (l : Nat) : List gI := match l with
  | 0 => [(0, .iconst 0, 0, 0, 0, []), (1, .istore_n 2, 0, 0, 0, []), (2, .nop, 2, 0, 0, [])]
  | 2 => [(2, .iload_n 2, 0, 0, 0, []), (3, .aload_n 0, 0, 0, 0, []), (4, .getfield 10, 1, 18, 2, []), (7, .invokevirtual 20, 406, 0, 3, []), (10, .if_icmp .ge 44, 54, 0, 0, []), (13, .aload_n 0, 0, 0, 0, []), (14, .getfield 10, 1, 18, 2, []), (17, .iload_n 2, 0, 0, 0, []), (18, .invokevirtual 24, 407, 1, 3, []), (21, .checkcast 2, 40, 0, 0, []), (24, .aload_n 1, 0, 0, 0, []), (25, .invokevirtual 28, 1005, 1, 34, []), (28, .aload_n 0, 0, 0, 0, []), (29, .getfield 16, 0, 18, 1, []), (32, .if_icmp .eq 16, 48, 0, 0, []), (35, .aload_n 0, 0, 0, 0, []), (36, .getfield 16, 0, 18, 1, []), (39, .ifCond .ne 7, 46, 0, 0, []), (42, .iconst 1, 0, 0, 0, []), (43, .goto 4, 47, 0, 0, [])]
  | 46 => [(46, .iconst 0, 0, 0, 0, []), (47, .nop, 47, 0, 0, [])]
  | 47 => [(47, .ireturn, 1, 0, 0, [])]
  | 48 => [(48, .iinc 2 1, 0, 0, 0, []), (51, .goto (-49), 2, 0, 0, [])]
  | 54 => [(54, .aload_n 0, 0, 0, 0, []), (55, .getfield 16, 0, 18, 1, []), (58, .ireturn, 1, 0, 0, [])]
  | _ => []
/-- GeeseKeys$Not.holds(LGeeseKeys$Look;)Z -/
def gp_holds19 (l : Nat) : List gI := match l with
  | 0 => [(0, .aload_n 0, 0, 0, 0, []), (1, .getfield 7, 0, 19, 2, []), (4, .aload_n 1, 0, 0, 0, []), (5, .invokevirtual 13, 1005, 1, 34, []), (8, .ifCond .ne 7, 15, 0, 0, []), (11, .iconst 1, 0, 0, 0, []), (12, .goto 4, 16, 0, 0, [])]
  | 15 => [(15, .iconst 0, 0, 0, 0, []), (16, .nop, 16, 0, 0, [])]
  | 16 => [(16, .ireturn, 1, 0, 0, [])]
  | _ => []
/-- GeeseKeys$Against.holds(LGeeseKeys$Look;)Z -/
def gp_holds20 (l : Nat) : List gI := match l with
  | 0 => [(0, .aload_n 0, 0, 0, 0, []), (1, .getfield 13, 1, 20, 0, []), (4, .bipush 60, 0, 0, 0, []), (6, .if_icmp .ne 26, 32, 0, 0, []), (9, .aload_n 1, 0, 0, 0, []), (10, .aload_n 0, 0, 0, 0, []), (11, .getfield 7, 0, 20, 0, []), (14, .invokevirtual 19, 304, 1, 4, []), (17, .aload_n 0, 0, 0, 0, []), (18, .getfield 16, 2, 20, 0, []), (21, .if_icmp .ge 7, 28, 0, 0, []), (24, .iconst 1, 0, 0, 0, []), (25, .goto 59, 84, 0, 0, [])]
  | 28 => [(28, .iconst 0, 0, 0, 0, []), (29, .goto 55, 84, 0, 0, [])]
  | 32 => [(32, .aload_n 0, 0, 0, 0, []), (33, .getfield 13, 1, 20, 0, []), (36, .bipush 61, 0, 0, 0, []), (38, .if_icmp .ne 26, 64, 0, 0, []), (41, .aload_n 1, 0, 0, 0, []), (42, .aload_n 0, 0, 0, 0, []), (43, .getfield 7, 0, 20, 0, []), (46, .invokevirtual 19, 304, 1, 4, []), (49, .aload_n 0, 0, 0, 0, []), (50, .getfield 16, 2, 20, 0, []), (53, .if_icmp .ne 7, 60, 0, 0, []), (56, .iconst 1, 0, 0, 0, []), (57, .goto 27, 84, 0, 0, [])]
  | 60 => [(60, .iconst 0, 0, 0, 0, []), (61, .goto 23, 84, 0, 0, [])]
  | 64 => [(64, .aload_n 1, 0, 0, 0, []), (65, .aload_n 0, 0, 0, 0, []), (66, .getfield 7, 0, 20, 0, []), (69, .invokevirtual 19, 304, 1, 4, []), (72, .aload_n 0, 0, 0, 0, []), (73, .getfield 16, 2, 20, 0, []), (76, .if_icmp .le 7, 83, 0, 0, []), (79, .iconst 1, 0, 0, 0, []), (80, .goto 4, 84, 0, 0, [])]
  | 83 => [(83, .iconst 0, 0, 0, 0, []), (84, .nop, 84, 0, 0, [])]
  | 84 => [(84, .ireturn, 1, 0, 0, [])]
  | _ => []
/-- GeeseKeys$Goose.<init>(LGeeseKeys$Trace;II)V -/
def gp_init7 (l : Nat) : List gI := match l with
  | 0 => [(0, .aload_n 0, 0, 0, 0, []), (1, .invokespecial 1, 0, 0, 1, []), (4, .aload_n 0, 0, 0, 0, []), (5, .aload_n 1, 0, 0, 0, []), (6, .putfield 7, 0, 30, 2, []), (9, .aload_n 0, 0, 0, 0, []), (10, .iload_n 2, 0, 0, 0, []), (11, .putfield 13, 1, 30, 0, []), (14, .aload_n 0, 0, 0, 0, []), (15, .iload_n 3, 0, 0, 0, []), (16, .putfield 17, 2, 30, 0, []), (19, .return_, 0, 0, 0, [])]
  | _ => []
/-- GeeseKeys$Gander.<init>(LGeeseKeys$Trace;II)V -/
def gp_init8 (l : Nat) : List gI := match l with
  | 0 => [(0, .aload_n 0, 0, 0, 0, []), (1, .aload_n 1, 0, 0, 0, []), (2, .iload_n 2, 0, 0, 0, []), (3, .iload_n 3, 0, 0, 0, []), (4, .invokespecial 3, 260, 3, 0, []), (7, .return_, 0, 0, 0, [])]
  | _ => []
/-- GeeseKeys$Gosling.<init>(LGeeseKeys$Trace;II)V -/
def gp_init9 (l : Nat) : List gI := match l with
  | 0 => [(0, .aload_n 0, 0, 0, 0, []), (1, .aload_n 1, 0, 0, 0, []), (2, .iload_n 2, 0, 0, 0, []), (3, .iload_n 3, 0, 0, 0, []), (4, .invokespecial 3, 260, 3, 0, []), (7, .return_, 0, 0, 0, [])]
  | _ => []
/-- GeeseKeys$Old.<init>(LGeeseKeys$Trace;II)V -/
def gp_init10 (l : Nat) : List gI := match l with
  | 0 => [(0, .aload_n 0, 0, 0, 0, []), (1, .aload_n 1, 0, 0, 0, []), (2, .iload_n 2, 0, 0, 0, []), (3, .iload_n 3, 0, 0, 0, []), (4, .invokespecial 3, 260, 3, 0, []), (7, .return_, 0, 0, 0, [])]
  | _ => []
/-- GeeseKeys$Sentry.<init>(LGeeseKeys$Trace;II)V -/
def gp_init11 (l : Nat) : List gI := match l with
  | 0 => [(0, .aload_n 0, 0, 0, 0, []), (1, .aload_n 1, 0, 0, 0, []), (2, .iload_n 2, 0, 0, 0, []), (3, .iload_n 3, 0, 0, 0, []), (4, .invokespecial 3, 261, 3, 0, []), (7, .return_, 0, 0, 0, [])]
  | _ => []
/-- GeeseKeys$Larder.<init>(LGeeseKeys$Trace;II)V -/
def gp_init12 (l : Nat) : List gI := match l with
  | 0 => [(0, .aload_n 0, 0, 0, 0, []), (1, .aload_n 1, 0, 0, 0, []), (2, .iload_n 2, 0, 0, 0, []), (3, .iload_n 3, 0, 0, 0, []), (4, .invokespecial 3, 262, 3, 0, []), (7, .return_, 0, 0, 0, [])]
  | _ => []
/-- GeeseKeys$Told.<init>(LGeeseKeys$Trace;II[I)V -/
def gp_init13 (l : Nat) : List gI := match l with
  | 0 => [(0, .aload_n 0, 0, 0, 0, []), (1, .aload_n 1, 0, 0, 0, []), (2, .iload_n 2, 0, 0, 0, []), (3, .iload_n 3, 0, 0, 0, []), (4, .invokespecial 3, 263, 3, 0, []), (7, .aload_n 0, 0, 0, 0, []), (8, .aload 4, 0, 0, 0, []), (10, .putfield 9, 3, 14, 2, []), (13, .return_, 0, 0, 0, [])]
  | _ => []
/-- GeeseKeys$Time.<init>()V -/
def gp_time_init (l : Nat) : List gI := match l with
  | 0 => [(0, .aload_n 0, 0, 0, 0, []), (1, .invokespecial 3, 0, 0, 1, []), (4, .aload_n 0, 0, 0, 0, []), (5, .bipush 8, 0, 0, 0, []), (7, .newarray .byte, 0, 0, 0, []), (9, .putfield 9, 0, 1, 2, []), (12, .aload_n 0, 0, 0, 0, []), (13, .bipush 9, 0, 0, 0, []), (15, .newarray .byte, 0, 0, 0, []), (17, .putfield 15, 1, 1, 2, []), (20, .aload_n 0, 0, 0, 0, []), (21, .bipush 9, 0, 0, 0, []), (23, .newarray .byte, 0, 0, 0, []), (25, .putfield 18, 2, 1, 2, []), (28, .aload_n 0, 0, 0, 0, []), (29, .bipush 6, 0, 0, 0, []), (31, .newarray .byte, 0, 0, 0, []), (33, .putfield 21, 3, 1, 2, []), (36, .aload_n 0, 0, 0, 0, []), (37, .bipush 6, 0, 0, 0, []), (39, .newarray .byte, 0, 0, 0, []), (41, .putfield 24, 4, 1, 2, []), (44, .iconst 0, 0, 0, 0, []), (45, .istore_n 1, 0, 0, 0, []), (46, .nop, 46, 0, 0, [])]
  | 46 => [(46, .iload_n 1, 0, 0, 0, []), (47, .bipush 8, 0, 0, 0, []), (49, .if_icmp .ge 16, 65, 0, 0, []), (52, .aload_n 0, 0, 0, 0, []), (53, .getfield 9, 0, 1, 2, []), (56, .iload_n 1, 0, 0, 0, []), (57, .iconst 5, 0, 0, 0, []), (58, .bastore, 0, 0, 0, []), (59, .iinc 1 1, 0, 0, 0, []), (62, .goto (-16), 46, 0, 0, [])]
  | 65 => [(65, .return_, 0, 0, 0, [])]
  | _ => []
/-- GeeseKeys$Time.isTaken(I)Z -/
def gp_time_isTaken (l : Nat) : List gI := match l with
  | 0 => [(0, .aload_n 0, 0, 0, 0, []), (1, .getfield 40, 7, 1, 0, []), (4, .iload_n 1, 0, 0, 0, []), (5, .invokestatic 46, 10, 2, 0, []), (8, .ireturn, 1, 0, 0, [])]
  | _ => []
/-- GeeseKeys$Time.isWithOther(II)Z -/
def gp_time_isWithOther (l : Nat) : List gI := match l with
  | 0 => [(0, .iconst 0, 0, 0, 0, []), (1, .istore_n 3, 0, 0, 0, []), (2, .nop, 2, 0, 0, [])]
  | 2 => [(2, .iload_n 3, 0, 0, 0, []), (3, .aload_n 0, 0, 0, 0, []), (4, .getfield 33, 5, 1, 0, []), (7, .if_icmp .ge 34, 41, 0, 0, []), (10, .iload_n 3, 0, 0, 0, []), (11, .iload_n 1, 0, 0, 0, []), (12, .if_icmp .eq 23, 35, 0, 0, []), (15, .aload_n 0, 0, 0, 0, []), (16, .iload_n 3, 0, 0, 0, []), (17, .invokevirtual 53, 271, 1, 1, []), (20, .ifCond .ne 15, 35, 0, 0, []), (23, .aload_n 0, 0, 0, 0, []), (24, .getfield 21, 3, 1, 2, []), (27, .iload_n 3, 0, 0, 0, []), (28, .baload, 0, 0, 0, []), (29, .iload_n 2, 0, 0, 0, []), (30, .if_icmp .ne 5, 35, 0, 0, []), (33, .iconst 1, 0, 0, 0, []), (34, .ireturn, 1, 0, 0, [])]
  | 35 => [(35, .iinc 3 1, 0, 0, 0, []), (38, .goto (-36), 2, 0, 0, [])]
  | 41 => [(41, .iconst 0, 0, 0, 0, []), (42, .ireturn, 1, 0, 0, [])]
  | _ => []
/-- GeeseKeys$Time.isGuard(II)Z -/
def gp_time_isGuard (l : Nat) : List gI := match l with
  | 0 => [(0, .aload_n 0, 0, 0, 0, []), (1, .getfield 24, 4, 1, 2, []), (4, .iload_n 1, 0, 0, 0, []), (5, .baload, 0, 0, 0, []), (6, .bipush (-5), 0, 0, 0, []), (8, .if_icmp .eq 21, 29, 0, 0, []), (11, .aload_n 0, 0, 0, 0, []), (12, .aload_n 0, 0, 0, 0, []), (13, .getfield 24, 4, 1, 2, []), (16, .iload_n 1, 0, 0, 0, []), (17, .baload, 0, 0, 0, []), (18, .iload_n 2, 0, 0, 0, []), (19, .invokevirtual 50, 274, 2, 1, []), (22, .ifCond .eq 7, 29, 0, 0, []), (25, .iconst 1, 0, 0, 0, []), (26, .goto 4, 30, 0, 0, [])]
  | 29 => [(29, .iconst 0, 0, 0, 0, []), (30, .nop, 30, 0, 0, [])]
  | 30 => [(30, .ireturn, 1, 0, 0, [])]
  | _ => []
/-- GeeseKeys$Time.isEnd(II)Z -/
def gp_time_isEnd (l : Nat) : List gI := match l with
  | 0 => [(0, .iload_n 1, 0, 0, 0, []), (1, .aload_n 0, 0, 0, 0, []), (2, .getfield 37, 6, 1, 0, []), (5, .if_icmp .ge 27, 32, 0, 0, []), (8, .aload_n 0, 0, 0, 0, []), (9, .getfield 15, 1, 1, 2, []), (12, .iload_n 1, 0, 0, 0, []), (13, .baload, 0, 0, 0, []), (14, .iload_n 2, 0, 0, 0, []), (15, .if_icmp .eq 13, 28, 0, 0, []), (18, .aload_n 0, 0, 0, 0, []), (19, .getfield 18, 2, 1, 2, []), (22, .iload_n 1, 0, 0, 0, []), (23, .baload, 0, 0, 0, []), (24, .iload_n 2, 0, 0, 0, []), (25, .if_icmp .ne 7, 32, 0, 0, []), (28, .nop, 28, 0, 0, [])]
  | 28 => [(28, .iconst 1, 0, 0, 0, []), (29, .goto 4, 33, 0, 0, [])]
  | 32 => [(32, .iconst 0, 0, 0, 0, []), (33, .nop, 33, 0, 0, [])]
  | 33 => [(33, .ireturn, 1, 0, 0, [])]
  | _ => []
/-- GeeseKeys$Time.besides(I)I -/
def gp_time_besides (l : Nat) : List gI := match l with
  | 0 => [(0, .iconst 0, 0, 0, 0, []), (1, .istore_n 2, 0, 0, 0, []), (2, .iconst 0, 0, 0, 0, []), (3, .istore_n 3, 0, 0, 0, []), (4, .nop, 4, 0, 0, [])]
  | 4 => [(4, .iload_n 3, 0, 0, 0, []), (5, .aload_n 0, 0, 0, 0, []), (6, .getfield 37, 6, 1, 0, []), (9, .if_icmp .ge 38, 47, 0, 0, []), (12, .aload_n 0, 0, 0, 0, []), (13, .iload_n 3, 0, 0, 0, []), (14, .iload_n 1, 0, 0, 0, []), (15, .invokevirtual 50, 274, 2, 1, []), (18, .ifCond .eq 23, 41, 0, 0, []), (21, .iload_n 2, 0, 0, 0, []), (22, .iconst 1, 0, 0, 0, []), (23, .aload_n 0, 0, 0, 0, []), (24, .getfield 15, 1, 1, 2, []), (27, .iload_n 3, 0, 0, 0, []), (28, .baload, 0, 0, 0, []), (29, .aload_n 0, 0, 0, 0, []), (30, .getfield 18, 2, 1, 2, []), (33, .iload_n 3, 0, 0, 0, []), (34, .baload, 0, 0, 0, []), (35, .iadd, 0, 0, 0, []), (36, .iload_n 1, 0, 0, 0, []), (37, .isub, 0, 0, 0, []), (38, .ishl, 0, 0, 0, []), (39, .ior, 0, 0, 0, []), (40, .istore_n 2, 0, 0, 0, []), (41, .nop, 41, 0, 0, [])]
  | 41 => [(41, .iinc 3 1, 0, 0, 0, []), (44, .goto (-40), 4, 0, 0, [])]
  | 47 => [(47, .iload_n 2, 0, 0, 0, []), (48, .ireturn, 0, 0, 0, [])]
  | _ => []
/-- GeeseKeys$Time.brings(II)V -/
def gp_time_brings (l : Nat) : List gI := match l with
  | 0 => [(0, .aload_n 0, 0, 0, 0, []), (1, .getfield 9, 0, 1, 2, []), (4, .iload_n 1, 0, 0, 0, []), (5, .iconst 0, 0, 0, 0, []), (6, .bipush 99, 0, 0, 0, []), (8, .aload_n 0, 0, 0, 0, []), (9, .getfield 9, 0, 1, 2, []), (12, .iload_n 1, 0, 0, 0, []), (13, .baload, 0, 0, 0, []), (14, .iload_n 2, 0, 0, 0, []), (15, .iadd, 0, 0, 0, []), (16, .invokestatic 60, 0, 0, 3, []), (19, .invokestatic 66, 0, 0, 2, []), (22, .i2b, 0, 0, 0, []), (23, .bastore, 0, 0, 0, []), (24, .return_, 0, 0, 0, [])]
  | _ => []
/-- GeeseKeys$Time.takes(LGeeseKeys$Time;)V -/
def gp_time_takes (l : Nat) : List gI := match l with
  | 0 => [(0, .aload_n 1, 0, 0, 0, []), (1, .getfield 9, 0, 1, 2, []), (4, .iconst 0, 0, 0, 0, []), (5, .aload_n 0, 0, 0, 0, []), (6, .getfield 9, 0, 1, 2, []), (9, .iconst 0, 0, 0, 0, []), (10, .bipush 8, 0, 0, 0, []), (12, .invokestatic 27, 0, 0, 1, []), (15, .aload_n 1, 0, 0, 0, []), (16, .getfield 15, 1, 1, 2, []), (19, .iconst 0, 0, 0, 0, []), (20, .aload_n 0, 0, 0, 0, []), (21, .getfield 15, 1, 1, 2, []), (24, .iconst 0, 0, 0, 0, []), (25, .bipush 9, 0, 0, 0, []), (27, .invokestatic 27, 0, 0, 1, []), (30, .aload_n 1, 0, 0, 0, []), (31, .getfield 18, 2, 1, 2, []), (34, .iconst 0, 0, 0, 0, []), (35, .aload_n 0, 0, 0, 0, []), (36, .getfield 18, 2, 1, 2, []), (39, .iconst 0, 0, 0, 0, []), (40, .bipush 9, 0, 0, 0, []), (42, .invokestatic 27, 0, 0, 1, []), (45, .aload_n 1, 0, 0, 0, []), (46, .getfield 21, 3, 1, 2, []), (49, .iconst 0, 0, 0, 0, []), (50, .aload_n 0, 0, 0, 0, []), (51, .getfield 21, 3, 1, 2, []), (54, .iconst 0, 0, 0, 0, []), (55, .bipush 6, 0, 0, 0, []), (57, .invokestatic 27, 0, 0, 1, []), (60, .aload_n 1, 0, 0, 0, []), (61, .getfield 24, 4, 1, 2, []), (64, .iconst 0, 0, 0, 0, []), (65, .aload_n 0, 0, 0, 0, []), (66, .getfield 24, 4, 1, 2, []), (69, .iconst 0, 0, 0, 0, []), (70, .bipush 6, 0, 0, 0, []), (72, .invokestatic 27, 0, 0, 1, []), (75, .aload_n 0, 0, 0, 0, []), (76, .aload_n 1, 0, 0, 0, []), (77, .getfield 33, 5, 1, 0, []), (80, .putfield 33, 5, 1, 0, []), (83, .aload_n 0, 0, 0, 0, []), (84, .aload_n 1, 0, 0, 0, []), (85, .getfield 37, 6, 1, 0, []), (88, .putfield 37, 6, 1, 0, []), (91, .aload_n 0, 0, 0, 0, []), (92, .aload_n 1, 0, 0, 0, []), (93, .getfield 40, 7, 1, 0, []), (96, .putfield 40, 7, 1, 0, []), (99, .aload_n 0, 0, 0, 0, []), (100, .aload_n 1, 0, 0, 0, []), (101, .getfield 43, 8, 1, 0, []), (104, .putfield 43, 8, 1, 0, []), (107, .return_, 0, 0, 0, [])]
  | _ => []
/-- GeeseKeys$Time.openOnes()I -/
def gp_time_openOnes (l : Nat) : List gI := match l with
  | 0 => [(0, .iconst 0, 0, 0, 0, []), (1, .istore_n 1, 0, 0, 0, []), (2, .iconst 0, 0, 0, 0, []), (3, .istore_n 2, 0, 0, 0, []), (4, .nop, 4, 0, 0, [])]
  | 4 => [(4, .iload_n 2, 0, 0, 0, []), (5, .aload_n 0, 0, 0, 0, []), (6, .getfield 37, 6, 1, 0, []), (9, .if_icmp .ge 23, 32, 0, 0, []), (12, .aload_n 0, 0, 0, 0, []), (13, .iload_n 2, 0, 0, 0, []), (14, .invokevirtual 57, 279, 1, 1, []), (17, .ifCond .eq 9, 26, 0, 0, []), (20, .iload_n 1, 0, 0, 0, []), (21, .iconst 1, 0, 0, 0, []), (22, .iload_n 2, 0, 0, 0, []), (23, .ishl, 0, 0, 0, []), (24, .ior, 0, 0, 0, []), (25, .istore_n 1, 0, 0, 0, []), (26, .nop, 26, 0, 0, [])]
  | 26 => [(26, .iinc 2 1, 0, 0, 0, []), (29, .goto (-25), 4, 0, 0, [])]
  | 32 => [(32, .iload_n 1, 0, 0, 0, []), (33, .ireturn, 0, 0, 0, [])]
  | _ => []
/-- GeeseKeys$Time.isOpen(I)Z -/
def gp_time_isOpen (l : Nat) : List gI := match l with
  | 0 => [(0, .iconst 0, 0, 0, 0, []), (1, .istore_n 2, 0, 0, 0, []), (2, .nop, 2, 0, 0, [])]
  | 2 => [(2, .iload_n 2, 0, 0, 0, []), (3, .aload_n 0, 0, 0, 0, []), (4, .getfield 33, 5, 1, 0, []), (7, .if_icmp .ge 43, 50, 0, 0, []), (10, .aload_n 0, 0, 0, 0, []), (11, .iload_n 2, 0, 0, 0, []), (12, .invokevirtual 53, 271, 1, 1, []), (15, .ifCond .ne 29, 44, 0, 0, []), (18, .aload_n 0, 0, 0, 0, []), (19, .getfield 24, 4, 1, 2, []), (22, .iload_n 2, 0, 0, 0, []), (23, .baload, 0, 0, 0, []), (24, .iload_n 1, 0, 0, 0, []), (25, .if_icmp .ne 19, 44, 0, 0, []), (28, .aload_n 0, 0, 0, 0, []), (29, .iload_n 1, 0, 0, 0, []), (30, .aload_n 0, 0, 0, 0, []), (31, .getfield 21, 3, 1, 2, []), (34, .iload_n 2, 0, 0, 0, []), (35, .baload, 0, 0, 0, []), (36, .invokevirtual 50, 274, 2, 1, []), (39, .ifCond .eq 5, 44, 0, 0, []), (42, .iconst 1, 0, 0, 0, []), (43, .ireturn, 1, 0, 0, [])]
  | 44 => [(44, .iinc 2 1, 0, 0, 0, []), (47, .goto (-45), 2, 0, 0, [])]
  | 50 => [(50, .iconst 0, 0, 0, 0, []), (51, .ireturn, 1, 0, 0, [])]
  | _ => []
/-- GeeseKeys$Time.reached(I)I -/
def gp_time_reached (l : Nat) : List gI := match l with
  | 0 => [(0, .iload_n 1, 0, 0, 0, []), (1, .istore_n 2, 0, 0, 0, []), (2, .iconst 0, 0, 0, 0, []), (3, .istore_n 3, 0, 0, 0, []), (4, .nop, 4, 0, 0, [])]
  | 4 => [(4, .iload_n 3, 0, 0, 0, []), (5, .aload_n 0, 0, 0, 0, []), (6, .getfield 37, 6, 1, 0, []), (9, .if_icmp .ge 63, 72, 0, 0, []), (12, .aload_n 0, 0, 0, 0, []), (13, .iload_n 3, 0, 0, 0, []), (14, .invokevirtual 57, 279, 1, 1, []), (17, .ifCond .eq 49, 66, 0, 0, []), (20, .iload_n 1, 0, 0, 0, []), (21, .aload_n 0, 0, 0, 0, []), (22, .getfield 15, 1, 1, 2, []), (25, .iload_n 3, 0, 0, 0, []), (26, .baload, 0, 0, 0, []), (27, .invokestatic 46, 10, 2, 0, []), (30, .ifCond .ne 16, 46, 0, 0, []), (33, .iload_n 1, 0, 0, 0, []), (34, .aload_n 0, 0, 0, 0, []), (35, .getfield 18, 2, 1, 2, []), (38, .iload_n 3, 0, 0, 0, []), (39, .baload, 0, 0, 0, []), (40, .invokestatic 46, 10, 2, 0, []), (43, .ifCond .eq 23, 66, 0, 0, []), (46, .nop, 46, 0, 0, [])]
  | 46 => [(46, .iload_n 2, 0, 0, 0, []), (47, .iconst 1, 0, 0, 0, []), (48, .aload_n 0, 0, 0, 0, []), (49, .getfield 15, 1, 1, 2, []), (52, .iload_n 3, 0, 0, 0, []), (53, .baload, 0, 0, 0, []), (54, .ishl, 0, 0, 0, []), (55, .iconst 1, 0, 0, 0, []), (56, .aload_n 0, 0, 0, 0, []), (57, .getfield 18, 2, 1, 2, []), (60, .iload_n 3, 0, 0, 0, []), (61, .baload, 0, 0, 0, []), (62, .ishl, 0, 0, 0, []), (63, .ior, 0, 0, 0, []), (64, .ior, 0, 0, 0, []), (65, .istore_n 2, 0, 0, 0, []), (66, .nop, 66, 0, 0, [])]
  | 66 => [(66, .iinc 3 1, 0, 0, 0, []), (69, .goto (-65), 4, 0, 0, [])]
  | 72 => [(72, .iload_n 2, 0, 0, 0, []), (73, .ireturn, 0, 0, 0, [])]
  | _ => []
/-- GeeseKeys$Time.allGrain()I -/
def gp_time_allGrain (l : Nat) : List gI := match l with
  | 0 => [(0, .iconst 0, 0, 0, 0, []), (1, .istore_n 1, 0, 0, 0, []), (2, .iconst 0, 0, 0, 0, []), (3, .istore_n 2, 0, 0, 0, []), (4, .nop, 4, 0, 0, [])]
  | 4 => [(4, .iload_n 2, 0, 0, 0, []), (5, .bipush 8, 0, 0, 0, []), (7, .if_icmp .ge 18, 25, 0, 0, []), (10, .iload_n 1, 0, 0, 0, []), (11, .aload_n 0, 0, 0, 0, []), (12, .getfield 9, 0, 1, 2, []), (15, .iload_n 2, 0, 0, 0, []), (16, .baload, 0, 0, 0, []), (17, .iadd, 0, 0, 0, []), (18, .istore_n 1, 0, 0, 0, []), (19, .iinc 2 1, 0, 0, 0, []), (22, .goto (-18), 4, 0, 0, [])]
  | 25 => [(25, .iload_n 1, 0, 0, 0, []), (26, .ireturn, 0, 0, 0, [])]
  | _ => []
/-- GeeseKeys$Reader.<init>([BI)V -/
def gp_read_init (l : Nat) : List gI := match l with
  | 0 => [(0, .aload_n 0, 0, 0, 0, []), (1, .invokespecial 3, 0, 0, 1, []), (4, .aload_n 0, 0, 0, 0, []), (5, .new 9, 2, 3, 0, []), (8, .dup, 0, 0, 0, []), (9, .invokespecial 11, 300, 0, 0, []), (12, .putfield 12, 4, 15, 2, []), (15, .aload_n 0, 0, 0, 0, []), (16, .aload_n 1, 0, 0, 0, []), (17, .putfield 18, 0, 15, 2, []), (20, .aload_n 0, 0, 0, 0, []), (21, .iload_n 2, 0, 0, 0, []), (22, .putfield 22, 1, 15, 0, []), (25, .return_, 0, 0, 0, [])]
  | _ => []
/-- GeeseKeys$Reader.whole()LGeeseKeys$Fortress; -/
def gp_read_whole (l : Nat) : List gI := match l with
  | 0 => [(0, .aload_n 0, 0, 0, 0, []), (1, .invokevirtual 130, 284, 0, 15, []), (4, .nop, 4, 0, 0, [])]
  | 4 => [(4, .aload_n 0, 0, 0, 0, []), (5, .getfield 12, 4, 15, 2, []), (8, .getfield 127, 1, 2, 0, []), (11, .bipush 10, 0, 0, 0, []), (13, .if_icmp .ge 29, 42, 0, 0, []), (16, .aload_n 0, 0, 0, 0, []), (17, .invokevirtual 34, 285, 0, 15, []), (20, .bipush 59, 0, 0, 0, []), (22, .if_icmp .ne 20, 42, 0, 0, []), (25, .aload_n 0, 0, 0, 0, []), (26, .dup, 0, 0, 0, []), (27, .getfield 26, 2, 15, 0, []), (30, .iconst 1, 0, 0, 0, []), (31, .iadd, 0, 0, 0, []), (32, .putfield 26, 2, 15, 0, []), (35, .aload_n 0, 0, 0, 0, []), (36, .invokevirtual 130, 284, 0, 15, []), (39, .goto (-35), 4, 0, 0, [])]
  | 42 => [(42, .aload_n 0, 0, 0, 0, []), (43, .getfield 26, 2, 15, 0, []), (46, .aload_n 0, 0, 0, 0, []), (47, .getfield 22, 1, 15, 0, []), (50, .if_icmp .ge 8, 58, 0, 0, []), (53, .aload_n 0, 0, 0, 0, []), (54, .invokevirtual 38, 289, 0, 15, []), (57, .athrow, 0, 0, 0, [])]
  | 58 => [(58, .aload_n 0, 0, 0, 0, []), (59, .getfield 12, 4, 15, 2, []), (62, .areturn, 0, 0, 0, [])]
  | _ => []
/-- GeeseKeys$Reader.clause()V -/
def gp_read_clause (l : Nat) : List gI := match l with
  | 0 => [(0, .aload_n 0, 0, 0, 0, []), (1, .invokevirtual 34, 285, 0, 15, []), (4, .lookupswitch 76 #[(101, 56), (108, 36), (115, 46)], 80, 0, 0, [(101, 60), (108, 40), (115, 50)])]
  | 40 => [(40, .aload_n 0, 0, 0, 0, []), (41, .ldc 114, 1, 0, 0, []), (43, .iconst 1, 0, 0, 0, []), (44, .invokevirtual 116, 286, 2, 15, []), (47, .goto 38, 85, 0, 0, [])]
  | 50 => [(50, .aload_n 0, 0, 0, 0, []), (51, .ldc 120, 1, 1, 0, []), (53, .iconst (-1), 0, 0, 0, []), (54, .invokevirtual 116, 286, 2, 15, []), (57, .goto 28, 85, 0, 0, [])]
  | 60 => [(60, .aload_n 0, 0, 0, 0, []), (61, .ldc 122, 1, 2, 0, []), (63, .invokevirtual 102, 287, 1, 15, []), (66, .aload_n 0, 0, 0, 0, []), (67, .getfield 12, 4, 15, 2, []), (70, .aload_n 0, 0, 0, 0, []), (71, .invokevirtual 78, 290, 0, 15, []), (74, .putfield 124, 2, 2, 0, []), (77, .goto 8, 85, 0, 0, [])]
  | 80 => [(80, .aload_n 0, 0, 0, 0, []), (81, .invokevirtual 38, 289, 0, 15, []), (84, .athrow, 0, 0, 0, [])]
  | 85 => [(85, .aload_n 0, 0, 0, 0, []), (86, .getfield 12, 4, 15, 2, []), (89, .dup, 0, 0, 0, []), (90, .getfield 127, 1, 2, 0, []), (93, .iconst 1, 0, 0, 0, []), (94, .iadd, 0, 0, 0, []), (95, .putfield 127, 1, 2, 0, []), (98, .return_, 0, 0, 0, [])]
  | _ => []
/-- GeeseKeys$Reader.here()I -/
def gp_read_here (l : Nat) : List gI := match l with
  | 0 => [(0, .aload_n 0, 0, 0, 0, []), (1, .getfield 26, 2, 15, 0, []), (4, .aload_n 0, 0, 0, 0, []), (5, .getfield 22, 1, 15, 0, []), (8, .if_icmp .ge 15, 23, 0, 0, []), (11, .aload_n 0, 0, 0, 0, []), (12, .getfield 18, 0, 15, 2, []), (15, .aload_n 0, 0, 0, 0, []), (16, .getfield 26, 2, 15, 0, []), (19, .baload, 0, 0, 0, []), (20, .goto 4, 24, 0, 0, [])]
  | 23 => [(23, .iconst (-1), 0, 0, 0, []), (24, .nop, 24, 0, 0, [])]
  | 24 => [(24, .ireturn, 0, 0, 0, [])]
  | _ => []
/-- GeeseKeys$Reader.tested(Ljava/lang/String;I)V -/
def gp_read_tested (l : Nat) : List gI := match l with
  | 0 => [(0, .aload_n 0, 0, 0, 0, []), (1, .aload_n 1, 0, 0, 0, []), (2, .invokevirtual 102, 287, 1, 15, []), (5, .aload_n 0, 0, 0, 0, []), (6, .invokevirtual 78, 290, 0, 15, []), (9, .istore_n 3, 0, 0, 0, []), (10, .aload_n 0, 0, 0, 0, []), (11, .bipush 32, 0, 0, 0, []), (13, .invokevirtual 51, 288, 1, 15, []), (16, .aload_n 0, 0, 0, 0, []), (17, .getfield 12, 4, 15, 2, []), (20, .getfield 106, 0, 2, 2, []), (23, .new 109, 17, 2, 0, []), (26, .dup, 0, 0, 0, []), (27, .iload_n 2, 0, 0, 0, []), (28, .iload_n 3, 0, 0, 0, []), (29, .imul, 0, 0, 0, []), (30, .aload_n 0, 0, 0, 0, []), (31, .invokevirtual 73, 291, 0, 15, []), (34, .invokespecial 111, 296, 2, 0, []), (37, .invokevirtual 93, 409, 1, 3, []), (40, .pop, 0, 0, 0, []), (41, .return_, 0, 0, 0, [])]
  | _ => []
/-- GeeseKeys$Reader.word(Ljava/lang/String;)V -/
def gp_read_word (l : Nat) : List gI := match l with
  | 0 => [(0, .iconst 0, 0, 0, 0, []), (1, .istore_n 2, 0, 0, 0, []), (2, .nop, 2, 0, 0, [])]
  | 2 => [(2, .iload_n 2, 0, 0, 0, []), (3, .aload_n 1, 0, 0, 0, []), (4, .invokevirtual 42, 415, 0, 90, []), (7, .if_icmp .ge 18, 25, 0, 0, []), (10, .aload_n 0, 0, 0, 0, []), (11, .aload_n 1, 0, 0, 0, []), (12, .iload_n 2, 0, 0, 0, []), (13, .invokevirtual 47, 417, 1, 90, []), (16, .invokevirtual 51, 288, 1, 15, []), (19, .iinc 2 1, 0, 0, 0, []), (22, .goto (-20), 2, 0, 0, [])]
  | 25 => [(25, .return_, 0, 0, 0, [])]
  | _ => []
/-- GeeseKeys$Reader.must(I)V -/
def gp_read_must (l : Nat) : List gI := match l with
  | 0 => [(0, .aload_n 0, 0, 0, 0, []), (1, .invokevirtual 34, 285, 0, 15, []), (4, .iload_n 1, 0, 0, 0, []), (5, .if_icmp .eq 8, 13, 0, 0, []), (8, .aload_n 0, 0, 0, 0, []), (9, .invokevirtual 38, 289, 0, 15, []), (12, .athrow, 0, 0, 0, [])]
  | 13 => [(13, .aload_n 0, 0, 0, 0, []), (14, .dup, 0, 0, 0, []), (15, .getfield 26, 2, 15, 0, []), (18, .iconst 1, 0, 0, 0, []), (19, .iadd, 0, 0, 0, []), (20, .putfield 26, 2, 15, 0, []), (23, .return_, 0, 0, 0, [])]
  | _ => []
/-- GeeseKeys$Reader.off()LGeeseKeys$Off; -/
def gp_read_off (l : Nat) : List gI := match l with
  | 0 => [(0, .new 29, 16, 7, 0, []), (3, .dup, 0, 0, 0, []), (4, .aload_n 0, 0, 0, 0, []), (5, .getfield 26, 2, 15, 0, []), (8, .invokespecial 31, 295, 1, 0, []), (11, .areturn, 0, 0, 0, [])]
  | _ => []
/-- GeeseKeys$Reader.number()I -/
def gp_read_number (l : Nat) : List gI := match l with
  | 0 => [(0, .aload_n 0, 0, 0, 0, []), (1, .invokevirtual 34, 285, 0, 15, []), (4, .bipush 48, 0, 0, 0, []), (6, .bipush 57, 0, 0, 0, []), (8, .invokestatic 54, 3, 3, 0, []), (11, .ifCond .ne 8, 19, 0, 0, []), (14, .aload_n 0, 0, 0, 0, []), (15, .invokevirtual 38, 289, 0, 15, []), (18, .athrow, 0, 0, 0, [])]
  | 19 => [(19, .iconst 0, 0, 0, 0, []), (20, .istore_n 1, 0, 0, 0, []), (21, .iconst 0, 0, 0, 0, []), (22, .istore_n 2, 0, 0, 0, []), (23, .nop, 23, 0, 0, [])]
  | 23 => [(23, .iload_n 2, 0, 0, 0, []), (24, .iconst 2, 0, 0, 0, []), (25, .if_icmp .ge 48, 73, 0, 0, []), (28, .aload_n 0, 0, 0, 0, []), (29, .invokevirtual 34, 285, 0, 15, []), (32, .bipush 48, 0, 0, 0, []), (34, .bipush 57, 0, 0, 0, []), (36, .invokestatic 54, 3, 3, 0, []), (39, .ifCond .eq 34, 73, 0, 0, []), (42, .bipush 10, 0, 0, 0, []), (44, .iload_n 1, 0, 0, 0, []), (45, .imul, 0, 0, 0, []), (46, .aload_n 0, 0, 0, 0, []), (47, .getfield 18, 0, 15, 2, []), (50, .aload_n 0, 0, 0, 0, []), (51, .dup, 0, 0, 0, []), (52, .getfield 26, 2, 15, 0, []), (55, .dup_x1, 0, 0, 0, []), (56, .iconst 1, 0, 0, 0, []), (57, .iadd, 0, 0, 0, []), (58, .putfield 26, 2, 15, 0, []), (61, .baload, 0, 0, 0, []), (62, .iadd, 0, 0, 0, []), (63, .bipush 48, 0, 0, 0, []), (65, .isub, 0, 0, 0, []), (66, .istore_n 1, 0, 0, 0, []), (67, .iinc 2 1, 0, 0, 0, []), (70, .goto (-47), 23, 0, 0, [])]
  | 73 => [(73, .iload_n 1, 0, 0, 0, []), (74, .ireturn, 0, 0, 0, [])]
  | _ => []
/-- GeeseKeys$Reader.some()LGeeseKeys$Test; -/
def gp_read_some (l : Nat) : List gI := match l with
  | 0 => [(0, .new 84, 18, 2, 0, []), (3, .dup, 0, 0, 0, []), (4, .iconst 0, 0, 0, 0, []), (5, .invokespecial 86, 298, 1, 0, []), (8, .astore_n 1, 0, 0, 0, []), (9, .aload_n 1, 0, 0, 0, []), (10, .getfield 89, 1, 18, 2, []), (13, .aload_n 0, 0, 0, 0, []), (14, .invokevirtual 99, 292, 0, 15, []), (17, .invokevirtual 93, 409, 1, 3, []), (20, .pop, 0, 0, 0, []), (21, .nop, 21, 0, 0, [])]
  | 21 => [(21, .aload_n 0, 0, 0, 0, []), (22, .invokevirtual 34, 285, 0, 15, []), (25, .bipush 124, 0, 0, 0, []), (27, .if_icmp .ne 28, 55, 0, 0, []), (30, .aload_n 0, 0, 0, 0, []), (31, .dup, 0, 0, 0, []), (32, .getfield 26, 2, 15, 0, []), (35, .iconst 1, 0, 0, 0, []), (36, .iadd, 0, 0, 0, []), (37, .putfield 26, 2, 15, 0, []), (40, .aload_n 1, 0, 0, 0, []), (41, .getfield 89, 1, 18, 2, []), (44, .aload_n 0, 0, 0, 0, []), (45, .invokevirtual 99, 292, 0, 15, []), (48, .invokevirtual 93, 409, 1, 3, []), (51, .pop, 0, 0, 0, []), (52, .goto (-31), 21, 0, 0, [])]
  | 55 => [(55, .aload_n 1, 0, 0, 0, []), (56, .areturn, 0, 0, 0, [])]
  | _ => []
/-- GeeseKeys$Reader.all()LGeeseKeys$Test; -/
def gp_read_all (l : Nat) : List gI := match l with
  | 0 => [(0, .new 84, 18, 2, 0, []), (3, .dup, 0, 0, 0, []), (4, .iconst 1, 0, 0, 0, []), (5, .invokespecial 86, 298, 1, 0, []), (8, .astore_n 1, 0, 0, 0, []), (9, .aload_n 1, 0, 0, 0, []), (10, .getfield 89, 1, 18, 2, []), (13, .aload_n 0, 0, 0, 0, []), (14, .invokevirtual 66, 293, 0, 15, []), (17, .invokevirtual 93, 409, 1, 3, []), (20, .pop, 0, 0, 0, []), (21, .nop, 21, 0, 0, [])]
  | 21 => [(21, .aload_n 0, 0, 0, 0, []), (22, .invokevirtual 34, 285, 0, 15, []), (25, .bipush 38, 0, 0, 0, []), (27, .if_icmp .ne 28, 55, 0, 0, []), (30, .aload_n 0, 0, 0, 0, []), (31, .dup, 0, 0, 0, []), (32, .getfield 26, 2, 15, 0, []), (35, .iconst 1, 0, 0, 0, []), (36, .iadd, 0, 0, 0, []), (37, .putfield 26, 2, 15, 0, []), (40, .aload_n 1, 0, 0, 0, []), (41, .getfield 89, 1, 18, 2, []), (44, .aload_n 0, 0, 0, 0, []), (45, .invokevirtual 66, 293, 0, 15, []), (48, .invokevirtual 93, 409, 1, 3, []), (51, .pop, 0, 0, 0, []), (52, .goto (-31), 21, 0, 0, [])]
  | 55 => [(55, .aload_n 1, 0, 0, 0, []), (56, .areturn, 0, 0, 0, [])]
  | _ => []
/-- GeeseKeys$Reader.factor()LGeeseKeys$Test; -/
def gp_read_factor (l : Nat) : List gI := match l with
  | 0 => [(0, .aload_n 0, 0, 0, 0, []), (1, .invokevirtual 34, 285, 0, 15, []), (4, .lookupswitch 200 #[(33, 76), (40, 104), (99, 131), (103, 131), (104, 131), (107, 131), (112, 131), (118, 131)], 204, 0, 0, [(33, 80), (40, 108), (99, 135), (103, 135), (104, 135), (107, 135), (112, 135), (118, 135)])]
  | 80 => [(80, .aload_n 0, 0, 0, 0, []), (81, .invokevirtual 61, 294, 0, 15, []), (84, .new 64, 19, 1, 0, []), (87, .dup, 0, 0, 0, []), (88, .aload_n 0, 0, 0, 0, []), (89, .invokevirtual 66, 293, 0, 15, []), (92, .invokespecial 70, 299, 1, 0, []), (95, .astore_n 1, 0, 0, 0, []), (96, .aload_n 0, 0, 0, 0, []), (97, .dup, 0, 0, 0, []), (98, .getfield 58, 3, 15, 0, []), (101, .iconst 1, 0, 0, 0, []), (102, .isub, 0, 0, 0, []), (103, .putfield 58, 3, 15, 0, []), (106, .aload_n 1, 0, 0, 0, []), (107, .areturn, 0, 0, 0, [])]
  | 108 => [(108, .aload_n 0, 0, 0, 0, []), (109, .invokevirtual 61, 294, 0, 15, []), (112, .aload_n 0, 0, 0, 0, []), (113, .invokevirtual 73, 291, 0, 15, []), (116, .astore_n 1, 0, 0, 0, []), (117, .aload_n 0, 0, 0, 0, []), (118, .bipush 41, 0, 0, 0, []), (120, .invokevirtual 51, 288, 1, 15, []), (123, .aload_n 0, 0, 0, 0, []), (124, .dup, 0, 0, 0, []), (125, .getfield 58, 3, 15, 0, []), (128, .iconst 1, 0, 0, 0, []), (129, .isub, 0, 0, 0, []), (130, .putfield 58, 3, 15, 0, []), (133, .aload_n 1, 0, 0, 0, []), (134, .areturn, 0, 0, 0, [])]
  | 135 => [(135, .aload_n 0, 0, 0, 0, []), (136, .getfield 18, 0, 15, 2, []), (139, .aload_n 0, 0, 0, 0, []), (140, .dup, 0, 0, 0, []), (141, .getfield 26, 2, 15, 0, []), (144, .dup_x1, 0, 0, 0, []), (145, .iconst 1, 0, 0, 0, []), (146, .iadd, 0, 0, 0, []), (147, .putfield 26, 2, 15, 0, []), (150, .baload, 0, 0, 0, []), (151, .istore_n 1, 0, 0, 0, []), (152, .aload_n 0, 0, 0, 0, []), (153, .invokevirtual 34, 285, 0, 15, []), (156, .istore_n 2, 0, 0, 0, []), (157, .iload_n 2, 0, 0, 0, []), (158, .bipush 60, 0, 0, 0, []), (160, .if_icmp .eq 20, 180, 0, 0, []), (163, .iload_n 2, 0, 0, 0, []), (164, .bipush 61, 0, 0, 0, []), (166, .if_icmp .eq 14, 180, 0, 0, []), (169, .iload_n 2, 0, 0, 0, []), (170, .bipush 62, 0, 0, 0, []), (172, .if_icmp .eq 8, 180, 0, 0, []), (175, .aload_n 0, 0, 0, 0, []), (176, .invokevirtual 38, 289, 0, 15, []), (179, .athrow, 0, 0, 0, [])]
  | 180 => [(180, .aload_n 0, 0, 0, 0, []), (181, .dup, 0, 0, 0, []), (182, .getfield 26, 2, 15, 0, []), (185, .iconst 1, 0, 0, 0, []), (186, .iadd, 0, 0, 0, []), (187, .putfield 26, 2, 15, 0, []), (190, .new 76, 20, 3, 0, []), (193, .dup, 0, 0, 0, []), (194, .iload_n 1, 0, 0, 0, []), (195, .iload_n 2, 0, 0, 0, []), (196, .aload_n 0, 0, 0, 0, []), (197, .invokevirtual 78, 290, 0, 15, []), (200, .invokespecial 81, 302, 3, 0, []), (203, .areturn, 0, 0, 0, [])]
  | 204 => [(204, .aload_n 0, 0, 0, 0, []), (205, .invokevirtual 38, 289, 0, 15, []), (208, .athrow, 0, 0, 0, [])]
  | _ => []
/-- GeeseKeys$Reader.deeper()V -/
def gp_read_deeper (l : Nat) : List gI := match l with
  | 0 => [(0, .aload_n 0, 0, 0, 0, []), (1, .getfield 58, 3, 15, 0, []), (4, .iconst 4, 0, 0, 0, []), (5, .if_icmp .ne 8, 13, 0, 0, []), (8, .aload_n 0, 0, 0, 0, []), (9, .invokevirtual 38, 289, 0, 15, []), (12, .athrow, 0, 0, 0, [])]
  | 13 => [(13, .aload_n 0, 0, 0, 0, []), (14, .dup, 0, 0, 0, []), (15, .getfield 58, 3, 15, 0, []), (18, .iconst 1, 0, 0, 0, []), (19, .iadd, 0, 0, 0, []), (20, .putfield 58, 3, 15, 0, []), (23, .aload_n 0, 0, 0, 0, []), (24, .dup, 0, 0, 0, []), (25, .getfield 26, 2, 15, 0, []), (28, .iconst 1, 0, 0, 0, []), (29, .iadd, 0, 0, 0, []), (30, .putfield 26, 2, 15, 0, []), (33, .return_, 0, 0, 0, [])]
  | _ => []
/-- GeeseKeys$Off.<init>(I)V -/
def gp_off_init (l : Nat) : List gI := match l with
  | 0 => [(0, .aload_n 0, 0, 0, 0, []), (1, .invokespecial 1, 0, 0, 2, []), (4, .aload_n 0, 0, 0, 0, []), (5, .iload_n 1, 0, 0, 0, []), (6, .putfield 7, 0, 21, 0, []), (9, .return_, 0, 0, 0, [])]
  | _ => []
/-- GeeseKeys$Clause.<init>(ILGeeseKeys$Test;)V -/
def gp_clause_init (l : Nat) : List gI := match l with
  | 0 => [(0, .aload_n 0, 0, 0, 0, []), (1, .invokespecial 1, 0, 0, 1, []), (4, .aload_n 0, 0, 0, 0, []), (5, .iload_n 1, 0, 0, 0, []), (6, .putfield 7, 0, 17, 0, []), (9, .aload_n 0, 0, 0, 0, []), (10, .aload_n 2, 0, 0, 0, []), (11, .putfield 13, 1, 17, 2, []), (14, .return_, 0, 0, 0, [])]
  | _ => []
/-- GeeseKeys$Test.<init>()V -/
def gp_test_init (l : Nat) : List gI := match l with
  | 0 => [(0, .aload_n 0, 0, 0, 0, []), (1, .invokespecial 1, 0, 0, 1, []), (4, .return_, 0, 0, 0, [])]
  | _ => []
/-- GeeseKeys$Some.<init>(Z)V -/
def gp_some_init (l : Nat) : List gI := match l with
  | 0 => [(0, .aload_n 0, 0, 0, 0, []), (1, .invokespecial 1, 297, 0, 0, []), (4, .aload_n 0, 0, 0, 0, []), (5, .new 7, 3, 3, 0, []), (8, .dup, 0, 0, 0, []), (9, .invokespecial 9, 405, 0, 0, []), (12, .putfield 10, 1, 18, 2, []), (15, .aload_n 0, 0, 0, 0, []), (16, .iload_n 1, 0, 0, 0, []), (17, .putfield 16, 0, 18, 1, []), (20, .return_, 0, 0, 0, [])]
  | _ => []
/-- GeeseKeys$Not.<init>(LGeeseKeys$Test;)V -/
def gp_not_init (l : Nat) : List gI := match l with
  | 0 => [(0, .aload_n 0, 0, 0, 0, []), (1, .invokespecial 1, 297, 0, 0, []), (4, .aload_n 0, 0, 0, 0, []), (5, .aload_n 1, 0, 0, 0, []), (6, .putfield 7, 0, 19, 2, []), (9, .return_, 0, 0, 0, [])]
  | _ => []
/-- GeeseKeys$Fortress.<init>()V -/
def gp_fort_init (l : Nat) : List gI := match l with
  | 0 => [(0, .aload_n 0, 0, 0, 0, []), (1, .invokespecial 3, 0, 0, 1, []), (4, .aload_n 0, 0, 0, 0, []), (5, .new 9, 3, 3, 0, []), (8, .dup, 0, 0, 0, []), (9, .invokespecial 11, 405, 0, 0, []), (12, .putfield 12, 0, 2, 2, []), (15, .aload_n 0, 0, 0, 0, []), (16, .iconst 1, 0, 0, 0, []), (17, .putfield 18, 2, 2, 0, []), (20, .return_, 0, 0, 0, [])]
  | _ => []
/-- GeeseKeys$Fortress.more(LGeeseKeys$Look;)I -/
def gp_fort_more (l : Nat) : List gI := match l with
  | 0 => [(0, .iconst 0, 0, 0, 0, []), (1, .istore_n 2, 0, 0, 0, []), (2, .iconst 0, 0, 0, 0, []), (3, .istore_n 3, 0, 0, 0, []), (4, .nop, 4, 0, 0, [])]
  | 4 => [(4, .iload_n 3, 0, 0, 0, []), (5, .aload_n 0, 0, 0, 0, []), (6, .getfield 12, 0, 2, 2, []), (9, .invokevirtual 22, 406, 0, 3, []), (12, .if_icmp .ge 47, 59, 0, 0, []), (15, .aload_n 0, 0, 0, 0, []), (16, .getfield 12, 0, 2, 2, []), (19, .iload_n 3, 0, 0, 0, []), (20, .invokevirtual 26, 407, 1, 3, []), (23, .checkcast 30, 17, 0, 0, []), (26, .getfield 32, 1, 17, 2, []), (29, .aload_n 1, 0, 0, 0, []), (30, .invokevirtual 36, 1005, 1, 34, []), (33, .ifCond .eq 20, 53, 0, 0, []), (36, .iload_n 2, 0, 0, 0, []), (37, .aload_n 0, 0, 0, 0, []), (38, .getfield 12, 0, 2, 2, []), (41, .iload_n 3, 0, 0, 0, []), (42, .invokevirtual 26, 407, 1, 3, []), (45, .checkcast 30, 17, 0, 0, []), (48, .getfield 42, 0, 17, 0, []), (51, .iadd, 0, 0, 0, []), (52, .istore_n 2, 0, 0, 0, []), (53, .nop, 53, 0, 0, [])]
  | 53 => [(53, .iinc 3 1, 0, 0, 0, []), (56, .goto (-52), 4, 0, 0, [])]
  | 59 => [(59, .iload_n 2, 0, 0, 0, []), (60, .ireturn, 0, 0, 0, [])]
  | _ => []
/-- GeeseKeys$Against.<init>(III)V -/
def gp_against_init (l : Nat) : List gI := match l with
  | 0 => [(0, .aload_n 0, 0, 0, 0, []), (1, .invokespecial 1, 297, 0, 0, []), (4, .aload_n 0, 0, 0, 0, []), (5, .iload_n 1, 0, 0, 0, []), (6, .putfield 7, 0, 20, 0, []), (9, .aload_n 0, 0, 0, 0, []), (10, .iload_n 2, 0, 0, 0, []), (11, .putfield 13, 1, 20, 0, []), (14, .aload_n 0, 0, 0, 0, []), (15, .iload_n 3, 0, 0, 0, []), (16, .putfield 16, 2, 20, 0, []), (19, .return_, 0, 0, 0, [])]
  | _ => []
/-- GeeseKeys$Look.<init>()V -/
def gp_look_init (l : Nat) : List gI := match l with
  | 0 => [(0, .aload_n 0, 0, 0, 0, []), (1, .invokespecial 1, 0, 0, 1, []), (4, .return_, 0, 0, 0, [])]
  | _ => []
/-- GeeseKeys$Look.of(I)I -/
def gp_look_of (l : Nat) : List gI := match l with
  | 0 => [(0, .iload_n 1, 0, 0, 0, []), (1, .lookupswitch 76 #[(99, 66), (103, 71), (107, 56), (112, 51), (118, 61)], 77, 0, 0, [(99, 67), (103, 72), (107, 57), (112, 52), (118, 62)])]
  | 52 => [(52, .aload_n 0, 0, 0, 0, []), (53, .getfield 7, 0, 4, 0, []), (56, .ireturn, 0, 0, 0, [])]
  | 57 => [(57, .aload_n 0, 0, 0, 0, []), (58, .getfield 13, 1, 4, 0, []), (61, .ireturn, 0, 0, 0, [])]
  | 62 => [(62, .aload_n 0, 0, 0, 0, []), (63, .getfield 16, 2, 4, 0, []), (66, .ireturn, 0, 0, 0, [])]
  | 67 => [(67, .aload_n 0, 0, 0, 0, []), (68, .getfield 19, 3, 4, 0, []), (71, .ireturn, 0, 0, 0, [])]
  | 72 => [(72, .aload_n 0, 0, 0, 0, []), (73, .getfield 22, 4, 4, 0, []), (76, .ireturn, 0, 0, 0, [])]
  | 77 => [(77, .aload_n 0, 0, 0, 0, []), (78, .getfield 25, 5, 4, 0, []), (81, .ireturn, 0, 0, 0, [])]
  | _ => []
/-- GeeseKeys$Trace.<init>()V -/
def gp_trace_init (l : Nat) : List gI := match l with
  | 0 => [(0, .aload_n 0, 0, 0, 0, []), (1, .invokespecial 3, 0, 0, 1, []), (4, .aload_n 0, 0, 0, 0, []), (5, .bipush 20, 0, 0, 0, []), (7, .newarray .int, 0, 0, 0, []), (9, .putfield 9, 0, 5, 2, []), (12, .return_, 0, 0, 0, [])]
  | _ => []
/-- GeeseKeys$Trace.ran(I)V -/
def gp_trace_ran (l : Nat) : List gI := match l with
  | 0 => [(0, .aload_n 0, 0, 0, 0, []), (1, .getfield 15, 1, 5, 0, []), (4, .bipush 20, 0, 0, 0, []), (6, .if_icmp .ge 13, 19, 0, 0, []), (9, .aload_n 0, 0, 0, 0, []), (10, .getfield 9, 0, 5, 2, []), (13, .aload_n 0, 0, 0, 0, []), (14, .getfield 15, 1, 5, 0, []), (17, .iload_n 1, 0, 0, 0, []), (18, .iastore, 0, 0, 0, []), (19, .nop, 19, 0, 0, [])]
  | 19 => [(19, .aload_n 0, 0, 0, 0, []), (20, .dup, 0, 0, 0, []), (21, .getfield 15, 1, 5, 0, []), (24, .iconst 1, 0, 0, 0, []), (25, .iadd, 0, 0, 0, []), (26, .putfield 15, 1, 5, 0, []), (29, .return_, 0, 0, 0, [])]
  | _ => []
/-- GeeseKeys$Tape.<init>()V -/
def gp_tape_init (l : Nat) : List gI := match l with
  | 0 => [(0, .aload_n 0, 0, 0, 0, []), (1, .invokespecial 3, 0, 0, 1, []), (4, .return_, 0, 0, 0, [])]
  | _ => []
/-- GeeseKeys$Tape.has(I)V -/
def gp_tape_has (l : Nat) : List gI := match l with
  | 0 => [(0, .aload_n 0, 0, 0, 0, []), (1, .getfield 9, 0, 6, 2, []), (4, .ifnonnull 13, 17, 0, 0, []), (7, .new 25, 16, 7, 0, []), (10, .dup, 0, 0, 0, []), (11, .bipush (-11), 0, 0, 0, []), (13, .invokespecial 27, 295, 1, 0, []), (16, .athrow, 0, 0, 0, [])]
  | 17 => [(17, .iload_n 1, 0, 0, 0, []), (18, .iconst 0, 0, 0, 0, []), (19, .aload_n 0, 0, 0, 0, []), (20, .invokevirtual 30, 309, 0, 6, []), (23, .iconst 1, 0, 0, 0, []), (24, .isub, 0, 0, 0, []), (25, .invokestatic 34, 3, 3, 0, []), (28, .ifCond .ne 13, 41, 0, 0, []), (31, .new 25, 16, 7, 0, []), (34, .dup, 0, 0, 0, []), (35, .bipush (-13), 0, 0, 0, []), (37, .invokespecial 27, 295, 1, 0, []), (40, .athrow, 0, 0, 0, [])]
  | 41 => [(41, .return_, 0, 0, 0, [])]
  | _ => []
/-- GeeseKeys$Tape.size()I -/
def gp_tape_size (l : Nat) : List gI := match l with
  | 0 => [(0, .aload_n 0, 0, 0, 0, []), (1, .getfield 9, 0, 6, 2, []), (4, .astore_n 2, 0, 0, 0, []), (5, .aload_n 2, 0, 0, 0, []), (6, .instanceof 15, 100, 0, 0, []), (9, .ifCond .eq 11, 20, 0, 0, []), (12, .aload_n 2, 0, 0, 0, []), (13, .checkcast 15, 100, 0, 0, []), (16, .astore_n 1, 0, 0, 0, []), (17, .aload_n 1, 0, 0, 0, []), (18, .arraylength, 0, 0, 0, []), (19, .ireturn, 0, 0, 0, [])]
  | 20 => [(20, .aload_n 0, 0, 0, 0, []), (21, .getfield 9, 0, 6, 2, []), (24, .astore_n 2, 0, 0, 0, []), (25, .aload_n 2, 0, 0, 0, []), (26, .instanceof 17, 101, 0, 0, []), (29, .ifCond .eq 11, 40, 0, 0, []), (32, .aload_n 2, 0, 0, 0, []), (33, .checkcast 17, 101, 0, 0, []), (36, .astore_n 1, 0, 0, 0, []), (37, .aload_n 1, 0, 0, 0, []), (38, .arraylength, 0, 0, 0, []), (39, .ireturn, 0, 0, 0, [])]
  | 40 => [(40, .aload_n 0, 0, 0, 0, []), (41, .getfield 9, 0, 6, 2, []), (44, .astore_n 2, 0, 0, 0, []), (45, .aload_n 2, 0, 0, 0, []), (46, .instanceof 19, 102, 0, 0, []), (49, .ifCond .eq 11, 60, 0, 0, []), (52, .aload_n 2, 0, 0, 0, []), (53, .checkcast 19, 102, 0, 0, []), (56, .astore_n 1, 0, 0, 0, []), (57, .aload_n 1, 0, 0, 0, []), (58, .arraylength, 0, 0, 0, []), (59, .ireturn, 0, 0, 0, [])]
  | 60 => [(60, .aload_n 0, 0, 0, 0, []), (61, .getfield 9, 0, 6, 2, []), (64, .astore_n 2, 0, 0, 0, []), (65, .aload_n 2, 0, 0, 0, []), (66, .instanceof 21, 103, 0, 0, []), (69, .ifCond .eq 13, 82, 0, 0, []), (72, .aload_n 2, 0, 0, 0, []), (73, .checkcast 21, 103, 0, 0, []), (76, .astore_n 1, 0, 0, 0, []), (77, .aload_n 1, 0, 0, 0, []), (78, .arraylength, 0, 0, 0, []), (79, .goto 11, 90, 0, 0, [])]
  | 82 => [(82, .aload_n 0, 0, 0, 0, []), (83, .getfield 9, 0, 6, 2, []), (86, .checkcast 23, 104, 0, 0, []), (89, .arraylength, 0, 0, 0, []), (90, .nop, 90, 0, 0, [])]
  | 90 => [(90, .ireturn, 0, 0, 0, [])]
  | _ => []
/-- GeeseKeysLaw.law([I)Z -/
def gp_law (l : Nat) : List gI := match l with
  | 0 => [(0, .new 7, 0, 35, 0, []), (3, .dup, 0, 0, 0, []), (4, .invokespecial 9, 0, 0, 0, []), (7, .astore_n 1, 0, 0, 0, []), (8, .new 10, 7, 29, 0, []), (11, .dup, 0, 0, 0, []), (12, .invokespecial 12, 100, 0, 0, []), (15, .astore_n 2, 0, 0, 0, []), (16, .iconst 0, 0, 0, 0, []), (17, .istore_n 3, 0, 0, 0, []), (18, .nop, 18, 0, 0, [])]
  | 18 => [(18, .iload_n 3, 0, 0, 0, []), (19, .aload_n 0, 0, 0, 0, []), (20, .arraylength, 0, 0, 0, []), (21, .bipush 6, 0, 0, 0, []), (23, .isub, 0, 0, 0, []), (24, .if_icmp .gt 1371, 1395, 0, 0, []), (27, .aload_n 0, 0, 0, 0, []), (28, .iload_n 3, 0, 0, 0, []), (29, .iaload, 0, 0, 0, []), (30, .bipush 63, 0, 0, 0, []), (32, .iand, 0, 0, 0, []), (33, .tableswitch 1356 0 35 #[159, 192, 245, 278, 311, 344, 393, 426, 469, 492, 505, 528, 551, 584, 607, 650, 683, 726, 749, 782, 826, 860, 893, 916, 949, 962, 995, 1008, 1021, 1064, 1087, 1120, 1143, 1186, 1259, 1293], 1389, 0, 0, [(0, 192), (1, 225), (2, 278), (3, 311), (4, 344), (5, 377), (6, 426), (7, 459), (8, 502), (9, 525), (10, 538), (11, 561), (12, 584), (13, 617), (14, 640), (15, 683), (16, 716), (17, 759), (18, 782), (19, 815), (20, 859), (21, 893), (22, 926), (23, 949), (24, 982), (25, 995), (26, 1028), (27, 1041), (28, 1054), (29, 1097), (30, 1120), (31, 1153), (32, 1176), (33, 1219), (34, 1292), (35, 1326)])]
  | 192 => [(192, .aload_n 1, 0, 0, 0, []), (193, .aload_n 0, 0, 0, 0, []), (194, .iload_n 3, 0, 0, 0, []), (195, .iconst 1, 0, 0, 0, []), (196, .iadd, 0, 0, 0, []), (197, .iaload, 0, 0, 0, []), (198, .aload_n 0, 0, 0, 0, []), (199, .iload_n 3, 0, 0, 0, []), (200, .iconst 2, 0, 0, 0, []), (201, .iadd, 0, 0, 0, []), (202, .iaload, 0, 0, 0, []), (203, .invokevirtual 13, 1, 2, 0, []), (206, .aload_n 2, 0, 0, 0, []), (207, .aload_n 0, 0, 0, 0, []), (208, .iload_n 3, 0, 0, 0, []), (209, .iconst 1, 0, 0, 0, []), (210, .iadd, 0, 0, 0, []), (211, .iaload, 0, 0, 0, []), (212, .aload_n 0, 0, 0, 0, []), (213, .iload_n 3, 0, 0, 0, []), (214, .iconst 2, 0, 0, 0, []), (215, .iadd, 0, 0, 0, []), (216, .iaload, 0, 0, 0, []), (217, .invokevirtual 17, 104, 2, 7, []), (220, .if_icmp .eq 1169, 1389, 0, 0, []), (223, .iconst 0, 0, 0, 0, []), (224, .ireturn, 1, 0, 0, [])]
  | 225 => [(225, .aload_n 1, 0, 0, 0, []), (226, .aload_n 0, 0, 0, 0, []), (227, .iload_n 3, 0, 0, 0, []), (228, .iconst 1, 0, 0, 0, []), (229, .iadd, 0, 0, 0, []), (230, .iaload, 0, 0, 0, []), (231, .aload_n 0, 0, 0, 0, []), (232, .iload_n 3, 0, 0, 0, []), (233, .iconst 2, 0, 0, 0, []), (234, .iadd, 0, 0, 0, []), (235, .iaload, 0, 0, 0, []), (236, .aload_n 0, 0, 0, 0, []), (237, .iload_n 3, 0, 0, 0, []), (238, .iconst 3, 0, 0, 0, []), (239, .iadd, 0, 0, 0, []), (240, .iaload, 0, 0, 0, []), (241, .aload_n 0, 0, 0, 0, []), (242, .iload_n 3, 0, 0, 0, []), (243, .iconst 4, 0, 0, 0, []), (244, .iadd, 0, 0, 0, []), (245, .iaload, 0, 0, 0, []), (246, .invokevirtual 18, 4, 4, 0, []), (249, .aload_n 2, 0, 0, 0, []), (250, .aload_n 0, 0, 0, 0, []), (251, .iload_n 3, 0, 0, 0, []), (252, .iconst 1, 0, 0, 0, []), (253, .iadd, 0, 0, 0, []), (254, .iaload, 0, 0, 0, []), (255, .aload_n 0, 0, 0, 0, []), (256, .iload_n 3, 0, 0, 0, []), (257, .iconst 2, 0, 0, 0, []), (258, .iadd, 0, 0, 0, []), (259, .iaload, 0, 0, 0, []), (260, .aload_n 0, 0, 0, 0, []), (261, .iload_n 3, 0, 0, 0, []), (262, .iconst 3, 0, 0, 0, []), (263, .iadd, 0, 0, 0, []), (264, .iaload, 0, 0, 0, []), (265, .aload_n 0, 0, 0, 0, []), (266, .iload_n 3, 0, 0, 0, []), (267, .iconst 4, 0, 0, 0, []), (268, .iadd, 0, 0, 0, []), (269, .iaload, 0, 0, 0, []), (270, .invokevirtual 22, 107, 4, 7, []), (273, .if_icmp .eq 1116, 1389, 0, 0, []), (276, .iconst 0, 0, 0, 0, []), (277, .ireturn, 1, 0, 0, [])]
  | 278 => [(278, .aload_n 1, 0, 0, 0, []), (279, .aload_n 0, 0, 0, 0, []), (280, .iload_n 3, 0, 0, 0, []), (281, .iconst 1, 0, 0, 0, []), (282, .iadd, 0, 0, 0, []), (283, .iaload, 0, 0, 0, []), (284, .aload_n 0, 0, 0, 0, []), (285, .iload_n 3, 0, 0, 0, []), (286, .iconst 2, 0, 0, 0, []), (287, .iadd, 0, 0, 0, []), (288, .iaload, 0, 0, 0, []), (289, .invokevirtual 23, 8, 2, 0, []), (292, .aload_n 2, 0, 0, 0, []), (293, .aload_n 0, 0, 0, 0, []), (294, .iload_n 3, 0, 0, 0, []), (295, .iconst 1, 0, 0, 0, []), (296, .iadd, 0, 0, 0, []), (297, .iaload, 0, 0, 0, []), (298, .aload_n 0, 0, 0, 0, []), (299, .iload_n 3, 0, 0, 0, []), (300, .iconst 2, 0, 0, 0, []), (301, .iadd, 0, 0, 0, []), (302, .iaload, 0, 0, 0, []), (303, .invokevirtual 26, 108, 2, 7, []), (306, .if_icmp .eq 1083, 1389, 0, 0, []), (309, .iconst 0, 0, 0, 0, []), (310, .ireturn, 1, 0, 0, [])]
  | 311 => [(311, .aload_n 1, 0, 0, 0, []), (312, .aload_n 0, 0, 0, 0, []), (313, .iload_n 3, 0, 0, 0, []), (314, .iconst 1, 0, 0, 0, []), (315, .iadd, 0, 0, 0, []), (316, .iaload, 0, 0, 0, []), (317, .aload_n 0, 0, 0, 0, []), (318, .iload_n 3, 0, 0, 0, []), (319, .iconst 2, 0, 0, 0, []), (320, .iadd, 0, 0, 0, []), (321, .iaload, 0, 0, 0, []), (322, .invokevirtual 27, 13, 2, 0, []), (325, .aload_n 2, 0, 0, 0, []), (326, .aload_n 0, 0, 0, 0, []), (327, .iload_n 3, 0, 0, 0, []), (328, .iconst 1, 0, 0, 0, []), (329, .iadd, 0, 0, 0, []), (330, .iaload, 0, 0, 0, []), (331, .aload_n 0, 0, 0, 0, []), (332, .iload_n 3, 0, 0, 0, []), (333, .iconst 2, 0, 0, 0, []), (334, .iadd, 0, 0, 0, []), (335, .iaload, 0, 0, 0, []), (336, .invokevirtual 30, 131, 2, 7, []), (339, .if_icmp .eq 1050, 1389, 0, 0, []), (342, .iconst 0, 0, 0, 0, []), (343, .ireturn, 1, 0, 0, [])]
  | 344 => [(344, .aload_n 1, 0, 0, 0, []), (345, .aload_n 0, 0, 0, 0, []), (346, .iload_n 3, 0, 0, 0, []), (347, .iconst 1, 0, 0, 0, []), (348, .iadd, 0, 0, 0, []), (349, .iaload, 0, 0, 0, []), (350, .aload_n 0, 0, 0, 0, []), (351, .iload_n 3, 0, 0, 0, []), (352, .iconst 2, 0, 0, 0, []), (353, .iadd, 0, 0, 0, []), (354, .iaload, 0, 0, 0, []), (355, .invokevirtual 31, 14, 2, 0, []), (358, .aload_n 2, 0, 0, 0, []), (359, .aload_n 0, 0, 0, 0, []), (360, .iload_n 3, 0, 0, 0, []), (361, .iconst 1, 0, 0, 0, []), (362, .iadd, 0, 0, 0, []), (363, .iaload, 0, 0, 0, []), (364, .aload_n 0, 0, 0, 0, []), (365, .iload_n 3, 0, 0, 0, []), (366, .iconst 2, 0, 0, 0, []), (367, .iadd, 0, 0, 0, []), (368, .iaload, 0, 0, 0, []), (369, .invokevirtual 34, 133, 2, 7, []), (372, .if_icmp .eq 1017, 1389, 0, 0, []), (375, .iconst 0, 0, 0, 0, []), (376, .ireturn, 1, 0, 0, [])]
  | 377 => [(377, .aload_n 1, 0, 0, 0, []), (378, .aload_n 0, 0, 0, 0, []), (379, .iload_n 3, 0, 0, 0, []), (380, .iconst 1, 0, 0, 0, []), (381, .iadd, 0, 0, 0, []), (382, .iaload, 0, 0, 0, []), (383, .aload_n 0, 0, 0, 0, []), (384, .iload_n 3, 0, 0, 0, []), (385, .iconst 2, 0, 0, 0, []), (386, .iadd, 0, 0, 0, []), (387, .iaload, 0, 0, 0, []), (388, .ifCond .eq 7, 395, 0, 0, []), (391, .iconst 1, 0, 0, 0, []), (392, .goto 4, 396, 0, 0, [])]
  | 395 => [(395, .iconst 0, 0, 0, 0, []), (396, .nop, 396, 0, 0, [])]
  | 396 => [(396, .invokevirtual 35, 15, 2, 0, []), (399, .aload_n 2, 0, 0, 0, []), (400, .aload_n 0, 0, 0, 0, []), (401, .iload_n 3, 0, 0, 0, []), (402, .iconst 1, 0, 0, 0, []), (403, .iadd, 0, 0, 0, []), (404, .iaload, 0, 0, 0, []), (405, .aload_n 0, 0, 0, 0, []), (406, .iload_n 3, 0, 0, 0, []), (407, .iconst 2, 0, 0, 0, []), (408, .iadd, 0, 0, 0, []), (409, .iaload, 0, 0, 0, []), (410, .ifCond .eq 7, 417, 0, 0, []), (413, .iconst 1, 0, 0, 0, []), (414, .goto 4, 418, 0, 0, [])]
  | 417 => [(417, .iconst 0, 0, 0, 0, []), (418, .nop, 418, 0, 0, [])]
  | 418 => [(418, .invokevirtual 39, 134, 2, 7, []), (421, .if_icmp .eq 968, 1389, 0, 0, []), (424, .iconst 0, 0, 0, 0, []), (425, .ireturn, 1, 0, 0, [])]
  | 426 => [(426, .aload_n 1, 0, 0, 0, []), (427, .aload_n 0, 0, 0, 0, []), (428, .iload_n 3, 0, 0, 0, []), (429, .iconst 1, 0, 0, 0, []), (430, .iadd, 0, 0, 0, []), (431, .iaload, 0, 0, 0, []), (432, .aload_n 0, 0, 0, 0, []), (433, .iload_n 3, 0, 0, 0, []), (434, .iconst 2, 0, 0, 0, []), (435, .iadd, 0, 0, 0, []), (436, .iaload, 0, 0, 0, []), (437, .invokevirtual 40, 16, 2, 0, []), (440, .aload_n 2, 0, 0, 0, []), (441, .aload_n 0, 0, 0, 0, []), (442, .iload_n 3, 0, 0, 0, []), (443, .iconst 1, 0, 0, 0, []), (444, .iadd, 0, 0, 0, []), (445, .iaload, 0, 0, 0, []), (446, .aload_n 0, 0, 0, 0, []), (447, .iload_n 3, 0, 0, 0, []), (448, .iconst 2, 0, 0, 0, []), (449, .iadd, 0, 0, 0, []), (450, .iaload, 0, 0, 0, []), (451, .invokevirtual 43, 135, 2, 7, []), (454, .if_icmp .eq 935, 1389, 0, 0, []), (457, .iconst 0, 0, 0, 0, []), (458, .ireturn, 1, 0, 0, [])]
  | 459 => [(459, .aload_n 1, 0, 0, 0, []), (460, .aload_n 0, 0, 0, 0, []), (461, .iload_n 3, 0, 0, 0, []), (462, .iconst 1, 0, 0, 0, []), (463, .iadd, 0, 0, 0, []), (464, .iaload, 0, 0, 0, []), (465, .aload_n 0, 0, 0, 0, []), (466, .iload_n 3, 0, 0, 0, []), (467, .iconst 2, 0, 0, 0, []), (468, .iadd, 0, 0, 0, []), (469, .iaload, 0, 0, 0, []), (470, .aload_n 0, 0, 0, 0, []), (471, .iload_n 3, 0, 0, 0, []), (472, .iconst 3, 0, 0, 0, []), (473, .iadd, 0, 0, 0, []), (474, .iaload, 0, 0, 0, []), (475, .invokevirtual 44, 18, 3, 0, []), (478, .aload_n 2, 0, 0, 0, []), (479, .aload_n 0, 0, 0, 0, []), (480, .iload_n 3, 0, 0, 0, []), (481, .iconst 1, 0, 0, 0, []), (482, .iadd, 0, 0, 0, []), (483, .iaload, 0, 0, 0, []), (484, .aload_n 0, 0, 0, 0, []), (485, .iload_n 3, 0, 0, 0, []), (486, .iconst 2, 0, 0, 0, []), (487, .iadd, 0, 0, 0, []), (488, .iaload, 0, 0, 0, []), (489, .aload_n 0, 0, 0, 0, []), (490, .iload_n 3, 0, 0, 0, []), (491, .iconst 3, 0, 0, 0, []), (492, .iadd, 0, 0, 0, []), (493, .iaload, 0, 0, 0, []), (494, .invokevirtual 48, 136, 3, 7, []), (497, .if_icmp .eq 892, 1389, 0, 0, []), (500, .iconst 0, 0, 0, 0, []), (501, .ireturn, 1, 0, 0, [])]
  | 502 => [(502, .aload_n 1, 0, 0, 0, []), (503, .aload_n 0, 0, 0, 0, []), (504, .iload_n 3, 0, 0, 0, []), (505, .iconst 1, 0, 0, 0, []), (506, .iadd, 0, 0, 0, []), (507, .iaload, 0, 0, 0, []), (508, .invokevirtual 49, 19, 1, 0, []), (511, .aload_n 2, 0, 0, 0, []), (512, .aload_n 0, 0, 0, 0, []), (513, .iload_n 3, 0, 0, 0, []), (514, .iconst 1, 0, 0, 0, []), (515, .iadd, 0, 0, 0, []), (516, .iaload, 0, 0, 0, []), (517, .invokevirtual 53, 137, 1, 7, []), (520, .if_icmp .eq 869, 1389, 0, 0, []), (523, .iconst 0, 0, 0, 0, []), (524, .ireturn, 1, 0, 0, [])]
  | 525 => [(525, .aload_n 1, 0, 0, 0, []), (526, .invokevirtual 54, 20, 0, 0, []), (529, .aload_n 2, 0, 0, 0, []), (530, .invokevirtual 58, 138, 0, 7, []), (533, .if_icmp .eq 856, 1389, 0, 0, []), (536, .iconst 0, 0, 0, 0, []), (537, .ireturn, 1, 0, 0, [])]
  | 538 => [(538, .aload_n 1, 0, 0, 0, []), (539, .aload_n 0, 0, 0, 0, []), (540, .iload_n 3, 0, 0, 0, []), (541, .iconst 1, 0, 0, 0, []), (542, .iadd, 0, 0, 0, []), (543, .iaload, 0, 0, 0, []), (544, .invokevirtual 59, 35, 1, 0, []), (547, .aload_n 2, 0, 0, 0, []), (548, .aload_n 0, 0, 0, 0, []), (549, .iload_n 3, 0, 0, 0, []), (550, .iconst 1, 0, 0, 0, []), (551, .iadd, 0, 0, 0, []), (552, .iaload, 0, 0, 0, []), (553, .invokevirtual 62, 139, 1, 7, []), (556, .if_icmp .eq 833, 1389, 0, 0, []), (559, .iconst 0, 0, 0, 0, []), (560, .ireturn, 1, 0, 0, [])]
  | 561 => [(561, .aload_n 1, 0, 0, 0, []), (562, .aload_n 0, 0, 0, 0, []), (563, .iload_n 3, 0, 0, 0, []), (564, .iconst 1, 0, 0, 0, []), (565, .iadd, 0, 0, 0, []), (566, .iaload, 0, 0, 0, []), (567, .invokevirtual 63, 21, 1, 0, []), (570, .aload_n 2, 0, 0, 0, []), (571, .aload_n 0, 0, 0, 0, []), (572, .iload_n 3, 0, 0, 0, []), (573, .iconst 1, 0, 0, 0, []), (574, .iadd, 0, 0, 0, []), (575, .iaload, 0, 0, 0, []), (576, .invokevirtual 66, 149, 1, 7, []), (579, .if_icmp .eq 810, 1389, 0, 0, []), (582, .iconst 0, 0, 0, 0, []), (583, .ireturn, 1, 0, 0, [])]
  | 584 => [(584, .aload_n 1, 0, 0, 0, []), (585, .aload_n 0, 0, 0, 0, []), (586, .iload_n 3, 0, 0, 0, []), (587, .iconst 1, 0, 0, 0, []), (588, .iadd, 0, 0, 0, []), (589, .iaload, 0, 0, 0, []), (590, .aload_n 0, 0, 0, 0, []), (591, .iload_n 3, 0, 0, 0, []), (592, .iconst 2, 0, 0, 0, []), (593, .iadd, 0, 0, 0, []), (594, .iaload, 0, 0, 0, []), (595, .invokevirtual 67, 24, 2, 0, []), (598, .aload_n 2, 0, 0, 0, []), (599, .aload_n 0, 0, 0, 0, []), (600, .iload_n 3, 0, 0, 0, []), (601, .iconst 1, 0, 0, 0, []), (602, .iadd, 0, 0, 0, []), (603, .iaload, 0, 0, 0, []), (604, .aload_n 0, 0, 0, 0, []), (605, .iload_n 3, 0, 0, 0, []), (606, .iconst 2, 0, 0, 0, []), (607, .iadd, 0, 0, 0, []), (608, .iaload, 0, 0, 0, []), (609, .invokevirtual 70, 150, 2, 7, []), (612, .if_icmp .eq 777, 1389, 0, 0, []), (615, .iconst 0, 0, 0, 0, []), (616, .ireturn, 1, 0, 0, [])]
  | 617 => [(617, .aload_n 1, 0, 0, 0, []), (618, .aload_n 0, 0, 0, 0, []), (619, .iload_n 3, 0, 0, 0, []), (620, .iconst 1, 0, 0, 0, []), (621, .iadd, 0, 0, 0, []), (622, .iaload, 0, 0, 0, []), (623, .invokevirtual 71, 27, 1, 0, []), (626, .aload_n 2, 0, 0, 0, []), (627, .aload_n 0, 0, 0, 0, []), (628, .iload_n 3, 0, 0, 0, []), (629, .iconst 1, 0, 0, 0, []), (630, .iadd, 0, 0, 0, []), (631, .iaload, 0, 0, 0, []), (632, .invokevirtual 74, 151, 1, 7, []), (635, .if_icmp .eq 754, 1389, 0, 0, []), (638, .iconst 0, 0, 0, 0, []), (639, .ireturn, 1, 0, 0, [])]
  | 640 => [(640, .aload_n 1, 0, 0, 0, []), (641, .aload_n 0, 0, 0, 0, []), (642, .iload_n 3, 0, 0, 0, []), (643, .iconst 1, 0, 0, 0, []), (644, .iadd, 0, 0, 0, []), (645, .iaload, 0, 0, 0, []), (646, .aload_n 0, 0, 0, 0, []), (647, .iload_n 3, 0, 0, 0, []), (648, .iconst 2, 0, 0, 0, []), (649, .iadd, 0, 0, 0, []), (650, .iaload, 0, 0, 0, []), (651, .aload_n 0, 0, 0, 0, []), (652, .iload_n 3, 0, 0, 0, []), (653, .iconst 3, 0, 0, 0, []), (654, .iadd, 0, 0, 0, []), (655, .iaload, 0, 0, 0, []), (656, .invokevirtual 75, 30, 3, 0, []), (659, .aload_n 2, 0, 0, 0, []), (660, .aload_n 0, 0, 0, 0, []), (661, .iload_n 3, 0, 0, 0, []), (662, .iconst 1, 0, 0, 0, []), (663, .iadd, 0, 0, 0, []), (664, .iaload, 0, 0, 0, []), (665, .aload_n 0, 0, 0, 0, []), (666, .iload_n 3, 0, 0, 0, []), (667, .iconst 2, 0, 0, 0, []), (668, .iadd, 0, 0, 0, []), (669, .iaload, 0, 0, 0, []), (670, .aload_n 0, 0, 0, 0, []), (671, .iload_n 3, 0, 0, 0, []), (672, .iconst 3, 0, 0, 0, []), (673, .iadd, 0, 0, 0, []), (674, .iaload, 0, 0, 0, []), (675, .invokevirtual 78, 153, 3, 7, []), (678, .if_icmp .eq 711, 1389, 0, 0, []), (681, .iconst 0, 0, 0, 0, []), (682, .ireturn, 1, 0, 0, [])]
  | 683 => [(683, .aload_n 1, 0, 0, 0, []), (684, .aload_n 0, 0, 0, 0, []), (685, .iload_n 3, 0, 0, 0, []), (686, .iconst 1, 0, 0, 0, []), (687, .iadd, 0, 0, 0, []), (688, .iaload, 0, 0, 0, []), (689, .aload_n 0, 0, 0, 0, []), (690, .iload_n 3, 0, 0, 0, []), (691, .iconst 2, 0, 0, 0, []), (692, .iadd, 0, 0, 0, []), (693, .iaload, 0, 0, 0, []), (694, .invokevirtual 79, 34, 2, 0, []), (697, .aload_n 2, 0, 0, 0, []), (698, .aload_n 0, 0, 0, 0, []), (699, .iload_n 3, 0, 0, 0, []), (700, .iconst 1, 0, 0, 0, []), (701, .iadd, 0, 0, 0, []), (702, .iaload, 0, 0, 0, []), (703, .aload_n 0, 0, 0, 0, []), (704, .iload_n 3, 0, 0, 0, []), (705, .iconst 2, 0, 0, 0, []), (706, .iadd, 0, 0, 0, []), (707, .iaload, 0, 0, 0, []), (708, .invokevirtual 82, 157, 2, 7, []), (711, .if_icmp .eq 678, 1389, 0, 0, []), (714, .iconst 0, 0, 0, 0, []), (715, .ireturn, 1, 0, 0, [])]
  | 716 => [(716, .aload_n 1, 0, 0, 0, []), (717, .aload_n 0, 0, 0, 0, []), (718, .iload_n 3, 0, 0, 0, []), (719, .iconst 1, 0, 0, 0, []), (720, .iadd, 0, 0, 0, []), (721, .iaload, 0, 0, 0, []), (722, .aload_n 0, 0, 0, 0, []), (723, .iload_n 3, 0, 0, 0, []), (724, .iconst 2, 0, 0, 0, []), (725, .iadd, 0, 0, 0, []), (726, .iaload, 0, 0, 0, []), (727, .aload_n 0, 0, 0, 0, []), (728, .iload_n 3, 0, 0, 0, []), (729, .iconst 3, 0, 0, 0, []), (730, .iadd, 0, 0, 0, []), (731, .iaload, 0, 0, 0, []), (732, .invokevirtual 83, 38, 3, 0, []), (735, .aload_n 2, 0, 0, 0, []), (736, .aload_n 0, 0, 0, 0, []), (737, .iload_n 3, 0, 0, 0, []), (738, .iconst 1, 0, 0, 0, []), (739, .iadd, 0, 0, 0, []), (740, .iaload, 0, 0, 0, []), (741, .aload_n 0, 0, 0, 0, []), (742, .iload_n 3, 0, 0, 0, []), (743, .iconst 2, 0, 0, 0, []), (744, .iadd, 0, 0, 0, []), (745, .iaload, 0, 0, 0, []), (746, .aload_n 0, 0, 0, 0, []), (747, .iload_n 3, 0, 0, 0, []), (748, .iconst 3, 0, 0, 0, []), (749, .iadd, 0, 0, 0, []), (750, .iaload, 0, 0, 0, []), (751, .invokevirtual 86, 158, 3, 7, []), (754, .if_icmp .eq 635, 1389, 0, 0, []), (757, .iconst 0, 0, 0, 0, []), (758, .ireturn, 1, 0, 0, [])]
  | 759 => [(759, .aload_n 1, 0, 0, 0, []), (760, .aload_n 0, 0, 0, 0, []), (761, .iload_n 3, 0, 0, 0, []), (762, .iconst 1, 0, 0, 0, []), (763, .iadd, 0, 0, 0, []), (764, .iaload, 0, 0, 0, []), (765, .invokevirtual 87, 39, 1, 0, []), (768, .aload_n 2, 0, 0, 0, []), (769, .aload_n 0, 0, 0, 0, []), (770, .iload_n 3, 0, 0, 0, []), (771, .iconst 1, 0, 0, 0, []), (772, .iadd, 0, 0, 0, []), (773, .iaload, 0, 0, 0, []), (774, .invokevirtual 90, 159, 1, 7, []), (777, .if_icmp .eq 612, 1389, 0, 0, []), (780, .iconst 0, 0, 0, 0, []), (781, .ireturn, 1, 0, 0, [])]
  | 782 => [(782, .aload_n 1, 0, 0, 0, []), (783, .aload_n 0, 0, 0, 0, []), (784, .iload_n 3, 0, 0, 0, []), (785, .iconst 1, 0, 0, 0, []), (786, .iadd, 0, 0, 0, []), (787, .iaload, 0, 0, 0, []), (788, .aload_n 0, 0, 0, 0, []), (789, .iload_n 3, 0, 0, 0, []), (790, .iconst 2, 0, 0, 0, []), (791, .iadd, 0, 0, 0, []), (792, .iaload, 0, 0, 0, []), (793, .invokevirtual 91, 42, 2, 0, []), (796, .aload_n 2, 0, 0, 0, []), (797, .aload_n 0, 0, 0, 0, []), (798, .iload_n 3, 0, 0, 0, []), (799, .iconst 1, 0, 0, 0, []), (800, .iadd, 0, 0, 0, []), (801, .iaload, 0, 0, 0, []), (802, .aload_n 0, 0, 0, 0, []), (803, .iload_n 3, 0, 0, 0, []), (804, .iconst 2, 0, 0, 0, []), (805, .iadd, 0, 0, 0, []), (806, .iaload, 0, 0, 0, []), (807, .invokevirtual 94, 162, 2, 7, []), (810, .if_icmp .eq 579, 1389, 0, 0, []), (813, .iconst 0, 0, 0, 0, []), (814, .ireturn, 1, 0, 0, [])]
  | 815 => [(815, .aload_n 1, 0, 0, 0, []), (816, .aload_n 0, 0, 0, 0, []), (817, .iload_n 3, 0, 0, 0, []), (818, .iconst 1, 0, 0, 0, []), (819, .iadd, 0, 0, 0, []), (820, .iaload, 0, 0, 0, []), (821, .aload_n 0, 0, 0, 0, []), (822, .iload_n 3, 0, 0, 0, []), (823, .iconst 2, 0, 0, 0, []), (824, .iadd, 0, 0, 0, []), (825, .iaload, 0, 0, 0, []), (826, .aload_n 0, 0, 0, 0, []), (827, .iload_n 3, 0, 0, 0, []), (828, .iconst 3, 0, 0, 0, []), (829, .iadd, 0, 0, 0, []), (830, .iaload, 0, 0, 0, []), (831, .invokevirtual 95, 43, 3, 0, []), (834, .aload_n 2, 0, 0, 0, []), (835, .aload_n 0, 0, 0, 0, []), (836, .iload_n 3, 0, 0, 0, []), (837, .iconst 1, 0, 0, 0, []), (838, .iadd, 0, 0, 0, []), (839, .iaload, 0, 0, 0, []), (840, .aload_n 0, 0, 0, 0, []), (841, .iload_n 3, 0, 0, 0, []), (842, .iconst 2, 0, 0, 0, []), (843, .iadd, 0, 0, 0, []), (844, .iaload, 0, 0, 0, []), (845, .aload_n 0, 0, 0, 0, []), (846, .iload_n 3, 0, 0, 0, []), (847, .iconst 3, 0, 0, 0, []), (848, .iadd, 0, 0, 0, []), (849, .iaload, 0, 0, 0, []), (850, .invokevirtual 99, 163, 3, 7, []), (853, .lcmp, 0, 0, 0, []), (854, .ifCond .eq 535, 1389, 0, 0, []), (857, .iconst 0, 0, 0, 0, []), (858, .ireturn, 1, 0, 0, [])]
  | 859 => [(859, .aload_n 1, 0, 0, 0, []), (860, .aload_n 0, 0, 0, 0, []), (861, .iload_n 3, 0, 0, 0, []), (862, .iconst 1, 0, 0, 0, []), (863, .iadd, 0, 0, 0, []), (864, .iaload, 0, 0, 0, []), (865, .aload_n 0, 0, 0, 0, []), (866, .iload_n 3, 0, 0, 0, []), (867, .iconst 2, 0, 0, 0, []), (868, .iadd, 0, 0, 0, []), (869, .iaload, 0, 0, 0, []), (870, .invokevirtual 100, 46, 2, 0, []), (873, .aload_n 2, 0, 0, 0, []), (874, .aload_n 0, 0, 0, 0, []), (875, .iload_n 3, 0, 0, 0, []), (876, .iconst 1, 0, 0, 0, []), (877, .iadd, 0, 0, 0, []), (878, .iaload, 0, 0, 0, []), (879, .aload_n 0, 0, 0, 0, []), (880, .iload_n 3, 0, 0, 0, []), (881, .iconst 2, 0, 0, 0, []), (882, .iadd, 0, 0, 0, []), (883, .iaload, 0, 0, 0, []), (884, .invokevirtual 104, 165, 2, 7, []), (887, .lcmp, 0, 0, 0, []), (888, .ifCond .eq 501, 1389, 0, 0, []), (891, .iconst 0, 0, 0, 0, []), (892, .ireturn, 1, 0, 0, [])]
  | 893 => [(893, .aload_n 1, 0, 0, 0, []), (894, .aload_n 0, 0, 0, 0, []), (895, .iload_n 3, 0, 0, 0, []), (896, .iconst 1, 0, 0, 0, []), (897, .iadd, 0, 0, 0, []), (898, .iaload, 0, 0, 0, []), (899, .aload_n 0, 0, 0, 0, []), (900, .iload_n 3, 0, 0, 0, []), (901, .iconst 2, 0, 0, 0, []), (902, .iadd, 0, 0, 0, []), (903, .iaload, 0, 0, 0, []), (904, .invokevirtual 105, 47, 2, 0, []), (907, .aload_n 2, 0, 0, 0, []), (908, .aload_n 0, 0, 0, 0, []), (909, .iload_n 3, 0, 0, 0, []), (910, .iconst 1, 0, 0, 0, []), (911, .iadd, 0, 0, 0, []), (912, .iaload, 0, 0, 0, []), (913, .aload_n 0, 0, 0, 0, []), (914, .iload_n 3, 0, 0, 0, []), (915, .iconst 2, 0, 0, 0, []), (916, .iadd, 0, 0, 0, []), (917, .iaload, 0, 0, 0, []), (918, .invokevirtual 108, 166, 2, 7, []), (921, .if_icmp .eq 468, 1389, 0, 0, []), (924, .iconst 0, 0, 0, 0, []), (925, .ireturn, 1, 0, 0, [])]
  | 926 => [(926, .aload_n 1, 0, 0, 0, []), (927, .aload_n 0, 0, 0, 0, []), (928, .iload_n 3, 0, 0, 0, []), (929, .iconst 1, 0, 0, 0, []), (930, .iadd, 0, 0, 0, []), (931, .iaload, 0, 0, 0, []), (932, .invokevirtual 109, 49, 1, 0, []), (935, .aload_n 2, 0, 0, 0, []), (936, .aload_n 0, 0, 0, 0, []), (937, .iload_n 3, 0, 0, 0, []), (938, .iconst 1, 0, 0, 0, []), (939, .iadd, 0, 0, 0, []), (940, .iaload, 0, 0, 0, []), (941, .invokevirtual 112, 167, 1, 7, []), (944, .if_icmp .eq 445, 1389, 0, 0, []), (947, .iconst 0, 0, 0, 0, []), (948, .ireturn, 1, 0, 0, [])]
  | 949 => [(949, .aload_n 1, 0, 0, 0, []), (950, .aload_n 0, 0, 0, 0, []), (951, .iload_n 3, 0, 0, 0, []), (952, .iconst 1, 0, 0, 0, []), (953, .iadd, 0, 0, 0, []), (954, .iaload, 0, 0, 0, []), (955, .aload_n 0, 0, 0, 0, []), (956, .iload_n 3, 0, 0, 0, []), (957, .iconst 2, 0, 0, 0, []), (958, .iadd, 0, 0, 0, []), (959, .iaload, 0, 0, 0, []), (960, .invokevirtual 113, 51, 2, 0, []), (963, .aload_n 2, 0, 0, 0, []), (964, .aload_n 0, 0, 0, 0, []), (965, .iload_n 3, 0, 0, 0, []), (966, .iconst 1, 0, 0, 0, []), (967, .iadd, 0, 0, 0, []), (968, .iaload, 0, 0, 0, []), (969, .aload_n 0, 0, 0, 0, []), (970, .iload_n 3, 0, 0, 0, []), (971, .iconst 2, 0, 0, 0, []), (972, .iadd, 0, 0, 0, []), (973, .iaload, 0, 0, 0, []), (974, .invokevirtual 116, 168, 2, 7, []), (977, .if_icmp .eq 412, 1389, 0, 0, []), (980, .iconst 0, 0, 0, 0, []), (981, .ireturn, 1, 0, 0, [])]
  | 982 => [(982, .aload_n 1, 0, 0, 0, []), (983, .invokevirtual 117, 52, 0, 0, []), (986, .aload_n 2, 0, 0, 0, []), (987, .invokevirtual 120, 169, 0, 7, []), (990, .if_icmp .eq 399, 1389, 0, 0, []), (993, .iconst 0, 0, 0, 0, []), (994, .ireturn, 1, 0, 0, [])]
  | 995 => [(995, .aload_n 1, 0, 0, 0, []), (996, .aload_n 0, 0, 0, 0, []), (997, .iload_n 3, 0, 0, 0, []), (998, .iconst 1, 0, 0, 0, []), (999, .iadd, 0, 0, 0, []), (1000, .iaload, 0, 0, 0, []), (1001, .aload_n 0, 0, 0, 0, []), (1002, .iload_n 3, 0, 0, 0, []), (1003, .iconst 2, 0, 0, 0, []), (1004, .iadd, 0, 0, 0, []), (1005, .iaload, 0, 0, 0, []), (1006, .invokevirtual 121, 53, 2, 0, []), (1009, .aload_n 2, 0, 0, 0, []), (1010, .aload_n 0, 0, 0, 0, []), (1011, .iload_n 3, 0, 0, 0, []), (1012, .iconst 1, 0, 0, 0, []), (1013, .iadd, 0, 0, 0, []), (1014, .iaload, 0, 0, 0, []), (1015, .aload_n 0, 0, 0, 0, []), (1016, .iload_n 3, 0, 0, 0, []), (1017, .iconst 2, 0, 0, 0, []), (1018, .iadd, 0, 0, 0, []), (1019, .iaload, 0, 0, 0, []), (1020, .invokevirtual 124, 182, 2, 7, []), (1023, .if_icmp .eq 366, 1389, 0, 0, []), (1026, .iconst 0, 0, 0, 0, []), (1027, .ireturn, 1, 0, 0, [])]
  | 1028 => [(1028, .aload_n 1, 0, 0, 0, []), (1029, .invokevirtual 125, 56, 0, 0, []), (1032, .aload_n 2, 0, 0, 0, []), (1033, .invokevirtual 128, 102, 0, 7, []), (1036, .if_icmp .eq 353, 1389, 0, 0, []), (1039, .iconst 0, 0, 0, 0, []), (1040, .ireturn, 1, 0, 0, [])]
  | 1041 => [(1041, .aload_n 1, 0, 0, 0, []), (1042, .invokevirtual 129, 57, 0, 0, []), (1045, .aload_n 2, 0, 0, 0, []), (1046, .invokevirtual 132, 103, 0, 7, []), (1049, .if_icmp .eq 340, 1389, 0, 0, []), (1052, .iconst 0, 0, 0, 0, []), (1053, .ireturn, 1, 0, 0, [])]
  | 1054 => [(1054, .aload_n 1, 0, 0, 0, []), (1055, .aload_n 0, 0, 0, 0, []), (1056, .iload_n 3, 0, 0, 0, []), (1057, .iconst 1, 0, 0, 0, []), (1058, .iadd, 0, 0, 0, []), (1059, .iaload, 0, 0, 0, []), (1060, .aload_n 0, 0, 0, 0, []), (1061, .iload_n 3, 0, 0, 0, []), (1062, .iconst 2, 0, 0, 0, []), (1063, .iadd, 0, 0, 0, []), (1064, .iaload, 0, 0, 0, []), (1065, .aload_n 0, 0, 0, 0, []), (1066, .iload_n 3, 0, 0, 0, []), (1067, .iconst 3, 0, 0, 0, []), (1068, .iadd, 0, 0, 0, []), (1069, .iaload, 0, 0, 0, []), (1070, .invokevirtual 133, 58, 3, 0, []), (1073, .aload_n 2, 0, 0, 0, []), (1074, .aload_n 0, 0, 0, 0, []), (1075, .iload_n 3, 0, 0, 0, []), (1076, .iconst 1, 0, 0, 0, []), (1077, .iadd, 0, 0, 0, []), (1078, .iaload, 0, 0, 0, []), (1079, .aload_n 0, 0, 0, 0, []), (1080, .iload_n 3, 0, 0, 0, []), (1081, .iconst 2, 0, 0, 0, []), (1082, .iadd, 0, 0, 0, []), (1083, .iaload, 0, 0, 0, []), (1084, .aload_n 0, 0, 0, 0, []), (1085, .iload_n 3, 0, 0, 0, []), (1086, .iconst 3, 0, 0, 0, []), (1087, .iadd, 0, 0, 0, []), (1088, .iaload, 0, 0, 0, []), (1089, .invokevirtual 136, 170, 3, 7, []), (1092, .if_icmp .eq 297, 1389, 0, 0, []), (1095, .iconst 0, 0, 0, 0, []), (1096, .ireturn, 1, 0, 0, [])]
  | 1097 => [(1097, .aload_n 1, 0, 0, 0, []), (1098, .aload_n 0, 0, 0, 0, []), (1099, .iload_n 3, 0, 0, 0, []), (1100, .iconst 1, 0, 0, 0, []), (1101, .iadd, 0, 0, 0, []), (1102, .iaload, 0, 0, 0, []), (1103, .invokevirtual 137, 59, 1, 0, []), (1106, .aload_n 2, 0, 0, 0, []), (1107, .aload_n 0, 0, 0, 0, []), (1108, .iload_n 3, 0, 0, 0, []), (1109, .iconst 1, 0, 0, 0, []), (1110, .iadd, 0, 0, 0, []), (1111, .iaload, 0, 0, 0, []), (1112, .invokevirtual 140, 174, 1, 7, []), (1115, .if_icmp .eq 274, 1389, 0, 0, []), (1118, .iconst 0, 0, 0, 0, []), (1119, .ireturn, 1, 0, 0, [])]
  | 1120 => [(1120, .aload_n 1, 0, 0, 0, []), (1121, .aload_n 0, 0, 0, 0, []), (1122, .iload_n 3, 0, 0, 0, []), (1123, .iconst 1, 0, 0, 0, []), (1124, .iadd, 0, 0, 0, []), (1125, .iaload, 0, 0, 0, []), (1126, .aload_n 0, 0, 0, 0, []), (1127, .iload_n 3, 0, 0, 0, []), (1128, .iconst 2, 0, 0, 0, []), (1129, .iadd, 0, 0, 0, []), (1130, .iaload, 0, 0, 0, []), (1131, .invokevirtual 141, 60, 2, 0, []), (1134, .aload_n 2, 0, 0, 0, []), (1135, .aload_n 0, 0, 0, 0, []), (1136, .iload_n 3, 0, 0, 0, []), (1137, .iconst 1, 0, 0, 0, []), (1138, .iadd, 0, 0, 0, []), (1139, .iaload, 0, 0, 0, []), (1140, .aload_n 0, 0, 0, 0, []), (1141, .iload_n 3, 0, 0, 0, []), (1142, .iconst 2, 0, 0, 0, []), (1143, .iadd, 0, 0, 0, []), (1144, .iaload, 0, 0, 0, []), (1145, .invokevirtual 144, 175, 2, 7, []), (1148, .if_icmp .eq 241, 1389, 0, 0, []), (1151, .iconst 0, 0, 0, 0, []), (1152, .ireturn, 1, 0, 0, [])]
  | 1153 => [(1153, .aload_n 1, 0, 0, 0, []), (1154, .aload_n 0, 0, 0, 0, []), (1155, .iload_n 3, 0, 0, 0, []), (1156, .iconst 1, 0, 0, 0, []), (1157, .iadd, 0, 0, 0, []), (1158, .iaload, 0, 0, 0, []), (1159, .invokevirtual 145, 62, 1, 0, []), (1162, .aload_n 2, 0, 0, 0, []), (1163, .aload_n 0, 0, 0, 0, []), (1164, .iload_n 3, 0, 0, 0, []), (1165, .iconst 1, 0, 0, 0, []), (1166, .iadd, 0, 0, 0, []), (1167, .iaload, 0, 0, 0, []), (1168, .invokevirtual 148, 176, 1, 7, []), (1171, .if_icmp .eq 218, 1389, 0, 0, []), (1174, .iconst 0, 0, 0, 0, []), (1175, .ireturn, 1, 0, 0, [])]
  | 1176 => [(1176, .aload_n 1, 0, 0, 0, []), (1177, .aload_n 0, 0, 0, 0, []), (1178, .iload_n 3, 0, 0, 0, []), (1179, .iconst 1, 0, 0, 0, []), (1180, .iadd, 0, 0, 0, []), (1181, .iaload, 0, 0, 0, []), (1182, .aload_n 0, 0, 0, 0, []), (1183, .iload_n 3, 0, 0, 0, []), (1184, .iconst 2, 0, 0, 0, []), (1185, .iadd, 0, 0, 0, []), (1186, .iaload, 0, 0, 0, []), (1187, .aload_n 0, 0, 0, 0, []), (1188, .iload_n 3, 0, 0, 0, []), (1189, .iconst 3, 0, 0, 0, []), (1190, .iadd, 0, 0, 0, []), (1191, .iaload, 0, 0, 0, []), (1192, .invokevirtual 149, 63, 3, 0, []), (1195, .aload_n 2, 0, 0, 0, []), (1196, .aload_n 0, 0, 0, 0, []), (1197, .iload_n 3, 0, 0, 0, []), (1198, .iconst 1, 0, 0, 0, []), (1199, .iadd, 0, 0, 0, []), (1200, .iaload, 0, 0, 0, []), (1201, .aload_n 0, 0, 0, 0, []), (1202, .iload_n 3, 0, 0, 0, []), (1203, .iconst 2, 0, 0, 0, []), (1204, .iadd, 0, 0, 0, []), (1205, .iaload, 0, 0, 0, []), (1206, .aload_n 0, 0, 0, 0, []), (1207, .iload_n 3, 0, 0, 0, []), (1208, .iconst 3, 0, 0, 0, []), (1209, .iadd, 0, 0, 0, []), (1210, .iaload, 0, 0, 0, []), (1211, .invokevirtual 152, 177, 3, 7, []), (1214, .if_icmp .eq 175, 1389, 0, 0, []), (1217, .iconst 0, 0, 0, 0, []), (1218, .ireturn, 1, 0, 0, [])]
  | 1219 => [(1219, .aload_n 1, 0, 0, 0, []), (1220, .aload_n 0, 0, 0, 0, []), (1221, .iload_n 3, 0, 0, 0, []), (1222, .iconst 1, 0, 0, 0, []), (1223, .iadd, 0, 0, 0, []), (1224, .iaload, 0, 0, 0, []), (1225, .aload_n 0, 0, 0, 0, []), (1226, .iload_n 3, 0, 0, 0, []), (1227, .iconst 2, 0, 0, 0, []), (1228, .iadd, 0, 0, 0, []), (1229, .iaload, 0, 0, 0, []), (1230, .aload_n 0, 0, 0, 0, []), (1231, .iload_n 3, 0, 0, 0, []), (1232, .iconst 3, 0, 0, 0, []), (1233, .iadd, 0, 0, 0, []), (1234, .iaload, 0, 0, 0, []), (1235, .i2l, 0, 0, 0, []), (1236, .bipush 32, 0, 0, 0, []), (1238, .lshl, 0, 0, 0, []), (1239, .aload_n 0, 0, 0, 0, []), (1240, .iload_n 3, 0, 0, 0, []), (1241, .iconst 4, 0, 0, 0, []), (1242, .iadd, 0, 0, 0, []), (1243, .iaload, 0, 0, 0, []), (1244, .i2l, 0, 0, 0, []), (1245, .ldc2_w 153, 0, 4294967295, 0, []), (1248, .land, 0, 0, 0, []), (1249, .lor, 0, 0, 0, []), (1250, .invokevirtual 155, 65, 3, 0, []), (1253, .aload_n 2, 0, 0, 0, []), (1254, .aload_n 0, 0, 0, 0, []), (1255, .iload_n 3, 0, 0, 0, []), (1256, .iconst 1, 0, 0, 0, []), (1257, .iadd, 0, 0, 0, []), (1258, .iaload, 0, 0, 0, []), (1259, .aload_n 0, 0, 0, 0, []), (1260, .iload_n 3, 0, 0, 0, []), (1261, .iconst 2, 0, 0, 0, []), (1262, .iadd, 0, 0, 0, []), (1263, .iaload, 0, 0, 0, []), (1264, .aload_n 0, 0, 0, 0, []), (1265, .iload_n 3, 0, 0, 0, []), (1266, .iconst 3, 0, 0, 0, []), (1267, .iadd, 0, 0, 0, []), (1268, .iaload, 0, 0, 0, []), (1269, .i2l, 0, 0, 0, []), (1270, .bipush 32, 0, 0, 0, []), (1272, .lshl, 0, 0, 0, []), (1273, .aload_n 0, 0, 0, 0, []), (1274, .iload_n 3, 0, 0, 0, []), (1275, .iconst 4, 0, 0, 0, []), (1276, .iadd, 0, 0, 0, []), (1277, .iaload, 0, 0, 0, []), (1278, .i2l, 0, 0, 0, []), (1279, .ldc2_w 153, 0, 4294967295, 0, []), (1282, .land, 0, 0, 0, []), (1283, .lor, 0, 0, 0, []), (1284, .invokevirtual 159, 179, 3, 7, []), (1287, .if_icmp .eq 102, 1389, 0, 0, []), (1290, .iconst 0, 0, 0, 0, []), (1291, .ireturn, 1, 0, 0, [])]
  | 1292 => [(1292, .aload_n 1, 0, 0, 0, []), (1293, .aload_n 0, 0, 0, 0, []), (1294, .iload_n 3, 0, 0, 0, []), (1295, .iconst 1, 0, 0, 0, []), (1296, .iadd, 0, 0, 0, []), (1297, .iaload, 0, 0, 0, []), (1298, .aload_n 0, 0, 0, 0, []), (1299, .iload_n 3, 0, 0, 0, []), (1300, .iconst 2, 0, 0, 0, []), (1301, .iadd, 0, 0, 0, []), (1302, .iaload, 0, 0, 0, []), (1303, .invokevirtual 160, 66, 2, 0, []), (1306, .aload_n 2, 0, 0, 0, []), (1307, .aload_n 0, 0, 0, 0, []), (1308, .iload_n 3, 0, 0, 0, []), (1309, .iconst 1, 0, 0, 0, []), (1310, .iadd, 0, 0, 0, []), (1311, .iaload, 0, 0, 0, []), (1312, .aload_n 0, 0, 0, 0, []), (1313, .iload_n 3, 0, 0, 0, []), (1314, .iconst 2, 0, 0, 0, []), (1315, .iadd, 0, 0, 0, []), (1316, .iaload, 0, 0, 0, []), (1317, .invokevirtual 163, 180, 2, 7, []), (1320, .lcmp, 0, 0, 0, []), (1321, .ifCond .eq 68, 1389, 0, 0, []), (1324, .iconst 0, 0, 0, 0, []), (1325, .ireturn, 1, 0, 0, [])]
  | 1326 => [(1326, .aload_n 1, 0, 0, 0, []), (1327, .aload_n 0, 0, 0, 0, []), (1328, .iload_n 3, 0, 0, 0, []), (1329, .iconst 1, 0, 0, 0, []), (1330, .iadd, 0, 0, 0, []), (1331, .iaload, 0, 0, 0, []), (1332, .aload_n 0, 0, 0, 0, []), (1333, .iload_n 3, 0, 0, 0, []), (1334, .iconst 2, 0, 0, 0, []), (1335, .iadd, 0, 0, 0, []), (1336, .iaload, 0, 0, 0, []), (1337, .aload_n 0, 0, 0, 0, []), (1338, .iload_n 3, 0, 0, 0, []), (1339, .iconst 3, 0, 0, 0, []), (1340, .iadd, 0, 0, 0, []), (1341, .iaload, 0, 0, 0, []), (1342, .aload_n 0, 0, 0, 0, []), (1343, .iload_n 3, 0, 0, 0, []), (1344, .iconst 4, 0, 0, 0, []), (1345, .iadd, 0, 0, 0, []), (1346, .iaload, 0, 0, 0, []), (1347, .aload_n 0, 0, 0, 0, []), (1348, .iload_n 3, 0, 0, 0, []), (1349, .iconst 5, 0, 0, 0, []), (1350, .iadd, 0, 0, 0, []), (1351, .iaload, 0, 0, 0, []), (1352, .invokevirtual 164, 67, 5, 0, []), (1355, .aload_n 2, 0, 0, 0, []), (1356, .aload_n 0, 0, 0, 0, []), (1357, .iload_n 3, 0, 0, 0, []), (1358, .iconst 1, 0, 0, 0, []), (1359, .iadd, 0, 0, 0, []), (1360, .iaload, 0, 0, 0, []), (1361, .aload_n 0, 0, 0, 0, []), (1362, .iload_n 3, 0, 0, 0, []), (1363, .iconst 2, 0, 0, 0, []), (1364, .iadd, 0, 0, 0, []), (1365, .iaload, 0, 0, 0, []), (1366, .aload_n 0, 0, 0, 0, []), (1367, .iload_n 3, 0, 0, 0, []), (1368, .iconst 3, 0, 0, 0, []), (1369, .iadd, 0, 0, 0, []), (1370, .iaload, 0, 0, 0, []), (1371, .aload_n 0, 0, 0, 0, []), (1372, .iload_n 3, 0, 0, 0, []), (1373, .iconst 4, 0, 0, 0, []), (1374, .iadd, 0, 0, 0, []), (1375, .iaload, 0, 0, 0, []), (1376, .aload_n 0, 0, 0, 0, []), (1377, .iload_n 3, 0, 0, 0, []), (1378, .iconst 5, 0, 0, 0, []), (1379, .iadd, 0, 0, 0, []), (1380, .iaload, 0, 0, 0, []), (1381, .invokevirtual 168, 181, 5, 7, []), (1384, .if_icmp .eq 5, 1389, 0, 0, []), (1387, .iconst 0, 0, 0, 0, []), (1388, .ireturn, 1, 0, 0, [])]
  | 1389 => [(1389, .iinc 3 6, 0, 0, 0, []), (1392, .goto (-1374), 18, 0, 0, [])]
  | 1395 => [(1395, .iconst 1, 0, 0, 0, []), (1396, .ireturn, 1, 0, 0, [])]
  | _ => []
/-- java/util/AbstractCollection.<init>()V -/
def gp_j0_init (l : Nat) : List gI := match l with
  | 0 => [(0, .aload_n 0, 0, 0, 0, []), (1, .invokespecial 1, 0, 0, 1, []), (4, .return_, 0, 0, 0, [])]
  | _ => []
/-- java/util/AbstractList.<init>()V -/
def gp_j1_init (l : Nat) : List gI := match l with
  | 0 => [(0, .aload_n 0, 0, 0, 0, []), (1, .invokespecial 1, 400, 0, 0, []), (4, .aload_n 0, 0, 0, 0, []), (5, .iconst 0, 0, 0, 0, []), (6, .putfield 7, 0, 3, 0, []), (9, .return_, 0, 0, 0, [])]
  | _ => []
/-- jdk/internal/util/ArraysSupport.newLength(III)I -/
def gp_j11_newLength (l : Nat) : List gI := match l with
  | 0 => [(0, .iload_n 0, 0, 0, 0, []), (1, .iload_n 1, 0, 0, 0, []), (2, .iload_n 2, 0, 0, 0, []), (3, .invokestatic 194, 0, 0, 2, []), (6, .iadd, 0, 0, 0, []), (7, .istore_n 3, 0, 0, 0, []), (8, .iconst 0, 0, 0, 0, []), (9, .iload_n 3, 0, 0, 0, []), (10, .if_icmp .ge 11, 21, 0, 0, []), (13, .iload_n 3, 0, 0, 0, []), (14, .ldc 200, 0, 2147483639, 0, []), (16, .if_icmp .gt 5, 21, 0, 0, []), (19, .iload_n 3, 0, 0, 0, []), (20, .ireturn, 0, 0, 0, [])]
  | 21 => [(21, .iload_n 0, 0, 0, 0, []), (22, .iload_n 1, 0, 0, 0, [])]
  | _ => []
/-- java/util/Arrays.copyOf([Ljava/lang/Object;I)[Ljava/lang/Object; -/
def gp_j13_copyOf (l : Nat) : List gI := match l with
  | 0 => [(0, .aload_n 0, 0, 0, 0, []), (1, .iload_n 1, 0, 0, 0, []), (2, .aload_n 0, 0, 0, 0, []), (3, .invokevirtual 86, 0, 0, 1000, []), (6, .invokestatic 300, 404, 3, 0, []), (9, .areturn, 0, 0, 0, [])]
  | _ => []
/-- java/util/Arrays.copyOf([Ljava/lang/Object;ILjava/lang/Class;)[Ljava/lang/Object; -/
def gp_j13_copyOf_2 (l : Nat) : List gI := match l with
  | 0 => [(0, .aload_n 2, 0, 0, 0, []), (1, .ldc 110, 2, 0, 0, []), (3, .if_acmp .ne 10, 13, 0, 0, []), (6, .iload_n 1, 0, 0, 0, []), (7, .anewarray 2, 2, 0, 0, []), (10, .goto 14, 24, 0, 0, [])]
  | 13 => [(13, .aload_n 2, 0, 0, 0, [])]
  | 24 => [(24, .astore_n 3, 0, 0, 0, []), (25, .aload_n 0, 0, 0, 0, []), (26, .iconst 0, 0, 0, 0, []), (27, .aload_n 3, 0, 0, 0, []), (28, .iconst 0, 0, 0, 0, []), (29, .aload_n 0, 0, 0, 0, []), (30, .arraylength, 0, 0, 0, []), (31, .iload_n 1, 0, 0, 0, []), (32, .invokestatic 304, 0, 0, 3, []), (35, .invokestatic 150, 0, 0, 1, []), (38, .aload_n 3, 0, 0, 0, []), (39, .areturn, 0, 0, 0, [])]
  | _ => []
/-- java/util/ArrayList.<init>()V -/
def gp_j2_init (l : Nat) : List gI := match l with
  | 0 => [(0, .aload_n 0, 0, 0, 0, []), (1, .invokespecial 1, 401, 0, 0, []), (4, .aload_n 0, 0, 0, 0, []), (5, .getstatic 39, 0, 0, 0, []), (8, .putfield 9, 1, 3, 2, []), (11, .return_, 0, 0, 0, [])]
  | _ => []
/-- java/util/ArrayList.size()I -/
def gp_j2_size (l : Nat) : List gI := match l with
  | 0 => [(0, .aload_n 0, 0, 0, 0, []), (1, .getfield 48, 2, 3, 0, []), (4, .ireturn, 0, 0, 0, [])]
  | _ => []
/-- java/util/ArrayList.get(I)Ljava/lang/Object; -/
def gp_j2_get (l : Nat) : List gI := match l with
  | 0 => [(0, .iload_n 1, 0, 0, 0, []), (1, .aload_n 0, 0, 0, 0, []), (2, .getfield 48, 2, 3, 0, []), (5, .invokestatic 118, 413, 2, 0, []), (8, .pop, 0, 0, 0, []), (9, .aload_n 0, 0, 0, 0, []), (10, .iload_n 1, 0, 0, 0, []), (11, .invokevirtual 123, 408, 1, 3, []), (14, .areturn, 0, 0, 0, [])]
  | _ => []
/-- java/util/ArrayList.elementData(I)Ljava/lang/Object; -/
def gp_j2_elementData (l : Nat) : List gI := match l with
  | 0 => [(0, .aload_n 0, 0, 0, 0, []), (1, .getfield 9, 1, 3, 2, []), (4, .iload_n 1, 0, 0, 0, []), (5, .aaload, 0, 0, 0, []), (6, .areturn, 0, 0, 0, [])]
  | _ => []
/-- java/util/ArrayList.add(Ljava/lang/Object;)Z -/
def gp_j2_add (l : Nat) : List gI := match l with
  | 0 => [(0, .aload_n 0, 0, 0, 0, []), (1, .dup, 0, 0, 0, []), (2, .getfield 63, 0, 3, 0, []), (5, .iconst 1, 0, 0, 0, []), (6, .iadd, 0, 0, 0, []), (7, .putfield 63, 0, 3, 0, []), (10, .aload_n 0, 0, 0, 0, []), (11, .aload_n 1, 0, 0, 0, []), (12, .aload_n 0, 0, 0, 0, []), (13, .getfield 9, 1, 3, 2, []), (16, .aload_n 0, 0, 0, 0, []), (17, .getfield 48, 2, 3, 0, []), (20, .invokevirtual 131, 410, 3, 3, []), (23, .iconst 1, 0, 0, 0, []), (24, .ireturn, 1, 0, 0, [])]
  | _ => []
/-- java/util/ArrayList.add(Ljava/lang/Object;[Ljava/lang/Object;I)V -/
def gp_j2_add_2 (l : Nat) : List gI := match l with
  | 0 => [(0, .iload_n 3, 0, 0, 0, []), (1, .aload_n 2, 0, 0, 0, []), (2, .arraylength, 0, 0, 0, []), (3, .if_icmp .ne 8, 11, 0, 0, []), (6, .aload_n 0, 0, 0, 0, []), (7, .invokevirtual 129, 411, 0, 3, []), (10, .astore_n 2, 0, 0, 0, []), (11, .nop, 11, 0, 0, [])]
  | 11 => [(11, .aload_n 2, 0, 0, 0, []), (12, .iload_n 3, 0, 0, 0, []), (13, .aload_n 1, 0, 0, 0, []), (14, .aastore, 0, 0, 0, []), (15, .aload_n 0, 0, 0, 0, []), (16, .iload_n 3, 0, 0, 0, []), (17, .iconst 1, 0, 0, 0, []), (18, .iadd, 0, 0, 0, []), (19, .putfield 48, 2, 3, 0, []), (22, .return_, 0, 0, 0, [])]
  | _ => []
/-- java/util/ArrayList.grow()[Ljava/lang/Object; -/
def gp_j2_grow (l : Nat) : List gI := match l with
  | 0 => [(0, .aload_n 0, 0, 0, 0, []), (1, .aload_n 0, 0, 0, 0, []), (2, .getfield 48, 2, 3, 0, []), (5, .iconst 1, 0, 0, 0, []), (6, .iadd, 0, 0, 0, []), (7, .invokevirtual 69, 412, 1, 3, []), (10, .areturn, 0, 0, 0, [])]
  | _ => []
/-- java/util/ArrayList.grow(I)[Ljava/lang/Object; -/
def gp_j2_grow_2 (l : Nat) : List gI := match l with
  | 0 => [(0, .aload_n 0, 0, 0, 0, []), (1, .getfield 9, 1, 3, 2, []), (4, .arraylength, 0, 0, 0, []), (5, .istore_n 2, 0, 0, 0, []), (6, .iload_n 2, 0, 0, 0, []), (7, .ifCond .gt 13, 20, 0, 0, []), (10, .aload_n 0, 0, 0, 0, []), (11, .getfield 9, 1, 3, 2, []), (14, .getstatic 39, 0, 0, 0, []), (17, .if_acmp .eq 28, 45, 0, 0, []), (20, .nop, 20, 0, 0, [])]
  | 20 => [(20, .iload_n 2, 0, 0, 0, []), (21, .iload_n 1, 0, 0, 0, []), (22, .iload_n 2, 0, 0, 0, []), (23, .isub, 0, 0, 0, []), (24, .iload_n 2, 0, 0, 0, []), (25, .iconst 1, 0, 0, 0, []), (26, .ishr, 0, 0, 0, []), (27, .invokestatic 73, 402, 3, 0, []), (30, .istore_n 3, 0, 0, 0, []), (31, .aload_n 0, 0, 0, 0, []), (32, .aload_n 0, 0, 0, 0, []), (33, .getfield 9, 1, 3, 2, []), (36, .iload_n 3, 0, 0, 0, []), (37, .invokestatic 66, 403, 2, 0, []), (40, .dup_x1, 0, 0, 0, []), (41, .putfield 9, 1, 3, 2, []), (44, .areturn, 0, 0, 0, [])]
  | 45 => [(45, .aload_n 0, 0, 0, 0, []), (46, .bipush 10, 0, 0, 0, []), (48, .iload_n 1, 0, 0, 0, []), (49, .invokestatic 79, 0, 0, 2, []), (52, .anewarray 7, 2, 0, 0, []), (55, .dup_x1, 0, 0, 0, []), (56, .putfield 9, 1, 3, 2, []), (59, .areturn, 0, 0, 0, [])]
  | _ => []
/-- java/util/Objects.checkIndex(II)I -/
def gp_j3_checkIndex (l : Nat) : List gI := match l with
  | 0 => [(0, .iload_n 0, 0, 0, 0, []), (1, .iload_n 1, 0, 0, 0, []), (2, .aconst_null, 0, 0, 0, []), (3, .invokestatic 105, 414, 3, 0, []), (6, .ireturn, 0, 0, 0, [])]
  | _ => []
/-- jdk/internal/util/Preconditions.checkIndex(IILjava/util/function/BiFunction;)I -/
def gp_j4_checkIndex (l : Nat) : List gI := match l with
  | 0 => [(0, .iload_n 0, 0, 0, 0, []), (1, .ifCond .lt 8, 9, 0, 0, []), (4, .iload_n 0, 0, 0, 0, []), (5, .iload_n 1, 0, 0, 0, []), (6, .if_icmp .lt 10, 16, 0, 0, []), (9, .nop, 9, 0, 0, [])]
  | 9 => [(9, .aload_n 2, 0, 0, 0, []), (10, .iload_n 0, 0, 0, 0, []), (11, .iload_n 1, 0, 0, 0, [])]
  | 16 => [(16, .iload_n 0, 0, 0, 0, []), (17, .ireturn, 0, 0, 0, [])]
  | _ => []
/-- java/lang/String.length()I -/
def gp_j5_length (l : Nat) : List gI := match l with
  | 0 => [(0, .aload_n 0, 0, 0, 0, []), (1, .getfield 9, 0, 90, 2, []), (4, .arraylength, 0, 0, 0, []), (5, .aload_n 0, 0, 0, 0, []), (6, .invokevirtual 335, 416, 0, 90, []), (9, .ishr, 0, 0, 0, []), (10, .ireturn, 0, 0, 0, [])]
  | _ => []
/-- java/lang/String.coder()B -/
def gp_j5_coder (l : Nat) : List gI := match l with
  | 0 => [(0, .getstatic 38, 1, 0, 0, []), (3, .ifCond .eq 10, 13, 0, 0, []), (6, .aload_n 0, 0, 0, 0, []), (7, .getfield 15, 1, 90, 2, []), (10, .goto 4, 14, 0, 0, [])]
  | 13 => [(13, .iconst 1, 0, 0, 0, []), (14, .nop, 14, 0, 0, [])]
  | 14 => [(14, .ireturn, 2, 0, 0, [])]
  | _ => []
/-- java/lang/String.charAt(I)C -/
def gp_j5_charAt (l : Nat) : List gI := match l with
  | 0 => [(0, .aload_n 0, 0, 0, 0, []), (1, .invokevirtual 492, 418, 0, 90, []), (4, .ifCond .eq 12, 16, 0, 0, []), (7, .aload_n 0, 0, 0, 0, []), (8, .getfield 9, 0, 90, 2, []), (11, .iload_n 1, 0, 0, 0, []), (12, .invokestatic 495, 420, 2, 0, []), (15, .ireturn, 3, 0, 0, [])]
  | 16 => [(16, .aload_n 0, 0, 0, 0, []), (17, .getfield 9, 0, 90, 2, []), (20, .iload_n 1, 0, 0, 0, [])]
  | _ => []
/-- java/lang/String.isLatin1()Z -/
def gp_j5_isLatin1 (l : Nat) : List gI := match l with
  | 0 => [(0, .getstatic 38, 1, 0, 0, []), (3, .ifCond .eq 14, 17, 0, 0, []), (6, .aload_n 0, 0, 0, 0, []), (7, .getfield 15, 1, 90, 2, []), (10, .ifCond .ne 7, 17, 0, 0, []), (13, .iconst 1, 0, 0, 0, []), (14, .goto 4, 18, 0, 0, [])]
  | 17 => [(17, .iconst 0, 0, 0, 0, []), (18, .nop, 18, 0, 0, [])]
  | 18 => [(18, .ireturn, 1, 0, 0, [])]
  | _ => []
/-- java/lang/String.checkIndex(II)V -/
def gp_j5_checkIndex (l : Nat) : List gI := match l with
  | 0 => [(0, .iload_n 0, 0, 0, 0, []), (1, .iload_n 1, 0, 0, 0, []), (2, .getstatic 1053, 2, 0, 0, []), (5, .invokestatic 1059, 414, 3, 0, []), (8, .pop, 0, 0, 0, []), (9, .return_, 0, 0, 0, [])]
  | _ => []
/-- java/lang/StringLatin1.charAt([BI)C -/
def gp_j6_charAt (l : Nat) : List gI := match l with
  | 0 => [(0, .iload_n 1, 0, 0, 0, []), (1, .aload_n 0, 0, 0, 0, []), (2, .arraylength, 0, 0, 0, []), (3, .invokestatic 9, 419, 2, 0, []), (6, .aload_n 0, 0, 0, 0, []), (7, .iload_n 1, 0, 0, 0, []), (8, .baload, 0, 0, 0, []), (9, .sipush 255, 0, 0, 0, []), (12, .iand, 0, 0, 0, []), (13, .i2c, 0, 0, 0, []), (14, .ireturn, 3, 0, 0, [])]
  | _ => []
def gP (mi : Nat) : Nat → List gI := match mi with
  | 0 => gp_x_init
  | 1 => gp_x_gate
  | 2 => gp_x_isCourt
  | 3 => gp_x_in
  | 4 => gp_x_goose
  | 5 => gp_x_isKey
  | 6 => gp_x_gooseOf
  | 7 => gp_x_keyOf
  | 8 => gp_x_of
  | 9 => gp_x_isGoose
  | 10 => gp_x_isIn
  | 11 => gp_x_whereTo
  | 12 => gp_x_pullOf
  | 13 => gp_x_key
  | 14 => gp_x_put
  | 15 => gp_x_take
  | 16 => gp_x_grain
  | 17 => gp_x_isGrain
  | 18 => gp_x_row
  | 19 => gp_x_feed
  | 20 => gp_x_fortress
  | 21 => gp_x_pass
  | 22 => gp_x_isOn
  | 23 => gp_x_goes
  | 24 => gp_x_on
  | 25 => gp_x_tries
  | 26 => gp_x_goesOn
  | 27 => gp_x_opens
  | 28 => gp_x_isGate
  | 29 => gp_x_hoursTo
  | 30 => gp_x_way
  | 31 => gp_x_shortest
  | 32 => gp_x_wayTo
  | 33 => gp_x_bestKeys
  | 34 => gp_x_lead
  | 35 => gp_x_told
  | 36 => gp_x_shutOnes
  | 37 => gp_x_farFrom
  | 38 => gp_x_see
  | 39 => gp_x_from
  | 40 => gp_x_areAsSeen
  | 41 => gp_x_isAsSeen
  | 42 => gp_x_can
  | 43 => gp_x_odds
  | 44 => gp_x_lowest
  | 45 => gp_x_divisor
  | 46 => gp_x_mean
  | 47 => gp_x_plan
  | 48 => gp_x_isPlan
  | 49 => gp_x_ends
  | 50 => gp_x_does
  | 51 => gp_x_book
  | 52 => gp_x_looked
  | 53 => gp_x_judge
  | 54 => gp_x_isTape
  | 55 => gp_x_firstOther
  | 56 => gp_x_image
  | 57 => gp_x_undo
  | 58 => gp_x_act
  | 59 => gp_x_trace
  | 60 => gp_x_taken
  | 61 => gp_x_takenFor
  | 62 => gp_x_count
  | 63 => gp_x_tape
  | 64 => gp_x_rowOf
  | 65 => gp_x_item
  | 66 => gp_x_read
  | 67 => gp_x_shift
  | 100 => gp_m_init
  | 101 => gp_m_fresh
  | 102 => gp_m_image
  | 103 => gp_m_undo
  | 104 => gp_m_gate
  | 105 => gp_m_isCourt
  | 106 => gp_m_isIn
  | 107 => gp_m_goose
  | 108 => gp_m_of
  | 109 => gp_m_isGoose
  | 110 => gp_m_goose_2
  | 111 => gp_m_orNever
  | 112 => gp_m_goesTo
  | 113 => gp_m_pull
  | 114 => gp_m_readFor
  | 115 => gp_m_readAll
  | 116 => gp_m_clause
  | 117 => gp_m_isAt
  | 118 => gp_m_takes
  | 119 => gp_m_number
  | 120 => gp_m_isDigit
  | 121 => gp_m_any
  | 122 => gp_m_both
  | 123 => gp_m_factor
  | 124 => gp_m_test
  | 125 => gp_m_isAnother
  | 126 => gp_m_isTaken
  | 127 => gp_m_isEnd
  | 128 => gp_m_isGate
  | 129 => gp_m_end
  | 130 => gp_m_beyond
  | 131 => gp_m_key
  | 132 => gp_m_change
  | 133 => gp_m_put
  | 134 => gp_m_take
  | 135 => gp_m_grain
  | 136 => gp_m_row
  | 137 => gp_m_feed
  | 138 => gp_m_fortress
  | 139 => gp_m_told
  | 140 => gp_m_eatNow
  | 141 => gp_m_open
  | 142 => gp_m_shut
  | 143 => gp_m_keep
  | 144 => gp_m_hour
  | 145 => gp_m_lay
  | 146 => gp_m_grains
  | 147 => gp_m_far
  | 148 => gp_m_walk
  | 149 => gp_m_pass
  | 150 => gp_m_on
  | 151 => gp_m_opens
  | 152 => gp_m_soon
  | 153 => gp_m_way
  | 154 => gp_m_wayTo
  | 155 => gp_m_keys
  | 156 => gp_m_late
  | 157 => gp_m_lead
  | 158 => gp_m_see
  | 159 => gp_m_from
  | 160 => gp_m_fits
  | 161 => gp_m_isAllSeen
  | 162 => gp_m_can
  | 163 => gp_m_odds
  | 164 => gp_m_fraction
  | 165 => gp_m_mean
  | 166 => gp_m_plan
  | 167 => gp_m_ends
  | 168 => gp_m_book
  | 169 => gp_m_looked
  | 170 => gp_m_act
  | 171 => gp_m_all
  | 172 => gp_m_byKind
  | 173 => gp_m_body
  | 174 => gp_m_trace
  | 175 => gp_m_taken
  | 176 => gp_m_count
  | 177 => gp_m_tape
  | 178 => gp_m_isTape
  | 179 => gp_m_item
  | 180 => gp_m_read
  | 181 => gp_m_shift
  | 182 => gp_m_judge
  | 200 => gp_kind7
  | 201 => gp_kind8
  | 202 => gp_kind9
  | 203 => gp_kind10
  | 204 => gp_kind11
  | 205 => gp_kind12
  | 206 => gp_kind13
  | 210 => gp_feels7
  | 211 => gp_feels8
  | 212 => gp_feels9
  | 213 => gp_feels10
  | 214 => gp_feels11
  | 215 => gp_feels12
  | 216 => gp_feels13
  | 220 => gp_honks7
  | 222 => gp_honks9
  | 224 => gp_honks11
  | 226 => gp_honks13
  | 230 => gp_struts7
  | 231 => gp_struts8
  | 234 => gp_struts11
  | 236 => gp_struts13
  | 240 => gp_tells7
  | 243 => gp_tells10
  | 245 => gp_tells12
  | 250 => gp_holds18
  | 251 => gp_holds19
  | 252 => gp_holds20
  | 260 => gp_init7
  | 261 => gp_init8
  | 262 => gp_init9
  | 263 => gp_init10
  | 264 => gp_init11
  | 265 => gp_init12
  | 266 => gp_init13
  | 270 => gp_time_init
  | 271 => gp_time_isTaken
  | 272 => gp_time_isWithOther
  | 273 => gp_time_isGuard
  | 274 => gp_time_isEnd
  | 275 => gp_time_besides
  | 276 => gp_time_brings
  | 277 => gp_time_takes
  | 278 => gp_time_openOnes
  | 279 => gp_time_isOpen
  | 280 => gp_time_reached
  | 281 => gp_time_allGrain
  | 282 => gp_read_init
  | 283 => gp_read_whole
  | 284 => gp_read_clause
  | 285 => gp_read_here
  | 286 => gp_read_tested
  | 287 => gp_read_word
  | 288 => gp_read_must
  | 289 => gp_read_off
  | 290 => gp_read_number
  | 291 => gp_read_some
  | 292 => gp_read_all
  | 293 => gp_read_factor
  | 294 => gp_read_deeper
  | 295 => gp_off_init
  | 296 => gp_clause_init
  | 297 => gp_test_init
  | 298 => gp_some_init
  | 299 => gp_not_init
  | 300 => gp_fort_init
  | 301 => gp_fort_more
  | 302 => gp_against_init
  | 303 => gp_look_init
  | 304 => gp_look_of
  | 305 => gp_trace_init
  | 306 => gp_trace_ran
  | 307 => gp_tape_init
  | 308 => gp_tape_has
  | 309 => gp_tape_size
  | 390 => gp_law
  | 400 => gp_j0_init
  | 401 => gp_j1_init
  | 402 => gp_j11_newLength
  | 403 => gp_j13_copyOf
  | 404 => gp_j13_copyOf_2
  | 405 => gp_j2_init
  | 406 => gp_j2_size
  | 407 => gp_j2_get
  | 408 => gp_j2_elementData
  | 409 => gp_j2_add
  | 410 => gp_j2_add_2
  | 411 => gp_j2_grow
  | 412 => gp_j2_grow_2
  | 413 => gp_j3_checkIndex
  | 414 => gp_j4_checkIndex
  | 415 => gp_j5_length
  | 416 => gp_j5_coder
  | 417 => gp_j5_charAt
  | 418 => gp_j5_isLatin1
  | 419 => gp_j5_checkIndex
  | 420 => gp_j6_charAt
  | _ => fun _ => []
/-- start, end, what is caught, where it goes on -/
def gHT (mi : Nat) : List (Nat × Nat × Nat × Nat) := match mi with
  | 20 => [(22, 52, 21, 53)]
  | 42 => [(36, 97, 99, 110), (110, 112, 99, 110)]
  | 53 => [(9, 26, 22, 27)]
  | 55 => [(2, 59, 23, 69), (60, 68, 23, 69), (2, 59, 21, 76), (60, 68, 21, 76)]
  | 60 => [(13, 38, 23, 39), (13, 38, 22, 43)]
  | 63 => [(32, 56, 24, 57)]
  | 65 => [(17, 23, 21, 26)]
  | 67 => [(16, 44, 23, 45), (16, 44, 25, 50), (16, 44, 27, 55)]
  | _ => []
def gNL (mi : Nat) : Nat := match mi with
  | 0 => 2
  | 1 => 3
  | 2 => 1
  | 3 => 3
  | 4 => 7
  | 5 => 1
  | 6 => 3
  | 7 => 1
  | 8 => 3
  | 9 => 2
  | 10 => 2
  | 11 => 8
  | 12 => 4
  | 13 => 4
  | 14 => 4
  | 15 => 4
  | 16 => 4
  | 17 => 1
  | 18 => 5
  | 19 => 2
  | 20 => 3
  | 21 => 3
  | 22 => 1
  | 23 => 3
  | 24 => 3
  | 25 => 2
  | 26 => 3
  | 27 => 3
  | 28 => 2
  | 29 => 4
  | 30 => 4
  | 31 => 4
  | 32 => 6
  | 33 => 8
  | 34 => 7
  | 35 => 2
  | 36 => 3
  | 37 => 4
  | 38 => 4
  | 39 => 4
  | 40 => 2
  | 41 => 3
  | 42 => 8
  | 43 => 7
  | 44 => 5
  | 45 => 8
  | 46 => 3
  | 47 => 3
  | 48 => 3
  | 49 => 3
  | 50 => 3
  | 51 => 3
  | 52 => 2
  | 53 => 4
  | 54 => 1
  | 55 => 6
  | 56 => 1
  | 57 => 1
  | 58 => 5
  | 59 => 2
  | 60 => 4
  | 61 => 2
  | 62 => 2
  | 63 => 5
  | 64 => 2
  | 65 => 11
  | 66 => 6
  | 67 => 7
  | 100 => 1
  | 101 => 2
  | 102 => 2
  | 103 => 2
  | 104 => 4
  | 105 => 1
  | 106 => 3
  | 107 => 7
  | 108 => 3
  | 109 => 2
  | 110 => 3
  | 111 => 1
  | 112 => 8
  | 113 => 5
  | 114 => 5
  | 115 => 2
  | 116 => 4
  | 117 => 2
  | 118 => 2
  | 119 => 2
  | 120 => 1
  | 121 => 3
  | 122 => 3
  | 123 => 2
  | 124 => 4
  | 125 => 5
  | 126 => 2
  | 127 => 3
  | 128 => 2
  | 129 => 3
  | 130 => 3
  | 131 => 3
  | 132 => 5
  | 133 => 3
  | 134 => 3
  | 135 => 4
  | 136 => 4
  | 137 => 2
  | 138 => 2
  | 139 => 2
  | 140 => 1
  | 141 => 3
  | 142 => 3
  | 143 => 3
  | 144 => 4
  | 145 => 3
  | 146 => 3
  | 147 => 2
  | 148 => 7
  | 149 => 3
  | 150 => 4
  | 151 => 2
  | 152 => 4
  | 153 => 4
  | 154 => 4
  | 155 => 10
  | 156 => 1
  | 157 => 8
  | 158 => 5
  | 159 => 2
  | 160 => 7
  | 161 => 5
  | 162 => 7
  | 163 => 7
  | 164 => 11
  | 165 => 4
  | 166 => 4
  | 167 => 5
  | 168 => 3
  | 169 => 2
  | 170 => 4
  | 171 => 4
  | 172 => 7
  | 173 => 2
  | 174 => 2
  | 175 => 4
  | 176 => 2
  | 177 => 5
  | 178 => 1
  | 179 => 6
  | 180 => 3
  | 181 => 7
  | 182 => 6
  | 200 => 1
  | 201 => 1
  | 202 => 1
  | 203 => 1
  | 204 => 1
  | 205 => 1
  | 206 => 1
  | 210 => 6
  | 211 => 6
  | 212 => 6
  | 213 => 6
  | 214 => 6
  | 215 => 6
  | 216 => 6
  | 220 => 2
  | 222 => 2
  | 224 => 2
  | 226 => 2
  | 230 => 2
  | 231 => 2
  | 234 => 2
  | 236 => 3
  | 240 => 2
  | 243 => 3
  | 245 => 2
  | 250 => 3
  | 251 => 2
  | 252 => 2
  | 260 => 4
  | 261 => 4
  | 262 => 4
  | 263 => 4
  | 264 => 4
  | 265 => 4
  | 266 => 5
  | 270 => 2
  | 271 => 2
  | 272 => 4
  | 273 => 3
  | 274 => 3
  | 275 => 4
  | 276 => 3
  | 277 => 2
  | 278 => 3
  | 279 => 3
  | 280 => 4
  | 281 => 3
  | 282 => 3
  | 283 => 1
  | 284 => 1
  | 285 => 1
  | 286 => 4
  | 287 => 3
  | 288 => 2
  | 289 => 1
  | 290 => 3
  | 291 => 2
  | 292 => 2
  | 293 => 3
  | 294 => 1
  | 295 => 2
  | 296 => 3
  | 297 => 1
  | 298 => 2
  | 299 => 2
  | 300 => 1
  | 301 => 4
  | 302 => 4
  | 303 => 1
  | 304 => 2
  | 305 => 1
  | 306 => 2
  | 307 => 1
  | 308 => 2
  | 309 => 3
  | 390 => 4
  | 400 => 1
  | 401 => 1
  | 402 => 4
  | 403 => 2
  | 404 => 4
  | 405 => 1
  | 406 => 1
  | 407 => 2
  | 408 => 2
  | 409 => 2
  | 410 => 4
  | 411 => 1
  | 412 => 4
  | 413 => 2
  | 414 => 3
  | 415 => 1
  | 416 => 1
  | 417 => 2
  | 418 => 1
  | 419 => 2
  | 420 => 2
  | _ => 0
