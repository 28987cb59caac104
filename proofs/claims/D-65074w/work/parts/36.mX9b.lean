/-! by gen/mkall.py -/
set_option maxRecDepth 100000
abbrev k_X9_toss : List (Nat × List (Nat × Instr)) := [(29, [(0, .aload_n 0), (1, .iload_n 1), (2, .lconst 1), (3, .iload_n 2), (4, .lshl), (5, .aload_n 0), (6, .getfield 53), (9, .iload_n 1), (10, .iaload), (11, .aload_n 0), (12, .getfield 56), (15, .iload_n 1), (16, .iaload), (17, .invokevirtual 566), (20, .return_)])]
theorem ok_X9_toss : CodeOK cX9_toss k_X9_toss := okw 0 (by decide +kernel) (okn)
abbrev p_X9_toss (l : Launch) (G : JG) : JP := (true, [(53, 9, 23, 2500100, 69), (56, 9, 24, 2500100, 70)], [], [], [], [], [], [(566, 1, [0, 0, 1, 0, 2009], 700, S_X9_toss_2 l G)], false, 700, [])
theorem pk_X9_toss {K : JC} {l : Launch} {G : JG} {Q : Int → MH → Prop} {E : Nat → Int → MH → Prop} {h0 : MH} (ki : KI K l G yX9_toss cX9_toss 3 none [] 8 253 700 Q E h0) (hG : gO G = true) : POK K RX9 (p_X9_toss l G) :=
  POKi (y := yX9_toss) ki hG (rfs rf_X9_ok (by decide +kernel)) fmz fmz fmz fmz fmz
  (pkE ki (by
    intro K e1 e2 e3 e4; subst e1; subst e2
    exact fmE (ceV 9 e3 e4 yl_X9_toss_2 ⟨by decide, ⟨_, _, rfl⟩, q2667, qs138, q2665⟩ rfl) (fmz))) (fun z => Bool.noConfusion z) rfl (pkP ki (by
    intro K e1 e2 e3 e4; subst e1; subst e2
    exact fmz))
theorem r_X9_toss_0 {K : JC} {l : Launch} {G : JG} {Q : Int → MH → Prop} {E : Nat → Int → MH → Prop} {h0 : MH} (ki : KI K l G yX9_toss cX9_toss 3 none [] 8 253 700 Q E h0) (hG : gO G = true) {v1 v2 : Int} {h : MH} (H :
    (0 ≤ v1) ∧
    (v1 < 1500) ∧
    (0 ≤ v1) ∧
    (v1 < 1500) ∧
    S_X9_toss_2 l G [(2009, 396), (0, v1), (1, (l_shl 1 v2)), (0, (hv h 465 v1)), (0, (hv h 466 v1))] h (fun _ h2 =>
    Q 0 h2) E) : JW K 0 [(2009, 396), (0, v1), (0, v2)] [] h := by
  have e1 := ki.2.2.2.2.1
  have e2 := ki.2.2.2.2.2.1
  subst e1; subst e2
  exact run_ok (dia := []) (cnr := []) (cuts := []) ki.1 (pk_X9_toss ki hG) ok_X9_toss (by decide) 16 true _ _ _ _ H
abbrev k_X9_toss_2 : List (Nat × List (Nat × Instr)) := [(37, [(0, .aload_n 0), (1, .getfield 373), (4, .getfield 354), (7, .iload_n 1), (8, .iaload), (9, .istore 6), (11, .aload_n 0), (12, .getfield 59), (15, .iload_n 1), (16, .dup2), (17, .laload), (18, .lload_n 2), (19, .lor), (20, .lastore), (21, .iconst 1), (22, .istore 7), (24, .iload 7), (26, .bipush 63), (28, .if_icmp .ge 299), (31, .lload_n 2), (32, .iload 7), (34, .lshr), (35, .lconst 1), (36, .land)]),
  (81, [(37, .lconst 0), (38, .lcmp), (39, .ifCond .ne 6), (42, .goto 279), (45, .aload_n 0), (46, .iload_n 1), (47, .iload 7), (49, .invokevirtual 560), (52, .istore 8), (54, .iload 8), (56, .iconst (-1)), (57, .if_icmp .ne 171), (60, .aload_n 0), (61, .getfield 143), (64, .iload 6), (66, .laload), (67, .lconst 0), (68, .lcmp), (69, .ifCond .ne 7), (72, .iconst 1), (73, .goto 4), (76, .iconst 0), (77, .istore 9), (79, .iload 9)]),
  (129, [(81, .ifCond .eq 8), (84, .iload 4), (86, .goto 13), (89, .aload_n 0), (90, .getfield 146), (93, .iload 6), (95, .iaload), (96, .iload 4), (98, .iand), (99, .istore 10), (101, .iload 9), (103, .ifCond .eq 8), (106, .iload 5), (108, .goto 13), (111, .aload_n 0), (112, .getfield 149), (115, .iload 6), (117, .iaload), (118, .iload 5), (120, .ior), (121, .istore 11), (123, .aload_n 0), (124, .getfield 143), (127, .iload 6)]),
  (171, [(129, .laload), (130, .iload 7), (132, .lshr), (133, .lconst 1), (134, .land), (135, .lconst 0), (136, .lcmp), (137, .ifCond .eq 27), (140, .iload 10), (142, .aload_n 0), (143, .getfield 146), (146, .iload 6), (148, .iaload), (149, .if_icmp .ne 15), (152, .iload 11), (154, .aload_n 0), (155, .getfield 149), (158, .iload 6), (160, .iaload), (161, .if_icmp .eq 7), (164, .iconst 1), (165, .goto 4), (168, .iconst 0), (169, .istore 12)]),
  (211, [(171, .aload_n 0), (172, .dup), (173, .getfield 491), (176, .iload 12), (178, .ifCond .eq 10), (181, .lconst 1), (182, .iload 6), (184, .lshl), (185, .goto 4), (188, .lconst 0), (189, .lor), (190, .putfield 491), (193, .aload_n 0), (194, .getfield 143), (197, .iload 6), (199, .dup2), (200, .laload), (201, .lconst 1), (202, .iload 7), (204, .lshl), (205, .lor), (206, .lastore), (207, .aload_n 0), (208, .getfield 146)]),
  (251, [(211, .iload 6), (213, .iload 10), (215, .iastore), (216, .aload_n 0), (217, .getfield 149), (220, .iload 6), (222, .iload 11), (224, .iastore), (225, .goto 96), (228, .aload_n 0), (229, .getfield 373), (232, .getfield 319), (235, .bipush 16), (237, .iload 6), (239, .imul), (240, .iconst 4), (241, .iload 8), (243, .imul), (244, .iadd), (245, .iconst 2), (246, .iadd), (247, .iaload), (248, .istore 9), (250, .aload_n 0)]),
  (284, [(251, .getfield 68), (254, .iconst 2), (255, .iload_n 1), (256, .imul), (257, .iload 9), (259, .bipush 6), (261, .ishr), (262, .iadd), (263, .dup2), (264, .laload), (265, .lconst 1), (266, .iload 9), (268, .bipush 63), (270, .iand), (271, .lshl), (272, .lor), (273, .lastore), (274, .aload_n 0), (275, .iload_n 1), (276, .invokevirtual 563), (279, .aload_n 0), (280, .bipush 8), (282, .iconst 0), (283, .iconst 0)]),
  (336, [(284, .iconst 0), (285, .lconst 1), (286, .iload 7), (288, .lshl), (289, .invokevirtual 502), (292, .aload_n 0), (293, .iload 4), (295, .putfield 506), (298, .aload_n 0), (299, .iload 5), (301, .putfield 509), (304, .aload_n 0), (305, .aload_n 0), (306, .getfield 373), (309, .getfield 312), (312, .iload 6), (314, .iaload), (315, .iload 9), (317, .iadd), (318, .invokevirtual 512), (321, .iinc 7 1), (324, .goto (-300)), (327, .return_)])]
theorem ok_X9_toss_2 : CodeOK cX9_toss_2 k_X9_toss_2 := okw 0 (by decide +kernel) (okw 37 (by decide +kernel) (okw 81 (by decide +kernel) (okw 129 (by decide +kernel) (okw 171 (by decide +kernel) (okw 211 (by decide +kernel) (okw 251 (by decide +kernel) (okw 284 (by decide +kernel) (okn))))))))
abbrev p_X9_toss_2 (l : Launch) (G : JG) : JP := (true, [(59, 9, 25, 2500101, 71), (68, 9, 28, 4000101, 74), (143, 9, 53, 1040101, 99), (146, 9, 54, 1040100, 100), (149, 9, 55, 1040100, 101), (312, 10, 17, 1040100, 15), (319, 10, 15, 1640100, 13), (354, 10, 27, 2500100, 24), (373, 9, 3, 14, 0), (491, 9, 14, 1, 0)], [], [], [(491, 9, 14, 1), (506, 9, 62, 0), (509, 9, 63, 0)], [], [], [(502, 1, [1, 0, 0, 0, 0, 2009], 700, S_X9_setSlot l G), (512, 1, [0, 2009], 700, S_X9_joinTo l G), (560, 1, [0, 0, 2009], 0, S_X9_handlerOf l G), (563, 1, [0, 2009], 700, S_X9_takeFacts l G)], false, 700, [])
theorem pk_X9_toss_2 {K : JC} {l : Launch} {G : JG} {Q : Int → MH → Prop} {E : Nat → Int → MH → Prop} {h0 : MH} (ki : KI K l G yX9_toss_2 cX9_toss_2 13 none [] 7 221 700 Q E h0) (hG : gO G = true) : POK K RX9 (p_X9_toss_2 l G) :=
  POKi (y := yX9_toss_2) ki hG (rfs rf_X9_ok (by decide +kernel)) fmz fmz (rps rp_X9_ok (by decide +kernel)) fmz fmz
  (pkE ki (by
    intro K e1 e2 e3 e4; subst e1; subst e2
    exact fmE (ceV 9 e3 e4 yl_X9_setSlot ⟨by decide, ⟨_, _, rfl⟩, q2602, qs123, q2600⟩ rfl) (fmE (ceV 9 e3 e4 yl_X9_joinTo ⟨by decide, ⟨_, _, rfl⟩, q2606, qs124, q2604⟩ rfl) (fmE (ceV 9 e3 e4 yl_X9_handlerOf ⟨by decide, ⟨_, _, rfl⟩, q2671, qs139, q2669⟩ rfl) (fmE (ceV 9 e3 e4 yl_X9_takeFacts ⟨by decide, ⟨_, _, rfl⟩, q2620, qs127, q2618⟩ rfl) (fmz)))))) (fun z => Bool.noConfusion z) rfl (pkP ki (by
    intro K e1 e2 e3 e4; subst e1; subst e2
    exact fmz))
theorem r_X9_toss_2_0 {K : JC} {l : Launch} {G : JG} {Q : Int → MH → Prop} {E : Nat → Int → MH → Prop} {h0 : MH} (ki : KI K l G yX9_toss_2 cX9_toss_2 13 none [] 7 221 700 Q E h0) (hG : gO G = true) {v1 v2 v4 v5 : Int} {h : MH} (H :
    ((hv h 396 3) ≠ 0) ∧
    (0 ≤ v1) ∧
    (v1 < 1500) ∧
    (∀ x6_1 : Int, x6_1 = (hv h ((hv h 396 3) + 24) v1) →
    (0 ≤ v1) ∧
    (v1 < 1500) ∧
    (0 ≤ v1) ∧
    (v1 < 1500) ∧
    (∀ h2, h2 = hset h 467 v1 (l_or (hv h 467 v1) v2) →
    (∀ x7_3 : Int, x7_3 = 1 →
    JW K 24 [(2009, 396), (0, v1), (1, v2), (5000, 0), (0, v4), (0, v5), (0, x6_1), (0, x7_3), (5000, 0), (5000, 0), (5000, 0), (5000, 0), (5000, 0)] [] h2)))) : JW K 0 [(2009, 396), (0, v1), (1, v2), (5000, 0), (0, v4), (0, v5), (5000, 0), (5000, 0), (5000, 0), (5000, 0), (5000, 0), (5000, 0), (5000, 0)] [] h := by
  have e1 := ki.2.2.2.2.1
  have e2 := ki.2.2.2.2.2.1
  subst e1; subst e2
  exact run_ok (dia := [(69, 77), (81, 99), (103, 121), (137, 169), (178, 189)]) (cnr := []) (cuts := [(24, [2009, 0, 1, 5000, 0, 0, 0, 0, 5000, 5000, 5000, 5000, 5000], [])]) ki.1 (pk_X9_toss_2 ki hG) ok_X9_toss_2 (by decide) 18 true _ _ _ _ H
theorem r_X9_toss_2_24 {K : JC} {l : Launch} {G : JG} {Q : Int → MH → Prop} {E : Nat → Int → MH → Prop} {h0 : MH} (ki : KI K l G yX9_toss_2 cX9_toss_2 13 none [] 7 221 700 Q E h0) (hG : gO G = true) {v1 v2 v4 v5 v6 v7 : Int} {h : MH} (H :
    ((63 ≤ v7 →
      Q 0 h) ∧
    (v7 < 63 →
      ((¬ (lc (l_and (l_shr v2 v7) 1) 0) = 0 →
        S_X9_handlerOf l G [(2009, 396), (0, v1), (0, v7)] h (fun z1 h2 =>
        (∀ x8_3 : Int, x8_3 = z1 →
        ((¬ x8_3 = (-1) →
          ((hv h2 396 3) ≠ 0) ∧
          (0 ≤ (w32 ((w32 ((w32 (16 * v6)) + (w32 (4 * x8_3)))) + 2))) ∧
          ((w32 ((w32 ((w32 (16 * v6)) + (w32 (4 * x8_3)))) + 2)) < 640) ∧
          (∀ x9_4 : Int, x9_4 = (hv h2 ((hv h2 396 3) + 13) (w32 ((w32 ((w32 (16 * v6)) + (w32 (4 * x8_3)))) + 2))) →
          (0 ≤ (w32 ((w32 (2 * v1)) + (i_shr x9_4 6)))) ∧
          ((w32 ((w32 (2 * v1)) + (i_shr x9_4 6))) < 3000) ∧
          (0 ≤ (w32 ((w32 (2 * v1)) + (i_shr x9_4 6)))) ∧
          ((w32 ((w32 (2 * v1)) + (i_shr x9_4 6))) < 3000) ∧
          (∀ h5, h5 = hset h2 470 (w32 ((w32 (2 * v1)) + (i_shr x9_4 6))) (l_or (hv h2 470 (w32 ((w32 (2 * v1)) + (i_shr x9_4 6)))) (l_shl 1 (i_and x9_4 63))) →
          S_X9_takeFacts l G [(2009, 396), (0, v1)] h5 (fun _ h7 =>
          S_X9_setSlot l G [(2009, 396), (0, 8), (0, 0), (0, 0), (0, 0), (1, (l_shl 1 v7))] h7 (fun _ h9 =>
          (∀ h10, h10 = hset h9 396 62 v4 →
          (∀ h11, h11 = hset h10 396 63 v5 →
          ((hv h11 396 3) ≠ 0) ∧
          (0 ≤ v6) ∧
          (v6 < 40) ∧
          S_X9_joinTo l G [(2009, 396), (0, (w32 ((hv h11 ((hv h11 396 3) + 15) v6) + x9_4)))] h11 (fun _ h13 =>
          (∀ x7_14 : Int, x7_14 = w32 (v7 + 1) →
          JW K 24 [(2009, 396), (0, v1), (1, v2), (5000, 0), (0, v4), (0, v5), (0, v6), (0, x7_14), (5000, 0), (5000, 0), (5000, 0), (5000, 0), (5000, 0)] [] h13)) E))) E) E))) ∧
        (x8_3 = (-1) →
          (0 ≤ v6) ∧
          (v6 < 40) ∧
          (∀ x9_15 : Int, x9_15 = (if (lc (hv h2 495 v6) 0) = 0 then 1 else 0 : Int) →
          ((x9_15 = 0 → (0 ≤ v6) ∧ v6 < 40)) ∧
          (∀ x10_16 : Int, x10_16 = (if x9_15 = 0 then (i_and (hv h2 496 v6) v4) else v4 : Int) →
          ((x9_15 = 0 → (0 ≤ v6) ∧ v6 < 40)) ∧
          (∀ x11_17 : Int, x11_17 = (if x9_15 = 0 then (i_or (hv h2 497 v6) v5) else v5 : Int) →
          (0 ≤ v6) ∧
          (v6 < 40) ∧
          ((¬ (lc (l_and (l_shr (hv h2 495 v6) v7) 1) 0) = 0 → (0 ≤ v6) ∧ (v6 < 40) ∧ (x10_16 = (hv h2 496 v6) → (0 ≤ v6) ∧ v6 < 40))) ∧
          (∀ x12_18 : Int, x12_18 = (if (lc (l_and (l_shr (hv h2 495 v6) v7) 1) 0) = 0 then 1 else (if x10_16 = (hv h2 496 v6) then (if x11_17 = (hv h2 497 v6) then 0 else 1 : Int) else 1 : Int) : Int) →
          (∀ h19, h19 = hset h2 396 14 (l_or (hv h2 396 14) (if x12_18 = 0 then 0 else (l_shl 1 v6) : Int)) →
          (0 ≤ v6) ∧
          (v6 < 40) ∧
          (0 ≤ v6) ∧
          (v6 < 40) ∧
          (∀ h20, h20 = hset h19 495 v6 (l_or (hv h19 495 v6) (l_shl 1 v7)) →
          (0 ≤ v6) ∧
          (v6 < 40) ∧
          (∀ h21, h21 = hset h20 496 v6 x10_16 →
          (0 ≤ v6) ∧
          (v6 < 40) ∧
          (∀ h22, h22 = hset h21 497 v6 x11_17 →
          (∀ x7_23 : Int, x7_23 = w32 (v7 + 1) →
          JW K 24 [(2009, 396), (0, v1), (1, v2), (5000, 0), (0, v4), (0, v5), (0, v6), (0, x7_23), (5000, 0), (5000, 0), (5000, 0), (5000, 0), (5000, 0)] [] h22))))))))))))) E) ∧
      ((lc (l_and (l_shr v2 v7) 1) 0) = 0 →
        (∀ x7_24 : Int, x7_24 = w32 (v7 + 1) →
        JW K 24 [(2009, 396), (0, v1), (1, v2), (5000, 0), (0, v4), (0, v5), (0, v6), (0, x7_24), (5000, 0), (5000, 0), (5000, 0), (5000, 0), (5000, 0)] [] h)))))) : JW K 24 [(2009, 396), (0, v1), (1, v2), (5000, 0), (0, v4), (0, v5), (0, v6), (0, v7), (5000, 0), (5000, 0), (5000, 0), (5000, 0), (5000, 0)] [] h := by
  have e1 := ki.2.2.2.2.1
  have e2 := ki.2.2.2.2.2.1
  subst e1; subst e2
  exact run_ok (dia := [(69, 77), (81, 99), (103, 121), (137, 169), (178, 189)]) (cnr := []) (cuts := [(24, [2009, 0, 1, 5000, 0, 0, 0, 0, 5000, 5000, 5000, 5000, 5000], [])]) ki.1 (pk_X9_toss_2 ki hG) ok_X9_toss_2 (by decide) 82 true _ _ _ _ H
abbrev k_X9_handlerOf : List (Nat × List (Nat × Instr)) := [(42, [(0, .aload_n 0), (1, .getfield 373), (4, .getfield 354), (7, .iload_n 1), (8, .iaload), (9, .istore_n 3), (10, .iload_n 1), (11, .aload_n 0), (12, .getfield 373), (15, .getfield 312), (18, .iload_n 3), (19, .iaload), (20, .isub), (21, .istore 4), (23, .iconst 0), (24, .istore 5), (26, .iload 5), (28, .aload_n 0), (29, .getfield 373), (32, .getfield 303), (35, .iload_n 3), (36, .iaload), (37, .if_icmp .ge 75), (40, .bipush 16)]),
  (84, [(42, .iload_n 3), (43, .imul), (44, .iconst 4), (45, .iload 5), (47, .imul), (48, .iadd), (49, .istore 6), (51, .iload 4), (53, .aload_n 0), (54, .getfield 373), (57, .getfield 319), (60, .iload 6), (62, .iaload), (63, .if_icmp .lt 43), (66, .iload 4), (68, .aload_n 0), (69, .getfield 373), (72, .getfield 319), (75, .iload 6), (77, .iconst 1), (78, .iadd), (79, .iaload), (80, .if_icmp .ge 26), (83, .aload_n 0)]),
  (122, [(84, .iload_n 2), (85, .aload_n 0), (86, .getfield 373), (89, .getfield 319), (92, .iload 6), (94, .iconst 3), (95, .iadd), (96, .iaload), (97, .invokevirtual 453), (100, .ifCond .eq 6), (103, .iload 5), (105, .ireturn), (106, .iinc 5 1), (109, .goto (-83)), (112, .iconst (-1)), (113, .ireturn)])]
theorem ok_X9_handlerOf : CodeOK cX9_handlerOf k_X9_handlerOf := okw 0 (by decide +kernel) (okw 42 (by decide +kernel) (okw 84 (by decide +kernel) (okn)))
abbrev p_X9_handlerOf (l : Launch) (G : JG) : JP := (true, [(303, 10, 14, 1040100, 12), (312, 10, 17, 1040100, 15), (319, 10, 15, 1640100, 13), (354, 10, 27, 2500100, 24), (373, 9, 3, 14, 0)], [], [], [], [], [], [(453, 1, [0, 0, 2009], 2, S_X9_isOf l G)], false, 0, [])
theorem pk_X9_handlerOf {K : JC} {l : Launch} {G : JG} {Q : Int → MH → Prop} {E : Nat → Int → MH → Prop} {h0 : MH} (ki : KI K l G yX9_handlerOf cX9_handlerOf 7 (some .int) [] 6 195 0 Q E h0) (hG : gO G = true) : POK K RX9 (p_X9_handlerOf l G) :=
  POKi (y := yX9_handlerOf) ki hG (rfs rf_X9_ok (by decide +kernel)) fmz fmz fmz fmz fmz
  (pkE ki (by
    intro K e1 e2 e3 e4; subst e1; subst e2
    exact fmE (ceV 9 e3 e4 yl_X9_isOf ⟨by decide, ⟨_, _, rfl⟩, q2675, qs140, q2673⟩ rfl) (fmz))) (fun z => Bool.noConfusion z) rfl (pkP ki (by
    intro K e1 e2 e3 e4; subst e1; subst e2
    exact fmz))
theorem r_X9_handlerOf_0 {K : JC} {l : Launch} {G : JG} {Q : Int → MH → Prop} {E : Nat → Int → MH → Prop} {h0 : MH} (ki : KI K l G yX9_handlerOf cX9_handlerOf 7 (some .int) [] 6 195 0 Q E h0) (hG : gO G = true) {v1 v2 : Int} {h : MH} (H :
    ((hv h 396 3) ≠ 0) ∧
    (0 ≤ v1) ∧
    (v1 < 1500) ∧
    (∀ x3_1 : Int, x3_1 = (hv h ((hv h 396 3) + 24) v1) →
    ((hv h 396 3) ≠ 0) ∧
    (0 ≤ x3_1) ∧
    (x3_1 < 40) ∧
    (∀ x4_2 : Int, x4_2 = (w32 (v1 - (hv h ((hv h 396 3) + 15) x3_1))) →
    (∀ x5_3 : Int, x5_3 = 0 →
    JW K 26 [(2009, 396), (0, v1), (0, v2), (0, x3_1), (0, x4_2), (0, x5_3), (5000, 0)] [] h)))) : JW K 0 [(2009, 396), (0, v1), (0, v2), (5000, 0), (5000, 0), (5000, 0), (5000, 0)] [] h := by
  have e1 := ki.2.2.2.2.1
  have e2 := ki.2.2.2.2.2.1
  subst e1; subst e2
  exact run_ok (dia := []) (cnr := [(63, 83, 106)]) (cuts := [(26, [2009, 0, 0, 0, 0, 0, 5000], [])]) ki.1 (pk_X9_handlerOf ki hG) ok_X9_handlerOf (by decide) 18 true _ _ _ _ H
theorem r_X9_handlerOf_26 {K : JC} {l : Launch} {G : JG} {Q : Int → MH → Prop} {E : Nat → Int → MH → Prop} {h0 : MH} (ki : KI K l G yX9_handlerOf cX9_handlerOf 7 (some .int) [] 6 195 0 Q E h0) (hG : gO G = true) {v1 v2 v3 v4 v5 : Int} {h : MH} (H :
    ((hv h 396 3) ≠ 0) ∧
    (0 ≤ v3) ∧
    (v3 < 40) ∧
    (((hv h ((hv h 396 3) + 12) v3) ≤ v5 →
      Q (-1) h) ∧
    (v5 < (hv h ((hv h 396 3) + 12) v3) →
      (∀ x6_1 : Int, x6_1 = (w32 ((w32 (16 * v3)) + (w32 (4 * v5)))) →
      ((hv h 396 3) ≠ 0) ∧
      (0 ≤ x6_1) ∧
      (x6_1 < 640) ∧
      (((hv h ((hv h 396 3) + 13) x6_1) ≤ v4 → ((hv h 396 3) ≠ 0) ∧ (0 ≤ (w32 (x6_1 + 1))) ∧ (w32 (x6_1 + 1)) < 640)) ∧
      ((((hv h ((hv h 396 3) + 13) x6_1) ≤ v4 ∧ v4 < (hv h ((hv h 396 3) + 13) (w32 (x6_1 + 1)))) →
        ((hv h 396 3) ≠ 0) ∧
        (0 ≤ (w32 (x6_1 + 3))) ∧
        ((w32 (x6_1 + 3)) < 640) ∧
        S_X9_isOf l G [(2009, 396), (0, v2), (0, (hv h ((hv h 396 3) + 13) (w32 (x6_1 + 3))))] h (fun z2 h3 =>
        ((z2 = 0 →
          (∀ x5_4 : Int, x5_4 = w32 (v5 + 1) →
          JW K 26 [(2009, 396), (0, v1), (0, v2), (0, v3), (0, v4), (0, x5_4), (5000, 0)] [] h3)) ∧
        (¬ z2 = 0 →
          Q v5 h3))) E) ∧
      (¬ ((hv h ((hv h 396 3) + 13) x6_1) ≤ v4 ∧ v4 < (hv h ((hv h 396 3) + 13) (w32 (x6_1 + 1)))) →
        (∀ x5_5 : Int, x5_5 = w32 (v5 + 1) →
        JW K 26 [(2009, 396), (0, v1), (0, v2), (0, v3), (0, v4), (0, x5_5), (5000, 0)] [] h))))))) : JW K 26 [(2009, 396), (0, v1), (0, v2), (0, v3), (0, v4), (0, v5), (5000, 0)] [] h := by
  have e1 := ki.2.2.2.2.1
  have e2 := ki.2.2.2.2.2.1
  subst e1; subst e2
  exact run_ok (dia := []) (cnr := [(63, 83, 106)]) (cuts := [(26, [2009, 0, 0, 0, 0, 0, 5000], [])]) ki.1 (pk_X9_handlerOf ki hG) ok_X9_handlerOf (by decide) 37 true _ _ _ _ H
abbrev k_X9_isOf : List (Nat × List (Nat × Instr)) := [(43, [(0, .aload_n 0), (1, .iload_n 1), (2, .invokevirtual 446), (5, .ifCond .eq 15), (8, .iload_n 2), (9, .ifCond .ne 7), (12, .iconst 1), (13, .goto 21), (16, .iconst 0), (17, .goto 17), (20, .aload_n 0), (21, .aload_n 0), (22, .getfield 373), (25, .getfield 336), (28, .iload_n 1), (29, .iaload), (30, .iload_n 2), (31, .invokevirtual 449), (34, .ireturn)])]
theorem ok_X9_isOf : CodeOK cX9_isOf k_X9_isOf := okw 0 (by decide +kernel) (okn)
abbrev p_X9_isOf (l : Launch) (G : JG) : JP := (true, [(336, 10, 29, 1063100, 26), (373, 9, 3, 14, 0)], [], [], [], [], [], [(446, 1, [0, 2009], 2, S_X9_isArray l G), (449, 1, [0, 0, 2009], 2, S_X9_isBelow l G)], false, 2, [])
theorem pk_X9_isOf {K : JC} {l : Launch} {G : JG} {Q : Int → MH → Prop} {E : Nat → Int → MH → Prop} {h0 : MH} (ki : KI K l G yX9_isOf cX9_isOf 3 (some .boolean) [] 5 173 2 Q E h0) (hG : gO G = true) : POK K RX9 (p_X9_isOf l G) :=
  POKi (y := yX9_isOf) ki hG (rfs rf_X9_ok (by decide +kernel)) fmz fmz fmz fmz fmz
  (pkE ki (by
    intro K e1 e2 e3 e4; subst e1; subst e2
    exact fmE (ceV 9 e3 e4 yl_X9_isArray ⟨by decide, ⟨_, _, rfl⟩, q2679, qs141, q2677⟩ rfl) (fmE (ceV 9 e3 e4 yl_X9_isBelow ⟨by decide, ⟨_, _, rfl⟩, q2683, qs142, q2681⟩ rfl) (fmz)))) (fun z => Bool.noConfusion z) rfl (pkP ki (by
    intro K e1 e2 e3 e4; subst e1; subst e2
    exact fmz))
theorem r_X9_isOf_0 {K : JC} {l : Launch} {G : JG} {Q : Int → MH → Prop} {E : Nat → Int → MH → Prop} {h0 : MH} (ki : KI K l G yX9_isOf cX9_isOf 3 (some .boolean) [] 5 173 2 Q E h0) (hG : gO G = true) {v1 v2 : Int} {h : MH} (H :
    S_X9_isArray l G [(2009, 396), (0, v1)] h (fun z1 h2 =>
    ((z1 = 0 →
      ((hv h2 396 3) ≠ 0) ∧
      (0 ≤ v1) ∧
      (v1 < 63) ∧
      S_X9_isBelow l G [(2009, 396), (0, (hv h2 ((hv h2 396 3) + 26) v1)), (0, v2)] h2 (fun z3 h4 =>
      ((z3 = 0 ∨ z3 = 1) ∧ Q z3 h4)) E) ∧
    (¬ z1 = 0 →
      (((if v2 = 0 then 1 else 0 : Int) = 0 ∨ (if v2 = 0 then 1 else 0 : Int) = 1) ∧ Q (if v2 = 0 then 1 else 0 : Int) h2)))) E) : JW K 0 [(2009, 396), (0, v1), (0, v2)] [] h := by
  have e1 := ki.2.2.2.2.1
  have e2 := ki.2.2.2.2.2.1
  subst e1; subst e2
  exact run_ok (dia := [(9, 34)]) (cnr := []) (cuts := []) ki.1 (pk_X9_isOf ki hG) ok_X9_isOf (by decide) 14 true _ _ _ _ H
abbrev k_X9_isArray : List (Nat × List (Nat × Instr)) := [(26, [(0, .aload_n 0), (1, .getfield 373), (4, .getfield 336), (7, .iload_n 1), (8, .iaload), (9, .ifCond .ge 7), (12, .iconst 1), (13, .goto 4), (16, .iconst 0), (17, .ireturn)])]
theorem ok_X9_isArray : CodeOK cX9_isArray k_X9_isArray := okw 0 (by decide +kernel) (okn)
abbrev p_X9_isArray (l : Launch) (G : JG) : JP := (true, [(336, 10, 29, 1063100, 26), (373, 9, 3, 14, 0)], [], [], [], [], [], [], false, 2, [])
theorem pk_X9_isArray {K : JC} {l : Launch} {G : JG} {Q : Int → MH → Prop} {E : Nat → Int → MH → Prop} {h0 : MH} (ki : KI K l G yX9_isArray cX9_isArray 2 (some .boolean) [] 4 150 2 Q E h0) (hG : gO G = true) : POK K RX9 (p_X9_isArray l G) :=
  POKi (y := yX9_isArray) ki hG (rfs rf_X9_ok (by decide +kernel)) fmz fmz fmz fmz fmz
  (pkE ki (by
    intro K e1 e2 e3 e4; subst e1; subst e2
    exact fmz)) (fun z => Bool.noConfusion z) rfl (pkP ki (by
    intro K e1 e2 e3 e4; subst e1; subst e2
    exact fmz))
theorem r_X9_isArray_0 {K : JC} {l : Launch} {G : JG} {Q : Int → MH → Prop} {E : Nat → Int → MH → Prop} {h0 : MH} (ki : KI K l G yX9_isArray cX9_isArray 2 (some .boolean) [] 4 150 2 Q E h0) (hG : gO G = true) {v1 : Int} {h : MH} (H :
    ((hv h 396 3) ≠ 0) ∧
    (0 ≤ v1) ∧
    (v1 < 63) ∧
    (((if (hv h ((hv h 396 3) + 26) v1) < 0 then 1 else 0 : Int) = 0 ∨ (if (hv h ((hv h 396 3) + 26) v1) < 0 then 1 else 0 : Int) = 1) ∧ Q (if (hv h ((hv h 396 3) + 26) v1) < 0 then 1 else 0 : Int) h)) : JW K 0 [(2009, 396), (0, v1)] [] h := by
  have e1 := ki.2.2.2.2.1
  have e2 := ki.2.2.2.2.2.1
  subst e1; subst e2
  exact run_ok (dia := [(9, 17)]) (cnr := []) (cuts := []) ki.1 (pk_X9_isArray ki hG) ok_X9_isArray (by decide) 8 true _ _ _ _ H
abbrev k_X9_isBelow : List (Nat × List (Nat × Instr)) := [(43, [(0, .iload_n 1), (1, .istore_n 3), (2, .iload_n 3), (3, .iload_n 2), (4, .if_icmp .eq 20), (7, .iload_n 3), (8, .ifCond .le 16), (11, .aload_n 0), (12, .getfield 373), (15, .getfield 266), (18, .iload_n 3), (19, .iaload), (20, .istore_n 3), (21, .goto (-19)), (24, .iload_n 3), (25, .iload_n 2), (26, .if_icmp .ne 7), (29, .iconst 1), (30, .goto 4), (33, .iconst 0), (34, .ireturn)])]
theorem ok_X9_isBelow : CodeOK cX9_isBelow k_X9_isBelow := okw 0 (by decide +kernel) (okn)
abbrev p_X9_isBelow (l : Launch) (G : JG) : JP := (true, [(266, 10, 3, 1024100, 2), (373, 9, 3, 14, 0)], [], [], [], [], [], [], false, 2, [])
theorem pk_X9_isBelow {K : JC} {l : Launch} {G : JG} {Q : Int → MH → Prop} {E : Nat → Int → MH → Prop} {h0 : MH} (ki : KI K l G yX9_isBelow cX9_isBelow 4 (some .boolean) [] 4 150 2 Q E h0) (hG : gO G = true) : POK K RX9 (p_X9_isBelow l G) :=
  POKi (y := yX9_isBelow) ki hG (rfs rf_X9_ok (by decide +kernel)) fmz fmz fmz fmz fmz
  (pkE ki (by
    intro K e1 e2 e3 e4; subst e1; subst e2
    exact fmz)) (fun z => Bool.noConfusion z) rfl (pkP ki (by
    intro K e1 e2 e3 e4; subst e1; subst e2
    exact fmz))
theorem r_X9_isBelow_0 {K : JC} {l : Launch} {G : JG} {Q : Int → MH → Prop} {E : Nat → Int → MH → Prop} {h0 : MH} (ki : KI K l G yX9_isBelow cX9_isBelow 4 (some .boolean) [] 4 150 2 Q E h0) (hG : gO G = true) {v1 v2 : Int} {h : MH} (H :
    (∀ x3_1 : Int, x3_1 = v1 →
    JW K 2 [(2009, 396), (0, v1), (0, v2), (0, x3_1)] [] h)) : JW K 0 [(2009, 396), (0, v1), (0, v2), (5000, 0)] [] h := by
  have e1 := ki.2.2.2.2.1
  have e2 := ki.2.2.2.2.2.1
  subst e1; subst e2
  exact run_ok (dia := [(26, 34)]) (cnr := [(4, 11, 24)]) (cuts := [(2, [2009, 0, 0, 0], [])]) ki.1 (pk_X9_isBelow ki hG) ok_X9_isBelow (by decide) 4 true _ _ _ _ H
theorem r_X9_isBelow_2 {K : JC} {l : Launch} {G : JG} {Q : Int → MH → Prop} {E : Nat → Int → MH → Prop} {h0 : MH} (ki : KI K l G yX9_isBelow cX9_isBelow 4 (some .boolean) [] 4 150 2 Q E h0) (hG : gO G = true) {v1 v2 v3 : Int} {h : MH} (H :
    (((¬ v3 = v2 ∧ 0 < v3) →
      ((hv h 396 3) ≠ 0) ∧
      (0 ≤ v3) ∧
      (v3 < 24) ∧
      (∀ x3_1 : Int, x3_1 = (hv h ((hv h 396 3) + 2) v3) →
      JW K 2 [(2009, 396), (0, v1), (0, v2), (0, x3_1)] [] h)) ∧
    (¬ (¬ v3 = v2 ∧ 0 < v3) →
      (((if v3 = v2 then 1 else 0 : Int) = 0 ∨ (if v3 = v2 then 1 else 0 : Int) = 1) ∧ Q (if v3 = v2 then 1 else 0 : Int) h)))) : JW K 2 [(2009, 396), (0, v1), (0, v2), (0, v3)] [] h := by
  have e1 := ki.2.2.2.2.1
  have e2 := ki.2.2.2.2.2.1
  subst e1; subst e2
  exact run_ok (dia := [(26, 34)]) (cnr := [(4, 11, 24)]) (cuts := [(2, [2009, 0, 0, 0], [])]) ki.1 (pk_X9_isBelow ki hG) ok_X9_isBelow (by decide) 12 true _ _ _ _ H
abbrev k_X9_cut : List (Nat × List (Nat × Instr)) := [(39, [(0, .aload_n 0), (1, .getfield 155), (4, .iload_n 1), (5, .iaload), (6, .istore 4), (8, .aload_n 0), (9, .getfield 158), (12, .iload_n 1), (13, .iaload), (14, .istore 5), (16, .iload_n 2), (17, .iload 4), (19, .iload 5), (21, .iload_n 3), (22, .iload_n 3), (23, .invokestatic 570), (26, .ifCond .ne 5), (29, .iconst 0), (30, .ireturn), (31, .iload_n 2), (32, .ifCond .ne 12), (35, .iload_n 3), (36, .istore 4), (38, .iload_n 3)]),
  (86, [(39, .istore 5), (41, .goto 105), (44, .iload_n 2), (45, .iconst 1), (46, .if_icmp .ne 40), (49, .iload 4), (51, .iload_n 3), (52, .if_icmp .ne 10), (55, .iload 4), (57, .iconst 1), (58, .iadd), (59, .goto 5), (62, .iload 4), (64, .istore 4), (66, .iload 5), (68, .iload_n 3), (69, .if_icmp .ne 10), (72, .iload 5), (74, .iconst 1), (75, .isub), (76, .goto 5), (79, .iload 5), (81, .istore 5), (83, .goto 63)]),
  (129, [(86, .iload_n 2), (87, .iconst 2), (88, .if_icmp .ne 16), (91, .iload 5), (93, .iload_n 3), (94, .iconst 1), (95, .isub), (96, .invokestatic 528), (99, .istore 5), (101, .goto 45), (104, .iload_n 2), (105, .iconst 3), (106, .if_icmp .ne 14), (109, .iload 4), (111, .iload_n 3), (112, .invokestatic 530), (115, .istore 4), (117, .goto 29), (120, .iload_n 2), (121, .iconst 4), (122, .if_icmp .ne 16), (125, .iload 4), (127, .iload_n 3), (128, .iconst 1)]),
  (172, [(129, .iadd), (130, .invokestatic 530), (133, .istore 4), (135, .goto 11), (138, .iload 5), (140, .iload_n 3), (141, .invokestatic 528), (144, .istore 5), (146, .aload_n 0), (147, .getfield 155), (150, .iload_n 1), (151, .iload 4), (153, .iastore), (154, .aload_n 0), (155, .getfield 158), (158, .iload_n 1), (159, .iload 5), (161, .iastore), (162, .iconst 1), (163, .ireturn)])]
theorem ok_X9_cut : CodeOK cX9_cut k_X9_cut := okw 0 (by decide +kernel) (okw 39 (by decide +kernel) (okw 86 (by decide +kernel) (okw 129 (by decide +kernel) (okn))))
abbrev p_X9_cut (l : Launch) (G : JG) : JP := (true, [(155, 9, 57, 1016100, 103), (158, 9, 58, 1016100, 104)], [], [], [], [], [], [], false, 2, [(528, e_J8_min), (530, e_J8_max), (570, e_X9_may)])
theorem pk_X9_cut {K : JC} {l : Launch} {G : JG} {Q : Int → MH → Prop} {E : Nat → Int → MH → Prop} {h0 : MH} (ki : KI K l G yX9_cut cX9_cut 6 (some .boolean) [] 5 174 2 Q E h0) (hG : gO G = true) : POK K RX9 (p_X9_cut l G) :=
  POKi (y := yX9_cut) ki hG (rfs rf_X9_ok (by decide +kernel)) fmz fmz fmz fmz fmz
  (pkE ki (by
    intro K e1 e2 e3 e4; subst e1; subst e2
    exact fmz)) (fun z => Bool.noConfusion z) rfl (pkP ki (by
    intro K e1 e2 e3 e4; subst e1; subst e2
    exact fmP (pe_J8_min hG e3 e4 ⟨q1370, Or.inl q2608⟩ rfl rfl) (fmP (pe_J8_max hG e3 e4 ⟨q1373, Or.inl q2609⟩ rfl rfl) (fmP (pe_X9_may hG e3 e4 ⟨q2686, Or.inl q2685⟩ rfl rfl) (fmz)))))
theorem r_X9_cut_0 {K : JC} {l : Launch} {G : JG} {Q : Int → MH → Prop} {E : Nat → Int → MH → Prop} {h0 : MH} (ki : KI K l G yX9_cut cX9_cut 6 (some .boolean) [] 5 174 2 Q E h0) (hG : gO G = true) {v1 v2 v3 : Int} {h : MH} (H :
    (0 ≤ v1) ∧
    (v1 < 16) ∧
    (∀ x4_1 : Int, x4_1 = (hv h 499 v1) →
    (0 ≤ v1) ∧
    (v1 < 16) ∧
    (∀ x5_2 : Int, x5_2 = (hv h 500 v1) →
    ((¬ (mayf v2 x4_1 x5_2 v3 v3) = 0 →
      ((¬ v2 = 0 →
        ((¬ v2 = 1 →
          ((¬ v2 = 2 →
            ((¬ v2 = 3 →
              ((¬ v2 = 4 →
                (∀ x5_3 : Int, x5_3 = (min x5_2 v3) →
                (0 ≤ v1) ∧
                (v1 < 16) ∧
                (∀ h4, h4 = hset h 499 v1 x4_1 →
                (0 ≤ v1) ∧
                (v1 < 16) ∧
                (∀ h5, h5 = hset h4 500 v1 x5_3 →
                (((1 : Int) = 0 ∨ (1 : Int) = 1) ∧ Q 1 h5))))) ∧
              (v2 = 4 →
                (∀ x4_6 : Int, x4_6 = (max x4_1 (w32 (v3 + 1))) →
                (0 ≤ v1) ∧
                (v1 < 16) ∧
                (∀ h7, h7 = hset h 499 v1 x4_6 →
                (0 ≤ v1) ∧
                (v1 < 16) ∧
                (∀ h8, h8 = hset h7 500 v1 x5_2 →
                (((1 : Int) = 0 ∨ (1 : Int) = 1) ∧ Q 1 h8))))))) ∧
            (v2 = 3 →
              (∀ x4_9 : Int, x4_9 = (max x4_1 v3) →
              (0 ≤ v1) ∧
              (v1 < 16) ∧
              (∀ h10, h10 = hset h 499 v1 x4_9 →
              (0 ≤ v1) ∧
              (v1 < 16) ∧
              (∀ h11, h11 = hset h10 500 v1 x5_2 →
              (((1 : Int) = 0 ∨ (1 : Int) = 1) ∧ Q 1 h11))))))) ∧
          (v2 = 2 →
            (∀ x5_12 : Int, x5_12 = (min x5_2 (w32 (v3 - 1))) →
            (0 ≤ v1) ∧
            (v1 < 16) ∧
            (∀ h13, h13 = hset h 499 v1 x4_1 →
            (0 ≤ v1) ∧
            (v1 < 16) ∧
            (∀ h14, h14 = hset h13 500 v1 x5_12 →
            (((1 : Int) = 0 ∨ (1 : Int) = 1) ∧ Q 1 h14))))))) ∧
        (v2 = 1 →
          (∀ x4_15 : Int, x4_15 = (if x4_1 = v3 then (w32 (x4_1 + 1)) else x4_1 : Int) →
          (∀ x5_16 : Int, x5_16 = (if x5_2 = v3 then (w32 (x5_2 - 1)) else x5_2 : Int) →
          (0 ≤ v1) ∧
          (v1 < 16) ∧
          (∀ h17, h17 = hset h 499 v1 x4_15 →
          (0 ≤ v1) ∧
          (v1 < 16) ∧
          (∀ h18, h18 = hset h17 500 v1 x5_16 →
          (((1 : Int) = 0 ∨ (1 : Int) = 1) ∧ Q 1 h18)))))))) ∧
      (v2 = 0 →
        (∀ x4_19 : Int, x4_19 = v3 →
        (∀ x5_20 : Int, x5_20 = v3 →
        (0 ≤ v1) ∧
        (v1 < 16) ∧
        (∀ h21, h21 = hset h 499 v1 x4_19 →
        (0 ≤ v1) ∧
        (v1 < 16) ∧
        (∀ h22, h22 = hset h21 500 v1 x5_20 →
        (((1 : Int) = 0 ∨ (1 : Int) = 1) ∧ Q 1 h22)))))))) ∧
    ((mayf v2 x4_1 x5_2 v3 v3) = 0 →
      (((0 : Int) = 0 ∨ (0 : Int) = 1) ∧ Q 0 h)))))) : JW K 0 [(2009, 396), (0, v1), (0, v2), (0, v3), (5000, 0), (5000, 0)] [] h := by
  have e1 := ki.2.2.2.2.1
  have e2 := ki.2.2.2.2.2.1
  subst e1; subst e2
  exact run_ok (dia := [(52, 64), (69, 81)]) (cnr := []) (cuts := []) ki.1 (pk_X9_cut ki hG) ok_X9_cut (by decide) 51 true _ _ _ _ H
abbrev k_X9_of : List (Nat × List (Nat × Instr)) := [(40, [(0, .lconst 0), (1, .lstore 4), (3, .iconst 1), (4, .istore 6), (6, .iload 6), (8, .bipush 63), (10, .if_icmp .ge 43), (13, .lload 4), (15, .lload_n 1), (16, .iload 6), (18, .lshr), (19, .lconst 1), (20, .land), (21, .lconst 1), (22, .lcmp), (23, .ifCond .ne 20), (26, .aload_n 0), (27, .iload 6), (29, .iload_n 3), (30, .invokevirtual 453), (33, .ifCond .eq 10), (36, .lconst 1), (37, .iload 6), (39, .lshl)]),
  (64, [(40, .goto 4), (43, .lconst 0), (44, .lor), (45, .lstore 4), (47, .iinc 6 1), (50, .goto (-44)), (53, .lload 4), (55, .lreturn)])]
theorem ok_X9_of : CodeOK cX9_of k_X9_of := okw 0 (by decide +kernel) (okw 40 (by decide +kernel) (okn))
abbrev p_X9_of (l : Launch) (G : JG) : JP := (true, [], [], [], [], [], [], [(453, 1, [0, 0, 2009], 2, S_X9_isOf l G)], false, 1, [])
theorem pk_X9_of {K : JC} {l : Launch} {G : JG} {Q : Int → MH → Prop} {E : Nat → Int → MH → Prop} {h0 : MH} (ki : KI K l G yX9_of cX9_of 7 (some .long) [] 6 195 1 Q E h0) (hG : gO G = true) : POK K RX9 (p_X9_of l G) :=
  POKi (y := yX9_of) ki hG fmz fmz fmz fmz fmz fmz
  (pkE ki (by
    intro K e1 e2 e3 e4; subst e1; subst e2
    exact fmE (ceV 9 e3 e4 yl_X9_isOf ⟨by decide, ⟨_, _, rfl⟩, q2675, qs140, q2673⟩ rfl) (fmz))) (fun z => Bool.noConfusion z) rfl (pkP ki (by
    intro K e1 e2 e3 e4; subst e1; subst e2
    exact fmz))
theorem r_X9_of_0 {K : JC} {l : Launch} {G : JG} {Q : Int → MH → Prop} {E : Nat → Int → MH → Prop} {h0 : MH} (ki : KI K l G yX9_of cX9_of 7 (some .long) [] 6 195 1 Q E h0) (hG : gO G = true) {v1 v3 : Int} {h : MH} (H :
    (∀ x4_1 : Int, x4_1 = 0 →
    (∀ x6_2 : Int, x6_2 = 1 →
    JW K 6 [(2009, 396), (1, v1), (5000, 0), (0, v3), (1, x4_1), (5000, 0), (0, x6_2)] [] h))) : JW K 0 [(2009, 396), (1, v1), (5000, 0), (0, v3), (5000, 0), (5000, 0), (5000, 0)] [] h := by
  have e1 := ki.2.2.2.2.1
  have e2 := ki.2.2.2.2.2.1
  subst e1; subst e2
  exact run_ok (dia := [(33, 44)]) (cnr := []) (cuts := [(6, [2009, 1, 5000, 0, 1, 5000, 0], [])]) ki.1 (pk_X9_of ki hG) ok_X9_of (by decide) 6 true _ _ _ _ H
theorem r_X9_of_6 {K : JC} {l : Launch} {G : JG} {Q : Int → MH → Prop} {E : Nat → Int → MH → Prop} {h0 : MH} (ki : KI K l G yX9_of cX9_of 7 (some .long) [] 6 195 1 Q E h0) (hG : gO G = true) {v1 v3 v4 v6 : Int} {h : MH} (H :
    ((63 ≤ v6 →
      Q v4 h) ∧
    (v6 < 63 →
      ((¬ (lc (l_and (l_shr v1 v6) 1) 1) = 0 →
        (∀ x4_1 : Int, x4_1 = (l_or v4 0) →
        (∀ x6_2 : Int, x6_2 = w32 (v6 + 1) →
        JW K 6 [(2009, 396), (1, v1), (5000, 0), (0, v3), (1, x4_1), (5000, 0), (0, x6_2)] [] h))) ∧
      ((lc (l_and (l_shr v1 v6) 1) 1) = 0 →
        S_X9_isOf l G [(2009, 396), (0, v6), (0, v3)] h (fun z3 h4 =>
        (∀ x4_5 : Int, x4_5 = (l_or v4 (if z3 = 0 then 0 else (l_shl 1 v6) : Int)) →
        (∀ x6_6 : Int, x6_6 = w32 (v6 + 1) →
        JW K 6 [(2009, 396), (1, v1), (5000, 0), (0, v3), (1, x4_5), (5000, 0), (0, x6_6)] [] h4))) E))))) : JW K 6 [(2009, 396), (1, v1), (5000, 0), (0, v3), (1, v4), (5000, 0), (0, v6)] [] h := by
  have e1 := ki.2.2.2.2.1
  have e2 := ki.2.2.2.2.2.1
  subst e1; subst e2
  exact run_ok (dia := [(33, 44)]) (cnr := []) (cuts := [(6, [2009, 1, 5000, 0, 1, 5000, 0], [])]) ki.1 (pk_X9_of ki hG) ok_X9_of (by decide) 23 true _ _ _ _ H
abbrev k_X9_makeSite : List (Nat × List (Nat × Instr)) := [(42, [(0, .aload_n 0), (1, .getfield 74), (4, .iload_n 1), (5, .baload), (6, .ifCond .ne 7), (9, .iconst 1), (10, .goto 4), (13, .iconst 0), (14, .istore_n 2), (15, .aload_n 0), (16, .getfield 373), (19, .getfield 336), (22, .iload_n 1), (23, .iaload), (24, .istore_n 3), (25, .iload_n 3), (26, .ifCond .ge 7), (29, .iconst 1), (30, .goto 12), (33, .aload_n 0), (34, .getfield 373), (37, .getfield 269), (40, .iload_n 3), (41, .iaload)]),
  (83, [(42, .istore 4), (44, .iconst 0), (45, .istore 5), (47, .iload 5), (49, .iload 4), (51, .if_icmp .ge 58), (54, .iload_n 3), (55, .ifCond .ge 9), (58, .iconst (-1)), (59, .iload_n 3), (60, .isub), (61, .goto 18), (64, .aload_n 0), (65, .getfield 373), (68, .getfield 272), (71, .bipush 8), (73, .iload_n 3), (74, .imul), (75, .iload 5), (77, .iadd), (78, .iaload), (79, .istore 6), (81, .aload_n 0), (82, .iload_n 1)]),
  (125, [(83, .iload 5), (85, .iload_n 2), (86, .iconst 0), (87, .iconst 0), (88, .iconst 0), (89, .iload 6), (91, .iconst 1), (92, .if_icmp .ne 7), (95, .lconst 1), (96, .goto 4), (99, .lconst 0), (100, .invokevirtual 590), (103, .iinc 5 1), (106, .goto (-59)), (109, .aload_n 0), (110, .dup), (111, .getfield 484), (114, .iload_n 2), (115, .ifCond .eq 9), (118, .lconst 1), (119, .iload_n 1), (120, .lshl), (121, .goto 4), (124, .lconst 0)]),
  (145, [(125, .lor), (126, .putfield 484), (129, .aload_n 0), (130, .getfield 74), (133, .iload_n 1), (134, .iconst 1), (135, .bastore), (136, .return_)])]
theorem ok_X9_makeSite : CodeOK cX9_makeSite k_X9_makeSite := okw 0 (by decide +kernel) (okw 42 (by decide +kernel) (okw 83 (by decide +kernel) (okw 125 (by decide +kernel) (okn))))
abbrev p_X9_makeSite (l : Launch) (G : JG) : JP := (true, [(74, 9, 30, 1063102, 76), (269, 10, 4, 1024100, 3), (272, 10, 5, 1192100, 4), (336, 10, 29, 1063100, 26), (373, 9, 3, 14, 0), (484, 9, 12, 1, 0)], [], [], [(484, 9, 12, 1)], [], [], [(590, 1, [1, 0, 0, 0, 0, 0, 0, 2009], 700, S_X9_joinHeld l G)], false, 700, [])
theorem pk_X9_makeSite {K : JC} {l : Launch} {G : JG} {Q : Int → MH → Prop} {E : Nat → Int → MH → Prop} {h0 : MH} (ki : KI K l G yX9_makeSite cX9_makeSite 7 none [] 6 203 700 Q E h0) (hG : gO G = true) : POK K RX9 (p_X9_makeSite l G) :=
  POKi (y := yX9_makeSite) ki hG (rfs rf_X9_ok (by decide +kernel)) fmz fmz (rps rp_X9_ok (by decide +kernel)) fmz fmz
  (pkE ki (by
    intro K e1 e2 e3 e4; subst e1; subst e2
    exact fmE (ceV 9 e3 e4 yl_X9_joinHeld ⟨by decide, ⟨_, _, rfl⟩, q2702, qs146, q2700⟩ rfl) (fmz))) (fun z => Bool.noConfusion z) rfl (pkP ki (by
    intro K e1 e2 e3 e4; subst e1; subst e2
    exact fmz))
theorem r_X9_makeSite_0 {K : JC} {l : Launch} {G : JG} {Q : Int → MH → Prop} {E : Nat → Int → MH → Prop} {h0 : MH} (ki : KI K l G yX9_makeSite cX9_makeSite 7 none [] 6 203 700 Q E h0) (hG : gO G = true) {v1 : Int} {h : MH} (H :
    (0 ≤ v1) ∧
    (v1 < 63) ∧
    (∀ x2_1 : Int, x2_1 = (if (hv h 472 v1) = 0 then 1 else 0 : Int) →
    ((hv h 396 3) ≠ 0) ∧
    (0 ≤ v1) ∧
    (v1 < 63) ∧
    (∀ x3_2 : Int, x3_2 = (hv h ((hv h 396 3) + 26) v1) →
    ((0 ≤ x3_2 → ((hv h 396 3) ≠ 0) ∧ (0 ≤ x3_2) ∧ x3_2 < 24)) ∧
    (∀ x4_3 : Int, x4_3 = (if x3_2 < 0 then 1 else (hv h ((hv h 396 3) + 3) x3_2) : Int) →
    (∀ x5_4 : Int, x5_4 = 0 →
    JW K 47 [(2009, 396), (0, v1), (0, x2_1), (0, x3_2), (0, x4_3), (0, x5_4), (5000, 0)] [] h))))) : JW K 0 [(2009, 396), (0, v1), (5000, 0), (5000, 0), (5000, 0), (5000, 0), (5000, 0)] [] h := by
  have e1 := ki.2.2.2.2.1
  have e2 := ki.2.2.2.2.2.1
  subst e1; subst e2
  exact run_ok (dia := [(6, 14), (26, 42), (55, 79), (92, 100), (115, 125)]) (cnr := []) (cuts := [(47, [2009, 0, 0, 0, 0, 0, 5000], [])]) ki.1 (pk_X9_makeSite ki hG) ok_X9_makeSite (by decide) 19 true _ _ _ _ H
theorem r_X9_makeSite_47 {K : JC} {l : Launch} {G : JG} {Q : Int → MH → Prop} {E : Nat → Int → MH → Prop} {h0 : MH} (ki : KI K l G yX9_makeSite cX9_makeSite 7 none [] 6 203 700 Q E h0) (hG : gO G = true) {v1 v2 v3 v4 v5 : Int} {h : MH} (H :
    ((v4 ≤ v5 →
      (∀ h1, h1 = hset h 396 12 (l_or (hv h 396 12) (if v2 = 0 then 0 else (l_shl 1 v1) : Int)) →
      (0 ≤ v1) ∧
      (v1 < 63) ∧
      ((1 : Int) = 0 ∨ (1 : Int) = 1) ∧
      (∀ h2, h2 = hset h1 472 v1 1 →
      Q 0 h2))) ∧
    (v5 < v4 →
      ((0 ≤ v3 → ((hv h 396 3) ≠ 0) ∧ (0 ≤ (w32 ((w32 (8 * v3)) + v5))) ∧ (w32 ((w32 (8 * v3)) + v5)) < 192)) ∧
      (∀ x6_3 : Int, x6_3 = (if v3 < 0 then (w32 ((-1) - v3)) else (hv h ((hv h 396 3) + 4) (w32 ((w32 (8 * v3)) + v5))) : Int) →
      S_X9_joinHeld l G [(2009, 396), (0, v1), (0, v5), (0, v2), (0, 0), (0, 0), (0, 0), (1, (if x6_3 = 1 then 1 else 0 : Int))] h (fun _ h5 =>
      (∀ x5_6 : Int, x5_6 = w32 (v5 + 1) →
      JW K 47 [(2009, 396), (0, v1), (0, v2), (0, v3), (0, v4), (0, x5_6), (5000, 0)] [] h5)) E)))) : JW K 47 [(2009, 396), (0, v1), (0, v2), (0, v3), (0, v4), (0, v5), (5000, 0)] [] h := by
  have e1 := ki.2.2.2.2.1
  have e2 := ki.2.2.2.2.2.1
  subst e1; subst e2
  exact run_ok (dia := [(6, 14), (26, 42), (55, 79), (92, 100), (115, 125)]) (cnr := []) (cuts := [(47, [2009, 0, 0, 0, 0, 0, 5000], [])]) ki.1 (pk_X9_makeSite ki hG) ok_X9_makeSite (by decide) 21 true _ _ _ _ H
abbrev k_X9_joinHeld : List (Nat × List (Nat × Instr)) := [(46, [(0, .bipush 8), (2, .iload_n 1), (3, .imul), (4, .iload_n 2), (5, .iadd), (6, .istore 9), (8, .iload_n 3), (9, .ifCond .eq 8), (12, .iload 4), (14, .goto 15), (17, .aload_n 0), (18, .getfield 77), (21, .iload 9), (23, .iaload), (24, .iload 4), (26, .invokestatic 528), (29, .istore 10), (31, .iload_n 3), (32, .ifCond .eq 8), (35, .iload 5), (37, .goto 15), (40, .aload_n 0), (41, .getfield 80), (44, .iload 9)]),
  (90, [(46, .iaload), (47, .iload 5), (49, .invokestatic 530), (52, .istore 11), (54, .iload 10), (56, .aload_n 0), (57, .getfield 77), (60, .iload 9), (62, .iaload), (63, .if_icmp .ne 49), (66, .iload 11), (68, .aload_n 0), (69, .getfield 80), (72, .iload 9), (74, .iaload), (75, .if_icmp .ne 37), (78, .iload 6), (80, .aload_n 0), (81, .getfield 83), (84, .iload 9), (86, .iaload), (87, .iconst (-1)), (88, .ixor), (89, .iand)]),
  (132, [(90, .ifCond .ne 22), (93, .lload 7), (95, .aload_n 0), (96, .getfield 86), (99, .iload 9), (101, .laload), (102, .ldc2_w 476), (105, .lxor), (106, .land), (107, .lconst 0), (108, .lcmp), (109, .ifCond .eq 7), (112, .iconst 1), (113, .goto 4), (116, .iconst 0), (117, .istore 12), (119, .aload_n 0), (120, .dup), (121, .getfield 484), (124, .iload 12), (126, .ifCond .eq 9), (129, .lconst 1), (130, .iload_n 1), (131, .lshl)]),
  (174, [(132, .goto 4), (135, .lconst 0), (136, .lor), (137, .putfield 484), (140, .aload_n 0), (141, .getfield 77), (144, .iload 9), (146, .iload 10), (148, .iastore), (149, .aload_n 0), (150, .getfield 80), (153, .iload 9), (155, .iload 11), (157, .iastore), (158, .aload_n 0), (159, .getfield 83), (162, .iload 9), (164, .dup2), (165, .iaload), (166, .iload 6), (168, .ior), (169, .iastore), (170, .aload_n 0), (171, .getfield 86)]),
  (191, [(174, .iload 9), (176, .dup2), (177, .laload), (178, .lload 7), (180, .lor), (181, .lastore), (182, .return_)])]
theorem ok_X9_joinHeld : CodeOK cX9_joinHeld k_X9_joinHeld := okw 0 (by decide +kernel) (okw 46 (by decide +kernel) (okw 90 (by decide +kernel) (okw 132 (by decide +kernel) (okw 174 (by decide +kernel) (okn)))))
abbrev p_X9_joinHeld (l : Launch) (G : JG) : JP := (true, [(77, 9, 31, 1504100, 77), (80, 9, 32, 1504100, 78), (83, 9, 33, 1504100, 79), (86, 9, 34, 1504101, 80), (484, 9, 12, 1, 0)], [], [(476, (-1))], [(484, 9, 12, 1)], [], [], [], false, 700, [(528, e_J8_min), (530, e_J8_max)])
theorem pk_X9_joinHeld {K : JC} {l : Launch} {G : JG} {Q : Int → MH → Prop} {E : Nat → Int → MH → Prop} {h0 : MH} (ki : KI K l G yX9_joinHeld cX9_joinHeld 13 none [] 5 171 700 Q E h0) (hG : gO G = true) : POK K RX9 (p_X9_joinHeld l G) :=
  POKi (y := yX9_joinHeld) ki hG (rfs rf_X9_ok (by decide +kernel)) fmz (subs (by decide +kernel) rl_X9_ok) (rps rp_X9_ok (by decide +kernel)) fmz fmz
  (pkE ki (by
    intro K e1 e2 e3 e4; subst e1; subst e2
    exact fmz)) (fun z => Bool.noConfusion z) rfl (pkP ki (by
    intro K e1 e2 e3 e4; subst e1; subst e2
    exact fmP (pe_J8_min hG e3 e4 ⟨q1370, Or.inl q2608⟩ rfl rfl) (fmP (pe_J8_max hG e3 e4 ⟨q1373, Or.inl q2609⟩ rfl rfl) (fmz))))
theorem r_X9_joinHeld_0 {K : JC} {l : Launch} {G : JG} {Q : Int → MH → Prop} {E : Nat → Int → MH → Prop} {h0 : MH} (ki : KI K l G yX9_joinHeld cX9_joinHeld 13 none [] 5 171 700 Q E h0) (hG : gO G = true) {v1 v2 v3 v4 v5 v6 v7 : Int} {h : MH} (H :
    (∀ x9_1 : Int, x9_1 = (w32 ((w32 (8 * v1)) + v2)) →
    ((v3 = 0 → (0 ≤ x9_1) ∧ x9_1 < 504)) ∧
    (∀ x10_2 : Int, x10_2 = (if v3 = 0 then (min (hv h 473 x9_1) v4) else v4 : Int) →
    ((v3 = 0 → (0 ≤ x9_1) ∧ x9_1 < 504)) ∧
    (∀ x11_3 : Int, x11_3 = (if v3 = 0 then (max (hv h 474 x9_1) v5) else v5 : Int) →
    (0 ≤ x9_1) ∧
    (x9_1 < 504) ∧
    ((x10_2 = (hv h 473 x9_1) → (0 ≤ x9_1) ∧ (x9_1 < 504) ∧ (x11_3 = (hv h 474 x9_1) → (0 ≤ x9_1) ∧ (x9_1 < 504) ∧ ((i_and v6 (i_xor (hv h 475 x9_1) (-1))) = 0 → (0 ≤ x9_1) ∧ x9_1 < 504)))) ∧
    (∀ x12_4 : Int, x12_4 = (if x10_2 = (hv h 473 x9_1) then (if x11_3 = (hv h 474 x9_1) then (if (i_and v6 (i_xor (hv h 475 x9_1) (-1))) = 0 then (if (lc (l_and v7 (l_xor (hv h 476 x9_1) (-1))) 0) = 0 then 0 else 1 : Int) else 1 : Int) else 1 : Int) else 1 : Int) →
    (∀ h5, h5 = hset h 396 12 (l_or (hv h 396 12) (if x12_4 = 0 then 0 else (l_shl 1 v1) : Int)) →
    (0 ≤ x9_1) ∧
    (x9_1 < 504) ∧
    (∀ h6, h6 = hset h5 473 x9_1 x10_2 →
    (0 ≤ x9_1) ∧
    (x9_1 < 504) ∧
    (∀ h7, h7 = hset h6 474 x9_1 x11_3 →
    (0 ≤ x9_1) ∧
    (x9_1 < 504) ∧
    (0 ≤ x9_1) ∧
    (x9_1 < 504) ∧
    (∀ h8, h8 = hset h7 475 x9_1 (i_or (hv h7 475 x9_1) v6) →
    (0 ≤ x9_1) ∧
    (x9_1 < 504) ∧
    (0 ≤ x9_1) ∧
    (x9_1 < 504) ∧
    (∀ h9, h9 = hset h8 476 x9_1 (l_or (hv h8 476 x9_1) v7) →
    Q 0 h9)))))))))) : JW K 0 [(2009, 396), (0, v1), (0, v2), (0, v3), (0, v4), (0, v5), (0, v6), (1, v7), (5000, 0), (5000, 0), (5000, 0), (5000, 0), (5000, 0)] [] h := by
  have e1 := ki.2.2.2.2.1
  have e2 := ki.2.2.2.2.2.1
  subst e1; subst e2
  exact run_ok (dia := [(9, 29), (32, 52), (63, 117), (126, 136)]) (cnr := []) (cuts := []) ki.1 (pk_X9_joinHeld ki hG) ok_X9_joinHeld (by decide) 54 true _ _ _ _ H
abbrev k_X9_array : List (Nat × List (Nat × Instr)) := [(47, [(0, .aload_n 0), (1, .getfield 373), (4, .getfield 327), (7, .iload_n 1), (8, .iaload), (9, .istore_n 2), (10, .aload_n 0), (11, .invokevirtual 574), (14, .iconst 0), (15, .aload_n 0), (16, .getfield 539), (19, .invokestatic 530), (22, .istore_n 3), (23, .bipush 100), (25, .aload_n 0), (26, .getfield 542), (29, .invokestatic 528), (32, .istore 4), (34, .aload_n 0), (35, .getfield 539), (38, .ifCond .lt 12), (41, .aload_n 0), (42, .getfield 542), (45, .bipush 100)]),
  (91, [(47, .if_icmp .le 7), (50, .iconst 1), (51, .goto 4), (54, .iconst 0), (55, .istore 5), (57, .iload_n 3), (58, .iload 4), (60, .if_icmp .gt 171), (63, .aload_n 0), (64, .iload_n 2), (65, .invokevirtual 623), (68, .aload_n 0), (69, .iload_n 3), (70, .invokevirtual 551), (73, .istore_n 3), (74, .aload_n 0), (75, .iload 4), (77, .invokevirtual 554), (80, .istore 4), (82, .aload_n 0), (83, .getfield 95), (86, .iload_n 2), (87, .baload), (88, .ifCond .eq 16)]),
  (135, [(91, .aload_n 0), (92, .getfield 89), (95, .iload_n 2), (96, .iaload), (97, .iload_n 3), (98, .invokestatic 528), (101, .goto 4), (104, .iload_n 3), (105, .istore 6), (107, .aload_n 0), (108, .getfield 95), (111, .iload_n 2), (112, .baload), (113, .ifCond .eq 17), (116, .aload_n 0), (117, .getfield 92), (120, .iload_n 2), (121, .iaload), (122, .iload 4), (124, .invokestatic 530), (127, .goto 5), (130, .iload 4), (132, .istore 7), (134, .aload_n 0)]),
  (179, [(135, .getfield 95), (138, .iload_n 2), (139, .baload), (140, .ifCond .eq 25), (143, .iload 6), (145, .aload_n 0), (146, .getfield 89), (149, .iload_n 2), (150, .iaload), (151, .if_icmp .ne 14), (154, .iload 7), (156, .aload_n 0), (157, .getfield 92), (160, .iload_n 2), (161, .iaload), (162, .if_icmp .eq 7), (165, .iconst 1), (166, .goto 4), (169, .iconst 0), (170, .istore 8), (172, .aload_n 0), (173, .dup), (174, .getfield 484), (177, .iload 8)]),
  (217, [(179, .ifCond .eq 9), (182, .lconst 1), (183, .iload_n 2), (184, .lshl), (185, .goto 4), (188, .lconst 0), (189, .lor), (190, .putfield 484), (193, .aload_n 0), (194, .getfield 89), (197, .iload_n 2), (198, .iload 6), (200, .iastore), (201, .aload_n 0), (202, .getfield 92), (205, .iload_n 2), (206, .iload 7), (208, .iastore), (209, .aload_n 0), (210, .getfield 95), (213, .iload_n 2), (214, .iconst 1), (215, .bastore), (216, .aload_n 0)]),
  (251, [(217, .iconst 0), (218, .iconst 0), (219, .iconst 0), (220, .lconst 1), (221, .iload_n 2), (222, .lshl), (223, .invokevirtual 557), (226, .aload_n 0), (227, .iload_n 1), (228, .invokevirtual 606), (231, .iload 5), (233, .ifCond .eq 9), (236, .aload_n 0), (237, .iload_n 1), (238, .iconst 3), (239, .invokevirtual 597), (242, .return_)])]
theorem ok_X9_array : CodeOK cX9_array k_X9_array := okw 0 (by decide +kernel) (okw 47 (by decide +kernel) (okw 91 (by decide +kernel) (okw 135 (by decide +kernel) (okw 179 (by decide +kernel) (okw 217 (by decide +kernel) (okn))))))
abbrev p_X9_array (l : Launch) (G : JG) : JP := (true, [(89, 9, 35, 1063100, 81), (92, 9, 36, 1063100, 82), (95, 9, 37, 1063102, 83), (327, 10, 28, 2500100, 25), (373, 9, 3, 14, 0), (484, 9, 12, 1, 0), (539, 9, 64, 0, 0), (542, 9, 65, 0, 0)], [], [], [(484, 9, 12, 1)], [], [], [(551, 1, [0, 2009], 0, S_X9_downTo l G), (554, 1, [0, 2009], 0, S_X9_upTo l G), (557, 1, [1, 0, 0, 0, 2009], 700, S_X9_lay_2 l G), (574, 1, [2009], 700, S_X9_pull_2 l G), (597, 1, [0, 0, 2009], 700, S_X9_toss l G), (606, 1, [0, 2009], 700, S_X9_flowOn l G), (623, 1, [0, 2009], 700, S_X9_makeSite l G)], false, 700, [(528, e_J8_min), (530, e_J8_max)])
theorem pk_X9_array {K : JC} {l : Launch} {G : JG} {Q : Int → MH → Prop} {E : Nat → Int → MH → Prop} {h0 : MH} (ki : KI K l G yX9_array cX9_array 9 none [] 9 275 700 Q E h0) (hG : gO G = true) : POK K RX9 (p_X9_array l G) :=
  POKi (y := yX9_array) ki hG (rfs rf_X9_ok (by decide +kernel)) fmz fmz (rps rp_X9_ok (by decide +kernel)) fmz fmz
  (pkE ki (by
    intro K e1 e2 e3 e4; subst e1; subst e2
    exact fmE (ceV 9 e3 e4 yl_X9_downTo ⟨by decide, ⟨_, _, rfl⟩, q2648, qs134, q2646⟩ rfl) (fmE (ceV 9 e3 e4 yl_X9_upTo ⟨by decide, ⟨_, _, rfl⟩, q2656, qs136, q2654⟩ rfl) (fmE (ceV 9 e3 e4 yl_X9_lay_2 ⟨by decide, ⟨_, _, rfl⟩, q2624, qs128, q2622⟩ rfl) (fmE (ceV 9 e3 e4 yl_X9_pull_2 ⟨by decide, ⟨_, _, rfl⟩, q2636, qs131, q2634⟩ rfl) (fmE (ceV 9 e3 e4 yl_X9_toss ⟨by decide, ⟨_, _, rfl⟩, q2663, qs137, q2661⟩ rfl) (fmE (ceV 9 e3 e4 yl_X9_flowOn ⟨by decide, ⟨_, _, rfl⟩, q2628, qs129, q2626⟩ rfl) (fmE (ceV 9 e3 e4 yl_X9_makeSite ⟨by decide, ⟨_, _, rfl⟩, q2698, qs145, q2696⟩ rfl) (fmz))))))))) (fun z => Bool.noConfusion z) rfl (pkP ki (by
    intro K e1 e2 e3 e4; subst e1; subst e2
    exact fmP (pe_J8_min hG e3 e4 ⟨q1370, Or.inl q2608⟩ rfl rfl) (fmP (pe_J8_max hG e3 e4 ⟨q1373, Or.inl q2609⟩ rfl rfl) (fmz))))
theorem r_X9_array_0 {K : JC} {l : Launch} {G : JG} {Q : Int → MH → Prop} {E : Nat → Int → MH → Prop} {h0 : MH} (ki : KI K l G yX9_array cX9_array 9 none [] 9 275 700 Q E h0) (hG : gO G = true) {v1 : Int} {h : MH} (H :
    ((hv h 396 3) ≠ 0) ∧
    (0 ≤ v1) ∧
    (v1 < 1500) ∧
    (∀ x2_1 : Int, x2_1 = (hv h ((hv h 396 3) + 25) v1) →
    S_X9_pull_2 l G [(2009, 396)] h (fun _ h3 =>
    (∀ x3_4 : Int, x3_4 = (max 0 (hv h3 396 64)) →
    (∀ x4_5 : Int, x4_5 = (min 100 (hv h3 396 65)) →
    (∀ x5_6 : Int, x5_6 = (if (hv h3 396 64) < 0 then 1 else (if 100 < (hv h3 396 65) then 1 else 0 : Int) : Int) →
    ((x4_5 < x3_4 →
      ((x5_6 = 0 →
        Q 0 h3) ∧
      (¬ x5_6 = 0 →
        S_X9_toss l G [(2009, 396), (0, v1), (0, 3)] h3 (fun _ h8 =>
        Q 0 h8) E))) ∧
    (x3_4 ≤ x4_5 →
      S_X9_makeSite l G [(2009, 396), (0, x2_1)] h3 (fun _ h10 =>
      S_X9_downTo l G [(2009, 396), (0, x3_4)] h10 (fun z11 h12 =>
      (∀ x3_13 : Int, x3_13 = z11 →
      S_X9_upTo l G [(2009, 396), (0, x4_5)] h12 (fun z14 h15 =>
      (∀ x4_16 : Int, x4_16 = z14 →
      (0 ≤ x2_1) ∧
      (x2_1 < 63) ∧
      ((¬ (hv h15 479 x2_1) = 0 → (0 ≤ x2_1) ∧ x2_1 < 63)) ∧
      (∀ x6_17 : Int, x6_17 = (if (hv h15 479 x2_1) = 0 then x3_13 else (min (hv h15 477 x2_1) x3_13) : Int) →
      (0 ≤ x2_1) ∧
      (x2_1 < 63) ∧
      ((¬ (hv h15 479 x2_1) = 0 → (0 ≤ x2_1) ∧ x2_1 < 63)) ∧
      (∀ x7_18 : Int, x7_18 = (if (hv h15 479 x2_1) = 0 then x4_16 else (max (hv h15 478 x2_1) x4_16) : Int) →
      (0 ≤ x2_1) ∧
      (x2_1 < 63) ∧
      ((¬ (hv h15 479 x2_1) = 0 → (0 ≤ x2_1) ∧ (x2_1 < 63) ∧ (x6_17 = (hv h15 477 x2_1) → (0 ≤ x2_1) ∧ x2_1 < 63))) ∧
      (∀ x8_19 : Int, x8_19 = (if (hv h15 479 x2_1) = 0 then 1 else (if x6_17 = (hv h15 477 x2_1) then (if x7_18 = (hv h15 478 x2_1) then 0 else 1 : Int) else 1 : Int) : Int) →
      (∀ h20, h20 = hset h15 396 12 (l_or (hv h15 396 12) (if x8_19 = 0 then 0 else (l_shl 1 x2_1) : Int)) →
      (0 ≤ x2_1) ∧
      (x2_1 < 63) ∧
      (∀ h21, h21 = hset h20 477 x2_1 x6_17 →
      (0 ≤ x2_1) ∧
      (x2_1 < 63) ∧
      (∀ h22, h22 = hset h21 478 x2_1 x7_18 →
      (0 ≤ x2_1) ∧
      (x2_1 < 63) ∧
      ((1 : Int) = 0 ∨ (1 : Int) = 1) ∧
      (∀ h23, h23 = hset h22 479 x2_1 1 →
      S_X9_lay_2 l G [(2009, 396), (0, 0), (0, 0), (0, 0), (1, (l_shl 1 x2_1))] h23 (fun _ h25 =>
      S_X9_flowOn l G [(2009, 396), (0, v1)] h25 (fun _ h27 =>
      ((x5_6 = 0 →
        Q 0 h27) ∧
      (¬ x5_6 = 0 →
        S_X9_toss l G [(2009, 396), (0, v1), (0, 3)] h27 (fun _ h29 =>
        Q 0 h29) E))) E) E))))))))) E)) E) E)))))) E)) : JW K 0 [(2009, 396), (0, v1), (5000, 0), (5000, 0), (5000, 0), (5000, 0), (5000, 0), (5000, 0), (5000, 0)] [] h := by
  have e1 := ki.2.2.2.2.1
  have e2 := ki.2.2.2.2.2.1
  subst e1; subst e2
  exact run_ok (dia := [(38, 55), (88, 105), (113, 132), (140, 170), (179, 189)]) (cnr := []) (cuts := []) ki.1 (pk_X9_array ki hG) ok_X9_array (by decide) 95 true _ _ _ _ H
abbrev k_X9_inArray : List (Nat × List (Nat × Instr)) := [(39, [(0, .aload_n 0), (1, .getfield 373), (4, .getfield 339), (7, .iload_n 1), (8, .iaload), (9, .istore_n 2), (10, .aload_n 0), (11, .getfield 373), (14, .getfield 342), (17, .iload_n 1), (18, .iaload), (19, .istore_n 3), (20, .iconst 0), (21, .istore 4), (23, .iconst 0), (24, .istore 5), (26, .iconst 0), (27, .istore 6), (29, .lconst 0), (30, .lstore 7), (32, .iload_n 2), (33, .bipush 24), (35, .if_icmp .ne 31), (38, .aload_n 0)]),
  (86, [(39, .invokevirtual 574), (42, .aload_n 0), (43, .getfield 539), (46, .istore 4), (48, .aload_n 0), (49, .getfield 542), (52, .istore 5), (54, .aload_n 0), (55, .getfield 545), (58, .istore 6), (60, .aload_n 0), (61, .getfield 548), (64, .lstore 7), (66, .iconst 0), (67, .istore 9), (69, .iconst 0), (70, .istore 10), (72, .iload_n 2), (73, .bipush 22), (75, .if_icmp .eq 19), (78, .aload_n 0), (79, .invokevirtual 574), (82, .aload_n 0), (83, .getfield 539)]),
  (130, [(86, .istore 9), (88, .aload_n 0), (89, .getfield 542), (92, .istore 10), (94, .aload_n 0), (95, .invokevirtual 574), (98, .aload_n 0), (99, .getfield 548), (102, .lstore 11), (104, .aload_n 0), (105, .lload 11), (107, .iload_n 2), (108, .bipush 22), (110, .if_icmp .ne 7), (113, .iconst 2), (114, .goto 4), (117, .iload_n 3), (118, .invokevirtual 643), (121, .lstore 13), (123, .iconst 0), (124, .istore 15), (126, .lconst 0), (127, .lstore 16), (129, .aload_n 0)]),
  (175, [(130, .iconst 0), (131, .putfield 594), (134, .iconst 1), (135, .istore 18), (137, .iload 18), (139, .bipush 63), (141, .if_icmp .ge 194), (144, .lload 13), (146, .iload 18), (148, .lshr), (149, .lconst 1), (150, .land), (151, .lconst 0), (152, .lcmp), (153, .ifCond .eq 176), (156, .aload_n 0), (157, .getfield 95), (160, .iload 18), (162, .baload), (163, .ifCond .ne 6), (166, .goto 163), (169, .iload_n 2), (170, .bipush 22), (172, .if_icmp .ne 35)]),
  (219, [(175, .lload 16), (177, .lconst 1), (178, .iload 18), (180, .lshl), (181, .lor), (182, .lstore 16), (184, .aload_n 0), (185, .aload_n 0), (186, .getfield 89), (189, .iload 18), (191, .iaload), (192, .aload_n 0), (193, .getfield 92), (196, .iload 18), (198, .iaload), (199, .iconst 0), (200, .lconst 0), (201, .invokevirtual 609), (204, .goto 125), (207, .iload 15), (209, .ifCond .ne 20), (212, .iload 9), (214, .ifCond .lt 15), (217, .iload 10)]),
  (265, [(219, .aload_n 0), (220, .getfield 89), (223, .iload 18), (225, .iaload), (226, .if_icmp .lt 7), (229, .iconst 1), (230, .goto 4), (233, .iconst 0), (234, .istore 15), (236, .iload 10), (238, .ifCond .lt 91), (241, .iload 9), (243, .aload_n 0), (244, .getfield 92), (247, .iload 18), (249, .iaload), (250, .if_icmp .lt 6), (253, .goto 76), (256, .lload 16), (258, .lconst 1), (259, .iload 18), (261, .lshl), (262, .lor), (263, .lstore 16)]),
  (307, [(265, .bipush 8), (267, .iload 18), (269, .imul), (270, .istore 19), (272, .iload_n 2), (273, .bipush 23), (275, .if_icmp .ne 38), (278, .aload_n 0), (279, .aload_n 0), (280, .getfield 77), (283, .iload 19), (285, .iaload), (286, .aload_n 0), (287, .getfield 80), (290, .iload 19), (292, .iaload), (293, .aload_n 0), (294, .getfield 83), (297, .iload 19), (299, .iaload), (300, .aload_n 0), (301, .getfield 86), (304, .iload 19), (306, .laload)]),
  (353, [(307, .invokevirtual 609), (310, .goto 19), (313, .aload_n 0), (314, .iload 18), (316, .iconst 0), (317, .iconst 0), (318, .iload 4), (320, .iload 5), (322, .iload 6), (324, .lload 7), (326, .invokevirtual 590), (329, .iinc 18 1), (332, .goto (-195)), (335, .aload_n 0), (336, .getfield 71), (339, .iload_n 1), (340, .lload 16), (342, .lastore), (343, .lload 16), (345, .lconst 0), (346, .lcmp), (347, .ifCond .eq 34), (350, .iload_n 2), (351, .bipush 24)]),
  (396, [(353, .if_icmp .eq 23), (356, .aload_n 0), (357, .aload_n 0), (358, .getfield 539), (361, .aload_n 0), (362, .getfield 542), (365, .aload_n 0), (366, .getfield 545), (369, .aload_n 0), (370, .getfield 548), (373, .invokevirtual 557), (376, .aload_n 0), (377, .iload_n 1), (378, .invokevirtual 606), (381, .lload 11), (383, .lconst 1), (384, .land), (385, .lconst 0), (386, .lcmp), (387, .ifCond .eq 9), (390, .aload_n 0), (391, .iload_n 1), (392, .iconst 1), (393, .invokevirtual 597)]),
  (440, [(396, .lload 11), (398, .lload 13), (400, .ldc2_w 476), (403, .lxor), (404, .land), (405, .ldc2_w 641), (408, .land), (409, .lconst 0), (410, .lcmp), (411, .ifCond .eq 9), (414, .aload_n 0), (415, .iload_n 1), (416, .iconst 5), (417, .invokevirtual 597), (420, .iload 15), (422, .ifCond .eq 9), (425, .aload_n 0), (426, .iload_n 1), (427, .iconst 2), (428, .invokevirtual 597), (431, .return_)])]
theorem ok_X9_inArray : CodeOK cX9_inArray k_X9_inArray := okw 0 (by decide +kernel) (okw 39 (by decide +kernel) (okw 86 (by decide +kernel) (okw 130 (by decide +kernel) (okw 175 (by decide +kernel) (okw 219 (by decide +kernel) (okw 265 (by decide +kernel) (okw 307 (by decide +kernel) (okw 353 (by decide +kernel) (okw 396 (by decide +kernel) (okn))))))))))
abbrev p_X9_inArray (l : Launch) (G : JG) : JP := (true, [(71, 9, 29, 2500101, 75), (77, 9, 31, 1504100, 77), (80, 9, 32, 1504100, 78), (83, 9, 33, 1504100, 79), (86, 9, 34, 1504101, 80), (89, 9, 35, 1063100, 81), (92, 9, 36, 1063100, 82), (95, 9, 37, 1063102, 83), (339, 10, 22, 2500100, 19), (342, 10, 23, 2500100, 20), (373, 9, 3, 14, 0), (539, 9, 64, 0, 0), (542, 9, 65, 0, 0), (545, 9, 66, 0, 0), (548, 9, 67, 1, 0)], [], [(476, (-1)), (641, (-2))], [(594, 9, 72, 2)], [], [], [(557, 1, [1, 0, 0, 0, 2009], 700, S_X9_lay_2 l G), (574, 1, [2009], 700, S_X9_pull_2 l G), (590, 1, [1, 0, 0, 0, 0, 0, 0, 2009], 700, S_X9_joinHeld l G), (597, 1, [0, 0, 2009], 700, S_X9_toss l G), (606, 1, [0, 2009], 700, S_X9_flowOn l G), (609, 1, [1, 0, 0, 0, 2009], 700, S_X9_addValue l G), (643, 1, [0, 1, 2009], 1, S_X9_arrays l G)], false, 700, [])
theorem pk_X9_inArray {K : JC} {l : Launch} {G : JG} {Q : Int → MH → Prop} {E : Nat → Int → MH → Prop} {h0 : MH} (ki : KI K l G yX9_inArray cX9_inArray 20 none [] 9 275 700 Q E h0) (hG : gO G = true) : POK K RX9 (p_X9_inArray l G) :=
  POKi (y := yX9_inArray) ki hG (rfs rf_X9_ok (by decide +kernel)) fmz (subs (by decide +kernel) rl_X9_ok) (rps rp_X9_ok (by decide +kernel)) fmz fmz
  (pkE ki (by
    intro K e1 e2 e3 e4; subst e1; subst e2
    exact fmE (ceV 9 e3 e4 yl_X9_lay_2 ⟨by decide, ⟨_, _, rfl⟩, q2624, qs128, q2622⟩ rfl) (fmE (ceV 9 e3 e4 yl_X9_pull_2 ⟨by decide, ⟨_, _, rfl⟩, q2636, qs131, q2634⟩ rfl) (fmE (ceV 9 e3 e4 yl_X9_joinHeld ⟨by decide, ⟨_, _, rfl⟩, q2702, qs146, q2700⟩ rfl) (fmE (ceV 9 e3 e4 yl_X9_toss ⟨by decide, ⟨_, _, rfl⟩, q2663, qs137, q2661⟩ rfl) (fmE (ceV 9 e3 e4 yl_X9_flowOn ⟨by decide, ⟨_, _, rfl⟩, q2628, qs129, q2626⟩ rfl) (fmE (ceV 9 e3 e4 yl_X9_addValue ⟨by decide, ⟨_, _, rfl⟩, q2718, qs150, q2716⟩ rfl) (fmE (ceV 9 e3 e4 yl_X9_arrays ⟨by decide, ⟨_, _, rfl⟩, q2714, qs149, q2712⟩ rfl) (fmz))))))))) (fun z => Bool.noConfusion z) rfl (pkP ki (by
    intro K e1 e2 e3 e4; subst e1; subst e2
    exact fmz))
theorem r_X9_inArray_0 {K : JC} {l : Launch} {G : JG} {Q : Int → MH → Prop} {E : Nat → Int → MH → Prop} {h0 : MH} (ki : KI K l G yX9_inArray cX9_inArray 20 none [] 9 275 700 Q E h0) (hG : gO G = true) {v1 : Int} {h : MH} (H :
    ((hv h 396 3) ≠ 0) ∧
    (0 ≤ v1) ∧
    (v1 < 1500) ∧
    (∀ x2_1 : Int, x2_1 = (hv h ((hv h 396 3) + 19) v1) →
    ((hv h 396 3) ≠ 0) ∧
    (0 ≤ v1) ∧
    (v1 < 1500) ∧
    (∀ x3_2 : Int, x3_2 = (hv h ((hv h 396 3) + 20) v1) →
    (∀ x4_3 : Int, x4_3 = 0 →
    (∀ x5_4 : Int, x5_4 = 0 →
    (∀ x6_5 : Int, x6_5 = 0 →
    (∀ x7_6 : Int, x7_6 = 0 →
    ((¬ x2_1 = 24 →
      (∀ x9_7 : Int, x9_7 = 0 →
      (∀ x10_8 : Int, x10_8 = 0 →
      ((x2_1 = 22 →
        S_X9_pull_2 l G [(2009, 396)] h (fun _ h10 =>
        (∀ x11_11 : Int, x11_11 = (hv h10 396 67) →
        S_X9_arrays l G [(2009, 396), (1, x11_11), (0, (if x2_1 = 22 then 2 else x3_2 : Int))] h10 (fun z12 h13 =>
        (∀ x13_14 : Int, x13_14 = z12 →
        (∀ x15_15 : Int, x15_15 = 0 →
        (∀ x16_16 : Int, x16_16 = 0 →
        ((0 : Int) = 0 ∨ (0 : Int) = 1) ∧
        (∀ h17, h17 = hset h13 396 72 0 →
        (∀ x18_18 : Int, x18_18 = 1 →
        JW K 137 [(2009, 396), (0, v1), (0, x2_1), (0, x3_2), (0, x4_3), (0, x5_4), (0, x6_5), (1, x7_6), (5000, 0), (0, x9_7), (0, x10_8), (1, x11_11), (5000, 0), (1, x13_14), (5000, 0), (0, x15_15), (1, x16_16), (5000, 0), (0, x18_18), (5000, 0)] [] h17)))))) E)) E) ∧
      (¬ x2_1 = 22 →
        S_X9_pull_2 l G [(2009, 396)] h (fun _ h20 =>
        (∀ x9_21 : Int, x9_21 = (hv h20 396 64) →
        (∀ x10_22 : Int, x10_22 = (hv h20 396 65) →
        S_X9_pull_2 l G [(2009, 396)] h20 (fun _ h24 =>
        (∀ x11_25 : Int, x11_25 = (hv h24 396 67) →
        S_X9_arrays l G [(2009, 396), (1, x11_25), (0, (if x2_1 = 22 then 2 else x3_2 : Int))] h24 (fun z26 h27 =>
        (∀ x13_28 : Int, x13_28 = z26 →
        (∀ x15_29 : Int, x15_29 = 0 →
        (∀ x16_30 : Int, x16_30 = 0 →
        ((0 : Int) = 0 ∨ (0 : Int) = 1) ∧
        (∀ h31, h31 = hset h27 396 72 0 →
        (∀ x18_32 : Int, x18_32 = 1 →
        JW K 137 [(2009, 396), (0, v1), (0, x2_1), (0, x3_2), (0, x4_3), (0, x5_4), (0, x6_5), (1, x7_6), (5000, 0), (0, x9_21), (0, x10_22), (1, x11_25), (5000, 0), (1, x13_28), (5000, 0), (0, x15_29), (1, x16_30), (5000, 0), (0, x18_32), (5000, 0)] [] h31)))))) E)) E))) E))))) ∧
    (x2_1 = 24 →
      S_X9_pull_2 l G [(2009, 396)] h (fun _ h34 =>
      (∀ x4_35 : Int, x4_35 = (hv h34 396 64) →
      (∀ x5_36 : Int, x5_36 = (hv h34 396 65) →
      (∀ x6_37 : Int, x6_37 = (hv h34 396 66) →
      (∀ x7_38 : Int, x7_38 = (hv h34 396 67) →
      (∀ x9_39 : Int, x9_39 = 0 →
      (∀ x10_40 : Int, x10_40 = 0 →
      ((x2_1 = 22 →
        S_X9_pull_2 l G [(2009, 396)] h34 (fun _ h42 =>
        (∀ x11_43 : Int, x11_43 = (hv h42 396 67) →
        S_X9_arrays l G [(2009, 396), (1, x11_43), (0, (if x2_1 = 22 then 2 else x3_2 : Int))] h42 (fun z44 h45 =>
        (∀ x13_46 : Int, x13_46 = z44 →
        (∀ x15_47 : Int, x15_47 = 0 →
        (∀ x16_48 : Int, x16_48 = 0 →
        ((0 : Int) = 0 ∨ (0 : Int) = 1) ∧
        (∀ h49, h49 = hset h45 396 72 0 →
        (∀ x18_50 : Int, x18_50 = 1 →
        JW K 137 [(2009, 396), (0, v1), (0, x2_1), (0, x3_2), (0, x4_35), (0, x5_36), (0, x6_37), (1, x7_38), (5000, 0), (0, x9_39), (0, x10_40), (1, x11_43), (5000, 0), (1, x13_46), (5000, 0), (0, x15_47), (1, x16_48), (5000, 0), (0, x18_50), (5000, 0)] [] h49)))))) E)) E) ∧
      (¬ x2_1 = 22 →
        S_X9_pull_2 l G [(2009, 396)] h34 (fun _ h52 =>
        (∀ x9_53 : Int, x9_53 = (hv h52 396 64) →
        (∀ x10_54 : Int, x10_54 = (hv h52 396 65) →
        S_X9_pull_2 l G [(2009, 396)] h52 (fun _ h56 =>
        (∀ x11_57 : Int, x11_57 = (hv h56 396 67) →
        S_X9_arrays l G [(2009, 396), (1, x11_57), (0, (if x2_1 = 22 then 2 else x3_2 : Int))] h56 (fun z58 h59 =>
        (∀ x13_60 : Int, x13_60 = z58 →
        (∀ x15_61 : Int, x15_61 = 0 →
        (∀ x16_62 : Int, x16_62 = 0 →
        ((0 : Int) = 0 ∨ (0 : Int) = 1) ∧
        (∀ h63, h63 = hset h59 396 72 0 →
        (∀ x18_64 : Int, x18_64 = 1 →
        JW K 137 [(2009, 396), (0, v1), (0, x2_1), (0, x3_2), (0, x4_35), (0, x5_36), (0, x6_37), (1, x7_38), (5000, 0), (0, x9_53), (0, x10_54), (1, x11_57), (5000, 0), (1, x13_60), (5000, 0), (0, x15_61), (1, x16_62), (5000, 0), (0, x18_64), (5000, 0)] [] h63)))))) E)) E))) E))))))))) E))))))))) : JW K 0 [(2009, 396), (0, v1), (5000, 0), (5000, 0), (5000, 0), (5000, 0), (5000, 0), (5000, 0), (5000, 0), (5000, 0), (5000, 0), (5000, 0), (5000, 0), (5000, 0), (5000, 0), (5000, 0), (5000, 0), (5000, 0), (5000, 0), (5000, 0)] [] h := by
  have e1 := ki.2.2.2.2.1
  have e2 := ki.2.2.2.2.2.1
  subst e1; subst e2
  exact run_ok (dia := [(110, 118), (209, 234)]) (cnr := []) (cuts := [(137, [2009, 0, 0, 0, 0, 0, 0, 1, 5000, 0, 0, 1, 5000, 1, 5000, 0, 1, 5000, 0, 5000], [])]) ki.1 (pk_X9_inArray ki hG) ok_X9_inArray (by decide) 75 true _ _ _ _ H
theorem r_X9_inArray_137 {K : JC} {l : Launch} {G : JG} {Q : Int → MH → Prop} {E : Nat → Int → MH → Prop} {h0 : MH} (ki : KI K l G yX9_inArray cX9_inArray 20 none [] 9 275 700 Q E h0) (hG : gO G = true) {v1 v2 v3 v4 v5 v6 v7 v9 v10 v11 v13 v15 v16 v18 : Int} {h : MH} (H :
    ((63 ≤ v18 →
      (0 ≤ v1) ∧
      (v1 < 1500) ∧
      (∀ h1, h1 = hset h 471 v1 v16 →
      (((lc v16 0) = 0 →
        (((lc (l_and v11 1) 0) = 0 →
          (((lc (l_and (l_and v11 (l_xor v13 (-1))) (-2)) 0) = 0 →
            ((v15 = 0 →
              Q 0 h1) ∧
            (¬ v15 = 0 →
              S_X9_toss l G [(2009, 396), (0, v1), (0, 2)] h1 (fun _ h3 =>
              Q 0 h3) E))) ∧
          (¬ (lc (l_and (l_and v11 (l_xor v13 (-1))) (-2)) 0) = 0 →
            S_X9_toss l G [(2009, 396), (0, v1), (0, 5)] h1 (fun _ h5 =>
            ((v15 = 0 →
              Q 0 h5) ∧
            (¬ v15 = 0 →
              S_X9_toss l G [(2009, 396), (0, v1), (0, 2)] h5 (fun _ h7 =>
              Q 0 h7) E))) E))) ∧
        (¬ (lc (l_and v11 1) 0) = 0 →
          S_X9_toss l G [(2009, 396), (0, v1), (0, 1)] h1 (fun _ h9 =>
          (((lc (l_and (l_and v11 (l_xor v13 (-1))) (-2)) 0) = 0 →
            ((v15 = 0 →
              Q 0 h9) ∧
            (¬ v15 = 0 →
              S_X9_toss l G [(2009, 396), (0, v1), (0, 2)] h9 (fun _ h11 =>
              Q 0 h11) E))) ∧
          (¬ (lc (l_and (l_and v11 (l_xor v13 (-1))) (-2)) 0) = 0 →
            S_X9_toss l G [(2009, 396), (0, v1), (0, 5)] h9 (fun _ h13 =>
            ((v15 = 0 →
              Q 0 h13) ∧
            (¬ v15 = 0 →
              S_X9_toss l G [(2009, 396), (0, v1), (0, 2)] h13 (fun _ h15 =>
              Q 0 h15) E))) E))) E))) ∧
      (¬ (lc v16 0) = 0 →
        ((v2 = 24 →
          S_X9_flowOn l G [(2009, 396), (0, v1)] h1 (fun _ h17 =>
          (((lc (l_and v11 1) 0) = 0 →
            (((lc (l_and (l_and v11 (l_xor v13 (-1))) (-2)) 0) = 0 →
              ((v15 = 0 →
                Q 0 h17) ∧
              (¬ v15 = 0 →
                S_X9_toss l G [(2009, 396), (0, v1), (0, 2)] h17 (fun _ h19 =>
                Q 0 h19) E))) ∧
            (¬ (lc (l_and (l_and v11 (l_xor v13 (-1))) (-2)) 0) = 0 →
              S_X9_toss l G [(2009, 396), (0, v1), (0, 5)] h17 (fun _ h21 =>
              ((v15 = 0 →
                Q 0 h21) ∧
              (¬ v15 = 0 →
                S_X9_toss l G [(2009, 396), (0, v1), (0, 2)] h21 (fun _ h23 =>
                Q 0 h23) E))) E))) ∧
          (¬ (lc (l_and v11 1) 0) = 0 →
            S_X9_toss l G [(2009, 396), (0, v1), (0, 1)] h17 (fun _ h25 =>
            (((lc (l_and (l_and v11 (l_xor v13 (-1))) (-2)) 0) = 0 →
              ((v15 = 0 →
                Q 0 h25) ∧
              (¬ v15 = 0 →
                S_X9_toss l G [(2009, 396), (0, v1), (0, 2)] h25 (fun _ h27 =>
                Q 0 h27) E))) ∧
            (¬ (lc (l_and (l_and v11 (l_xor v13 (-1))) (-2)) 0) = 0 →
              S_X9_toss l G [(2009, 396), (0, v1), (0, 5)] h25 (fun _ h29 =>
              ((v15 = 0 →
                Q 0 h29) ∧
              (¬ v15 = 0 →
                S_X9_toss l G [(2009, 396), (0, v1), (0, 2)] h29 (fun _ h31 =>
                Q 0 h31) E))) E))) E))) E) ∧
        (¬ v2 = 24 →
          S_X9_lay_2 l G [(2009, 396), (0, (hv h1 396 64)), (0, (hv h1 396 65)), (0, (hv h1 396 66)), (1, (hv h1 396 67))] h1 (fun _ h33 =>
          S_X9_flowOn l G [(2009, 396), (0, v1)] h33 (fun _ h35 =>
          (((lc (l_and v11 1) 0) = 0 →
            (((lc (l_and (l_and v11 (l_xor v13 (-1))) (-2)) 0) = 0 →
              ((v15 = 0 →
                Q 0 h35) ∧
              (¬ v15 = 0 →
                S_X9_toss l G [(2009, 396), (0, v1), (0, 2)] h35 (fun _ h37 =>
                Q 0 h37) E))) ∧
            (¬ (lc (l_and (l_and v11 (l_xor v13 (-1))) (-2)) 0) = 0 →
              S_X9_toss l G [(2009, 396), (0, v1), (0, 5)] h35 (fun _ h39 =>
              ((v15 = 0 →
                Q 0 h39) ∧
              (¬ v15 = 0 →
                S_X9_toss l G [(2009, 396), (0, v1), (0, 2)] h39 (fun _ h41 =>
                Q 0 h41) E))) E))) ∧
          (¬ (lc (l_and v11 1) 0) = 0 →
            S_X9_toss l G [(2009, 396), (0, v1), (0, 1)] h35 (fun _ h43 =>
            (((lc (l_and (l_and v11 (l_xor v13 (-1))) (-2)) 0) = 0 →
              ((v15 = 0 →
                Q 0 h43) ∧
              (¬ v15 = 0 →
                S_X9_toss l G [(2009, 396), (0, v1), (0, 2)] h43 (fun _ h45 =>
                Q 0 h45) E))) ∧
            (¬ (lc (l_and (l_and v11 (l_xor v13 (-1))) (-2)) 0) = 0 →
              S_X9_toss l G [(2009, 396), (0, v1), (0, 5)] h43 (fun _ h47 =>
              ((v15 = 0 →
                Q 0 h47) ∧
              (¬ v15 = 0 →
                S_X9_toss l G [(2009, 396), (0, v1), (0, 2)] h47 (fun _ h49 =>
                Q 0 h49) E))) E))) E))) E) E)))))) ∧
    (v18 < 63 →
      (((lc (l_and (l_shr v13 v18) 1) 0) = 0 →
        (∀ x18_50 : Int, x18_50 = w32 (v18 + 1) →
        JW K 137 [(2009, 396), (0, v1), (0, v2), (0, v3), (0, v4), (0, v5), (0, v6), (1, v7), (5000, 0), (0, v9), (0, v10), (1, v11), (5000, 0), (1, v13), (5000, 0), (0, v15), (1, v16), (5000, 0), (0, x18_50), (5000, 0)] [] h)) ∧
      (¬ (lc (l_and (l_shr v13 v18) 1) 0) = 0 →
        (0 ≤ v18) ∧
        (v18 < 63) ∧
        ((¬ (hv h 479 v18) = 0 →
          ((¬ v2 = 22 →
            ((v15 = 0 → (0 ≤ v9 → (0 ≤ v18) ∧ v18 < 63))) ∧
            (∀ x15_51 : Int, x15_51 = (if v15 = 0 then (if v9 < 0 then 1 else (if v10 < (hv h 477 v18) then 0 else 1 : Int) : Int) else 1 : Int) →
            ((v10 < 0 →
              (∀ x18_52 : Int, x18_52 = w32 (v18 + 1) →
              JW K 137 [(2009, 396), (0, v1), (0, v2), (0, v3), (0, v4), (0, v5), (0, v6), (1, v7), (5000, 0), (0, v9), (0, v10), (1, v11), (5000, 0), (1, v13), (5000, 0), (0, x15_51), (1, v16), (5000, 0), (0, x18_52), (5000, 0)] [] h)) ∧
            (0 ≤ v10 →
              (0 ≤ v18) ∧
              (v18 < 63) ∧
              ((v9 < (hv h 478 v18) →
                (∀ x16_53 : Int, x16_53 = (l_or v16 (l_shl 1 v18)) →
                (∀ x19_54 : Int, x19_54 = (w32 (8 * v18)) →
                ((¬ v2 = 23 →
                  S_X9_joinHeld l G [(2009, 396), (0, v18), (0, 0), (0, 0), (0, v4), (0, v5), (0, v6), (1, v7)] h (fun _ h56 =>
                  (∀ x18_57 : Int, x18_57 = w32 (v18 + 1) →
                  JW K 137 [(2009, 396), (0, v1), (0, v2), (0, v3), (0, v4), (0, v5), (0, v6), (1, v7), (5000, 0), (0, v9), (0, v10), (1, v11), (5000, 0), (1, v13), (5000, 0), (0, x15_51), (1, x16_53), (5000, 0), (0, x18_57), (5000, 0)] [] h56)) E) ∧
                (v2 = 23 →
                  (0 ≤ x19_54) ∧
                  (x19_54 < 504) ∧
                  (0 ≤ x19_54) ∧
                  (x19_54 < 504) ∧
                  (0 ≤ x19_54) ∧
                  (x19_54 < 504) ∧
                  (0 ≤ x19_54) ∧
                  (x19_54 < 504) ∧
                  S_X9_addValue l G [(2009, 396), (0, (hv h 473 x19_54)), (0, (hv h 474 x19_54)), (0, (hv h 475 x19_54)), (1, (hv h 476 x19_54))] h (fun _ h59 =>
                  (∀ x18_60 : Int, x18_60 = w32 (v18 + 1) →
                  JW K 137 [(2009, 396), (0, v1), (0, v2), (0, v3), (0, v4), (0, v5), (0, v6), (1, v7), (5000, 0), (0, v9), (0, v10), (1, v11), (5000, 0), (1, v13), (5000, 0), (0, x15_51), (1, x16_53), (5000, 0), (0, x18_60), (5000, 0)] [] h59)) E))))) ∧
              ((hv h 478 v18) ≤ v9 →
                (∀ x18_61 : Int, x18_61 = w32 (v18 + 1) →
                JW K 137 [(2009, 396), (0, v1), (0, v2), (0, v3), (0, v4), (0, v5), (0, v6), (1, v7), (5000, 0), (0, v9), (0, v10), (1, v11), (5000, 0), (1, v13), (5000, 0), (0, x15_51), (1, v16), (5000, 0), (0, x18_61), (5000, 0)] [] h))))))) ∧
          (v2 = 22 →
            (∀ x16_62 : Int, x16_62 = (l_or v16 (l_shl 1 v18)) →
            (0 ≤ v18) ∧
            (v18 < 63) ∧
            (0 ≤ v18) ∧
            (v18 < 63) ∧
            S_X9_addValue l G [(2009, 396), (0, (hv h 477 v18)), (0, (hv h 478 v18)), (0, 0), (1, 0)] h (fun _ h64 =>
            (∀ x18_65 : Int, x18_65 = w32 (v18 + 1) →
            JW K 137 [(2009, 396), (0, v1), (0, v2), (0, v3), (0, v4), (0, v5), (0, v6), (1, v7), (5000, 0), (0, v9), (0, v10), (1, v11), (5000, 0), (1, v13), (5000, 0), (0, v15), (1, x16_62), (5000, 0), (0, x18_65), (5000, 0)] [] h64)) E)))) ∧
        ((hv h 479 v18) = 0 →
          (∀ x18_66 : Int, x18_66 = w32 (v18 + 1) →
          JW K 137 [(2009, 396), (0, v1), (0, v2), (0, v3), (0, v4), (0, v5), (0, v6), (1, v7), (5000, 0), (0, v9), (0, v10), (1, v11), (5000, 0), (1, v13), (5000, 0), (0, v15), (1, v16), (5000, 0), (0, x18_66), (5000, 0)] [] h)))))))) : JW K 137 [(2009, 396), (0, v1), (0, v2), (0, v3), (0, v4), (0, v5), (0, v6), (1, v7), (5000, 0), (0, v9), (0, v10), (1, v11), (5000, 0), (1, v13), (5000, 0), (0, v15), (1, v16), (5000, 0), (0, v18), (5000, 0)] [] h := by
  have e1 := ki.2.2.2.2.1
  have e2 := ki.2.2.2.2.2.1
  subst e1; subst e2
  exact run_ok (dia := [(110, 118), (209, 234)]) (cnr := []) (cuts := [(137, [2009, 0, 0, 0, 0, 0, 0, 1, 5000, 0, 0, 1, 5000, 1, 5000, 0, 1, 5000, 0, 5000], [])]) ki.1 (pk_X9_inArray ki hG) ok_X9_inArray (by decide) 66 true _ _ _ _ H
abbrev k_X9_arrays : List (Nat × List (Nat × Instr)) := [(41, [(0, .lconst 0), (1, .lstore 4), (3, .iconst 1), (4, .istore 6), (6, .iload 6), (8, .bipush 63), (10, .if_icmp .ge 63), (13, .lload 4), (15, .lload_n 1), (16, .iload 6), (18, .lshr), (19, .lconst 1), (20, .land), (21, .lconst 1), (22, .lcmp), (23, .ifCond .ne 40), (26, .aload_n 0), (27, .iload 6), (29, .invokevirtual 446), (32, .ifCond .eq 31), (35, .iload_n 3), (36, .iconst 2), (37, .if_icmp .eq 19), (40, .aload_n 0)]),
  (84, [(41, .getfield 373), (44, .getfield 336), (47, .iload 6), (49, .iaload), (50, .iconst (-1)), (51, .iload_n 3), (52, .isub), (53, .if_icmp .ne 10), (56, .lconst 1), (57, .iload 6), (59, .lshl), (60, .goto 4), (63, .lconst 0), (64, .lor), (65, .lstore 4), (67, .iinc 6 1), (70, .goto (-64)), (73, .lload 4), (75, .lreturn)])]
theorem ok_X9_arrays : CodeOK cX9_arrays k_X9_arrays := okw 0 (by decide +kernel) (okw 41 (by decide +kernel) (okn))
abbrev p_X9_arrays (l : Launch) (G : JG) : JP := (true, [(336, 10, 29, 1063100, 26), (373, 9, 3, 14, 0)], [], [], [], [], [], [(446, 1, [0, 2009], 2, S_X9_isArray l G)], false, 1, [])
theorem pk_X9_arrays {K : JC} {l : Launch} {G : JG} {Q : Int → MH → Prop} {E : Nat → Int → MH → Prop} {h0 : MH} (ki : KI K l G yX9_arrays cX9_arrays 7 (some .long) [] 5 171 1 Q E h0) (hG : gO G = true) : POK K RX9 (p_X9_arrays l G) :=
  POKi (y := yX9_arrays) ki hG (rfs rf_X9_ok (by decide +kernel)) fmz fmz fmz fmz fmz
  (pkE ki (by
    intro K e1 e2 e3 e4; subst e1; subst e2
    exact fmE (ceV 9 e3 e4 yl_X9_isArray ⟨by decide, ⟨_, _, rfl⟩, q2679, qs141, q2677⟩ rfl) (fmz))) (fun z => Bool.noConfusion z) rfl (pkP ki (by
    intro K e1 e2 e3 e4; subst e1; subst e2
    exact fmz))
theorem r_X9_arrays_0 {K : JC} {l : Launch} {G : JG} {Q : Int → MH → Prop} {E : Nat → Int → MH → Prop} {h0 : MH} (ki : KI K l G yX9_arrays cX9_arrays 7 (some .long) [] 5 171 1 Q E h0) (hG : gO G = true) {v1 v3 : Int} {h : MH} (H :
    (∀ x4_1 : Int, x4_1 = 0 →
    (∀ x6_2 : Int, x6_2 = 1 →
    JW K 6 [(2009, 396), (1, v1), (5000, 0), (0, v3), (1, x4_1), (5000, 0), (0, x6_2)] [] h))) : JW K 0 [(2009, 396), (1, v1), (5000, 0), (0, v3), (5000, 0), (5000, 0), (5000, 0)] [] h := by
  have e1 := ki.2.2.2.2.1
  have e2 := ki.2.2.2.2.2.1
  subst e1; subst e2
  exact run_ok (dia := [(32, 64)]) (cnr := []) (cuts := [(6, [2009, 1, 5000, 0, 1, 5000, 0], [])]) ki.1 (pk_X9_arrays ki hG) ok_X9_arrays (by decide) 6 true _ _ _ _ H
theorem r_X9_arrays_6 {K : JC} {l : Launch} {G : JG} {Q : Int → MH → Prop} {E : Nat → Int → MH → Prop} {h0 : MH} (ki : KI K l G yX9_arrays cX9_arrays 7 (some .long) [] 5 171 1 Q E h0) (hG : gO G = true) {v1 v3 v4 v6 : Int} {h : MH} (H :
    ((63 ≤ v6 →
      Q v4 h) ∧
    (v6 < 63 →
      ((¬ (lc (l_and (l_shr v1 v6) 1) 1) = 0 →
        (∀ x4_1 : Int, x4_1 = (l_or v4 0) →
        (∀ x6_2 : Int, x6_2 = w32 (v6 + 1) →
        JW K 6 [(2009, 396), (1, v1), (5000, 0), (0, v3), (1, x4_1), (5000, 0), (0, x6_2)] [] h))) ∧
      ((lc (l_and (l_shr v1 v6) 1) 1) = 0 →
        S_X9_isArray l G [(2009, 396), (0, v6)] h (fun z3 h4 =>
        ((¬ z3 = 0 → (¬ v3 = 2 → ((hv h4 396 3) ≠ 0) ∧ (0 ≤ v6) ∧ v6 < 63))) ∧
        (∀ x4_5 : Int, x4_5 = (l_or v4 (if z3 = 0 then 0 else (if v3 = 2 then (l_shl 1 v6) else (if (hv h4 ((hv h4 396 3) + 26) v6) = (w32 ((-1) - v3)) then (l_shl 1 v6) else 0 : Int) : Int) : Int)) →
        (∀ x6_6 : Int, x6_6 = w32 (v6 + 1) →
        JW K 6 [(2009, 396), (1, v1), (5000, 0), (0, v3), (1, x4_5), (5000, 0), (0, x6_6)] [] h4))) E))))) : JW K 6 [(2009, 396), (1, v1), (5000, 0), (0, v3), (1, v4), (5000, 0), (0, v6)] [] h := by
  have e1 := ki.2.2.2.2.1
  have e2 := ki.2.2.2.2.2.1
  subst e1; subst e2
  exact run_ok (dia := [(32, 64)]) (cnr := []) (cuts := [(6, [2009, 1, 5000, 0, 1, 5000, 0], [])]) ki.1 (pk_X9_arrays ki hG) ok_X9_arrays (by decide) 22 true _ _ _ _ H
abbrev k_X9_addValue : List (Nat × List (Nat × Instr)) := [(48, [(0, .aload_n 0), (1, .aload_n 0), (2, .getfield 594), (5, .ifCond .eq 14), (8, .aload_n 0), (9, .getfield 539), (12, .iload_n 1), (13, .invokestatic 528), (16, .goto 4), (19, .iload_n 1), (20, .putfield 539), (23, .aload_n 0), (24, .aload_n 0), (25, .getfield 594), (28, .ifCond .eq 14), (31, .aload_n 0), (32, .getfield 542), (35, .iload_n 2), (36, .invokestatic 530), (39, .goto 4), (42, .iload_n 2), (43, .putfield 542), (46, .aload_n 0), (47, .aload_n 0)]),
  (104, [(48, .getfield 594), (51, .ifCond .eq 12), (54, .aload_n 0), (55, .getfield 545), (58, .iload_n 3), (59, .ior), (60, .goto 4), (63, .iload_n 3), (64, .putfield 545), (67, .aload_n 0), (68, .aload_n 0), (69, .getfield 594), (72, .ifCond .eq 13), (75, .aload_n 0), (76, .getfield 548), (79, .lload 4), (81, .lor), (82, .goto 5), (85, .lload 4), (87, .putfield 548), (90, .aload_n 0), (91, .iconst 1), (92, .putfield 594), (95, .return_)])]
theorem ok_X9_addValue : CodeOK cX9_addValue k_X9_addValue := okw 0 (by decide +kernel) (okw 48 (by decide +kernel) (okn))
abbrev p_X9_addValue (l : Launch) (G : JG) : JP := (true, [(539, 9, 64, 0, 0), (542, 9, 65, 0, 0), (545, 9, 66, 0, 0), (548, 9, 67, 1, 0), (594, 9, 72, 0, 0)], [], [], [(539, 9, 64, 0), (542, 9, 65, 0), (545, 9, 66, 0), (548, 9, 67, 1), (594, 9, 72, 2)], [], [], [], false, 700, [(528, e_J8_min), (530, e_J8_max)])
theorem pk_X9_addValue {K : JC} {l : Launch} {G : JG} {Q : Int → MH → Prop} {E : Nat → Int → MH → Prop} {h0 : MH} (ki : KI K l G yX9_addValue cX9_addValue 6 none [] 5 171 700 Q E h0) (hG : gO G = true) : POK K RX9 (p_X9_addValue l G) :=
  POKi (y := yX9_addValue) ki hG (rfs rf_X9_ok (by decide +kernel)) fmz fmz (rps rp_X9_ok (by decide +kernel)) fmz fmz
  (pkE ki (by
    intro K e1 e2 e3 e4; subst e1; subst e2
    exact fmz)) (fun z => Bool.noConfusion z) rfl (pkP ki (by
    intro K e1 e2 e3 e4; subst e1; subst e2
    exact fmP (pe_J8_min hG e3 e4 ⟨q1370, Or.inl q2608⟩ rfl rfl) (fmP (pe_J8_max hG e3 e4 ⟨q1373, Or.inl q2609⟩ rfl rfl) (fmz))))
theorem r_X9_addValue_0 {K : JC} {l : Launch} {G : JG} {Q : Int → MH → Prop} {E : Nat → Int → MH → Prop} {h0 : MH} (ki : KI K l G yX9_addValue cX9_addValue 6 none [] 5 171 700 Q E h0) (hG : gO G = true) {v1 v2 v3 v4 : Int} {h : MH} (H :
    (∀ h1, h1 = hset h 396 64 (if (hv h 396 72) = 0 then v1 else (min (hv h 396 64) v1) : Int) →
    (∀ h2, h2 = hset h1 396 65 (if (hv h1 396 72) = 0 then v2 else (max (hv h1 396 65) v2) : Int) →
    (∀ h3, h3 = hset h2 396 66 (if (hv h2 396 72) = 0 then v3 else (i_or (hv h2 396 66) v3) : Int) →
    (∀ h4, h4 = hset h3 396 67 (if (hv h3 396 72) = 0 then v4 else (l_or (hv h3 396 67) v4) : Int) →
    ((1 : Int) = 0 ∨ (1 : Int) = 1) ∧
    (∀ h5, h5 = hset h4 396 72 1 →
    Q 0 h5)))))) : JW K 0 [(2009, 396), (0, v1), (0, v2), (0, v3), (1, v4), (5000, 0)] [] h := by
  have e1 := ki.2.2.2.2.1
  have e2 := ki.2.2.2.2.2.1
  subst e1; subst e2
  exact run_ok (dia := [(5, 20), (28, 43), (51, 64), (72, 87)]) (cnr := []) (cuts := []) ki.1 (pk_X9_addValue ki hG) ok_X9_addValue (by decide) 25 true _ _ _ _ H
abbrev k_X9_field : List (Nat × List (Nat × Instr)) := [(39, [(0, .aload_n 0), (1, .getfield 373), (4, .getfield 339), (7, .iload_n 1), (8, .iaload), (9, .istore_n 2), (10, .aload_n 0), (11, .getfield 373), (14, .getfield 345), (17, .iload_n 1), (18, .iaload), (19, .istore_n 3), (20, .iconst 0), (21, .istore 4), (23, .iconst 0), (24, .istore 5), (26, .iconst 0), (27, .istore 6), (29, .lconst 0), (30, .lstore 7), (32, .iload_n 2), (33, .bipush 26), (35, .if_icmp .ne 31), (38, .aload_n 0)]),
  (87, [(39, .invokevirtual 574), (42, .aload_n 0), (43, .getfield 539), (46, .istore 4), (48, .aload_n 0), (49, .getfield 542), (52, .istore 5), (54, .aload_n 0), (55, .getfield 545), (58, .istore 6), (60, .aload_n 0), (61, .getfield 548), (64, .lstore 7), (66, .aload_n 0), (67, .invokevirtual 574), (70, .aload_n 0), (71, .getfield 548), (74, .lstore 9), (76, .aload_n 0), (77, .lload 9), (79, .aload_n 0), (80, .getfield 373), (83, .getfield 342), (86, .iload_n 1)]),
  (129, [(87, .iaload), (88, .invokevirtual 619), (91, .lstore 11), (93, .aload_n 0), (94, .iconst 0), (95, .putfield 594), (98, .iconst 1), (99, .istore 13), (101, .iload 13), (103, .bipush 63), (105, .if_icmp .ge 90), (108, .lload 11), (110, .iload 13), (112, .lshr), (113, .lconst 1), (114, .land), (115, .lconst 0), (116, .lcmp), (117, .ifCond .ne 6), (120, .goto 69), (123, .bipush 8), (125, .iload 13), (127, .imul), (128, .iload_n 3)]),
  (173, [(129, .iadd), (130, .istore 14), (132, .iload_n 2), (133, .bipush 25), (135, .if_icmp .ne 38), (138, .aload_n 0), (139, .aload_n 0), (140, .getfield 77), (143, .iload 14), (145, .iaload), (146, .aload_n 0), (147, .getfield 80), (150, .iload 14), (152, .iaload), (153, .aload_n 0), (154, .getfield 83), (157, .iload 14), (159, .iaload), (160, .aload_n 0), (161, .getfield 86), (164, .iload 14), (166, .laload), (167, .invokevirtual 609), (170, .goto 19)]),
  (217, [(173, .aload_n 0), (174, .iload 13), (176, .iload_n 3), (177, .iconst 0), (178, .iload 4), (180, .iload 5), (182, .iload 6), (184, .lload 7), (186, .invokevirtual 590), (189, .iinc 13 1), (192, .goto (-91)), (195, .aload_n 0), (196, .getfield 71), (199, .iload_n 1), (200, .lload 11), (202, .lastore), (203, .lload 11), (205, .lconst 0), (206, .lcmp), (207, .ifCond .eq 34), (210, .iload_n 2), (211, .bipush 25), (213, .if_icmp .ne 23), (216, .aload_n 0)]),
  (260, [(217, .aload_n 0), (218, .getfield 539), (221, .aload_n 0), (222, .getfield 542), (225, .aload_n 0), (226, .getfield 545), (229, .aload_n 0), (230, .getfield 548), (233, .invokevirtual 557), (236, .aload_n 0), (237, .iload_n 1), (238, .invokevirtual 606), (241, .lload 9), (243, .lconst 1), (244, .land), (245, .lconst 0), (246, .lcmp), (247, .ifCond .eq 9), (250, .aload_n 0), (251, .iload_n 1), (252, .iconst 1), (253, .invokevirtual 597), (256, .lload 9), (258, .lload 11)]),
  (289, [(260, .ldc2_w 476), (263, .lxor), (264, .land), (265, .ldc2_w 641), (268, .land), (269, .lconst 0), (270, .lcmp), (271, .ifCond .eq 9), (274, .aload_n 0), (275, .iload_n 1), (276, .iconst 5), (277, .invokevirtual 597), (280, .return_)])]
theorem ok_X9_field : CodeOK cX9_field k_X9_field := okw 0 (by decide +kernel) (okw 39 (by decide +kernel) (okw 87 (by decide +kernel) (okw 129 (by decide +kernel) (okw 173 (by decide +kernel) (okw 217 (by decide +kernel) (okw 260 (by decide +kernel) (okn)))))))
abbrev p_X9_field (l : Launch) (G : JG) : JP := (true, [(71, 9, 29, 2500101, 75), (77, 9, 31, 1504100, 77), (80, 9, 32, 1504100, 78), (83, 9, 33, 1504100, 79), (86, 9, 34, 1504101, 80), (339, 10, 22, 2500100, 19), (342, 10, 23, 2500100, 20), (345, 10, 24, 2500100, 21), (373, 9, 3, 14, 0), (539, 9, 64, 0, 0), (542, 9, 65, 0, 0), (545, 9, 66, 0, 0), (548, 9, 67, 1, 0)], [], [(476, (-1)), (641, (-2))], [(594, 9, 72, 2)], [], [], [(557, 1, [1, 0, 0, 0, 2009], 700, S_X9_lay_2 l G), (574, 1, [2009], 700, S_X9_pull_2 l G), (590, 1, [1, 0, 0, 0, 0, 0, 0, 2009], 700, S_X9_joinHeld l G), (597, 1, [0, 0, 2009], 700, S_X9_toss l G), (606, 1, [0, 2009], 700, S_X9_flowOn l G), (609, 1, [1, 0, 0, 0, 2009], 700, S_X9_addValue l G), (619, 1, [0, 1, 2009], 1, S_X9_of l G)], false, 700, [])
theorem pk_X9_field {K : JC} {l : Launch} {G : JG} {Q : Int → MH → Prop} {E : Nat → Int → MH → Prop} {h0 : MH} (ki : KI K l G yX9_field cX9_field 15 none [] 9 275 700 Q E h0) (hG : gO G = true) : POK K RX9 (p_X9_field l G) :=
  POKi (y := yX9_field) ki hG (rfs rf_X9_ok (by decide +kernel)) fmz (subs (by decide +kernel) rl_X9_ok) (rps rp_X9_ok (by decide +kernel)) fmz fmz
  (pkE ki (by
    intro K e1 e2 e3 e4; subst e1; subst e2
    exact fmE (ceV 9 e3 e4 yl_X9_lay_2 ⟨by decide, ⟨_, _, rfl⟩, q2624, qs128, q2622⟩ rfl) (fmE (ceV 9 e3 e4 yl_X9_pull_2 ⟨by decide, ⟨_, _, rfl⟩, q2636, qs131, q2634⟩ rfl) (fmE (ceV 9 e3 e4 yl_X9_joinHeld ⟨by decide, ⟨_, _, rfl⟩, q2702, qs146, q2700⟩ rfl) (fmE (ceV 9 e3 e4 yl_X9_toss ⟨by decide, ⟨_, _, rfl⟩, q2663, qs137, q2661⟩ rfl) (fmE (ceV 9 e3 e4 yl_X9_flowOn ⟨by decide, ⟨_, _, rfl⟩, q2628, qs129, q2626⟩ rfl) (fmE (ceV 9 e3 e4 yl_X9_addValue ⟨by decide, ⟨_, _, rfl⟩, q2718, qs150, q2716⟩ rfl) (fmE (ceV 9 e3 e4 yl_X9_of ⟨by decide, ⟨_, _, rfl⟩, q2694, qs144, q2692⟩ rfl) (fmz))))))))) (fun z => Bool.noConfusion z) rfl (pkP ki (by
    intro K e1 e2 e3 e4; subst e1; subst e2
    exact fmz))
theorem r_X9_field_0 {K : JC} {l : Launch} {G : JG} {Q : Int → MH → Prop} {E : Nat → Int → MH → Prop} {h0 : MH} (ki : KI K l G yX9_field cX9_field 15 none [] 9 275 700 Q E h0) (hG : gO G = true) {v1 : Int} {h : MH} (H :
    ((hv h 396 3) ≠ 0) ∧
    (0 ≤ v1) ∧
    (v1 < 1500) ∧
    (∀ x2_1 : Int, x2_1 = (hv h ((hv h 396 3) + 19) v1) →
    ((hv h 396 3) ≠ 0) ∧
    (0 ≤ v1) ∧
    (v1 < 1500) ∧
    (∀ x3_2 : Int, x3_2 = (hv h ((hv h 396 3) + 21) v1) →
    (∀ x4_3 : Int, x4_3 = 0 →
    (∀ x5_4 : Int, x5_4 = 0 →
    (∀ x6_5 : Int, x6_5 = 0 →
    (∀ x7_6 : Int, x7_6 = 0 →
    ((¬ x2_1 = 26 →
      S_X9_pull_2 l G [(2009, 396)] h (fun _ h8 =>
      (∀ x9_9 : Int, x9_9 = (hv h8 396 67) →
      ((hv h8 396 3) ≠ 0) ∧
      (0 ≤ v1) ∧
      (v1 < 1500) ∧
      S_X9_of l G [(2009, 396), (1, x9_9), (0, (hv h8 ((hv h8 396 3) + 20) v1))] h8 (fun z10 h11 =>
      (∀ x11_12 : Int, x11_12 = z10 →
      ((0 : Int) = 0 ∨ (0 : Int) = 1) ∧
      (∀ h13, h13 = hset h11 396 72 0 →
      (∀ x13_14 : Int, x13_14 = 1 →
      JW K 101 [(2009, 396), (0, v1), (0, x2_1), (0, x3_2), (0, x4_3), (0, x5_4), (0, x6_5), (1, x7_6), (5000, 0), (1, x9_9), (5000, 0), (1, x11_12), (5000, 0), (0, x13_14), (5000, 0)] [] h13)))) E)) E) ∧
    (x2_1 = 26 →
      S_X9_pull_2 l G [(2009, 396)] h (fun _ h16 =>
      (∀ x4_17 : Int, x4_17 = (hv h16 396 64) →
      (∀ x5_18 : Int, x5_18 = (hv h16 396 65) →
      (∀ x6_19 : Int, x6_19 = (hv h16 396 66) →
      (∀ x7_20 : Int, x7_20 = (hv h16 396 67) →
      S_X9_pull_2 l G [(2009, 396)] h16 (fun _ h22 =>
      (∀ x9_23 : Int, x9_23 = (hv h22 396 67) →
      ((hv h22 396 3) ≠ 0) ∧
      (0 ≤ v1) ∧
      (v1 < 1500) ∧
      S_X9_of l G [(2009, 396), (1, x9_23), (0, (hv h22 ((hv h22 396 3) + 20) v1))] h22 (fun z24 h25 =>
      (∀ x11_26 : Int, x11_26 = z24 →
      ((0 : Int) = 0 ∨ (0 : Int) = 1) ∧
      (∀ h27, h27 = hset h25 396 72 0 →
      (∀ x13_28 : Int, x13_28 = 1 →
      JW K 101 [(2009, 396), (0, v1), (0, x2_1), (0, x3_2), (0, x4_17), (0, x5_18), (0, x6_19), (1, x7_20), (5000, 0), (1, x9_23), (5000, 0), (1, x11_26), (5000, 0), (0, x13_28), (5000, 0)] [] h27)))) E)) E))))) E))))))))) : JW K 0 [(2009, 396), (0, v1), (5000, 0), (5000, 0), (5000, 0), (5000, 0), (5000, 0), (5000, 0), (5000, 0), (5000, 0), (5000, 0), (5000, 0), (5000, 0), (5000, 0), (5000, 0)] [] h := by
  have e1 := ki.2.2.2.2.1
  have e2 := ki.2.2.2.2.2.1
  subst e1; subst e2
  exact run_ok (dia := []) (cnr := []) (cuts := [(101, [2009, 0, 0, 0, 0, 0, 0, 1, 5000, 1, 5000, 1, 5000, 0, 5000], [])]) ki.1 (pk_X9_field ki hG) ok_X9_field (by decide) 58 true _ _ _ _ H
theorem r_X9_field_101 {K : JC} {l : Launch} {G : JG} {Q : Int → MH → Prop} {E : Nat → Int → MH → Prop} {h0 : MH} (ki : KI K l G yX9_field cX9_field 15 none [] 9 275 700 Q E h0) (hG : gO G = true) {v1 v2 v3 v4 v5 v6 v7 v9 v11 v13 : Int} {h : MH} (H :
    ((63 ≤ v13 →
      (0 ≤ v1) ∧
      (v1 < 1500) ∧
      (∀ h1, h1 = hset h 471 v1 v11 →
      (((lc v11 0) = 0 →
        (((lc (l_and v9 1) 0) = 0 →
          (((lc (l_and (l_and v9 (l_xor v11 (-1))) (-2)) 0) = 0 →
            Q 0 h1) ∧
          (¬ (lc (l_and (l_and v9 (l_xor v11 (-1))) (-2)) 0) = 0 →
            S_X9_toss l G [(2009, 396), (0, v1), (0, 5)] h1 (fun _ h3 =>
            Q 0 h3) E))) ∧
        (¬ (lc (l_and v9 1) 0) = 0 →
          S_X9_toss l G [(2009, 396), (0, v1), (0, 1)] h1 (fun _ h5 =>
          (((lc (l_and (l_and v9 (l_xor v11 (-1))) (-2)) 0) = 0 →
            Q 0 h5) ∧
          (¬ (lc (l_and (l_and v9 (l_xor v11 (-1))) (-2)) 0) = 0 →
            S_X9_toss l G [(2009, 396), (0, v1), (0, 5)] h5 (fun _ h7 =>
            Q 0 h7) E))) E))) ∧
      (¬ (lc v11 0) = 0 →
        ((¬ v2 = 25 →
          S_X9_flowOn l G [(2009, 396), (0, v1)] h1 (fun _ h9 =>
          (((lc (l_and v9 1) 0) = 0 →
            (((lc (l_and (l_and v9 (l_xor v11 (-1))) (-2)) 0) = 0 →
              Q 0 h9) ∧
            (¬ (lc (l_and (l_and v9 (l_xor v11 (-1))) (-2)) 0) = 0 →
              S_X9_toss l G [(2009, 396), (0, v1), (0, 5)] h9 (fun _ h11 =>
              Q 0 h11) E))) ∧
          (¬ (lc (l_and v9 1) 0) = 0 →
            S_X9_toss l G [(2009, 396), (0, v1), (0, 1)] h9 (fun _ h13 =>
            (((lc (l_and (l_and v9 (l_xor v11 (-1))) (-2)) 0) = 0 →
              Q 0 h13) ∧
            (¬ (lc (l_and (l_and v9 (l_xor v11 (-1))) (-2)) 0) = 0 →
              S_X9_toss l G [(2009, 396), (0, v1), (0, 5)] h13 (fun _ h15 =>
              Q 0 h15) E))) E))) E) ∧
        (v2 = 25 →
          S_X9_lay_2 l G [(2009, 396), (0, (hv h1 396 64)), (0, (hv h1 396 65)), (0, (hv h1 396 66)), (1, (hv h1 396 67))] h1 (fun _ h17 =>
          S_X9_flowOn l G [(2009, 396), (0, v1)] h17 (fun _ h19 =>
          (((lc (l_and v9 1) 0) = 0 →
            (((lc (l_and (l_and v9 (l_xor v11 (-1))) (-2)) 0) = 0 →
              Q 0 h19) ∧
            (¬ (lc (l_and (l_and v9 (l_xor v11 (-1))) (-2)) 0) = 0 →
              S_X9_toss l G [(2009, 396), (0, v1), (0, 5)] h19 (fun _ h21 =>
              Q 0 h21) E))) ∧
          (¬ (lc (l_and v9 1) 0) = 0 →
            S_X9_toss l G [(2009, 396), (0, v1), (0, 1)] h19 (fun _ h23 =>
            (((lc (l_and (l_and v9 (l_xor v11 (-1))) (-2)) 0) = 0 →
              Q 0 h23) ∧
            (¬ (lc (l_and (l_and v9 (l_xor v11 (-1))) (-2)) 0) = 0 →
              S_X9_toss l G [(2009, 396), (0, v1), (0, 5)] h23 (fun _ h25 =>
              Q 0 h25) E))) E))) E) E)))))) ∧
    (v13 < 63 →
      ((¬ (lc (l_and (l_shr v11 v13) 1) 0) = 0 →
        (∀ x14_26 : Int, x14_26 = (w32 ((w32 (8 * v13)) + v3)) →
        ((¬ v2 = 25 →
          S_X9_joinHeld l G [(2009, 396), (0, v13), (0, v3), (0, 0), (0, v4), (0, v5), (0, v6), (1, v7)] h (fun _ h28 =>
          (∀ x13_29 : Int, x13_29 = w32 (v13 + 1) →
          JW K 101 [(2009, 396), (0, v1), (0, v2), (0, v3), (0, v4), (0, v5), (0, v6), (1, v7), (5000, 0), (1, v9), (5000, 0), (1, v11), (5000, 0), (0, x13_29), (5000, 0)] [] h28)) E) ∧
        (v2 = 25 →
          (0 ≤ x14_26) ∧
          (x14_26 < 504) ∧
          (0 ≤ x14_26) ∧
          (x14_26 < 504) ∧
          (0 ≤ x14_26) ∧
          (x14_26 < 504) ∧
          (0 ≤ x14_26) ∧
          (x14_26 < 504) ∧
          S_X9_addValue l G [(2009, 396), (0, (hv h 473 x14_26)), (0, (hv h 474 x14_26)), (0, (hv h 475 x14_26)), (1, (hv h 476 x14_26))] h (fun _ h31 =>
          (∀ x13_32 : Int, x13_32 = w32 (v13 + 1) →
          JW K 101 [(2009, 396), (0, v1), (0, v2), (0, v3), (0, v4), (0, v5), (0, v6), (1, v7), (5000, 0), (1, v9), (5000, 0), (1, v11), (5000, 0), (0, x13_32), (5000, 0)] [] h31)) E)))) ∧
      ((lc (l_and (l_shr v11 v13) 1) 0) = 0 →
        (∀ x13_33 : Int, x13_33 = w32 (v13 + 1) →
        JW K 101 [(2009, 396), (0, v1), (0, v2), (0, v3), (0, v4), (0, v5), (0, v6), (1, v7), (5000, 0), (1, v9), (5000, 0), (1, v11), (5000, 0), (0, x13_33), (5000, 0)] [] h)))))) : JW K 101 [(2009, 396), (0, v1), (0, v2), (0, v3), (0, v4), (0, v5), (0, v6), (1, v7), (5000, 0), (1, v9), (5000, 0), (1, v11), (5000, 0), (0, v13), (5000, 0)] [] h := by
  have e1 := ki.2.2.2.2.1
  have e2 := ki.2.2.2.2.2.1
  subst e1; subst e2
  exact run_ok (dia := []) (cnr := []) (cuts := [(101, [2009, 0, 0, 0, 0, 0, 0, 1, 5000, 1, 5000, 1, 5000, 0, 5000], [])]) ki.1 (pk_X9_field ki hG) ok_X9_field (by decide) 54 true _ _ _ _ H
abbrev k_X9_call : List (Nat × List (Nat × Instr)) := [(43, [(0, .aload_n 0), (1, .getfield 373), (4, .getfield 339), (7, .iload_n 1), (8, .iaload), (9, .istore_n 2), (10, .aload_n 0), (11, .getfield 373), (14, .getfield 354), (17, .iload_n 1), (18, .iaload), (19, .istore_n 3), (20, .iload_n 2), (21, .bipush 29), (23, .if_icmp .ne 15), (26, .aload_n 0), (27, .getfield 373), (30, .getfield 345), (33, .iload_n 1), (34, .iaload), (35, .goto 19), (38, .aload_n 0), (39, .getfield 373), (42, .aload_n 0)]),
  (88, [(43, .getfield 373), (46, .getfield 342), (49, .iload_n 1), (50, .iaload), (51, .invokestatic 439), (54, .istore 4), (56, .bipush 8), (58, .aload_n 0), (59, .getfield 373), (62, .getfield 424), (65, .iload_n 1), (66, .iaload), (67, .iadd), (68, .aload_n 0), (69, .getfield 373), (72, .getfield 275), (75, .iload 4), (77, .iaload), (78, .isub), (79, .istore 5), (81, .iload_n 2), (82, .bipush 29), (84, .if_icmp .ne 7), (87, .lconst 0)]),
  (128, [(88, .goto 15), (91, .aload_n 0), (92, .getfield 49), (95, .bipush 16), (97, .iload_n 1), (98, .imul), (99, .iload 5), (101, .iadd), (102, .laload), (103, .lstore 6), (105, .iload_n 2), (106, .bipush 36), (108, .if_icmp .ne 7), (111, .iconst 1), (112, .goto 4), (115, .iconst 0), (116, .istore 8), (118, .lload 6), (120, .lconst 1), (121, .land), (122, .lconst 0), (123, .lcmp), (124, .ifCond .eq 9), (127, .aload_n 0)]),
  (169, [(128, .iload_n 1), (129, .iconst 1), (130, .invokevirtual 597), (133, .iload_n 2), (134, .bipush 29), (136, .if_icmp .ne 10), (139, .lconst 1), (140, .iload 4), (142, .lshl), (143, .goto 4), (146, .lconst 0), (147, .lstore 9), (149, .iconst 0), (150, .istore 11), (152, .iconst 1), (153, .istore 12), (155, .iload 12), (157, .bipush 63), (159, .if_icmp .ge 78), (162, .lload 6), (164, .iload 12), (166, .lshr), (167, .lconst 1), (168, .land)]),
  (216, [(169, .lconst 0), (170, .lcmp), (171, .ifCond .ne 6), (174, .goto 57), (177, .aload_n 0), (178, .iload 12), (180, .aload_n 0), (181, .getfield 373), (184, .getfield 342), (187, .iload_n 1), (188, .iaload), (189, .invokevirtual 599), (192, .istore 13), (194, .iload 11), (196, .ifCond .ne 9), (199, .iload 13), (201, .iconst (-1)), (202, .if_icmp .ne 7), (205, .iconst 1), (206, .goto 4), (209, .iconst 0), (210, .istore 11), (212, .lload 9), (214, .iload 13)]),
  (258, [(216, .iconst (-1)), (217, .if_icmp .ne 7), (220, .lconst 0), (221, .goto 7), (224, .lconst 1), (225, .iload 13), (227, .lshl), (228, .lor), (229, .lstore 9), (231, .iinc 12 1), (234, .goto (-79)), (237, .iload 11), (239, .ifCond .eq 9), (242, .aload_n 0), (243, .iload_n 1), (244, .iconst 5), (245, .invokevirtual 597), (248, .aload_n 0), (249, .getfield 62), (252, .iload_n 1), (253, .dup2), (254, .laload), (255, .lload 9), (257, .lor)]),
  (300, [(258, .lastore), (259, .lload 9), (261, .lconst 0), (262, .lcmp), (263, .ifCond .ne 4), (266, .return_), (267, .iconst 0), (268, .istore 12), (270, .iconst 0), (271, .istore 13), (273, .iload 13), (275, .aload_n 0), (276, .getfield 373), (279, .getfield 333), (282, .if_icmp .ge 147), (285, .lload 9), (287, .iload 13), (289, .lshr), (290, .lconst 1), (291, .land), (292, .lconst 0), (293, .lcmp), (294, .ifCond .ne 6), (297, .goto 126)]),
  (343, [(300, .lconst 0), (301, .lstore 14), (303, .iconst 1), (304, .istore 16), (306, .iload 16), (308, .bipush 63), (310, .if_icmp .ge 60), (313, .iload_n 2), (314, .bipush 29), (316, .if_icmp .eq 54), (319, .lload 14), (321, .lload 6), (323, .iload 16), (325, .lshr), (326, .lconst 1), (327, .land), (328, .lconst 1), (329, .lcmp), (330, .ifCond .ne 30), (333, .aload_n 0), (334, .iload 16), (336, .aload_n 0), (337, .getfield 373), (340, .getfield 342)]),
  (388, [(343, .iload_n 1), (344, .iaload), (345, .invokevirtual 599), (348, .iload 13), (350, .if_icmp .ne 10), (353, .lconst 1), (354, .iload 16), (356, .lshl), (357, .goto 4), (360, .lconst 0), (361, .lor), (362, .lstore 14), (364, .iinc 16 1), (367, .goto (-61)), (370, .aload_n 0), (371, .iload_n 1), (372, .iload 13), (374, .iload 5), (376, .lload 14), (378, .iload 8), (380, .ifCond .eq 7), (383, .iconst 0), (384, .goto 9), (387, .aload_n 0)]),
  (435, [(388, .getfield 53), (391, .iload_n 1), (392, .iaload), (393, .iload 8), (395, .ifCond .eq 7), (398, .iconst 0), (399, .goto 9), (402, .aload_n 0), (403, .getfield 56), (406, .iload_n 1), (407, .iaload), (408, .invokevirtual 602), (411, .iload 12), (413, .aload_n 0), (414, .getfield 152), (417, .iload 13), (419, .iaload), (420, .ior), (421, .istore 12), (423, .iinc 13 1), (426, .goto (-153)), (429, .iload 8), (431, .ifCond .eq 30), (434, .aload_n 0)]),
  (475, [(435, .iload_n 1), (436, .bipush 6), (438, .invokevirtual 597), (441, .aload_n 0), (442, .iload_n 1), (443, .invokevirtual 563), (446, .aload_n 0), (447, .iload 5), (449, .bipush 8), (451, .isub), (452, .putfield 532), (455, .aload_n 0), (456, .iload_n 1), (457, .invokevirtual 606), (460, .return_), (461, .aload_n 0), (462, .dup), (463, .getfield 491), (466, .iload 12), (468, .aload_n 0), (469, .getfield 152), (472, .iload_n 3), (473, .iaload), (474, .iconst (-1))]),
  (513, [(475, .ixor), (476, .iand), (477, .ifCond .eq 9), (480, .lconst 1), (481, .iload_n 3), (482, .lshl), (483, .goto 4), (486, .lconst 0), (487, .lor), (488, .putfield 491), (491, .aload_n 0), (492, .getfield 152), (495, .iload_n 3), (496, .dup2), (497, .iaload), (498, .iload 12), (500, .ior), (501, .iastore), (502, .aload_n 0), (503, .iconst 0), (504, .putfield 594), (507, .iconst 0), (508, .istore 13), (510, .sipush 255)]),
  (556, [(513, .istore 14), (515, .iconst 0), (516, .istore 15), (518, .iconst 0), (519, .istore 16), (521, .iload 16), (523, .aload_n 0), (524, .getfield 373), (527, .getfield 333), (530, .if_icmp .ge 116), (533, .lload 9), (535, .iload 16), (537, .lshr), (538, .lconst 1), (539, .land), (540, .lconst 0), (541, .lcmp), (542, .ifCond .ne 6), (545, .goto 95), (548, .aload_n 0), (549, .getfield 143), (552, .iload 16), (554, .laload), (555, .lconst 0)]),
  (593, [(556, .lcmp), (557, .ifCond .eq 46), (560, .aload_n 0), (561, .iload_n 1), (562, .aload_n 0), (563, .getfield 143), (566, .iload 16), (568, .laload), (569, .aload_n 0), (570, .getfield 146), (573, .iload 16), (575, .iaload), (576, .aload_n 0), (577, .getfield 53), (580, .iload_n 1), (581, .iaload), (582, .aload_n 0), (583, .getfield 152), (586, .iload 16), (588, .iaload), (589, .iconst (-1)), (590, .ixor), (591, .iand), (592, .ior)]),
  (637, [(593, .aload_n 0), (594, .getfield 149), (597, .iload 16), (599, .iaload), (600, .invokevirtual 566), (603, .aload_n 0), (604, .getfield 122), (607, .iload 16), (609, .baload), (610, .ifCond .eq 30), (613, .iconst 1), (614, .istore 13), (616, .iload 14), (618, .aload_n 0), (619, .getfield 137), (622, .iload 16), (624, .iaload), (625, .iand), (626, .istore 14), (628, .iload 15), (630, .aload_n 0), (631, .getfield 140), (634, .iload 16), (636, .iaload)]),
  (683, [(637, .ior), (638, .istore 15), (640, .iinc 16 1), (643, .goto (-122)), (646, .iload 13), (648, .ifCond .ne 4), (651, .return_), (652, .iconst 0), (653, .istore 16), (655, .iload 16), (657, .aload_n 0), (658, .getfield 373), (661, .getfield 333), (664, .if_icmp .ge 63), (667, .lload 9), (669, .iload 16), (671, .lshr), (672, .lconst 1), (673, .land), (674, .lconst 1), (675, .lcmp), (676, .ifCond .ne 45), (679, .aload_n 0), (680, .getfield 122)]),
  (728, [(683, .iload 16), (685, .baload), (686, .ifCond .eq 35), (689, .aload_n 0), (690, .aload_n 0), (691, .getfield 125), (694, .iload 16), (696, .iaload), (697, .aload_n 0), (698, .getfield 128), (701, .iload 16), (703, .iaload), (704, .aload_n 0), (705, .getfield 131), (708, .iload 16), (710, .iaload), (711, .aload_n 0), (712, .getfield 134), (715, .iload 16), (717, .laload), (718, .invokevirtual 609), (721, .iinc 16 1), (724, .goto (-69)), (727, .aload_n 0)]),
  (775, [(728, .iload_n 1), (729, .invokevirtual 563), (732, .aload_n 0), (733, .iload 5), (735, .bipush 8), (737, .isub), (738, .putfield 532), (741, .aload_n 0), (742, .getfield 373), (745, .getfield 278), (748, .iload 4), (750, .iaload), (751, .ifCond .le 23), (754, .aload_n 0), (755, .aload_n 0), (756, .getfield 539), (759, .aload_n 0), (760, .getfield 542), (763, .aload_n 0), (764, .getfield 545), (767, .aload_n 0), (768, .getfield 548), (771, .invokevirtual 557), (774, .aload_n 0)]),
  (812, [(775, .iload 14), (777, .aload_n 0), (778, .getfield 53), (781, .iload_n 1), (782, .iaload), (783, .iload 12), (785, .iconst (-1)), (786, .ixor), (787, .iand), (788, .ior), (789, .putfield 506), (792, .aload_n 0), (793, .iload 15), (795, .putfield 509), (798, .aload_n 0), (799, .iload_n 1), (800, .invokevirtual 606), (803, .return_)])]
theorem ok_X9_call : CodeOK cX9_call k_X9_call := okw 0 (by decide +kernel) (okw 43 (by decide +kernel) (okw 88 (by decide +kernel) (okw 128 (by decide +kernel) (okw 169 (by decide +kernel) (okw 216 (by decide +kernel) (okw 258 (by decide +kernel) (okw 300 (by decide +kernel) (okw 343 (by decide +kernel) (okw 388 (by decide +kernel) (okw 435 (by decide +kernel) (okw 475 (by decide +kernel) (okw 513 (by decide +kernel) (okw 556 (by decide +kernel) (okw 593 (by decide +kernel) (okw 637 (by decide +kernel) (okw 683 (by decide +kernel) (okw 728 (by decide +kernel) (okw 775 (by decide +kernel) (okn)))))))))))))))))))
abbrev p_X9_call (l : Launch) (G : JG) : JP := (true, [(49, 9, 22, 25000101, 68), (53, 9, 23, 2500100, 69), (56, 9, 24, 2500100, 70), (62, 9, 26, 2500101, 72), (122, 9, 46, 1040102, 92), (125, 9, 47, 1040100, 93), (128, 9, 48, 1040100, 94), (131, 9, 49, 1040100, 95), (134, 9, 50, 1040101, 96), (137, 9, 51, 1040100, 97), (140, 9, 52, 1040100, 98), (143, 9, 53, 1040101, 99), (146, 9, 54, 1040100, 100), (149, 9, 55, 1040100, 101), (152, 9, 56, 1040100, 102), (275, 10, 9, 1040100, 7), (278, 10, 10, 1040100, 8), (333, 10, 6, 0, 0), (339, 10, 22, 2500100, 19), (342, 10, 23, 2500100, 20), (345, 10, 24, 2500100, 21), (354, 10, 27, 2500100, 24), (373, 9, 3, 14, 0), (424, 10, 31, 2500100, 27), (491, 9, 14, 1, 0), (539, 9, 64, 0, 0), (542, 9, 65, 0, 0), (545, 9, 66, 0, 0), (548, 9, 67, 1, 0)], [], [], [(491, 9, 14, 1), (506, 9, 62, 0), (509, 9, 63, 0), (532, 9, 61, 0), (594, 9, 72, 2)], [], [], [(439, 0, [0, 14], 0, S_X9_withName l G), (557, 1, [1, 0, 0, 0, 2009], 700, S_X9_lay_2 l G), (563, 1, [0, 2009], 700, S_X9_takeFacts l G), (566, 1, [0, 0, 1, 0, 2009], 700, S_X9_toss_2 l G), (597, 1, [0, 0, 2009], 700, S_X9_toss l G), (599, 1, [0, 0, 2009], 0, S_X9_sentTo l G), (602, 1, [0, 0, 1, 0, 0, 0, 2009], 700, S_X9_enter l G), (606, 1, [0, 2009], 700, S_X9_flowOn l G), (609, 1, [1, 0, 0, 0, 2009], 700, S_X9_addValue l G)], false, 700, [])
theorem pk_X9_call {K : JC} {l : Launch} {G : JG} {Q : Int → MH → Prop} {E : Nat → Int → MH → Prop} {h0 : MH} (ki : KI K l G yX9_call cX9_call 17 none [] 9 275 700 Q E h0) (hG : gO G = true) : POK K RX9 (p_X9_call l G) :=
  POKi (y := yX9_call) ki hG (rfs rf_X9_ok (by decide +kernel)) fmz fmz (rps rp_X9_ok (by decide +kernel)) fmz fmz
  (pkE ki (by
    intro K e1 e2 e3 e4; subst e1; subst e2
    exact fmE (ceS e3 e4 yl_X9_withName ⟨q2538, Or.inl q2537⟩ rfl) (fmE (ceV 9 e3 e4 yl_X9_lay_2 ⟨by decide, ⟨_, _, rfl⟩, q2624, qs128, q2622⟩ rfl) (fmE (ceV 9 e3 e4 yl_X9_takeFacts ⟨by decide, ⟨_, _, rfl⟩, q2620, qs127, q2618⟩ rfl) (fmE (ceV 9 e3 e4 yl_X9_toss_2 ⟨by decide, ⟨_, _, rfl⟩, q2667, qs138, q2665⟩ rfl) (fmE (ceV 9 e3 e4 yl_X9_toss ⟨by decide, ⟨_, _, rfl⟩, q2663, qs137, q2661⟩ rfl) (fmE (ceV 9 e3 e4 yl_X9_sentTo ⟨by decide, ⟨_, _, rfl⟩, q2731, qs153, q2729⟩ rfl) (fmE (ceV 9 e3 e4 yl_X9_enter ⟨by decide, ⟨_, _, rfl⟩, q2735, qs154, q2733⟩ rfl) (fmE (ceV 9 e3 e4 yl_X9_flowOn ⟨by decide, ⟨_, _, rfl⟩, q2628, qs129, q2626⟩ rfl) (fmE (ceV 9 e3 e4 yl_X9_addValue ⟨by decide, ⟨_, _, rfl⟩, q2718, qs150, q2716⟩ rfl) (fmz))))))))))) (fun z => Bool.noConfusion z) rfl (pkP ki (by
    intro K e1 e2 e3 e4; subst e1; subst e2
    exact fmz))
theorem r_X9_call_0 {K : JC} {l : Launch} {G : JG} {Q : Int → MH → Prop} {E : Nat → Int → MH → Prop} {h0 : MH} (ki : KI K l G yX9_call cX9_call 17 none [] 9 275 700 Q E h0) (hG : gO G = true) {v1 : Int} {h : MH} (H :
    ((hv h 396 3) ≠ 0) ∧
    (0 ≤ v1) ∧
    (v1 < 1500) ∧
    (∀ x2_1 : Int, x2_1 = (hv h ((hv h 396 3) + 19) v1) →
    ((hv h 396 3) ≠ 0) ∧
    (0 ≤ v1) ∧
    (v1 < 1500) ∧
    (∀ x3_2 : Int, x3_2 = (hv h ((hv h 396 3) + 24) v1) →
    ((¬ x2_1 = 29 →
      ((hv h 396 3) ≠ 0) ∧
      (0 ≤ v1) ∧
      (v1 < 1500) ∧
      S_X9_withName l G [(14, (hv h 396 3)), (0, (hv h ((hv h 396 3) + 20) v1))] h (fun z3 h4 =>
      (∀ x4_5 : Int, x4_5 = z3 →
      ((hv h4 396 3) ≠ 0) ∧
      (0 ≤ v1) ∧
      (v1 < 1500) ∧
      ((hv h4 396 3) ≠ 0) ∧
      (0 ≤ x4_5) ∧
      (x4_5 < 40) ∧
      (∀ x5_6 : Int, x5_6 = (w32 ((w32 (8 + (hv h4 ((hv h4 396 3) + 27) v1))) - (hv h4 ((hv h4 396 3) + 7) x4_5))) →
      ((¬ x2_1 = 29 → (0 ≤ (w32 ((w32 (16 * v1)) + x5_6))) ∧ (w32 ((w32 (16 * v1)) + x5_6)) < 24000)) ∧
      (∀ x6_7 : Int, x6_7 = (if x2_1 = 29 then 0 else (hv h4 464 (w32 ((w32 (16 * v1)) + x5_6))) : Int) →
      (∀ x8_8 : Int, x8_8 = (if x2_1 = 36 then 1 else 0 : Int) →
      (((lc (l_and x6_7 1) 0) = 0 →
        (∀ x9_9 : Int, x9_9 = (if x2_1 = 29 then (l_shl 1 x4_5) else 0 : Int) →
        (∀ x11_10 : Int, x11_10 = 0 →
        (∀ x12_11 : Int, x12_11 = 1 →
        JW K 155 [(2009, 396), (0, v1), (0, x2_1), (0, x3_2), (0, x4_5), (0, x5_6), (1, x6_7), (5000, 0), (0, x8_8), (1, x9_9), (5000, 0), (0, x11_10), (0, x12_11), (5000, 0), (5000, 0), (5000, 0), (5000, 0)] [] h4)))) ∧
      (¬ (lc (l_and x6_7 1) 0) = 0 →
        S_X9_toss l G [(2009, 396), (0, v1), (0, 1)] h4 (fun _ h13 =>
        (∀ x9_14 : Int, x9_14 = (if x2_1 = 29 then (l_shl 1 x4_5) else 0 : Int) →
        (∀ x11_15 : Int, x11_15 = 0 →
        (∀ x12_16 : Int, x12_16 = 1 →
        JW K 155 [(2009, 396), (0, v1), (0, x2_1), (0, x3_2), (0, x4_5), (0, x5_6), (1, x6_7), (5000, 0), (0, x8_8), (1, x9_14), (5000, 0), (0, x11_15), (0, x12_16), (5000, 0), (5000, 0), (5000, 0), (5000, 0)] [] h13)))) E))))))) E) ∧
    (x2_1 = 29 →
      ((hv h 396 3) ≠ 0) ∧
      (0 ≤ v1) ∧
      (v1 < 1500) ∧
      (∀ x4_17 : Int, x4_17 = (hv h ((hv h 396 3) + 21) v1) →
      ((hv h 396 3) ≠ 0) ∧
      (0 ≤ v1) ∧
      (v1 < 1500) ∧
      ((hv h 396 3) ≠ 0) ∧
      (0 ≤ x4_17) ∧
      (x4_17 < 40) ∧
      (∀ x5_18 : Int, x5_18 = (w32 ((w32 (8 + (hv h ((hv h 396 3) + 27) v1))) - (hv h ((hv h 396 3) + 7) x4_17))) →
      ((¬ x2_1 = 29 → (0 ≤ (w32 ((w32 (16 * v1)) + x5_18))) ∧ (w32 ((w32 (16 * v1)) + x5_18)) < 24000)) ∧
      (∀ x6_19 : Int, x6_19 = (if x2_1 = 29 then 0 else (hv h 464 (w32 ((w32 (16 * v1)) + x5_18))) : Int) →
      (∀ x8_20 : Int, x8_20 = (if x2_1 = 36 then 1 else 0 : Int) →
      (((lc (l_and x6_19 1) 0) = 0 →
        (∀ x9_21 : Int, x9_21 = (if x2_1 = 29 then (l_shl 1 x4_17) else 0 : Int) →
        (∀ x11_22 : Int, x11_22 = 0 →
        (∀ x12_23 : Int, x12_23 = 1 →
        JW K 155 [(2009, 396), (0, v1), (0, x2_1), (0, x3_2), (0, x4_17), (0, x5_18), (1, x6_19), (5000, 0), (0, x8_20), (1, x9_21), (5000, 0), (0, x11_22), (0, x12_23), (5000, 0), (5000, 0), (5000, 0), (5000, 0)] [] h)))) ∧
      (¬ (lc (l_and x6_19 1) 0) = 0 →
        S_X9_toss l G [(2009, 396), (0, v1), (0, 1)] h (fun _ h25 =>
        (∀ x9_26 : Int, x9_26 = (if x2_1 = 29 then (l_shl 1 x4_17) else 0 : Int) →
        (∀ x11_27 : Int, x11_27 = 0 →
        (∀ x12_28 : Int, x12_28 = 1 →
        JW K 155 [(2009, 396), (0, v1), (0, x2_1), (0, x3_2), (0, x4_17), (0, x5_18), (1, x6_19), (5000, 0), (0, x8_20), (1, x9_26), (5000, 0), (0, x11_27), (0, x12_28), (5000, 0), (5000, 0), (5000, 0), (5000, 0)] [] h25)))) E))))))))))) : JW K 0 [(2009, 396), (0, v1), (5000, 0), (5000, 0), (5000, 0), (5000, 0), (5000, 0), (5000, 0), (5000, 0), (5000, 0), (5000, 0), (5000, 0), (5000, 0), (5000, 0), (5000, 0), (5000, 0), (5000, 0)] [] h := by
  have e1 := ki.2.2.2.2.1
  have e2 := ki.2.2.2.2.2.1
  subst e1; subst e2
  exact run_ok (dia := [(84, 103), (108, 116), (136, 147), (196, 210), (217, 228), (350, 361), (380, 393), (395, 408), (477, 487)]) (cnr := [(310, 319, 370), (676, 689, 721)]) (cuts := [(155, [2009, 0, 0, 0, 0, 0, 1, 5000, 0, 1, 5000, 0, 0, 5000, 5000, 5000, 5000], []), (273, [2009, 0, 0, 0, 0, 0, 1, 5000, 0, 1, 5000, 0, 0, 0, 5000, 5000, 5000], []), (306, [2009, 0, 0, 0, 0, 0, 1, 5000, 0, 1, 5000, 0, 0, 0, 1, 5000, 0], []), (521, [2009, 0, 0, 0, 0, 0, 1, 5000, 0, 1, 5000, 0, 0, 0, 0, 0, 0], []), (655, [2009, 0, 0, 0, 0, 0, 1, 5000, 0, 1, 5000, 0, 0, 0, 0, 0, 0], [])]) ki.1 (pk_X9_call ki hG) ok_X9_call (by decide) 66 true _ _ _ _ H
theorem r_X9_call_155 {K : JC} {l : Launch} {G : JG} {Q : Int → MH → Prop} {E : Nat → Int → MH → Prop} {h0 : MH} (ki : KI K l G yX9_call cX9_call 17 none [] 9 275 700 Q E h0) (hG : gO G = true) {v1 v2 v3 v4 v5 v6 v8 v9 v11 v12 : Int} {h : MH} (H :
    ((63 ≤ v12 →
      ((v11 = 0 →
        (0 ≤ v1) ∧
        (v1 < 1500) ∧
        (0 ≤ v1) ∧
        (v1 < 1500) ∧
        (∀ h1, h1 = hset h 468 v1 (l_or (hv h 468 v1) v9) →
        ((¬ (lc v9 0) = 0 →
          (∀ x12_2 : Int, x12_2 = 0 →
          (∀ x13_3 : Int, x13_3 = 0 →
          JW K 273 [(2009, 396), (0, v1), (0, v2), (0, v3), (0, v4), (0, v5), (1, v6), (5000, 0), (0, v8), (1, v9), (5000, 0), (0, v11), (0, x12_2), (0, x13_3), (5000, 0), (5000, 0), (5000, 0)] [] h1))) ∧
        ((lc v9 0) = 0 →
          Q 0 h1)))) ∧
      (¬ v11 = 0 →
        S_X9_toss l G [(2009, 396), (0, v1), (0, 5)] h (fun _ h5 =>
        (0 ≤ v1) ∧
        (v1 < 1500) ∧
        (0 ≤ v1) ∧
        (v1 < 1500) ∧
        (∀ h6, h6 = hset h5 468 v1 (l_or (hv h5 468 v1) v9) →
        ((¬ (lc v9 0) = 0 →
          (∀ x12_7 : Int, x12_7 = 0 →
          (∀ x13_8 : Int, x13_8 = 0 →
          JW K 273 [(2009, 396), (0, v1), (0, v2), (0, v3), (0, v4), (0, v5), (1, v6), (5000, 0), (0, v8), (1, v9), (5000, 0), (0, v11), (0, x12_7), (0, x13_8), (5000, 0), (5000, 0), (5000, 0)] [] h6))) ∧
        ((lc v9 0) = 0 →
          Q 0 h6)))) E))) ∧
    (v12 < 63 →
      ((¬ (lc (l_and (l_shr v6 v12) 1) 0) = 0 →
        ((hv h 396 3) ≠ 0) ∧
        (0 ≤ v1) ∧
        (v1 < 1500) ∧
        S_X9_sentTo l G [(2009, 396), (0, v12), (0, (hv h ((hv h 396 3) + 20) v1))] h (fun z9 h10 =>
        (∀ x13_11 : Int, x13_11 = z9 →
        (∀ x11_12 : Int, x11_12 = (if v11 = 0 then (if x13_11 = (-1) then 1 else 0 : Int) else 1 : Int) →
        (∀ x9_13 : Int, x9_13 = (l_or v9 (if x13_11 = (-1) then 0 else (l_shl 1 x13_11) : Int)) →
        (∀ x12_14 : Int, x12_14 = w32 (v12 + 1) →
        JW K 155 [(2009, 396), (0, v1), (0, v2), (0, v3), (0, v4), (0, v5), (1, v6), (5000, 0), (0, v8), (1, x9_13), (5000, 0), (0, x11_12), (0, x12_14), (5000, 0), (5000, 0), (5000, 0), (5000, 0)] [] h10))))) E) ∧
      ((lc (l_and (l_shr v6 v12) 1) 0) = 0 →
        (∀ x12_15 : Int, x12_15 = w32 (v12 + 1) →
        JW K 155 [(2009, 396), (0, v1), (0, v2), (0, v3), (0, v4), (0, v5), (1, v6), (5000, 0), (0, v8), (1, v9), (5000, 0), (0, v11), (0, x12_15), (5000, 0), (5000, 0), (5000, 0), (5000, 0)] [] h)))))) : JW K 155 [(2009, 396), (0, v1), (0, v2), (0, v3), (0, v4), (0, v5), (1, v6), (5000, 0), (0, v8), (1, v9), (5000, 0), (0, v11), (0, v12), (5000, 0), (5000, 0), (5000, 0), (5000, 0)] [] h := by
  have e1 := ki.2.2.2.2.1
  have e2 := ki.2.2.2.2.2.1
  subst e1; subst e2
  exact run_ok (dia := [(84, 103), (108, 116), (136, 147), (196, 210), (217, 228), (350, 361), (380, 393), (395, 408), (477, 487)]) (cnr := [(310, 319, 370), (676, 689, 721)]) (cuts := [(155, [2009, 0, 0, 0, 0, 0, 1, 5000, 0, 1, 5000, 0, 0, 5000, 5000, 5000, 5000], []), (273, [2009, 0, 0, 0, 0, 0, 1, 5000, 0, 1, 5000, 0, 0, 0, 5000, 5000, 5000], []), (306, [2009, 0, 0, 0, 0, 0, 1, 5000, 0, 1, 5000, 0, 0, 0, 1, 5000, 0], []), (521, [2009, 0, 0, 0, 0, 0, 1, 5000, 0, 1, 5000, 0, 0, 0, 0, 0, 0], []), (655, [2009, 0, 0, 0, 0, 0, 1, 5000, 0, 1, 5000, 0, 0, 0, 0, 0, 0], [])]) ki.1 (pk_X9_call ki hG) ok_X9_call (by decide) 33 true _ _ _ _ H
theorem r_X9_call_273 {K : JC} {l : Launch} {G : JG} {Q : Int → MH → Prop} {E : Nat → Int → MH → Prop} {h0 : MH} (ki : KI K l G yX9_call cX9_call 17 none [] 9 275 700 Q E h0) (hG : gO G = true) {v1 v2 v3 v4 v5 v6 v8 v9 v11 v12 v13 : Int} {h : MH} (H :
    ((hv h 396 3) ≠ 0) ∧
    (((hv h (hv h 396 3) 6) ≤ v13 →
      ((v8 = 0 →
        (0 ≤ v3) ∧
        (v3 < 40) ∧
        (∀ h1, h1 = hset h 396 14 (l_or (hv h 396 14) (if (i_and v12 (i_xor (hv h 498 v3) (-1))) = 0 then 0 else (l_shl 1 v3) : Int)) →
        (0 ≤ v3) ∧
        (v3 < 40) ∧
        (0 ≤ v3) ∧
        (v3 < 40) ∧
        (∀ h2, h2 = hset h1 498 v3 (i_or (hv h1 498 v3) v12) →
        ((0 : Int) = 0 ∨ (0 : Int) = 1) ∧
        (∀ h3, h3 = hset h2 396 72 0 →
        (∀ x13_4 : Int, x13_4 = 0 →
        (∀ x14_5 : Int, x14_5 = 255 →
        (∀ x15_6 : Int, x15_6 = 0 →
        (∀ x16_7 : Int, x16_7 = 0 →
        JW K 521 [(2009, 396), (0, v1), (0, v2), (0, v3), (0, v4), (0, v5), (1, v6), (5000, 0), (0, v8), (1, v9), (5000, 0), (0, v11), (0, v12), (0, x13_4), (0, x14_5), (0, x15_6), (0, x16_7)] [] h3)))))))) ∧
      (¬ v8 = 0 →
        S_X9_toss l G [(2009, 396), (0, v1), (0, 6)] h (fun _ h9 =>
        S_X9_takeFacts l G [(2009, 396), (0, v1)] h9 (fun _ h11 =>
        (∀ h12, h12 = hset h11 396 61 (w32 (v5 - 8)) →
        S_X9_flowOn l G [(2009, 396), (0, v1)] h12 (fun _ h14 =>
        Q 0 h14) E)) E) E))) ∧
    (v13 < (hv h (hv h 396 3) 6) →
      ((¬ (lc (l_and (l_shr v9 v13) 1) 0) = 0 →
        (∀ x14_15 : Int, x14_15 = 0 →
        (∀ x16_16 : Int, x16_16 = 1 →
        JW K 306 [(2009, 396), (0, v1), (0, v2), (0, v3), (0, v4), (0, v5), (1, v6), (5000, 0), (0, v8), (1, v9), (5000, 0), (0, v11), (0, v12), (0, v13), (1, x14_15), (5000, 0), (0, x16_16)] [] h))) ∧
      ((lc (l_and (l_shr v9 v13) 1) 0) = 0 →
        (∀ x13_17 : Int, x13_17 = w32 (v13 + 1) →
        JW K 273 [(2009, 396), (0, v1), (0, v2), (0, v3), (0, v4), (0, v5), (1, v6), (5000, 0), (0, v8), (1, v9), (5000, 0), (0, v11), (0, v12), (0, x13_17), (5000, 0), (5000, 0), (5000, 0)] [] h)))))) : JW K 273 [(2009, 396), (0, v1), (0, v2), (0, v3), (0, v4), (0, v5), (1, v6), (5000, 0), (0, v8), (1, v9), (5000, 0), (0, v11), (0, v12), (0, v13), (5000, 0), (5000, 0), (5000, 0)] [] h := by
  have e1 := ki.2.2.2.2.1
  have e2 := ki.2.2.2.2.2.1
  subst e1; subst e2
  exact run_ok (dia := [(84, 103), (108, 116), (136, 147), (196, 210), (217, 228), (350, 361), (380, 393), (395, 408), (477, 487)]) (cnr := [(310, 319, 370), (676, 689, 721)]) (cuts := [(155, [2009, 0, 0, 0, 0, 0, 1, 5000, 0, 1, 5000, 0, 0, 5000, 5000, 5000, 5000], []), (273, [2009, 0, 0, 0, 0, 0, 1, 5000, 0, 1, 5000, 0, 0, 0, 5000, 5000, 5000], []), (306, [2009, 0, 0, 0, 0, 0, 1, 5000, 0, 1, 5000, 0, 0, 0, 1, 5000, 0], []), (521, [2009, 0, 0, 0, 0, 0, 1, 5000, 0, 1, 5000, 0, 0, 0, 0, 0, 0], []), (655, [2009, 0, 0, 0, 0, 0, 1, 5000, 0, 1, 5000, 0, 0, 0, 0, 0, 0], [])]) ki.1 (pk_X9_call ki hG) ok_X9_call (by decide) 42 true _ _ _ _ H
theorem r_X9_call_306 {K : JC} {l : Launch} {G : JG} {Q : Int → MH → Prop} {E : Nat → Int → MH → Prop} {h0 : MH} (ki : KI K l G yX9_call cX9_call 17 none [] 9 275 700 Q E h0) (hG : gO G = true) {v1 v2 v3 v4 v5 v6 v8 v9 v11 v12 v13 v14 v16 : Int} {h : MH} (H :
    (((v16 < 63 ∧ ¬ v2 = 29) →
      ((¬ (lc (l_and (l_shr v6 v16) 1) 1) = 0 →
        (∀ x14_1 : Int, x14_1 = (l_or v14 0) →
        (∀ x16_2 : Int, x16_2 = w32 (v16 + 1) →
        JW K 306 [(2009, 396), (0, v1), (0, v2), (0, v3), (0, v4), (0, v5), (1, v6), (5000, 0), (0, v8), (1, v9), (5000, 0), (0, v11), (0, v12), (0, v13), (1, x14_1), (5000, 0), (0, x16_2)] [] h))) ∧
      ((lc (l_and (l_shr v6 v16) 1) 1) = 0 →
        ((hv h 396 3) ≠ 0) ∧
        (0 ≤ v1) ∧
        (v1 < 1500) ∧
        S_X9_sentTo l G [(2009, 396), (0, v16), (0, (hv h ((hv h 396 3) + 20) v1))] h (fun z3 h4 =>
        (∀ x14_5 : Int, x14_5 = (l_or v14 (if z3 = v13 then (l_shl 1 v16) else 0 : Int)) →
        (∀ x16_6 : Int, x16_6 = w32 (v16 + 1) →
        JW K 306 [(2009, 396), (0, v1), (0, v2), (0, v3), (0, v4), (0, v5), (1, v6), (5000, 0), (0, v8), (1, v9), (5000, 0), (0, v11), (0, v12), (0, v13), (1, x14_5), (5000, 0), (0, x16_6)] [] h4))) E))) ∧
    (¬ (v16 < 63 ∧ ¬ v2 = 29) →
      ((v8 = 0 → (0 ≤ v1) ∧ v1 < 1500)) ∧
      ((v8 = 0 → (0 ≤ v1) ∧ v1 < 1500)) ∧
      S_X9_enter l G [(2009, 396), (0, v1), (0, v13), (0, v5), (1, v14), (0, (if v8 = 0 then (hv h 465 v1) else 0 : Int)), (0, (if v8 = 0 then (hv h 466 v1) else 0 : Int))] h (fun _ h8 =>
      (0 ≤ v13) ∧
      (v13 < 40) ∧
      (∀ x12_9 : Int, x12_9 = (i_or v12 (hv h8 498 v13)) →
      (∀ x13_10 : Int, x13_10 = w32 (v13 + 1) →
      JW K 273 [(2009, 396), (0, v1), (0, v2), (0, v3), (0, v4), (0, v5), (1, v6), (5000, 0), (0, v8), (1, v9), (5000, 0), (0, v11), (0, x12_9), (0, x13_10), (5000, 0), (5000, 0), (5000, 0)] [] h8))) E))) : JW K 306 [(2009, 396), (0, v1), (0, v2), (0, v3), (0, v4), (0, v5), (1, v6), (5000, 0), (0, v8), (1, v9), (5000, 0), (0, v11), (0, v12), (0, v13), (1, v14), (5000, 0), (0, v16)] [] h := by
  have e1 := ki.2.2.2.2.1
  have e2 := ki.2.2.2.2.2.1
  subst e1; subst e2
  exact run_ok (dia := [(84, 103), (108, 116), (136, 147), (196, 210), (217, 228), (350, 361), (380, 393), (395, 408), (477, 487)]) (cnr := [(310, 319, 370), (676, 689, 721)]) (cuts := [(155, [2009, 0, 0, 0, 0, 0, 1, 5000, 0, 1, 5000, 0, 0, 5000, 5000, 5000, 5000], []), (273, [2009, 0, 0, 0, 0, 0, 1, 5000, 0, 1, 5000, 0, 0, 0, 5000, 5000, 5000], []), (306, [2009, 0, 0, 0, 0, 0, 1, 5000, 0, 1, 5000, 0, 0, 0, 1, 5000, 0], []), (521, [2009, 0, 0, 0, 0, 0, 1, 5000, 0, 1, 5000, 0, 0, 0, 0, 0, 0], []), (655, [2009, 0, 0, 0, 0, 0, 1, 5000, 0, 1, 5000, 0, 0, 0, 0, 0, 0], [])]) ki.1 (pk_X9_call ki hG) ok_X9_call (by decide) 28 true _ _ _ _ H
theorem r_X9_call_521 {K : JC} {l : Launch} {G : JG} {Q : Int → MH → Prop} {E : Nat → Int → MH → Prop} {h0 : MH} (ki : KI K l G yX9_call cX9_call 17 none [] 9 275 700 Q E h0) (hG : gO G = true) {v1 v2 v3 v4 v5 v6 v8 v9 v11 v12 v13 v14 v15 v16 : Int} {h : MH} (H :
    ((hv h 396 3) ≠ 0) ∧
    (((hv h (hv h 396 3) 6) ≤ v16 →
      ((¬ v13 = 0 →
        (∀ x16_1 : Int, x16_1 = 0 →
        JW K 655 [(2009, 396), (0, v1), (0, v2), (0, v3), (0, v4), (0, v5), (1, v6), (5000, 0), (0, v8), (1, v9), (5000, 0), (0, v11), (0, v12), (0, v13), (0, v14), (0, v15), (0, x16_1)] [] h)) ∧
      (v13 = 0 →
        Q 0 h))) ∧
    (v16 < (hv h (hv h 396 3) 6) →
      ((¬ (lc (l_and (l_shr v9 v16) 1) 0) = 0 →
        (0 ≤ v16) ∧
        (v16 < 40) ∧
        (((lc (hv h 495 v16) 0) = 0 →
          (0 ≤ v16) ∧
          (v16 < 40) ∧
          (((hv h 488 v16) = 0 →
            (∀ x16_2 : Int, x16_2 = w32 (v16 + 1) →
            JW K 521 [(2009, 396), (0, v1), (0, v2), (0, v3), (0, v4), (0, v5), (1, v6), (5000, 0), (0, v8), (1, v9), (5000, 0), (0, v11), (0, v12), (0, v13), (0, v14), (0, v15), (0, x16_2)] [] h)) ∧
          (¬ (hv h 488 v16) = 0 →
            (∀ x13_3 : Int, x13_3 = 1 →
            (0 ≤ v16) ∧
            (v16 < 40) ∧
            (∀ x14_4 : Int, x14_4 = (i_and v14 (hv h 493 v16)) →
            (0 ≤ v16) ∧
            (v16 < 40) ∧
            (∀ x15_5 : Int, x15_5 = (i_or v15 (hv h 494 v16)) →
            (∀ x16_6 : Int, x16_6 = w32 (v16 + 1) →
            JW K 521 [(2009, 396), (0, v1), (0, v2), (0, v3), (0, v4), (0, v5), (1, v6), (5000, 0), (0, v8), (1, v9), (5000, 0), (0, v11), (0, v12), (0, x13_3), (0, x14_4), (0, x15_5), (0, x16_6)] [] h))))))) ∧
        (¬ (lc (hv h 495 v16) 0) = 0 →
          (0 ≤ v16) ∧
          (v16 < 40) ∧
          (0 ≤ v16) ∧
          (v16 < 40) ∧
          (0 ≤ v1) ∧
          (v1 < 1500) ∧
          (0 ≤ v16) ∧
          (v16 < 40) ∧
          (0 ≤ v16) ∧
          (v16 < 40) ∧
          S_X9_toss_2 l G [(2009, 396), (0, v1), (1, (hv h 495 v16)), (0, (i_or (hv h 496 v16) (i_and (hv h 465 v1) (i_xor (hv h 498 v16) (-1))))), (0, (hv h 497 v16))] h (fun _ h8 =>
          (0 ≤ v16) ∧
          (v16 < 40) ∧
          (((hv h8 488 v16) = 0 →
            (∀ x16_9 : Int, x16_9 = w32 (v16 + 1) →
            JW K 521 [(2009, 396), (0, v1), (0, v2), (0, v3), (0, v4), (0, v5), (1, v6), (5000, 0), (0, v8), (1, v9), (5000, 0), (0, v11), (0, v12), (0, v13), (0, v14), (0, v15), (0, x16_9)] [] h8)) ∧
          (¬ (hv h8 488 v16) = 0 →
            (∀ x13_10 : Int, x13_10 = 1 →
            (0 ≤ v16) ∧
            (v16 < 40) ∧
            (∀ x14_11 : Int, x14_11 = (i_and v14 (hv h8 493 v16)) →
            (0 ≤ v16) ∧
            (v16 < 40) ∧
            (∀ x15_12 : Int, x15_12 = (i_or v15 (hv h8 494 v16)) →
            (∀ x16_13 : Int, x16_13 = w32 (v16 + 1) →
            JW K 521 [(2009, 396), (0, v1), (0, v2), (0, v3), (0, v4), (0, v5), (1, v6), (5000, 0), (0, v8), (1, v9), (5000, 0), (0, v11), (0, v12), (0, x13_10), (0, x14_11), (0, x15_12), (0, x16_13)] [] h8))))))) E))) ∧
      ((lc (l_and (l_shr v9 v16) 1) 0) = 0 →
        (∀ x16_14 : Int, x16_14 = w32 (v16 + 1) →
        JW K 521 [(2009, 396), (0, v1), (0, v2), (0, v3), (0, v4), (0, v5), (1, v6), (5000, 0), (0, v8), (1, v9), (5000, 0), (0, v11), (0, v12), (0, v13), (0, v14), (0, v15), (0, x16_14)] [] h)))))) : JW K 521 [(2009, 396), (0, v1), (0, v2), (0, v3), (0, v4), (0, v5), (1, v6), (5000, 0), (0, v8), (1, v9), (5000, 0), (0, v11), (0, v12), (0, v13), (0, v14), (0, v15), (0, v16)] [] h := by
  have e1 := ki.2.2.2.2.1
  have e2 := ki.2.2.2.2.2.1
  subst e1; subst e2
  exact run_ok (dia := [(84, 103), (108, 116), (136, 147), (196, 210), (217, 228), (350, 361), (380, 393), (395, 408), (477, 487)]) (cnr := [(310, 319, 370), (676, 689, 721)]) (cuts := [(155, [2009, 0, 0, 0, 0, 0, 1, 5000, 0, 1, 5000, 0, 0, 5000, 5000, 5000, 5000], []), (273, [2009, 0, 0, 0, 0, 0, 1, 5000, 0, 1, 5000, 0, 0, 0, 5000, 5000, 5000], []), (306, [2009, 0, 0, 0, 0, 0, 1, 5000, 0, 1, 5000, 0, 0, 0, 1, 5000, 0], []), (521, [2009, 0, 0, 0, 0, 0, 1, 5000, 0, 1, 5000, 0, 0, 0, 0, 0, 0], []), (655, [2009, 0, 0, 0, 0, 0, 1, 5000, 0, 1, 5000, 0, 0, 0, 0, 0, 0], [])]) ki.1 (pk_X9_call ki hG) ok_X9_call (by decide) 72 true _ _ _ _ H
theorem r_X9_call_655 {K : JC} {l : Launch} {G : JG} {Q : Int → MH → Prop} {E : Nat → Int → MH → Prop} {h0 : MH} (ki : KI K l G yX9_call cX9_call 17 none [] 9 275 700 Q E h0) (hG : gO G = true) {v1 v2 v3 v4 v5 v6 v8 v9 v11 v12 v13 v14 v15 v16 : Int} {h : MH} (H :
    ((hv h 396 3) ≠ 0) ∧
    (((hv h (hv h 396 3) 6) ≤ v16 →
      S_X9_takeFacts l G [(2009, 396), (0, v1)] h (fun _ h2 =>
      (∀ h3, h3 = hset h2 396 61 (w32 (v5 - 8)) →
      ((hv h3 396 3) ≠ 0) ∧
      (0 ≤ v4) ∧
      (v4 < 40) ∧
      (((hv h3 ((hv h3 396 3) + 8) v4) ≤ 0 →
        (0 ≤ v1) ∧
        (v1 < 1500) ∧
        (∀ h4, h4 = hset h3 396 62 (i_or v14 (i_and (hv h3 465 v1) (i_xor v12 (-1)))) →
        (∀ h5, h5 = hset h4 396 63 v15 →
        S_X9_flowOn l G [(2009, 396), (0, v1)] h5 (fun _ h7 =>
        Q 0 h7) E))) ∧
      (0 < (hv h3 ((hv h3 396 3) + 8) v4) →
        S_X9_lay_2 l G [(2009, 396), (0, (hv h3 396 64)), (0, (hv h3 396 65)), (0, (hv h3 396 66)), (1, (hv h3 396 67))] h3 (fun _ h9 =>
        (0 ≤ v1) ∧
        (v1 < 1500) ∧
        (∀ h10, h10 = hset h9 396 62 (i_or v14 (i_and (hv h9 465 v1) (i_xor v12 (-1)))) →
        (∀ h11, h11 = hset h10 396 63 v15 →
        S_X9_flowOn l G [(2009, 396), (0, v1)] h11 (fun _ h13 =>
        Q 0 h13) E))) E)))) E) ∧
    (v16 < (hv h (hv h 396 3) 6) →
      (((lc (l_and (l_shr v9 v16) 1) 1) = 0 → (0 ≤ v16) ∧ v16 < 40)) ∧
      ((((lc (l_and (l_shr v9 v16) 1) 1) = 0 ∧ ¬ (hv h 488 v16) = 0) →
        (0 ≤ v16) ∧
        (v16 < 40) ∧
        (0 ≤ v16) ∧
        (v16 < 40) ∧
        (0 ≤ v16) ∧
        (v16 < 40) ∧
        (0 ≤ v16) ∧
        (v16 < 40) ∧
        S_X9_addValue l G [(2009, 396), (0, (hv h 489 v16)), (0, (hv h 490 v16)), (0, (hv h 491 v16)), (1, (hv h 492 v16))] h (fun _ h15 =>
        (∀ x16_16 : Int, x16_16 = w32 (v16 + 1) →
        JW K 655 [(2009, 396), (0, v1), (0, v2), (0, v3), (0, v4), (0, v5), (1, v6), (5000, 0), (0, v8), (1, v9), (5000, 0), (0, v11), (0, v12), (0, v13), (0, v14), (0, v15), (0, x16_16)] [] h15)) E) ∧
      (¬ ((lc (l_and (l_shr v9 v16) 1) 1) = 0 ∧ ¬ (hv h 488 v16) = 0) →
        (∀ x16_17 : Int, x16_17 = w32 (v16 + 1) →
        JW K 655 [(2009, 396), (0, v1), (0, v2), (0, v3), (0, v4), (0, v5), (1, v6), (5000, 0), (0, v8), (1, v9), (5000, 0), (0, v11), (0, v12), (0, v13), (0, v14), (0, v15), (0, x16_17)] [] h)))))) : JW K 655 [(2009, 396), (0, v1), (0, v2), (0, v3), (0, v4), (0, v5), (1, v6), (5000, 0), (0, v8), (1, v9), (5000, 0), (0, v11), (0, v12), (0, v13), (0, v14), (0, v15), (0, v16)] [] h := by
  have e1 := ki.2.2.2.2.1
  have e2 := ki.2.2.2.2.2.1
  subst e1; subst e2
  exact run_ok (dia := [(84, 103), (108, 116), (136, 147), (196, 210), (217, 228), (350, 361), (380, 393), (395, 408), (477, 487)]) (cnr := [(310, 319, 370), (676, 689, 721)]) (cuts := [(155, [2009, 0, 0, 0, 0, 0, 1, 5000, 0, 1, 5000, 0, 0, 5000, 5000, 5000, 5000], []), (273, [2009, 0, 0, 0, 0, 0, 1, 5000, 0, 1, 5000, 0, 0, 0, 5000, 5000, 5000], []), (306, [2009, 0, 0, 0, 0, 0, 1, 5000, 0, 1, 5000, 0, 0, 0, 1, 5000, 0], []), (521, [2009, 0, 0, 0, 0, 0, 1, 5000, 0, 1, 5000, 0, 0, 0, 0, 0, 0], []), (655, [2009, 0, 0, 0, 0, 0, 1, 5000, 0, 1, 5000, 0, 0, 0, 0, 0, 0], [])]) ki.1 (pk_X9_call ki hG) ok_X9_call (by decide) 49 true _ _ _ _ H
abbrev k_X9_sentTo : List (Nat × List (Nat × Instr)) := [(48, [(0, .aload_n 0), (1, .iload_n 1), (2, .invokevirtual 446), (5, .ifCond .eq 7), (8, .iconst 0), (9, .goto 12), (12, .aload_n 0), (13, .getfield 373), (16, .getfield 336), (19, .iload_n 1), (20, .iaload), (21, .istore_n 3), (22, .iload_n 3), (23, .ifCond .lt 68), (26, .iconst 0), (27, .istore 4), (29, .iload 4), (31, .aload_n 0), (32, .getfield 373), (35, .getfield 333), (38, .if_icmp .ge 40), (41, .aload_n 0), (42, .getfield 373), (45, .getfield 287)]),
  (101, [(48, .iload 4), (50, .iaload), (51, .iload_n 3), (52, .if_icmp .ne 20), (55, .aload_n 0), (56, .getfield 373), (59, .getfield 290), (62, .iload 4), (64, .iaload), (65, .iload_n 2), (66, .if_icmp .ne 6), (69, .iload 4), (71, .ireturn), (72, .iinc 4 1), (75, .goto (-46)), (78, .aload_n 0), (79, .getfield 373), (82, .getfield 266), (85, .iload_n 3), (86, .iaload), (87, .istore_n 3), (88, .goto (-66)), (91, .iconst (-1)), (92, .ireturn)])]
theorem ok_X9_sentTo : CodeOK cX9_sentTo k_X9_sentTo := okw 0 (by decide +kernel) (okw 48 (by decide +kernel) (okn))
abbrev p_X9_sentTo (l : Launch) (G : JG) : JP := (true, [(266, 10, 3, 1024100, 2), (287, 10, 7, 1040100, 5), (290, 10, 8, 1040100, 6), (333, 10, 6, 0, 0), (336, 10, 29, 1063100, 26), (373, 9, 3, 14, 0)], [], [], [], [], [], [(446, 1, [0, 2009], 2, S_X9_isArray l G)], false, 0, [])
theorem pk_X9_sentTo {K : JC} {l : Launch} {G : JG} {Q : Int → MH → Prop} {E : Nat → Int → MH → Prop} {h0 : MH} (ki : KI K l G yX9_sentTo cX9_sentTo 5 (some .int) [] 5 171 0 Q E h0) (hG : gO G = true) : POK K RX9 (p_X9_sentTo l G) :=
  POKi (y := yX9_sentTo) ki hG (rfs rf_X9_ok (by decide +kernel)) fmz fmz fmz fmz fmz
  (pkE ki (by
    intro K e1 e2 e3 e4; subst e1; subst e2
    exact fmE (ceV 9 e3 e4 yl_X9_isArray ⟨by decide, ⟨_, _, rfl⟩, q2679, qs141, q2677⟩ rfl) (fmz))) (fun z => Bool.noConfusion z) rfl (pkP ki (by
    intro K e1 e2 e3 e4; subst e1; subst e2
    exact fmz))
theorem r_X9_sentTo_0 {K : JC} {l : Launch} {G : JG} {Q : Int → MH → Prop} {E : Nat → Int → MH → Prop} {h0 : MH} (ki : KI K l G yX9_sentTo cX9_sentTo 5 (some .int) [] 5 171 0 Q E h0) (hG : gO G = true) {v1 v2 : Int} {h : MH} (H :
    S_X9_isArray l G [(2009, 396), (0, v1)] h (fun z1 h2 =>
    ((z1 = 0 → ((hv h2 396 3) ≠ 0) ∧ (0 ≤ v1) ∧ v1 < 63)) ∧
    (∀ x3_3 : Int, x3_3 = (if z1 = 0 then (hv h2 ((hv h2 396 3) + 26) v1) else 0 : Int) →
    JW K 22 [(2009, 396), (0, v1), (0, v2), (0, x3_3), (5000, 0)] [] h2)) E) : JW K 0 [(2009, 396), (0, v1), (0, v2), (5000, 0), (5000, 0)] [] h := by
  have e1 := ki.2.2.2.2.1
  have e2 := ki.2.2.2.2.2.1
  subst e1; subst e2
  exact run_ok (dia := [(5, 21)]) (cnr := [(52, 69, 72)]) (cuts := [(22, [2009, 0, 0, 0, 5000], []), (29, [2009, 0, 0, 0, 0], [])]) ki.1 (pk_X9_sentTo ki hG) ok_X9_sentTo (by decide) 7 true _ _ _ _ H
theorem r_X9_sentTo_22 {K : JC} {l : Launch} {G : JG} {Q : Int → MH → Prop} {E : Nat → Int → MH → Prop} {h0 : MH} (ki : KI K l G yX9_sentTo cX9_sentTo 5 (some .int) [] 5 171 0 Q E h0) (hG : gO G = true) {v1 v2 v3 : Int} {h : MH} (H :
    ((v3 < 0 →
      Q (-1) h) ∧
    (0 ≤ v3 →
      (∀ x4_1 : Int, x4_1 = 0 →
      JW K 29 [(2009, 396), (0, v1), (0, v2), (0, v3), (0, x4_1)] [] h)))) : JW K 22 [(2009, 396), (0, v1), (0, v2), (0, v3), (5000, 0)] [] h := by
  have e1 := ki.2.2.2.2.1
  have e2 := ki.2.2.2.2.2.1
  subst e1; subst e2
  exact run_ok (dia := [(5, 21)]) (cnr := [(52, 69, 72)]) (cuts := [(22, [2009, 0, 0, 0, 5000], []), (29, [2009, 0, 0, 0, 0], [])]) ki.1 (pk_X9_sentTo ki hG) ok_X9_sentTo (by decide) 6 true _ _ _ _ H
theorem r_X9_sentTo_29 {K : JC} {l : Launch} {G : JG} {Q : Int → MH → Prop} {E : Nat → Int → MH → Prop} {h0 : MH} (ki : KI K l G yX9_sentTo cX9_sentTo 5 (some .int) [] 5 171 0 Q E h0) (hG : gO G = true) {v1 v2 v3 v4 : Int} {h : MH} (H :
    ((hv h 396 3) ≠ 0) ∧
    (((hv h (hv h 396 3) 6) ≤ v4 →
      ((hv h 396 3) ≠ 0) ∧
      (0 ≤ v3) ∧
      (v3 < 24) ∧
      (∀ x3_1 : Int, x3_1 = (hv h ((hv h 396 3) + 2) v3) →
      JW K 22 [(2009, 396), (0, v1), (0, v2), (0, x3_1), (5000, 0)] [] h)) ∧
    (v4 < (hv h (hv h 396 3) 6) →
      ((hv h 396 3) ≠ 0) ∧
      (0 ≤ v4) ∧
      (v4 < 40) ∧
      (((hv h ((hv h 396 3) + 5) v4) = v3 → ((hv h 396 3) ≠ 0) ∧ (0 ≤ v4) ∧ v4 < 40)) ∧
      ((((hv h ((hv h 396 3) + 5) v4) = v3 ∧ (hv h ((hv h 396 3) + 6) v4) = v2) →
        Q v4 h) ∧
      (¬ ((hv h ((hv h 396 3) + 5) v4) = v3 ∧ (hv h ((hv h 396 3) + 6) v4) = v2) →
        (∀ x4_2 : Int, x4_2 = w32 (v4 + 1) →
        JW K 29 [(2009, 396), (0, v1), (0, v2), (0, v3), (0, x4_2)] [] h)))))) : JW K 29 [(2009, 396), (0, v1), (0, v2), (0, v3), (0, v4)] [] h := by
  have e1 := ki.2.2.2.2.1
  have e2 := ki.2.2.2.2.2.1
  subst e1; subst e2
  exact run_ok (dia := [(5, 21)]) (cnr := [(52, 69, 72)]) (cuts := [(22, [2009, 0, 0, 0, 5000], []), (29, [2009, 0, 0, 0, 0], [])]) ki.1 (pk_X9_sentTo ki hG) ok_X9_sentTo (by decide) 16 true _ _ _ _ H
abbrev k_X9_enter : List (Nat × List (Nat × Instr)) := [(46, [(0, .iconst 0), (1, .istore 8), (3, .iload 8), (5, .bipush 8), (7, .if_icmp .ge 159), (10, .iload 8), (12, .aload_n 0), (13, .getfield 373), (16, .getfield 275), (19, .iload_n 2), (20, .iaload), (21, .if_icmp .lt 7), (24, .iconst 1), (25, .goto 4), (28, .iconst 0), (29, .istore 9), (31, .iload 8), (33, .aload_n 0), (34, .getfield 373), (37, .getfield 297), (40, .iload_n 2), (41, .iaload), (42, .if_icmp .ge 26), (45, .aload_n 0)]),
  (87, [(46, .getfield 373), (49, .getfield 281), (52, .bipush 8), (54, .iload_n 2), (55, .imul), (56, .iload 8), (58, .iadd), (59, .iaload), (60, .iconst 1), (61, .if_icmp .ne 7), (64, .iconst 1), (65, .goto 4), (68, .iconst 0), (69, .istore 10), (71, .bipush 16), (73, .iload_n 1), (74, .imul), (75, .iload_n 3), (76, .iadd), (77, .iload 8), (79, .iadd), (80, .istore 11), (82, .iload 9), (84, .ifCond .eq 25)]),
  (130, [(87, .aload_n 0), (88, .iload 8), (90, .iconst 0), (91, .iconst 0), (92, .iconst 0), (93, .iload 10), (95, .ifCond .eq 7), (98, .lconst 1), (99, .goto 4), (102, .lconst 0), (103, .invokevirtual 502), (106, .goto 54), (109, .aload_n 0), (110, .iload 8), (112, .aload_n 0), (113, .getfield 40), (116, .iload 11), (118, .iaload), (119, .aload_n 0), (120, .getfield 43), (123, .iload 11), (125, .iaload), (126, .aload_n 0), (127, .getfield 46)]),
  (179, [(130, .iload 11), (132, .iaload), (133, .iload 8), (135, .ifCond .ne 15), (138, .lload 4), (140, .lconst 0), (141, .lcmp), (142, .ifCond .eq 8), (145, .lload 4), (147, .goto 10), (150, .aload_n 0), (151, .getfield 49), (154, .iload 11), (156, .laload), (157, .invokevirtual 502), (160, .iinc 8 1), (163, .goto (-160)), (166, .aload_n 0), (167, .iload 6), (169, .putfield 506), (172, .aload_n 0), (173, .iload 7), (175, .putfield 509), (178, .aload_n 0)]),
  (200, [(179, .aload_n 0), (180, .getfield 373), (183, .getfield 312), (186, .iload_n 2), (187, .iaload), (188, .invokevirtual 512), (191, .return_)])]
theorem ok_X9_enter : CodeOK cX9_enter k_X9_enter := okw 0 (by decide +kernel) (okw 46 (by decide +kernel) (okw 87 (by decide +kernel) (okw 130 (by decide +kernel) (okw 179 (by decide +kernel) (okn)))))
abbrev p_X9_enter (l : Launch) (G : JG) : JP := (true, [(40, 9, 19, 25000100, 65), (43, 9, 20, 25000100, 66), (46, 9, 21, 25000100, 67), (49, 9, 22, 25000101, 68), (275, 10, 9, 1040100, 7), (281, 10, 12, 1320100, 10), (297, 10, 11, 1040100, 9), (312, 10, 17, 1040100, 15), (373, 9, 3, 14, 0)], [], [], [(506, 9, 62, 0), (509, 9, 63, 0)], [], [], [(502, 1, [1, 0, 0, 0, 0, 2009], 700, S_X9_setSlot l G), (512, 1, [0, 2009], 700, S_X9_joinTo l G)], false, 700, [])
theorem pk_X9_enter {K : JC} {l : Launch} {G : JG} {Q : Int → MH → Prop} {E : Nat → Int → MH → Prop} {h0 : MH} (ki : KI K l G yX9_enter cX9_enter 12 none [] 6 202 700 Q E h0) (hG : gO G = true) : POK K RX9 (p_X9_enter l G) :=
  POKi (y := yX9_enter) ki hG (rfs rf_X9_ok (by decide +kernel)) fmz fmz (rps rp_X9_ok (by decide +kernel)) fmz fmz
  (pkE ki (by
    intro K e1 e2 e3 e4; subst e1; subst e2
    exact fmE (ceV 9 e3 e4 yl_X9_setSlot ⟨by decide, ⟨_, _, rfl⟩, q2602, qs123, q2600⟩ rfl) (fmE (ceV 9 e3 e4 yl_X9_joinTo ⟨by decide, ⟨_, _, rfl⟩, q2606, qs124, q2604⟩ rfl) (fmz)))) (fun z => Bool.noConfusion z) rfl (pkP ki (by
    intro K e1 e2 e3 e4; subst e1; subst e2
    exact fmz))
theorem r_X9_enter_0 {K : JC} {l : Launch} {G : JG} {Q : Int → MH → Prop} {E : Nat → Int → MH → Prop} {h0 : MH} (ki : KI K l G yX9_enter cX9_enter 12 none [] 6 202 700 Q E h0) (hG : gO G = true) {v1 v2 v3 v4 v6 v7 : Int} {h : MH} (H :
    (∀ x8_1 : Int, x8_1 = 0 →
    JW K 3 [(2009, 396), (0, v1), (0, v2), (0, v3), (1, v4), (5000, 0), (0, v6), (0, v7), (0, x8_1), (5000, 0), (5000, 0), (5000, 0)] [] h)) : JW K 0 [(2009, 396), (0, v1), (0, v2), (0, v3), (1, v4), (5000, 0), (0, v6), (0, v7), (5000, 0), (5000, 0), (5000, 0), (5000, 0)] [] h := by
  have e1 := ki.2.2.2.2.1
  have e2 := ki.2.2.2.2.2.1
  subst e1; subst e2
  exact run_ok (dia := [(21, 29), (42, 69), (95, 103), (135, 157)]) (cnr := []) (cuts := [(3, [2009, 0, 0, 0, 1, 5000, 0, 0, 0, 5000, 5000, 5000], [])]) ki.1 (pk_X9_enter ki hG) ok_X9_enter (by decide) 4 true _ _ _ _ H
theorem r_X9_enter_3 {K : JC} {l : Launch} {G : JG} {Q : Int → MH → Prop} {E : Nat → Int → MH → Prop} {h0 : MH} (ki : KI K l G yX9_enter cX9_enter 12 none [] 6 202 700 Q E h0) (hG : gO G = true) {v1 v2 v3 v4 v6 v7 v8 : Int} {h : MH} (H :
    ((8 ≤ v8 →
      (∀ h1, h1 = hset h 396 62 v6 →
      (∀ h2, h2 = hset h1 396 63 v7 →
      ((hv h2 396 3) ≠ 0) ∧
      (0 ≤ v2) ∧
      (v2 < 40) ∧
      S_X9_joinTo l G [(2009, 396), (0, (hv h2 ((hv h2 396 3) + 15) v2))] h2 (fun _ h4 =>
      Q 0 h4) E))) ∧
    (v8 < 8 →
      ((hv h 396 3) ≠ 0) ∧
      (0 ≤ v2) ∧
      (v2 < 40) ∧
      (∀ x9_5 : Int, x9_5 = (if v8 < (hv h ((hv h 396 3) + 7) v2) then 0 else 1 : Int) →
      ((hv h 396 3) ≠ 0) ∧
      (0 ≤ v2) ∧
      (v2 < 40) ∧
      ((v8 < (hv h ((hv h 396 3) + 9) v2) → ((hv h 396 3) ≠ 0) ∧ (0 ≤ (w32 ((w32 (8 * v2)) + v8))) ∧ (w32 ((w32 (8 * v2)) + v8)) < 320)) ∧
      (∀ x10_6 : Int, x10_6 = (if v8 < (hv h ((hv h 396 3) + 9) v2) then (if (hv h ((hv h 396 3) + 10) (w32 ((w32 (8 * v2)) + v8))) = 1 then 1 else 0 : Int) else 0 : Int) →
      (∀ x11_7 : Int, x11_7 = (w32 ((w32 ((w32 (16 * v1)) + v3)) + v8)) →
      ((x9_5 = 0 →
        (0 ≤ x11_7) ∧
        (x11_7 < 24000) ∧
        (0 ≤ x11_7) ∧
        (x11_7 < 24000) ∧
        (0 ≤ x11_7) ∧
        (x11_7 < 24000) ∧
        ((¬ v8 = 0 → (0 ≤ x11_7) ∧ x11_7 < 24000)) ∧
        ((v8 = 0 → ((lc v4 0) = 0 → (0 ≤ x11_7) ∧ x11_7 < 24000))) ∧
        S_X9_setSlot l G [(2009, 396), (0, v8), (0, (hv h 461 x11_7)), (0, (hv h 462 x11_7)), (0, (hv h 463 x11_7)), (1, (if v8 = 0 then (if (lc v4 0) = 0 then (hv h 464 x11_7) else v4 : Int) else (hv h 464 x11_7) : Int))] h (fun _ h9 =>
        (∀ x8_10 : Int, x8_10 = w32 (v8 + 1) →
        JW K 3 [(2009, 396), (0, v1), (0, v2), (0, v3), (1, v4), (5000, 0), (0, v6), (0, v7), (0, x8_10), (5000, 0), (5000, 0), (5000, 0)] [] h9)) E) ∧
      (¬ x9_5 = 0 →
        S_X9_setSlot l G [(2009, 396), (0, v8), (0, 0), (0, 0), (0, 0), (1, (if x10_6 = 0 then 0 else 1 : Int))] h (fun _ h12 =>
        (∀ x8_13 : Int, x8_13 = w32 (v8 + 1) →
        JW K 3 [(2009, 396), (0, v1), (0, v2), (0, v3), (1, v4), (5000, 0), (0, v6), (0, v7), (0, x8_13), (5000, 0), (5000, 0), (5000, 0)] [] h12)) E)))))))) : JW K 3 [(2009, 396), (0, v1), (0, v2), (0, v3), (1, v4), (5000, 0), (0, v6), (0, v7), (0, v8), (5000, 0), (5000, 0), (5000, 0)] [] h := by
  have e1 := ki.2.2.2.2.1
  have e2 := ki.2.2.2.2.2.1
  subst e1; subst e2
  exact run_ok (dia := [(21, 29), (42, 69), (95, 103), (135, 157)]) (cnr := []) (cuts := [(3, [2009, 0, 0, 0, 1, 5000, 0, 0, 0, 5000, 5000, 5000], [])]) ki.1 (pk_X9_enter ki hG) ok_X9_enter (by decide) 50 true _ _ _ _ H
abbrev k_X9_giveBack : List (Nat × List (Nat × Instr)) := [(42, [(0, .aload_n 0), (1, .getfield 373), (4, .getfield 354), (7, .iload_n 1), (8, .iaload), (9, .istore_n 2), (10, .aload_n 0), (11, .iconst 0), (12, .putfield 539), (15, .aload_n 0), (16, .iconst 0), (17, .putfield 542), (20, .aload_n 0), (21, .iconst 0), (22, .putfield 545), (25, .aload_n 0), (26, .lconst 0), (27, .putfield 548), (30, .aload_n 0), (31, .getfield 373), (34, .getfield 278), (37, .iload_n 2), (38, .iaload), (39, .ifCond .le 7)]),
  (87, [(42, .aload_n 0), (43, .invokevirtual 574), (46, .aload_n 0), (47, .getfield 122), (50, .iload_n 2), (51, .baload), (52, .ifCond .ne 7), (55, .iconst 1), (56, .goto 4), (59, .iconst 0), (60, .istore_n 3), (61, .iload_n 3), (62, .ifCond .eq 10), (65, .aload_n 0), (66, .getfield 539), (69, .goto 16), (72, .aload_n 0), (73, .getfield 125), (76, .iload_n 2), (77, .iaload), (78, .aload_n 0), (79, .getfield 539), (82, .invokestatic 528), (85, .istore 4)]),
  (134, [(87, .iload_n 3), (88, .ifCond .eq 10), (91, .aload_n 0), (92, .getfield 542), (95, .goto 16), (98, .aload_n 0), (99, .getfield 128), (102, .iload_n 2), (103, .iaload), (104, .aload_n 0), (105, .getfield 542), (108, .invokestatic 530), (111, .istore 5), (113, .iload_n 3), (114, .ifCond .eq 10), (117, .aload_n 0), (118, .getfield 506), (121, .goto 14), (124, .aload_n 0), (125, .getfield 137), (128, .iload_n 2), (129, .iaload), (130, .aload_n 0), (131, .getfield 506)]),
  (178, [(134, .iand), (135, .istore 6), (137, .iload_n 3), (138, .ifCond .eq 10), (141, .aload_n 0), (142, .getfield 509), (145, .goto 14), (148, .aload_n 0), (149, .getfield 140), (152, .iload_n 2), (153, .iaload), (154, .aload_n 0), (155, .getfield 509), (158, .ior), (159, .istore 7), (161, .iload_n 3), (162, .ifCond .ne 83), (165, .iload 4), (167, .aload_n 0), (168, .getfield 125), (171, .iload_n 2), (172, .iaload), (173, .if_icmp .ne 72), (176, .iload 5)]),
  (218, [(178, .aload_n 0), (179, .getfield 128), (182, .iload_n 2), (183, .iaload), (184, .if_icmp .ne 61), (187, .aload_n 0), (188, .getfield 545), (191, .aload_n 0), (192, .getfield 131), (195, .iload_n 2), (196, .iaload), (197, .iconst (-1)), (198, .ixor), (199, .iand), (200, .ifCond .ne 45), (203, .aload_n 0), (204, .getfield 548), (207, .aload_n 0), (208, .getfield 134), (211, .iload_n 2), (212, .laload), (213, .ldc2_w 476), (216, .lxor), (217, .land)]),
  (262, [(218, .lconst 0), (219, .lcmp), (220, .ifCond .ne 25), (223, .iload 6), (225, .aload_n 0), (226, .getfield 137), (229, .iload_n 2), (230, .iaload), (231, .if_icmp .ne 14), (234, .iload 7), (236, .aload_n 0), (237, .getfield 140), (240, .iload_n 2), (241, .iaload), (242, .if_icmp .eq 7), (245, .iconst 1), (246, .goto 4), (249, .iconst 0), (250, .istore 8), (252, .aload_n 0), (253, .dup), (254, .getfield 491), (257, .iload 8), (259, .ifCond .eq 9)]),
  (300, [(262, .lconst 1), (263, .iload_n 2), (264, .lshl), (265, .goto 4), (268, .lconst 0), (269, .lor), (270, .putfield 491), (273, .aload_n 0), (274, .getfield 125), (277, .iload_n 2), (278, .iload 4), (280, .iastore), (281, .aload_n 0), (282, .getfield 128), (285, .iload_n 2), (286, .iload 5), (288, .iastore), (289, .aload_n 0), (290, .getfield 131), (293, .iload_n 2), (294, .dup2), (295, .iaload), (296, .aload_n 0), (297, .getfield 545)]),
  (336, [(300, .ior), (301, .iastore), (302, .aload_n 0), (303, .getfield 134), (306, .iload_n 2), (307, .dup2), (308, .laload), (309, .aload_n 0), (310, .getfield 548), (313, .lor), (314, .lastore), (315, .aload_n 0), (316, .getfield 137), (319, .iload_n 2), (320, .iload 6), (322, .iastore), (323, .aload_n 0), (324, .getfield 140), (327, .iload_n 2), (328, .iload 7), (330, .iastore), (331, .aload_n 0), (332, .getfield 122), (335, .iload_n 2)]),
  (347, [(336, .iconst 1), (337, .bastore), (338, .return_)])]
theorem ok_X9_giveBack : CodeOK cX9_giveBack k_X9_giveBack := okw 0 (by decide +kernel) (okw 42 (by decide +kernel) (okw 87 (by decide +kernel) (okw 134 (by decide +kernel) (okw 178 (by decide +kernel) (okw 218 (by decide +kernel) (okw 262 (by decide +kernel) (okw 300 (by decide +kernel) (okw 336 (by decide +kernel) (okn)))))))))
abbrev p_X9_giveBack (l : Launch) (G : JG) : JP := (true, [(122, 9, 46, 1040102, 92), (125, 9, 47, 1040100, 93), (128, 9, 48, 1040100, 94), (131, 9, 49, 1040100, 95), (134, 9, 50, 1040101, 96), (137, 9, 51, 1040100, 97), (140, 9, 52, 1040100, 98), (278, 10, 10, 1040100, 8), (354, 10, 27, 2500100, 24), (373, 9, 3, 14, 0), (491, 9, 14, 1, 0), (506, 9, 62, 0, 0), (509, 9, 63, 0, 0), (539, 9, 64, 0, 0), (542, 9, 65, 0, 0), (545, 9, 66, 0, 0), (548, 9, 67, 1, 0)], [], [(476, (-1))], [(491, 9, 14, 1), (539, 9, 64, 0), (542, 9, 65, 0), (545, 9, 66, 0), (548, 9, 67, 1)], [], [], [(574, 1, [2009], 700, S_X9_pull_2 l G)], false, 700, [(528, e_J8_min), (530, e_J8_max)])
theorem pk_X9_giveBack {K : JC} {l : Launch} {G : JG} {Q : Int → MH → Prop} {E : Nat → Int → MH → Prop} {h0 : MH} (ki : KI K l G yX9_giveBack cX9_giveBack 9 none [] 5 171 700 Q E h0) (hG : gO G = true) : POK K RX9 (p_X9_giveBack l G) :=
  POKi (y := yX9_giveBack) ki hG (rfs rf_X9_ok (by decide +kernel)) fmz (subs (by decide +kernel) rl_X9_ok) (rps rp_X9_ok (by decide +kernel)) fmz fmz
  (pkE ki (by
    intro K e1 e2 e3 e4; subst e1; subst e2
    exact fmE (ceV 9 e3 e4 yl_X9_pull_2 ⟨by decide, ⟨_, _, rfl⟩, q2636, qs131, q2634⟩ rfl) (fmz))) (fun z => Bool.noConfusion z) rfl (pkP ki (by
    intro K e1 e2 e3 e4; subst e1; subst e2
    exact fmP (pe_J8_min hG e3 e4 ⟨q1370, Or.inl q2608⟩ rfl rfl) (fmP (pe_J8_max hG e3 e4 ⟨q1373, Or.inl q2609⟩ rfl rfl) (fmz))))
theorem r_X9_giveBack_0 {K : JC} {l : Launch} {G : JG} {Q : Int → MH → Prop} {E : Nat → Int → MH → Prop} {h0 : MH} (ki : KI K l G yX9_giveBack cX9_giveBack 9 none [] 5 171 700 Q E h0) (hG : gO G = true) {v1 : Int} {h : MH} (H :
    ((hv h 396 3) ≠ 0) ∧
    (0 ≤ v1) ∧
    (v1 < 1500) ∧
    (∀ x2_1 : Int, x2_1 = (hv h ((hv h 396 3) + 24) v1) →
    (∀ h2, h2 = hset h 396 64 0 →
    (∀ h3, h3 = hset h2 396 65 0 →
    (∀ h4, h4 = hset h3 396 66 0 →
    (∀ h5, h5 = hset h4 396 67 0 →
    ((hv h5 396 3) ≠ 0) ∧
    (0 ≤ x2_1) ∧
    (x2_1 < 40) ∧
    (((hv h5 ((hv h5 396 3) + 8) x2_1) ≤ 0 →
      (0 ≤ x2_1) ∧
      (x2_1 < 40) ∧
      (∀ x3_6 : Int, x3_6 = (if (hv h5 488 x2_1) = 0 then 1 else 0 : Int) →
      ((x3_6 = 0 → (0 ≤ x2_1) ∧ x2_1 < 40)) ∧
      (∀ x4_7 : Int, x4_7 = (if x3_6 = 0 then (min (hv h5 489 x2_1) (hv h5 396 64)) else (hv h5 396 64) : Int) →
      ((x3_6 = 0 → (0 ≤ x2_1) ∧ x2_1 < 40)) ∧
      (∀ x5_8 : Int, x5_8 = (if x3_6 = 0 then (max (hv h5 490 x2_1) (hv h5 396 65)) else (hv h5 396 65) : Int) →
      ((x3_6 = 0 → (0 ≤ x2_1) ∧ x2_1 < 40)) ∧
      (∀ x6_9 : Int, x6_9 = (if x3_6 = 0 then (i_and (hv h5 493 x2_1) (hv h5 396 62)) else (hv h5 396 62) : Int) →
      ((x3_6 = 0 → (0 ≤ x2_1) ∧ x2_1 < 40)) ∧
      (∀ x7_10 : Int, x7_10 = (if x3_6 = 0 then (i_or (hv h5 494 x2_1) (hv h5 396 63)) else (hv h5 396 63) : Int) →
      ((x3_6 = 0 → (0 ≤ x2_1) ∧ (x2_1 < 40) ∧ (x4_7 = (hv h5 489 x2_1) → (0 ≤ x2_1) ∧ (x2_1 < 40) ∧ (x5_8 = (hv h5 490 x2_1) → (0 ≤ x2_1) ∧ (x2_1 < 40) ∧ ((i_and (hv h5 396 66) (i_xor (hv h5 491 x2_1) (-1))) = 0 → (0 ≤ x2_1) ∧ (x2_1 < 40) ∧ ((lc (l_and (hv h5 396 67) (l_xor (hv h5 492 x2_1) (-1))) 0) = 0 → (0 ≤ x2_1) ∧ (x2_1 < 40) ∧ (x6_9 = (hv h5 493 x2_1) → (0 ≤ x2_1) ∧ x2_1 < 40))))))) ∧
      (∀ x8_11 : Int, x8_11 = (if x3_6 = 0 then (if x4_7 = (hv h5 489 x2_1) then (if x5_8 = (hv h5 490 x2_1) then (if (i_and (hv h5 396 66) (i_xor (hv h5 491 x2_1) (-1))) = 0 then (if (lc (l_and (hv h5 396 67) (l_xor (hv h5 492 x2_1) (-1))) 0) = 0 then (if x6_9 = (hv h5 493 x2_1) then (if x7_10 = (hv h5 494 x2_1) then 0 else 1 : Int) else 1 : Int) else 1 : Int) else 1 : Int) else 1 : Int) else 1 : Int) else 1 : Int) →
      (∀ h12, h12 = hset h5 396 14 (l_or (hv h5 396 14) (if x8_11 = 0 then 0 else (l_shl 1 x2_1) : Int)) →
      (0 ≤ x2_1) ∧
      (x2_1 < 40) ∧
      (∀ h13, h13 = hset h12 489 x2_1 x4_7 →
      (0 ≤ x2_1) ∧
      (x2_1 < 40) ∧
      (∀ h14, h14 = hset h13 490 x2_1 x5_8 →
      (0 ≤ x2_1) ∧
      (x2_1 < 40) ∧
      (0 ≤ x2_1) ∧
      (x2_1 < 40) ∧
      (∀ h15, h15 = hset h14 491 x2_1 (i_or (hv h14 491 x2_1) (hv h14 396 66)) →
      (0 ≤ x2_1) ∧
      (x2_1 < 40) ∧
      (0 ≤ x2_1) ∧
      (x2_1 < 40) ∧
      (∀ h16, h16 = hset h15 492 x2_1 (l_or (hv h15 492 x2_1) (hv h15 396 67)) →
      (0 ≤ x2_1) ∧
      (x2_1 < 40) ∧
      (∀ h17, h17 = hset h16 493 x2_1 x6_9 →
      (0 ≤ x2_1) ∧
      (x2_1 < 40) ∧
      (∀ h18, h18 = hset h17 494 x2_1 x7_10 →
      (0 ≤ x2_1) ∧
      (x2_1 < 40) ∧
      ((1 : Int) = 0 ∨ (1 : Int) = 1) ∧
      (∀ h19, h19 = hset h18 488 x2_1 1 →
      Q 0 h19))))))))))))))) ∧
    (0 < (hv h5 ((hv h5 396 3) + 8) x2_1) →
      S_X9_pull_2 l G [(2009, 396)] h5 (fun _ h21 =>
      (0 ≤ x2_1) ∧
      (x2_1 < 40) ∧
      (∀ x3_22 : Int, x3_22 = (if (hv h21 488 x2_1) = 0 then 1 else 0 : Int) →
      ((x3_22 = 0 → (0 ≤ x2_1) ∧ x2_1 < 40)) ∧
      (∀ x4_23 : Int, x4_23 = (if x3_22 = 0 then (min (hv h21 489 x2_1) (hv h21 396 64)) else (hv h21 396 64) : Int) →
      ((x3_22 = 0 → (0 ≤ x2_1) ∧ x2_1 < 40)) ∧
      (∀ x5_24 : Int, x5_24 = (if x3_22 = 0 then (max (hv h21 490 x2_1) (hv h21 396 65)) else (hv h21 396 65) : Int) →
      ((x3_22 = 0 → (0 ≤ x2_1) ∧ x2_1 < 40)) ∧
      (∀ x6_25 : Int, x6_25 = (if x3_22 = 0 then (i_and (hv h21 493 x2_1) (hv h21 396 62)) else (hv h21 396 62) : Int) →
      ((x3_22 = 0 → (0 ≤ x2_1) ∧ x2_1 < 40)) ∧
      (∀ x7_26 : Int, x7_26 = (if x3_22 = 0 then (i_or (hv h21 494 x2_1) (hv h21 396 63)) else (hv h21 396 63) : Int) →
      ((x3_22 = 0 → (0 ≤ x2_1) ∧ (x2_1 < 40) ∧ (x4_23 = (hv h21 489 x2_1) → (0 ≤ x2_1) ∧ (x2_1 < 40) ∧ (x5_24 = (hv h21 490 x2_1) → (0 ≤ x2_1) ∧ (x2_1 < 40) ∧ ((i_and (hv h21 396 66) (i_xor (hv h21 491 x2_1) (-1))) = 0 → (0 ≤ x2_1) ∧ (x2_1 < 40) ∧ ((lc (l_and (hv h21 396 67) (l_xor (hv h21 492 x2_1) (-1))) 0) = 0 → (0 ≤ x2_1) ∧ (x2_1 < 40) ∧ (x6_25 = (hv h21 493 x2_1) → (0 ≤ x2_1) ∧ x2_1 < 40))))))) ∧
      (∀ x8_27 : Int, x8_27 = (if x3_22 = 0 then (if x4_23 = (hv h21 489 x2_1) then (if x5_24 = (hv h21 490 x2_1) then (if (i_and (hv h21 396 66) (i_xor (hv h21 491 x2_1) (-1))) = 0 then (if (lc (l_and (hv h21 396 67) (l_xor (hv h21 492 x2_1) (-1))) 0) = 0 then (if x6_25 = (hv h21 493 x2_1) then (if x7_26 = (hv h21 494 x2_1) then 0 else 1 : Int) else 1 : Int) else 1 : Int) else 1 : Int) else 1 : Int) else 1 : Int) else 1 : Int) →
      (∀ h28, h28 = hset h21 396 14 (l_or (hv h21 396 14) (if x8_27 = 0 then 0 else (l_shl 1 x2_1) : Int)) →
      (0 ≤ x2_1) ∧
      (x2_1 < 40) ∧
      (∀ h29, h29 = hset h28 489 x2_1 x4_23 →
      (0 ≤ x2_1) ∧
      (x2_1 < 40) ∧
      (∀ h30, h30 = hset h29 490 x2_1 x5_24 →
      (0 ≤ x2_1) ∧
      (x2_1 < 40) ∧
      (0 ≤ x2_1) ∧
      (x2_1 < 40) ∧
      (∀ h31, h31 = hset h30 491 x2_1 (i_or (hv h30 491 x2_1) (hv h30 396 66)) →
      (0 ≤ x2_1) ∧
      (x2_1 < 40) ∧
      (0 ≤ x2_1) ∧
      (x2_1 < 40) ∧
      (∀ h32, h32 = hset h31 492 x2_1 (l_or (hv h31 492 x2_1) (hv h31 396 67)) →
      (0 ≤ x2_1) ∧
      (x2_1 < 40) ∧
      (∀ h33, h33 = hset h32 493 x2_1 x6_25 →
      (0 ≤ x2_1) ∧
      (x2_1 < 40) ∧
      (∀ h34, h34 = hset h33 494 x2_1 x7_26 →
      (0 ≤ x2_1) ∧
      (x2_1 < 40) ∧
      ((1 : Int) = 0 ∨ (1 : Int) = 1) ∧
      (∀ h35, h35 = hset h34 488 x2_1 1 →
      Q 0 h35))))))))))))))) E)))))))) : JW K 0 [(2009, 396), (0, v1), (5000, 0), (5000, 0), (5000, 0), (5000, 0), (5000, 0), (5000, 0), (5000, 0)] [] h := by
  have e1 := ki.2.2.2.2.1
  have e2 := ki.2.2.2.2.2.1
  subst e1; subst e2
  exact run_ok (dia := [(52, 60), (62, 85), (88, 111), (114, 135), (138, 159), (162, 250), (259, 269)]) (cnr := []) (cuts := []) ki.1 (pk_X9_giveBack ki hG) ok_X9_giveBack (by decide) 99 true _ _ _ _ H
abbrev k_X9_findLive : List (Nat × List (Nat × Instr)) := [(42, [(0, .iconst 0), (1, .istore_n 1), (2, .iload_n 1), (3, .aload_n 0), (4, .getfield 373), (7, .getfield 309), (10, .if_icmp .ge 16), (13, .aload_n 0), (14, .getfield 167), (17, .iload_n 1), (18, .iconst 0), (19, .iastore), (20, .iinc 1 1), (23, .goto (-21)), (26, .iconst 1), (27, .istore_n 1), (28, .iload_n 1), (29, .ifCond .eq 169), (32, .iconst 0), (33, .istore_n 1), (34, .aload_n 0), (35, .getfield 373), (38, .getfield 309), (41, .iconst 1)]),
  (84, [(42, .isub), (43, .istore_n 2), (44, .iload_n 2), (45, .ifCond .lt 150), (48, .aload_n 0), (49, .getfield 37), (52, .iload_n 2), (53, .baload), (54, .ifCond .ne 6), (57, .goto 132), (60, .aload_n 0), (61, .getfield 373), (64, .getfield 354), (67, .iload_n 2), (68, .iaload), (69, .istore_n 3), (70, .aload_n 0), (71, .getfield 373), (74, .getfield 339), (77, .iload_n 2), (78, .iaload), (79, .iconst 3), (80, .if_icmp .ne 19), (83, .iconst 1)]),
  (121, [(84, .aload_n 0), (85, .getfield 373), (88, .getfield 342), (91, .iload_n 2), (92, .iaload), (93, .ishl), (94, .iconst (-1)), (95, .ixor), (96, .goto 4), (99, .iconst (-1)), (100, .istore 4), (102, .aload_n 0), (103, .iload_n 2), (104, .invokevirtual 646), (107, .aload_n 0), (108, .iload_n 3), (109, .aload_n 0), (110, .getfield 65), (113, .iconst 2), (114, .iload_n 2), (115, .imul), (116, .laload), (117, .aload_n 0), (118, .getfield 65)]),
  (152, [(121, .iconst 2), (122, .iload_n 2), (123, .imul), (124, .iconst 1), (125, .iadd), (126, .laload), (127, .invokevirtual 649), (130, .iload 4), (132, .iand), (133, .ior), (134, .aload_n 0), (135, .iload_n 3), (136, .aload_n 0), (137, .getfield 68), (140, .iconst 2), (141, .iload_n 2), (142, .imul), (143, .laload), (144, .aload_n 0), (145, .getfield 68), (148, .iconst 2), (149, .iload_n 2), (150, .imul), (151, .iconst 1)]),
  (195, [(152, .iadd), (153, .laload), (154, .invokevirtual 649), (157, .ior), (158, .istore 5), (160, .iload_n 1), (161, .ifCond .ne 14), (164, .iload 5), (166, .aload_n 0), (167, .getfield 167), (170, .iload_n 2), (171, .iaload), (172, .if_icmp .eq 7), (175, .iconst 1), (176, .goto 4), (179, .iconst 0), (180, .istore_n 1), (181, .aload_n 0), (182, .getfield 167), (185, .iload_n 2), (186, .iload 5), (188, .iastore), (189, .iinc 2 (-1)), (192, .goto (-148))]),
  (207, [(195, .goto (-167)), (198, .return_)])]
theorem ok_X9_findLive : CodeOK cX9_findLive k_X9_findLive := okw 0 (by decide +kernel) (okw 42 (by decide +kernel) (okw 84 (by decide +kernel) (okw 121 (by decide +kernel) (okw 152 (by decide +kernel) (okw 195 (by decide +kernel) (okn))))))
abbrev p_X9_findLive (l : Launch) (G : JG) : JP := (true, [(37, 9, 18, 2500102, 64), (65, 9, 27, 4000101, 73), (68, 9, 28, 4000101, 74), (167, 9, 73, 2500100, 107), (309, 10, 21, 0, 0), (339, 10, 22, 2500100, 19), (342, 10, 23, 2500100, 20), (354, 10, 27, 2500100, 24), (373, 9, 3, 14, 0)], [], [], [], [], [], [(646, 1, [0, 2009], 0, S_X9_readBy l G), (649, 1, [1, 1, 0, 2009], 0, S_X9_liveOf l G)], false, 700, [])
theorem pk_X9_findLive {K : JC} {l : Launch} {G : JG} {Q : Int → MH → Prop} {E : Nat → Int → MH → Prop} {h0 : MH} (ki : KI K l G yX9_findLive cX9_findLive 6 none [] 5 178 700 Q E h0) (hG : gO G = true) : POK K RX9 (p_X9_findLive l G) :=
  POKi (y := yX9_findLive) ki hG (rfs rf_X9_ok (by decide +kernel)) fmz fmz fmz fmz fmz
  (pkE ki (by
    intro K e1 e2 e3 e4; subst e1; subst e2
    exact fmE (ceV 9 e3 e4 yl_X9_readBy ⟨by decide, ⟨_, _, rfl⟩, q2747, qs157, q2745⟩ rfl) (fmE (ceV 9 e3 e4 yl_X9_liveOf ⟨by decide, ⟨_, _, rfl⟩, q2751, qs158, q2749⟩ rfl) (fmz)))) (fun z => Bool.noConfusion z) rfl (pkP ki (by
    intro K e1 e2 e3 e4; subst e1; subst e2
    exact fmz))
theorem r_X9_findLive_0 {K : JC} {l : Launch} {G : JG} {Q : Int → MH → Prop} {E : Nat → Int → MH → Prop} {h0 : MH} (ki : KI K l G yX9_findLive cX9_findLive 6 none [] 5 178 700 Q E h0) (hG : gO G = true) {h : MH} (H :
    (∀ x1_1 : Int, x1_1 = 0 →
    JW K 2 [(2009, 396), (0, x1_1), (5000, 0), (5000, 0), (5000, 0), (5000, 0)] [] h)) : JW K 0 [(2009, 396), (5000, 0), (5000, 0), (5000, 0), (5000, 0), (5000, 0)] [] h := by
  have e1 := ki.2.2.2.2.1
  have e2 := ki.2.2.2.2.2.1
  subst e1; subst e2
  exact run_ok (dia := [(80, 100), (161, 180)]) (cnr := []) (cuts := [(2, [2009, 0, 5000, 5000, 5000, 5000], []), (28, [2009, 0, 5000, 5000, 5000, 5000], []), (44, [2009, 0, 0, 5000, 5000, 5000], [])]) ki.1 (pk_X9_findLive ki hG) ok_X9_findLive (by decide) 4 true _ _ _ _ H
theorem r_X9_findLive_2 {K : JC} {l : Launch} {G : JG} {Q : Int → MH → Prop} {E : Nat → Int → MH → Prop} {h0 : MH} (ki : KI K l G yX9_findLive cX9_findLive 6 none [] 5 178 700 Q E h0) (hG : gO G = true) {v1 : Int} {h : MH} (H :
    ((hv h 396 3) ≠ 0) ∧
    (((hv h (hv h 396 3) 21) ≤ v1 →
      (∀ x1_1 : Int, x1_1 = 1 →
      JW K 28 [(2009, 396), (0, x1_1), (5000, 0), (5000, 0), (5000, 0), (5000, 0)] [] h)) ∧
    (v1 < (hv h (hv h 396 3) 21) →
      (0 ≤ v1) ∧
      (v1 < 1500) ∧
      (∀ h2, h2 = hset h 503 v1 0 →
      (∀ x1_3 : Int, x1_3 = w32 (v1 + 1) →
      JW K 2 [(2009, 396), (0, x1_3), (5000, 0), (5000, 0), (5000, 0), (5000, 0)] [] h2))))) : JW K 2 [(2009, 396), (0, v1), (5000, 0), (5000, 0), (5000, 0), (5000, 0)] [] h := by
  have e1 := ki.2.2.2.2.1
  have e2 := ki.2.2.2.2.2.1
  subst e1; subst e2
  exact run_ok (dia := [(80, 100), (161, 180)]) (cnr := []) (cuts := [(2, [2009, 0, 5000, 5000, 5000, 5000], []), (28, [2009, 0, 5000, 5000, 5000, 5000], []), (44, [2009, 0, 0, 5000, 5000, 5000], [])]) ki.1 (pk_X9_findLive ki hG) ok_X9_findLive (by decide) 14 true _ _ _ _ H
theorem r_X9_findLive_28 {K : JC} {l : Launch} {G : JG} {Q : Int → MH → Prop} {E : Nat → Int → MH → Prop} {h0 : MH} (ki : KI K l G yX9_findLive cX9_findLive 6 none [] 5 178 700 Q E h0) (hG : gO G = true) {v1 : Int} {h : MH} (H :
    ((v1 = 0 →
      Q 0 h) ∧
    (¬ v1 = 0 →
      (∀ x1_1 : Int, x1_1 = 0 →
      ((hv h 396 3) ≠ 0) ∧
      (∀ x2_2 : Int, x2_2 = (w32 ((hv h (hv h 396 3) 21) - 1)) →
      JW K 44 [(2009, 396), (0, x1_1), (0, x2_2), (5000, 0), (5000, 0), (5000, 0)] [] h))))) : JW K 28 [(2009, 396), (0, v1), (5000, 0), (5000, 0), (5000, 0), (5000, 0)] [] h := by
  have e1 := ki.2.2.2.2.1
  have e2 := ki.2.2.2.2.2.1
  subst e1; subst e2
  exact run_ok (dia := [(80, 100), (161, 180)]) (cnr := []) (cuts := [(2, [2009, 0, 5000, 5000, 5000, 5000], []), (28, [2009, 0, 5000, 5000, 5000, 5000], []), (44, [2009, 0, 0, 5000, 5000, 5000], [])]) ki.1 (pk_X9_findLive ki hG) ok_X9_findLive (by decide) 12 true _ _ _ _ H
theorem r_X9_findLive_44 {K : JC} {l : Launch} {G : JG} {Q : Int → MH → Prop} {E : Nat → Int → MH → Prop} {h0 : MH} (ki : KI K l G yX9_findLive cX9_findLive 6 none [] 5 178 700 Q E h0) (hG : gO G = true) {v1 v2 : Int} {h : MH} (H :
    ((v2 < 0 →
      JW K 28 [(2009, 396), (0, v1), (5000, 0), (5000, 0), (5000, 0), (5000, 0)] [] h) ∧
    (0 ≤ v2 →
      (0 ≤ v2) ∧
      (v2 < 1500) ∧
      ((¬ (hv h 460 v2) = 0 →
        ((hv h 396 3) ≠ 0) ∧
        (0 ≤ v2) ∧
        (v2 < 1500) ∧
        (∀ x3_1 : Int, x3_1 = (hv h ((hv h 396 3) + 24) v2) →
        ((hv h 396 3) ≠ 0) ∧
        (0 ≤ v2) ∧
        (v2 < 1500) ∧
        (((hv h ((hv h 396 3) + 19) v2) = 3 → ((hv h 396 3) ≠ 0) ∧ (0 ≤ v2) ∧ v2 < 1500)) ∧
        (∀ x4_2 : Int, x4_2 = (if (hv h ((hv h 396 3) + 19) v2) = 3 then (i_xor (i_shl 1 (hv h ((hv h 396 3) + 20) v2)) (-1)) else (-1) : Int) →
        S_X9_readBy l G [(2009, 396), (0, v2)] h (fun z3 h4 =>
        (0 ≤ (w32 (2 * v2))) ∧
        ((w32 (2 * v2)) < 3000) ∧
        (0 ≤ (w32 ((w32 (2 * v2)) + 1))) ∧
        ((w32 ((w32 (2 * v2)) + 1)) < 3000) ∧
        S_X9_liveOf l G [(2009, 396), (0, x3_1), (1, (hv h4 469 (w32 (2 * v2)))), (1, (hv h4 469 (w32 ((w32 (2 * v2)) + 1))))] h4 (fun z5 h6 =>
        (0 ≤ (w32 (2 * v2))) ∧
        ((w32 (2 * v2)) < 3000) ∧
        (0 ≤ (w32 ((w32 (2 * v2)) + 1))) ∧
        ((w32 ((w32 (2 * v2)) + 1)) < 3000) ∧
        S_X9_liveOf l G [(2009, 396), (0, x3_1), (1, (hv h6 470 (w32 (2 * v2)))), (1, (hv h6 470 (w32 ((w32 (2 * v2)) + 1))))] h6 (fun z7 h8 =>
        (∀ x5_9 : Int, x5_9 = (i_or (i_or z3 (i_and z5 x4_2)) z7) →
        ((v1 = 0 → (0 ≤ v2) ∧ v2 < 1500)) ∧
        (∀ x1_10 : Int, x1_10 = (if v1 = 0 then (if x5_9 = (hv h8 503 v2) then 0 else 1 : Int) else 1 : Int) →
        (0 ≤ v2) ∧
        (v2 < 1500) ∧
        (∀ h11, h11 = hset h8 503 v2 x5_9 →
        (∀ x2_12 : Int, x2_12 = w32 (v2 + (-1)) →
        JW K 44 [(2009, 396), (0, x1_10), (0, x2_12), (5000, 0), (5000, 0), (5000, 0)] [] h11))))) E) E) E))) ∧
      ((hv h 460 v2) = 0 →
        (∀ x2_13 : Int, x2_13 = w32 (v2 + (-1)) →
        JW K 44 [(2009, 396), (0, v1), (0, x2_13), (5000, 0), (5000, 0), (5000, 0)] [] h)))))) : JW K 44 [(2009, 396), (0, v1), (0, v2), (5000, 0), (5000, 0), (5000, 0)] [] h := by
  have e1 := ki.2.2.2.2.1
  have e2 := ki.2.2.2.2.2.1
  subst e1; subst e2
  exact run_ok (dia := [(80, 100), (161, 180)]) (cnr := []) (cuts := [(2, [2009, 0, 5000, 5000, 5000, 5000], []), (28, [2009, 0, 5000, 5000, 5000, 5000], []), (44, [2009, 0, 0, 5000, 5000, 5000], [])]) ki.1 (pk_X9_findLive ki hG) ok_X9_findLive (by decide) 75 true _ _ _ _ H
abbrev k_X9_readBy : List (Nat × List (Nat × Instr)) := [(40, [(0, .aload_n 0), (1, .getfield 373), (4, .getfield 339), (7, .iload_n 1), (8, .iaload), (9, .istore_n 2), (10, .iload_n 2), (11, .iconst 2), (12, .if_icmp .eq 15), (15, .iload_n 2), (16, .bipush 18), (18, .if_icmp .eq 9), (21, .iload_n 2), (22, .bipush 19), (24, .if_icmp .ne 15), (27, .iconst 1), (28, .aload_n 0), (29, .getfield 373), (32, .getfield 342), (35, .iload_n 1), (36, .iaload), (37, .ishl), (38, .ireturn), (39, .iload_n 2)]),
  (72, [(40, .bipush 17), (42, .if_icmp .ne 20), (45, .iconst 1), (46, .aload_n 0), (47, .getfield 373), (50, .getfield 342), (53, .iload_n 1), (54, .iaload), (55, .bipush 8), (57, .irem), (58, .ishl), (59, .goto 4), (62, .iconst 0), (63, .ireturn)])]
theorem ok_X9_readBy : CodeOK cX9_readBy k_X9_readBy := okw 0 (by decide +kernel) (okw 40 (by decide +kernel) (okn))
abbrev p_X9_readBy (l : Launch) (G : JG) : JP := (true, [(339, 10, 22, 2500100, 19), (342, 10, 23, 2500100, 20), (373, 9, 3, 14, 0)], [], [], [], [], [], [], false, 0, [])
theorem pk_X9_readBy {K : JC} {l : Launch} {G : JG} {Q : Int → MH → Prop} {E : Nat → Int → MH → Prop} {h0 : MH} (ki : KI K l G yX9_readBy cX9_readBy 3 (some .int) [] 4 150 0 Q E h0) (hG : gO G = true) : POK K RX9 (p_X9_readBy l G) :=
  POKi (y := yX9_readBy) ki hG (rfs rf_X9_ok (by decide +kernel)) fmz fmz fmz fmz fmz
  (pkE ki (by
    intro K e1 e2 e3 e4; subst e1; subst e2
    exact fmz)) (fun z => Bool.noConfusion z) rfl (pkP ki (by
    intro K e1 e2 e3 e4; subst e1; subst e2
    exact fmz))
theorem r_X9_readBy_0 {K : JC} {l : Launch} {G : JG} {Q : Int → MH → Prop} {E : Nat → Int → MH → Prop} {h0 : MH} (ki : KI K l G yX9_readBy cX9_readBy 3 (some .int) [] 4 150 0 Q E h0) (hG : gO G = true) {v1 : Int} {h : MH} (H :
    ((hv h 396 3) ≠ 0) ∧
    (0 ≤ v1) ∧
    (v1 < 1500) ∧
    (∀ x2_1 : Int, x2_1 = (hv h ((hv h 396 3) + 19) v1) →
    (((x2_1 = 2 ∨ (x2_1 = 18 ∨ x2_1 = 19)) →
      ((hv h 396 3) ≠ 0) ∧
      (0 ≤ v1) ∧
      (v1 < 1500) ∧
      Q (i_shl 1 (hv h ((hv h 396 3) + 20) v1)) h) ∧
    (¬ (x2_1 = 2 ∨ (x2_1 = 18 ∨ x2_1 = 19)) →
      ((x2_1 = 17 → ((hv h 396 3) ≠ 0) ∧ (0 ≤ v1) ∧ (v1 < 1500) ∧ ¬ (8 : Int) = 0)) ∧
      Q (if x2_1 = 17 then (i_shl 1 (i_rem (hv h ((hv h 396 3) + 20) v1) 8)) else 0 : Int) h)))) : JW K 0 [(2009, 396), (0, v1), (5000, 0)] [] h := by
  have e1 := ki.2.2.2.2.1
  have e2 := ki.2.2.2.2.2.1
  subst e1; subst e2
  exact run_ok (dia := [(42, 63)]) (cnr := [(12, 27, 39)]) (cuts := []) ki.1 (pk_X9_readBy ki hG) ok_X9_readBy (by decide) 18 true _ _ _ _ H
abbrev k_X9_liveOf : List (Nat × List (Nat × Instr)) := [(43, [(0, .iconst 0), (1, .istore 6), (3, .iconst 0), (4, .istore 7), (6, .iload 7), (8, .aload_n 0), (9, .getfield 373), (12, .getfield 306), (15, .iload_n 1), (16, .iaload), (17, .if_icmp .ge 76), (20, .iload 7), (22, .bipush 64), (24, .if_icmp .ge 10), (27, .lload_n 2), (28, .iload 7), (30, .lshr), (31, .goto 11), (34, .lload 4), (36, .iload 7), (38, .bipush 64), (40, .isub), (41, .lshr), (42, .lconst 1)]),
  (85, [(43, .land), (44, .lconst 1), (45, .lcmp), (46, .ifCond .ne 7), (49, .iconst 1), (50, .goto 4), (53, .iconst 0), (54, .istore 8), (56, .iload 6), (58, .iload 8), (60, .ifCond .eq 23), (63, .aload_n 0), (64, .getfield 167), (67, .aload_n 0), (68, .getfield 373), (71, .getfield 312), (74, .iload_n 1), (75, .iaload), (76, .iload 7), (78, .iadd), (79, .iaload), (80, .goto 4), (83, .iconst 0), (84, .ior)]),
  (104, [(85, .istore 6), (87, .iinc 7 1), (90, .goto (-84)), (93, .iload 6), (95, .ireturn)])]
theorem ok_X9_liveOf : CodeOK cX9_liveOf k_X9_liveOf := okw 0 (by decide +kernel) (okw 43 (by decide +kernel) (okw 85 (by decide +kernel) (okn)))
abbrev p_X9_liveOf (l : Launch) (G : JG) : JP := (true, [(167, 9, 73, 2500100, 107), (306, 10, 16, 1040100, 14), (312, 10, 17, 1040100, 15), (373, 9, 3, 14, 0)], [], [], [], [], [], [], false, 0, [])
theorem pk_X9_liveOf {K : JC} {l : Launch} {G : JG} {Q : Int → MH → Prop} {E : Nat → Int → MH → Prop} {h0 : MH} (ki : KI K l G yX9_liveOf cX9_liveOf 9 (some .int) [] 4 150 0 Q E h0) (hG : gO G = true) : POK K RX9 (p_X9_liveOf l G) :=
  POKi (y := yX9_liveOf) ki hG (rfs rf_X9_ok (by decide +kernel)) fmz fmz fmz fmz fmz
  (pkE ki (by
    intro K e1 e2 e3 e4; subst e1; subst e2
    exact fmz)) (fun z => Bool.noConfusion z) rfl (pkP ki (by
    intro K e1 e2 e3 e4; subst e1; subst e2
    exact fmz))
theorem r_X9_liveOf_0 {K : JC} {l : Launch} {G : JG} {Q : Int → MH → Prop} {E : Nat → Int → MH → Prop} {h0 : MH} (ki : KI K l G yX9_liveOf cX9_liveOf 9 (some .int) [] 4 150 0 Q E h0) (hG : gO G = true) {v1 v2 v4 : Int} {h : MH} (H :
    (∀ x6_1 : Int, x6_1 = 0 →
    (∀ x7_2 : Int, x7_2 = 0 →
    JW K 6 [(2009, 396), (0, v1), (1, v2), (5000, 0), (1, v4), (5000, 0), (0, x6_1), (0, x7_2), (5000, 0)] [] h))) : JW K 0 [(2009, 396), (0, v1), (1, v2), (5000, 0), (1, v4), (5000, 0), (5000, 0), (5000, 0), (5000, 0)] [] h := by
  have e1 := ki.2.2.2.2.1
  have e2 := ki.2.2.2.2.2.1
  subst e1; subst e2
  exact run_ok (dia := [(24, 42), (46, 54), (60, 84)]) (cnr := []) (cuts := [(6, [2009, 0, 1, 5000, 1, 5000, 0, 0, 5000], [])]) ki.1 (pk_X9_liveOf ki hG) ok_X9_liveOf (by decide) 6 true _ _ _ _ H
theorem r_X9_liveOf_6 {K : JC} {l : Launch} {G : JG} {Q : Int → MH → Prop} {E : Nat → Int → MH → Prop} {h0 : MH} (ki : KI K l G yX9_liveOf cX9_liveOf 9 (some .int) [] 4 150 0 Q E h0) (hG : gO G = true) {v1 v2 v4 v6 v7 : Int} {h : MH} (H :
    ((hv h 396 3) ≠ 0) ∧
    (0 ≤ v1) ∧
    (v1 < 40) ∧
    (((hv h ((hv h 396 3) + 14) v1) ≤ v7 →
      Q v6 h) ∧
    (v7 < (hv h ((hv h 396 3) + 14) v1) →
      (∀ x8_1 : Int, x8_1 = (if (lc (l_and (if v7 < 64 then (l_shr v2 v7) else (l_shr v4 (w32 (v7 - 64))) : Int) 1) 1) = 0 then 1 else 0 : Int) →
      ((¬ x8_1 = 0 → ((hv h 396 3) ≠ 0) ∧ (0 ≤ v1) ∧ (v1 < 40) ∧ (0 ≤ (w32 ((hv h ((hv h 396 3) + 15) v1) + v7))) ∧ (w32 ((hv h ((hv h 396 3) + 15) v1) + v7)) < 1500)) ∧
      (∀ x6_2 : Int, x6_2 = (i_or v6 (if x8_1 = 0 then 0 else (hv h 503 (w32 ((hv h ((hv h 396 3) + 15) v1) + v7))) : Int)) →
      (∀ x7_3 : Int, x7_3 = w32 (v7 + 1) →
      JW K 6 [(2009, 396), (0, v1), (1, v2), (5000, 0), (1, v4), (5000, 0), (0, x6_2), (0, x7_3), (5000, 0)] [] h)))))) : JW K 6 [(2009, 396), (0, v1), (1, v2), (5000, 0), (1, v4), (5000, 0), (0, v6), (0, v7), (5000, 0)] [] h := by
  have e1 := ki.2.2.2.2.1
  have e2 := ki.2.2.2.2.2.1
  subst e1; subst e2
  exact run_ok (dia := [(24, 42), (46, 54), (60, 84)]) (cnr := []) (cuts := [(6, [2009, 0, 1, 5000, 1, 5000, 0, 0, 5000], [])]) ki.1 (pk_X9_liveOf ki hG) ok_X9_liveOf (by decide) 25 true _ _ _ _ H
abbrev k_X9_findOrigins : List (Nat × List (Nat × Instr)) := [(40, [(0, .lconst 0), (1, .lstore_n 1), (2, .iconst 0), (3, .istore_n 3), (4, .iload_n 3), (5, .aload_n 0), (6, .getfield 373), (9, .getfield 333), (12, .if_icmp .ge 28), (15, .lload_n 1), (16, .aload_n 0), (17, .getfield 27), (20, .iload_n 3), (21, .baload), (22, .ifCond .eq 9), (25, .lconst 1), (26, .iload_n 3), (27, .lshl), (28, .goto 4), (31, .lconst 0), (32, .lor), (33, .lstore_n 1), (34, .iinc 3 1), (37, .goto (-33))]),
  (82, [(40, .aload_n 0), (41, .getfield 173), (44, .iconst 0), (45, .aload_n 0), (46, .lload_n 1), (47, .invokevirtual 653), (50, .lastore), (51, .aload_n 0), (52, .iconst 1), (53, .putfield 656), (56, .iconst 0), (57, .istore_n 3), (58, .iload_n 3), (59, .aload_n 0), (60, .getfield 373), (63, .getfield 309), (66, .if_icmp .ge 74), (69, .aload_n 0), (70, .getfield 37), (73, .iload_n 3), (74, .baload), (75, .ifCond .eq 59), (78, .aload_n 0), (79, .getfield 373)]),
  (125, [(82, .getfield 339), (85, .iload_n 3), (86, .iaload), (87, .bipush 36), (89, .if_icmp .eq 6), (92, .goto 42), (95, .aload_n 0), (96, .getfield 170), (99, .aload_n 0), (100, .getfield 656), (103, .iload_n 3), (104, .iastore), (105, .aload_n 0), (106, .getfield 173), (109, .aload_n 0), (110, .getfield 656), (113, .aload_n 0), (114, .aload_n 0), (115, .getfield 62), (118, .iload_n 3), (119, .laload), (120, .invokevirtual 653), (123, .lastore), (124, .aload_n 0)]),
  (172, [(125, .dup), (126, .getfield 656), (129, .iconst 1), (130, .iadd), (131, .putfield 656), (134, .iinc 3 1), (137, .goto (-79)), (140, .iconst 0), (141, .istore_n 3), (142, .iload_n 3), (143, .aload_n 0), (144, .getfield 373), (147, .getfield 333), (150, .if_icmp .ge 225), (153, .iconst 0), (154, .istore 4), (156, .iload 4), (158, .aload_n 0), (159, .getfield 373), (162, .getfield 333), (165, .if_icmp .ge 204), (168, .iconst 0), (169, .istore 5), (171, .iconst 0)]),
  (212, [(172, .istore 6), (174, .iconst 0), (175, .istore 7), (177, .iconst 0), (178, .istore 8), (180, .iconst 0), (181, .istore 9), (183, .iload 9), (185, .aload_n 0), (186, .getfield 656), (189, .if_icmp .ge 136), (192, .aload_n 0), (193, .getfield 173), (196, .iload 9), (198, .laload), (199, .iload_n 3), (200, .lshr), (201, .lconst 1), (202, .land), (203, .lconst 1), (204, .lcmp), (205, .ifCond .ne 7), (208, .iconst 1), (209, .goto 4)]),
  (253, [(212, .iconst 0), (213, .istore 10), (215, .aload_n 0), (216, .getfield 173), (219, .iload 9), (221, .laload), (222, .iload 4), (224, .lshr), (225, .lconst 1), (226, .land), (227, .lconst 1), (228, .lcmp), (229, .ifCond .ne 7), (232, .iconst 1), (233, .goto 4), (236, .iconst 0), (237, .istore 11), (239, .iload 10), (241, .ifCond .eq 10), (244, .iload 5), (246, .iconst 1), (247, .iadd), (248, .goto 5), (251, .iload 5)]),
  (304, [(253, .istore 5), (255, .iload 11), (257, .ifCond .eq 10), (260, .iload 6), (262, .iconst 1), (263, .iadd), (264, .goto 5), (267, .iload 6), (269, .istore 6), (271, .iload 10), (273, .ifCond .ne 8), (276, .iload 11), (278, .ifCond .eq 10), (281, .iload 7), (283, .iconst 1), (284, .iadd), (285, .goto 5), (288, .iload 7), (290, .istore 7), (292, .iload 8), (294, .ifCond .ne 18), (297, .iload 9), (299, .ifCond .le 17), (302, .iload 10)]),
  (354, [(304, .ifCond .eq 12), (307, .iload 11), (309, .ifCond .eq 7), (312, .iconst 1), (313, .goto 4), (316, .iconst 0), (317, .istore 8), (319, .iinc 9 1), (322, .goto (-139)), (325, .aload_n 0), (326, .getfield 176), (329, .bipush 40), (331, .iload_n 3), (332, .imul), (333, .iload 4), (335, .iadd), (336, .iload 8), (338, .ifCond .ne 19), (341, .iload 5), (343, .ifCond .le 18), (346, .iload 6), (348, .ifCond .le 13), (351, .iload 7), (353, .iconst 1)]),
  (384, [(354, .if_icmp .le 7), (357, .iconst 1), (358, .goto 4), (361, .iconst 0), (362, .bastore), (363, .iinc 4 1), (366, .goto (-210)), (369, .iinc 3 1), (372, .goto (-230)), (375, .return_)])]
theorem ok_X9_findOrigins : CodeOK cX9_findOrigins k_X9_findOrigins := okw 0 (by decide +kernel) (okw 40 (by decide +kernel) (okw 82 (by decide +kernel) (okw 125 (by decide +kernel) (okw 172 (by decide +kernel) (okw 212 (by decide +kernel) (okw 253 (by decide +kernel) (okw 304 (by decide +kernel) (okw 354 (by decide +kernel) (okn)))))))))
abbrev p_X9_findOrigins (l : Launch) (G : JG) : JP := (true, [(27, 9, 7, 1040102, 61), (37, 9, 18, 2500102, 64), (62, 9, 26, 2500101, 72), (170, 9, 75, 2501100, 108), (173, 9, 76, 2501101, 109), (176, 9, 77, 2600102, 110), (309, 10, 21, 0, 0), (333, 10, 6, 0, 0), (339, 10, 22, 2500100, 19), (373, 9, 3, 14, 0), (656, 9, 74, 0, 0)], [], [], [(656, 9, 74, 0)], [], [], [(653, 1, [1, 2009], 1, S_X9_closed l G)], false, 700, [])
theorem pk_X9_findOrigins {K : JC} {l : Launch} {G : JG} {Q : Int → MH → Prop} {E : Nat → Int → MH → Prop} {h0 : MH} (ki : KI K l G yX9_findOrigins cX9_findOrigins 12 none [] 5 177 700 Q E h0) (hG : gO G = true) : POK K RX9 (p_X9_findOrigins l G) :=
  POKi (y := yX9_findOrigins) ki hG (rfs rf_X9_ok (by decide +kernel)) fmz fmz (rps rp_X9_ok (by decide +kernel)) fmz fmz
  (pkE ki (by
    intro K e1 e2 e3 e4; subst e1; subst e2
    exact fmE (ceV 9 e3 e4 yl_X9_closed ⟨by decide, ⟨_, _, rfl⟩, q2759, qs160, q2757⟩ rfl) (fmz))) (fun z => Bool.noConfusion z) rfl (pkP ki (by
    intro K e1 e2 e3 e4; subst e1; subst e2
    exact fmz))
theorem r_X9_findOrigins_0 {K : JC} {l : Launch} {G : JG} {Q : Int → MH → Prop} {E : Nat → Int → MH → Prop} {h0 : MH} (ki : KI K l G yX9_findOrigins cX9_findOrigins 12 none [] 5 177 700 Q E h0) (hG : gO G = true) {h : MH} (H :
    (∀ x1_1 : Int, x1_1 = 0 →
    (∀ x3_2 : Int, x3_2 = 0 →
    JW K 4 [(2009, 396), (1, x1_1), (5000, 0), (0, x3_2), (5000, 0), (5000, 0), (5000, 0), (5000, 0), (5000, 0), (5000, 0), (5000, 0), (5000, 0)] [] h))) : JW K 0 [(2009, 396), (5000, 0), (5000, 0), (5000, 0), (5000, 0), (5000, 0), (5000, 0), (5000, 0), (5000, 0), (5000, 0), (5000, 0), (5000, 0)] [] h := by
  have e1 := ki.2.2.2.2.1
  have e2 := ki.2.2.2.2.2.1
  subst e1; subst e2
  exact run_ok (dia := [(22, 32), (205, 213), (229, 237), (241, 253), (257, 269), (273, 290), (294, 317), (338, 362)]) (cnr := []) (cuts := [(4, [2009, 1, 5000, 0, 5000, 5000, 5000, 5000, 5000, 5000, 5000, 5000], []), (58, [2009, 1, 5000, 0, 5000, 5000, 5000, 5000, 5000, 5000, 5000, 5000], []), (142, [2009, 1, 5000, 0, 5000, 5000, 5000, 5000, 5000, 5000, 5000, 5000], []), (156, [2009, 1, 5000, 0, 0, 5000, 5000, 5000, 5000, 5000, 5000, 5000], []), (183, [2009, 1, 5000, 0, 0, 0, 0, 0, 0, 0, 5000, 5000], [])]) ki.1 (pk_X9_findOrigins ki hG) ok_X9_findOrigins (by decide) 6 true _ _ _ _ H
theorem r_X9_findOrigins_4 {K : JC} {l : Launch} {G : JG} {Q : Int → MH → Prop} {E : Nat → Int → MH → Prop} {h0 : MH} (ki : KI K l G yX9_findOrigins cX9_findOrigins 12 none [] 5 177 700 Q E h0) (hG : gO G = true) {v1 v3 : Int} {h : MH} (H :
    ((hv h 396 3) ≠ 0) ∧
    (((hv h (hv h 396 3) 6) ≤ v3 →
      S_X9_closed l G [(2009, 396), (1, v1)] h (fun z1 h2 =>
      (0 ≤ (0 : Int)) ∧
      ((0 : Int) < 1501) ∧
      (∀ h3, h3 = hset h2 505 0 z1 →
      (∀ h4, h4 = hset h3 396 74 1 →
      (∀ x3_5 : Int, x3_5 = 0 →
      JW K 58 [(2009, 396), (1, v1), (5000, 0), (0, x3_5), (5000, 0), (5000, 0), (5000, 0), (5000, 0), (5000, 0), (5000, 0), (5000, 0), (5000, 0)] [] h4)))) E) ∧
    (v3 < (hv h (hv h 396 3) 6) →
      (0 ≤ v3) ∧
      (v3 < 40) ∧
      (∀ x1_6 : Int, x1_6 = (l_or v1 (if (hv h 457 v3) = 0 then 0 else (l_shl 1 v3) : Int)) →
      (∀ x3_7 : Int, x3_7 = w32 (v3 + 1) →
      JW K 4 [(2009, 396), (1, x1_6), (5000, 0), (0, x3_7), (5000, 0), (5000, 0), (5000, 0), (5000, 0), (5000, 0), (5000, 0), (5000, 0), (5000, 0)] [] h))))) : JW K 4 [(2009, 396), (1, v1), (5000, 0), (0, v3), (5000, 0), (5000, 0), (5000, 0), (5000, 0), (5000, 0), (5000, 0), (5000, 0), (5000, 0)] [] h := by
  have e1 := ki.2.2.2.2.1
  have e2 := ki.2.2.2.2.2.1
  subst e1; subst e2
  exact run_ok (dia := [(22, 32), (205, 213), (229, 237), (241, 253), (257, 269), (273, 290), (294, 317), (338, 362)]) (cnr := []) (cuts := [(4, [2009, 1, 5000, 0, 5000, 5000, 5000, 5000, 5000, 5000, 5000, 5000], []), (58, [2009, 1, 5000, 0, 5000, 5000, 5000, 5000, 5000, 5000, 5000, 5000], []), (142, [2009, 1, 5000, 0, 5000, 5000, 5000, 5000, 5000, 5000, 5000, 5000], []), (156, [2009, 1, 5000, 0, 0, 5000, 5000, 5000, 5000, 5000, 5000, 5000], []), (183, [2009, 1, 5000, 0, 0, 0, 0, 0, 0, 0, 5000, 5000], [])]) ki.1 (pk_X9_findOrigins ki hG) ok_X9_findOrigins (by decide) 19 true _ _ _ _ H
theorem r_X9_findOrigins_58 {K : JC} {l : Launch} {G : JG} {Q : Int → MH → Prop} {E : Nat → Int → MH → Prop} {h0 : MH} (ki : KI K l G yX9_findOrigins cX9_findOrigins 12 none [] 5 177 700 Q E h0) (hG : gO G = true) {v1 v3 : Int} {h : MH} (H :
    ((hv h 396 3) ≠ 0) ∧
    (((hv h (hv h 396 3) 21) ≤ v3 →
      (∀ x3_1 : Int, x3_1 = 0 →
      JW K 142 [(2009, 396), (1, v1), (5000, 0), (0, x3_1), (5000, 0), (5000, 0), (5000, 0), (5000, 0), (5000, 0), (5000, 0), (5000, 0), (5000, 0)] [] h)) ∧
    (v3 < (hv h (hv h 396 3) 21) →
      (0 ≤ v3) ∧
      (v3 < 1500) ∧
      (((hv h 460 v3) = 0 →
        (∀ x3_2 : Int, x3_2 = w32 (v3 + 1) →
        JW K 58 [(2009, 396), (1, v1), (5000, 0), (0, x3_2), (5000, 0), (5000, 0), (5000, 0), (5000, 0), (5000, 0), (5000, 0), (5000, 0), (5000, 0)] [] h)) ∧
      (¬ (hv h 460 v3) = 0 →
        ((hv h 396 3) ≠ 0) ∧
        (0 ≤ v3) ∧
        (v3 < 1500) ∧
        (((hv h ((hv h 396 3) + 19) v3) = 36 →
          (0 ≤ (hv h 396 74)) ∧
          ((hv h 396 74) < 1501) ∧
          (∀ h3, h3 = hset h 504 (hv h 396 74) v3 →
          (0 ≤ v3) ∧
          (v3 < 1500) ∧
          S_X9_closed l G [(2009, 396), (1, (hv h3 468 v3))] h3 (fun z4 h5 =>
          (0 ≤ (hv h3 396 74)) ∧
          ((hv h3 396 74) < 1501) ∧
          (∀ h6, h6 = hset h5 505 (hv h3 396 74) z4 →
          (∀ h7, h7 = hset h6 396 74 (w32 ((hv h6 396 74) + 1)) →
          (∀ x3_8 : Int, x3_8 = w32 (v3 + 1) →
          JW K 58 [(2009, 396), (1, v1), (5000, 0), (0, x3_8), (5000, 0), (5000, 0), (5000, 0), (5000, 0), (5000, 0), (5000, 0), (5000, 0), (5000, 0)] [] h7)))) E)) ∧
        (¬ (hv h ((hv h 396 3) + 19) v3) = 36 →
          (∀ x3_9 : Int, x3_9 = w32 (v3 + 1) →
          JW K 58 [(2009, 396), (1, v1), (5000, 0), (0, x3_9), (5000, 0), (5000, 0), (5000, 0), (5000, 0), (5000, 0), (5000, 0), (5000, 0), (5000, 0)] [] h)))))))) : JW K 58 [(2009, 396), (1, v1), (5000, 0), (0, v3), (5000, 0), (5000, 0), (5000, 0), (5000, 0), (5000, 0), (5000, 0), (5000, 0), (5000, 0)] [] h := by
  have e1 := ki.2.2.2.2.1
  have e2 := ki.2.2.2.2.2.1
  subst e1; subst e2
  exact run_ok (dia := [(22, 32), (205, 213), (229, 237), (241, 253), (257, 269), (273, 290), (294, 317), (338, 362)]) (cnr := []) (cuts := [(4, [2009, 1, 5000, 0, 5000, 5000, 5000, 5000, 5000, 5000, 5000, 5000], []), (58, [2009, 1, 5000, 0, 5000, 5000, 5000, 5000, 5000, 5000, 5000, 5000], []), (142, [2009, 1, 5000, 0, 5000, 5000, 5000, 5000, 5000, 5000, 5000, 5000], []), (156, [2009, 1, 5000, 0, 0, 5000, 5000, 5000, 5000, 5000, 5000, 5000], []), (183, [2009, 1, 5000, 0, 0, 0, 0, 0, 0, 0, 5000, 5000], [])]) ki.1 (pk_X9_findOrigins ki hG) ok_X9_findOrigins (by decide) 44 true _ _ _ _ H
theorem r_X9_findOrigins_142 {K : JC} {l : Launch} {G : JG} {Q : Int → MH → Prop} {E : Nat → Int → MH → Prop} {h0 : MH} (ki : KI K l G yX9_findOrigins cX9_findOrigins 12 none [] 5 177 700 Q E h0) (hG : gO G = true) {v1 v3 : Int} {h : MH} (H :
    ((hv h 396 3) ≠ 0) ∧
    (((hv h (hv h 396 3) 6) ≤ v3 →
      Q 0 h) ∧
    (v3 < (hv h (hv h 396 3) 6) →
      (∀ x4_1 : Int, x4_1 = 0 →
      JW K 156 [(2009, 396), (1, v1), (5000, 0), (0, v3), (0, x4_1), (5000, 0), (5000, 0), (5000, 0), (5000, 0), (5000, 0), (5000, 0), (5000, 0)] [] h)))) : JW K 142 [(2009, 396), (1, v1), (5000, 0), (0, v3), (5000, 0), (5000, 0), (5000, 0), (5000, 0), (5000, 0), (5000, 0), (5000, 0), (5000, 0)] [] h := by
  have e1 := ki.2.2.2.2.1
  have e2 := ki.2.2.2.2.2.1
  subst e1; subst e2
  exact run_ok (dia := [(22, 32), (205, 213), (229, 237), (241, 253), (257, 269), (273, 290), (294, 317), (338, 362)]) (cnr := []) (cuts := [(4, [2009, 1, 5000, 0, 5000, 5000, 5000, 5000, 5000, 5000, 5000, 5000], []), (58, [2009, 1, 5000, 0, 5000, 5000, 5000, 5000, 5000, 5000, 5000, 5000], []), (142, [2009, 1, 5000, 0, 5000, 5000, 5000, 5000, 5000, 5000, 5000, 5000], []), (156, [2009, 1, 5000, 0, 0, 5000, 5000, 5000, 5000, 5000, 5000, 5000], []), (183, [2009, 1, 5000, 0, 0, 0, 0, 0, 0, 0, 5000, 5000], [])]) ki.1 (pk_X9_findOrigins ki hG) ok_X9_findOrigins (by decide) 9 true _ _ _ _ H
theorem r_X9_findOrigins_156 {K : JC} {l : Launch} {G : JG} {Q : Int → MH → Prop} {E : Nat → Int → MH → Prop} {h0 : MH} (ki : KI K l G yX9_findOrigins cX9_findOrigins 12 none [] 5 177 700 Q E h0) (hG : gO G = true) {v1 v3 v4 : Int} {h : MH} (H :
    ((hv h 396 3) ≠ 0) ∧
    (((hv h (hv h 396 3) 6) ≤ v4 →
      (∀ x3_1 : Int, x3_1 = w32 (v3 + 1) →
      JW K 142 [(2009, 396), (1, v1), (5000, 0), (0, x3_1), (5000, 0), (5000, 0), (5000, 0), (5000, 0), (5000, 0), (5000, 0), (5000, 0), (5000, 0)] [] h)) ∧
    (v4 < (hv h (hv h 396 3) 6) →
      (∀ x5_2 : Int, x5_2 = 0 →
      (∀ x6_3 : Int, x6_3 = 0 →
      (∀ x7_4 : Int, x7_4 = 0 →
      (∀ x8_5 : Int, x8_5 = 0 →
      (∀ x9_6 : Int, x9_6 = 0 →
      JW K 183 [(2009, 396), (1, v1), (5000, 0), (0, v3), (0, v4), (0, x5_2), (0, x6_3), (0, x7_4), (0, x8_5), (0, x9_6), (5000, 0), (5000, 0)] [] h)))))))) : JW K 156 [(2009, 396), (1, v1), (5000, 0), (0, v3), (0, v4), (5000, 0), (5000, 0), (5000, 0), (5000, 0), (5000, 0), (5000, 0), (5000, 0)] [] h := by
  have e1 := ki.2.2.2.2.1
  have e2 := ki.2.2.2.2.2.1
  subst e1; subst e2
  exact run_ok (dia := [(22, 32), (205, 213), (229, 237), (241, 253), (257, 269), (273, 290), (294, 317), (338, 362)]) (cnr := []) (cuts := [(4, [2009, 1, 5000, 0, 5000, 5000, 5000, 5000, 5000, 5000, 5000, 5000], []), (58, [2009, 1, 5000, 0, 5000, 5000, 5000, 5000, 5000, 5000, 5000, 5000], []), (142, [2009, 1, 5000, 0, 5000, 5000, 5000, 5000, 5000, 5000, 5000, 5000], []), (156, [2009, 1, 5000, 0, 0, 5000, 5000, 5000, 5000, 5000, 5000, 5000], []), (183, [2009, 1, 5000, 0, 0, 0, 0, 0, 0, 0, 5000, 5000], [])]) ki.1 (pk_X9_findOrigins ki hG) ok_X9_findOrigins (by decide) 17 true _ _ _ _ H
theorem r_X9_findOrigins_183 {K : JC} {l : Launch} {G : JG} {Q : Int → MH → Prop} {E : Nat → Int → MH → Prop} {h0 : MH} (ki : KI K l G yX9_findOrigins cX9_findOrigins 12 none [] 5 177 700 Q E h0) (hG : gO G = true) {v1 v3 v4 v5 v6 v7 v8 v9 : Int} {h : MH} (H :
    (((hv h 396 74) ≤ v9 →
      (0 ≤ (w32 ((w32 (40 * v3)) + v4))) ∧
      ((w32 ((w32 (40 * v3)) + v4)) < 1600) ∧
      ((if v8 = 0 then (if 0 < v5 then (if 0 < v6 then (if 1 < v7 then 1 else 0 : Int) else 0 : Int) else 0 : Int) else 1 : Int) = 0 ∨ (if v8 = 0 then (if 0 < v5 then (if 0 < v6 then (if 1 < v7 then 1 else 0 : Int) else 0 : Int) else 0 : Int) else 1 : Int) = 1) ∧
      (∀ h1, h1 = hset h 506 (w32 ((w32 (40 * v3)) + v4)) (if v8 = 0 then (if 0 < v5 then (if 0 < v6 then (if 1 < v7 then 1 else 0 : Int) else 0 : Int) else 0 : Int) else 1 : Int) →
      (∀ x4_2 : Int, x4_2 = w32 (v4 + 1) →
      JW K 156 [(2009, 396), (1, v1), (5000, 0), (0, v3), (0, x4_2), (5000, 0), (5000, 0), (5000, 0), (5000, 0), (5000, 0), (5000, 0), (5000, 0)] [] h1))) ∧
    (v9 < (hv h 396 74) →
      (0 ≤ v9) ∧
      (v9 < 1501) ∧
      (∀ x10_3 : Int, x10_3 = (if (lc (l_and (l_shr (hv h 505 v9) v3) 1) 1) = 0 then 1 else 0 : Int) →
      (0 ≤ v9) ∧
      (v9 < 1501) ∧
      (∀ x11_4 : Int, x11_4 = (if (lc (l_and (l_shr (hv h 505 v9) v4) 1) 1) = 0 then 1 else 0 : Int) →
      (∀ x5_5 : Int, x5_5 = (if x10_3 = 0 then v5 else (w32 (v5 + 1)) : Int) →
      (∀ x6_6 : Int, x6_6 = (if x11_4 = 0 then v6 else (w32 (v6 + 1)) : Int) →
      (∀ x7_7 : Int, x7_7 = (if x10_3 = 0 then (if x11_4 = 0 then v7 else (w32 (v7 + 1)) : Int) else (w32 (v7 + 1)) : Int) →
      (∀ x8_8 : Int, x8_8 = (if v8 = 0 then (if 0 < v9 then (if x10_3 = 0 then 0 else (if x11_4 = 0 then 0 else 1 : Int) : Int) else 0 : Int) else 1 : Int) →
      (∀ x9_9 : Int, x9_9 = w32 (v9 + 1) →
      JW K 183 [(2009, 396), (1, v1), (5000, 0), (0, v3), (0, v4), (0, x5_5), (0, x6_6), (0, x7_7), (0, x8_8), (0, x9_9), (5000, 0), (5000, 0)] [] h)))))))))) : JW K 183 [(2009, 396), (1, v1), (5000, 0), (0, v3), (0, v4), (0, v5), (0, v6), (0, v7), (0, v8), (0, v9), (5000, 0), (5000, 0)] [] h := by
  have e1 := ki.2.2.2.2.1
  have e2 := ki.2.2.2.2.2.1
  subst e1; subst e2
  exact run_ok (dia := [(22, 32), (205, 213), (229, 237), (241, 253), (257, 269), (273, 290), (294, 317), (338, 362)]) (cnr := []) (cuts := [(4, [2009, 1, 5000, 0, 5000, 5000, 5000, 5000, 5000, 5000, 5000, 5000], []), (58, [2009, 1, 5000, 0, 5000, 5000, 5000, 5000, 5000, 5000, 5000, 5000], []), (142, [2009, 1, 5000, 0, 5000, 5000, 5000, 5000, 5000, 5000, 5000, 5000], []), (156, [2009, 1, 5000, 0, 0, 5000, 5000, 5000, 5000, 5000, 5000, 5000], []), (183, [2009, 1, 5000, 0, 0, 0, 0, 0, 0, 0, 5000, 5000], [])]) ki.1 (pk_X9_findOrigins ki hG) ok_X9_findOrigins (by decide) 44 true _ _ _ _ H
abbrev k_X9_closed : List (Nat × List (Nat × Instr)) := [(47, [(0, .lload_n 1), (1, .lstore_n 3), (2, .iconst 1), (3, .istore 5), (5, .iload 5), (7, .ifCond .eq 117), (10, .iconst 0), (11, .istore 5), (13, .iconst 0), (14, .istore 6), (16, .iload 6), (18, .aload_n 0), (19, .getfield 373), (22, .getfield 309), (25, .if_icmp .ge 96), (28, .aload_n 0), (29, .getfield 37), (32, .iload 6), (34, .baload), (35, .ifCond .eq 41), (38, .aload_n 0), (39, .getfield 373), (42, .getfield 339), (45, .iload 6)]),
  (90, [(47, .iaload), (48, .bipush 36), (50, .if_icmp .eq 26), (53, .lload_n 3), (54, .aload_n 0), (55, .getfield 373), (58, .getfield 354), (61, .iload 6), (63, .iaload), (64, .lshr), (65, .lconst 1), (66, .land), (67, .lconst 1), (68, .lcmp), (69, .ifCond .ne 7), (72, .iconst 1), (73, .goto 4), (76, .iconst 0), (77, .istore 7), (79, .iload 7), (81, .ifCond .eq 34), (84, .aload_n 0), (85, .getfield 62), (88, .iload 6)]),
  (134, [(90, .laload), (91, .lload_n 3), (92, .ldc2_w 476), (95, .lxor), (96, .land), (97, .lconst 0), (98, .lcmp), (99, .ifCond .eq 16), (102, .lload_n 3), (103, .aload_n 0), (104, .getfield 62), (107, .iload 6), (109, .laload), (110, .lor), (111, .lstore_n 3), (112, .iconst 1), (113, .istore 5), (115, .iinc 6 1), (118, .goto (-102)), (121, .goto (-116)), (124, .lload_n 3), (125, .lreturn)])]
theorem ok_X9_closed : CodeOK cX9_closed k_X9_closed := okw 0 (by decide +kernel) (okw 47 (by decide +kernel) (okw 90 (by decide +kernel) (okn)))
abbrev p_X9_closed (l : Launch) (G : JG) : JP := (true, [(37, 9, 18, 2500102, 64), (62, 9, 26, 2500101, 72), (309, 10, 21, 0, 0), (339, 10, 22, 2500100, 19), (354, 10, 27, 2500100, 24), (373, 9, 3, 14, 0)], [], [(476, (-1))], [], [], [], [], false, 1, [])
theorem pk_X9_closed {K : JC} {l : Launch} {G : JG} {Q : Int → MH → Prop} {E : Nat → Int → MH → Prop} {h0 : MH} (ki : KI K l G yX9_closed cX9_closed 8 (some .long) [] 4 150 1 Q E h0) (hG : gO G = true) : POK K RX9 (p_X9_closed l G) :=
  POKi (y := yX9_closed) ki hG (rfs rf_X9_ok (by decide +kernel)) fmz (subs (by decide +kernel) rl_X9_ok) fmz fmz fmz
  (pkE ki (by
    intro K e1 e2 e3 e4; subst e1; subst e2
    exact fmz)) (fun z => Bool.noConfusion z) rfl (pkP ki (by
    intro K e1 e2 e3 e4; subst e1; subst e2
    exact fmz))
theorem r_X9_closed_0 {K : JC} {l : Launch} {G : JG} {Q : Int → MH → Prop} {E : Nat → Int → MH → Prop} {h0 : MH} (ki : KI K l G yX9_closed cX9_closed 8 (some .long) [] 4 150 1 Q E h0) (hG : gO G = true) {v1 : Int} {h : MH} (H :
    (∀ x3_1 : Int, x3_1 = v1 →
    (∀ x5_2 : Int, x5_2 = 1 →
    JW K 5 [(2009, 396), (1, v1), (5000, 0), (1, x3_1), (5000, 0), (0, x5_2), (5000, 0), (5000, 0)] [] h))) : JW K 0 [(2009, 396), (1, v1), (5000, 0), (5000, 0), (5000, 0), (5000, 0), (5000, 0), (5000, 0)] [] h := by
  have e1 := ki.2.2.2.2.1
  have e2 := ki.2.2.2.2.2.1
  subst e1; subst e2
  exact run_ok (dia := [(35, 77)]) (cnr := [(81, 102, 115)]) (cuts := [(5, [2009, 1, 5000, 1, 5000, 0, 5000, 5000], []), (16, [2009, 1, 5000, 1, 5000, 0, 0, 5000], [])]) ki.1 (pk_X9_closed ki hG) ok_X9_closed (by decide) 6 true _ _ _ _ H
theorem r_X9_closed_5 {K : JC} {l : Launch} {G : JG} {Q : Int → MH → Prop} {E : Nat → Int → MH → Prop} {h0 : MH} (ki : KI K l G yX9_closed cX9_closed 8 (some .long) [] 4 150 1 Q E h0) (hG : gO G = true) {v1 v3 v5 : Int} {h : MH} (H :
    ((v5 = 0 →
      Q v3 h) ∧
    (¬ v5 = 0 →
      (∀ x5_1 : Int, x5_1 = 0 →
      (∀ x6_2 : Int, x6_2 = 0 →
      JW K 16 [(2009, 396), (1, v1), (5000, 0), (1, v3), (5000, 0), (0, x5_1), (0, x6_2), (5000, 0)] [] h))))) : JW K 5 [(2009, 396), (1, v1), (5000, 0), (1, v3), (5000, 0), (0, v5), (5000, 0), (5000, 0)] [] h := by
  have e1 := ki.2.2.2.2.1
  have e2 := ki.2.2.2.2.2.1
  subst e1; subst e2
  exact run_ok (dia := [(35, 77)]) (cnr := [(81, 102, 115)]) (cuts := [(5, [2009, 1, 5000, 1, 5000, 0, 5000, 5000], []), (16, [2009, 1, 5000, 1, 5000, 0, 0, 5000], [])]) ki.1 (pk_X9_closed ki hG) ok_X9_closed (by decide) 8 true _ _ _ _ H
theorem r_X9_closed_16 {K : JC} {l : Launch} {G : JG} {Q : Int → MH → Prop} {E : Nat → Int → MH → Prop} {h0 : MH} (ki : KI K l G yX9_closed cX9_closed 8 (some .long) [] 4 150 1 Q E h0) (hG : gO G = true) {v1 v3 v5 v6 : Int} {h : MH} (H :
    ((hv h 396 3) ≠ 0) ∧
    (((hv h (hv h 396 3) 21) ≤ v6 →
      JW K 5 [(2009, 396), (1, v1), (5000, 0), (1, v3), (5000, 0), (0, v5), (5000, 0), (5000, 0)] [] h) ∧
    (v6 < (hv h (hv h 396 3) 21) →
      (0 ≤ v6) ∧
      (v6 < 1500) ∧
      ((¬ (hv h 460 v6) = 0 → ((hv h 396 3) ≠ 0) ∧ (0 ≤ v6) ∧ (v6 < 1500) ∧ (¬ (hv h ((hv h 396 3) + 19) v6) = 36 → ((hv h 396 3) ≠ 0) ∧ (0 ≤ v6) ∧ v6 < 1500))) ∧
      (∀ x7_1 : Int, x7_1 = (if (hv h 460 v6) = 0 then 0 else (if (hv h ((hv h 396 3) + 19) v6) = 36 then 0 else (if (lc (l_and (l_shr v3 (hv h ((hv h 396 3) + 24) v6)) 1) 1) = 0 then 1 else 0 : Int) : Int) : Int) →
      ((¬ x7_1 = 0 → (0 ≤ v6) ∧ v6 < 1500)) ∧
      (((¬ x7_1 = 0 ∧ ¬ (lc (l_and (hv h 468 v6) (l_xor v3 (-1))) 0) = 0) →
        (0 ≤ v6) ∧
        (v6 < 1500) ∧
        (∀ x3_2 : Int, x3_2 = (l_or v3 (hv h 468 v6)) →
        (∀ x5_3 : Int, x5_3 = 1 →
        (∀ x6_4 : Int, x6_4 = w32 (v6 + 1) →
        JW K 16 [(2009, 396), (1, v1), (5000, 0), (1, x3_2), (5000, 0), (0, x5_3), (0, x6_4), (5000, 0)] [] h)))) ∧
      (¬ (¬ x7_1 = 0 ∧ ¬ (lc (l_and (hv h 468 v6) (l_xor v3 (-1))) 0) = 0) →
        (∀ x6_5 : Int, x6_5 = w32 (v6 + 1) →
        JW K 16 [(2009, 396), (1, v1), (5000, 0), (1, v3), (5000, 0), (0, v5), (0, x6_5), (5000, 0)] [] h))))))) : JW K 16 [(2009, 396), (1, v1), (5000, 0), (1, v3), (5000, 0), (0, v5), (0, v6), (5000, 0)] [] h := by
  have e1 := ki.2.2.2.2.1
  have e2 := ki.2.2.2.2.2.1
  subst e1; subst e2
  exact run_ok (dia := [(35, 77)]) (cnr := [(81, 102, 115)]) (cuts := [(5, [2009, 1, 5000, 1, 5000, 0, 5000, 5000], []), (16, [2009, 1, 5000, 1, 5000, 0, 0, 5000], [])]) ki.1 (pk_X9_closed ki hG) ok_X9_closed (by decide) 26 true _ _ _ _ H
abbrev k_X9_classOf : List (Nat × List (Nat × Instr)) := [(30, [(0, .aload_n 0), (1, .iload_n 1), (2, .invokevirtual 690), (5, .ifCond .eq 15), (8, .aload_n 0), (9, .getfield 373), (12, .getfield 336), (15, .iload_n 1), (16, .iaload), (17, .goto 4), (20, .iconst 0), (21, .ireturn)])]
theorem ok_X9_classOf : CodeOK cX9_classOf k_X9_classOf := okw 0 (by decide +kernel) (okn)
abbrev p_X9_classOf (l : Launch) (G : JG) : JP := (true, [(336, 10, 29, 1063100, 26), (373, 9, 3, 14, 0)], [], [], [], [], [], [(690, 1, [0, 2009], 2, S_X9_hasSite l G)], false, 0, [])
theorem pk_X9_classOf {K : JC} {l : Launch} {G : JG} {Q : Int → MH → Prop} {E : Nat → Int → MH → Prop} {h0 : MH} (ki : KI K l G yX9_classOf cX9_classOf 2 (some .int) [] 6 196 0 Q E h0) (hG : gO G = true) : POK K RX9 (p_X9_classOf l G) :=
  POKi (y := yX9_classOf) ki hG (rfs rf_X9_ok (by decide +kernel)) fmz fmz fmz fmz fmz
  (pkE ki (by
    intro K e1 e2 e3 e4; subst e1; subst e2
    exact fmE (ceV 9 e3 e4 yl_X9_hasSite ⟨by decide, ⟨_, _, rfl⟩, q2767, qs161, q2765⟩ rfl) (fmz))) (fun z => Bool.noConfusion z) rfl (pkP ki (by
    intro K e1 e2 e3 e4; subst e1; subst e2
    exact fmz))
theorem r_X9_classOf_0 {K : JC} {l : Launch} {G : JG} {Q : Int → MH → Prop} {E : Nat → Int → MH → Prop} {h0 : MH} (ki : KI K l G yX9_classOf cX9_classOf 2 (some .int) [] 6 196 0 Q E h0) (hG : gO G = true) {v1 : Int} {h : MH} (H :
    S_X9_hasSite l G [(2009, 396), (0, v1)] h (fun z1 h2 =>
    ((¬ z1 = 0 → ((hv h2 396 3) ≠ 0) ∧ (0 ≤ v1) ∧ v1 < 63)) ∧
    Q (if z1 = 0 then 0 else (hv h2 ((hv h2 396 3) + 26) v1) : Int) h2) E) : JW K 0 [(2009, 396), (0, v1)] [] h := by
  have e1 := ki.2.2.2.2.1
  have e2 := ki.2.2.2.2.2.1
  subst e1; subst e2
  exact run_ok (dia := [(5, 21)]) (cnr := []) (cuts := []) ki.1 (pk_X9_classOf ki hG) ok_X9_classOf (by decide) 6 true _ _ _ _ H
abbrev k_X9_hasSite : List (Nat × List (Nat × Instr)) := [(46, [(0, .aload_n 0), (1, .aload_n 0), (2, .getfield 373), (5, .ifnonnull 7), (8, .iconst 1), (9, .goto 27), (12, .iload_n 1), (13, .i2l), (14, .lconst 1), (15, .aload_n 0), (16, .getfield 373), (19, .getfield 325), (22, .iconst 1), (23, .isub), (24, .i2l), (25, .invokestatic 231), (28, .ifCond .ne 7), (31, .iconst 2), (32, .goto 4), (35, .iconst 0), (36, .putfield 225), (39, .aload_n 0), (40, .getfield 225), (43, .ifCond .ne 7)]),
  (60, [(46, .iconst 1), (47, .goto 4), (50, .iconst 0), (51, .ireturn)])]
theorem ok_X9_hasSite : CodeOK cX9_hasSite k_X9_hasSite := okw 0 (by decide +kernel) (okw 46 (by decide +kernel) (okn))
abbrev p_X9_hasSite (l : Launch) (G : JG) : JP := (true, [(225, 9, 0, 0, 0), (325, 10, 30, 0, 0), (373, 9, 3, 14, 0)], [], [], [(225, 9, 0, 0)], [], [], [], false, 2, [(231, e_X9_in)])
theorem pk_X9_hasSite {K : JC} {l : Launch} {G : JG} {Q : Int → MH → Prop} {E : Nat → Int → MH → Prop} {h0 : MH} (ki : KI K l G yX9_hasSite cX9_hasSite 2 (some .boolean) [] 5 175 2 Q E h0) (hG : gO G = true) : POK K RX9 (p_X9_hasSite l G) :=
  POKi (y := yX9_hasSite) ki hG (rfs rf_X9_ok (by decide +kernel)) fmz fmz (rps rp_X9_ok (by decide +kernel)) fmz fmz
  (pkE ki (by
    intro K e1 e2 e3 e4; subst e1; subst e2
    exact fmz)) (fun z => Bool.noConfusion z) rfl (pkP ki (by
    intro K e1 e2 e3 e4; subst e1; subst e2
    exact fmP (pe_X9_in hG e3 e4 ⟨q2454, Or.inl q2453⟩ rfl rfl) (fmz)))
theorem r_X9_hasSite_0 {K : JC} {l : Launch} {G : JG} {Q : Int → MH → Prop} {E : Nat → Int → MH → Prop} {h0 : MH} (ki : KI K l G yX9_hasSite cX9_hasSite 2 (some .boolean) [] 5 175 2 Q E h0) (hG : gO G = true) {v1 : Int} {h : MH} (H :
    ((¬ (hv h 396 3) = 0 → (hv h 396 3) ≠ 0)) ∧
    (∀ h1, h1 = hset h 396 0 (if (hv h 396 3) = 0 then 1 else (if (isin v1 1 (w32 ((hv h (hv h 396 3) 30) - 1))) = 0 then 2 else 0 : Int) : Int) →
    (((if (hv h1 396 0) = 0 then 1 else 0 : Int) = 0 ∨ (if (hv h1 396 0) = 0 then 1 else 0 : Int) = 1) ∧ Q (if (hv h1 396 0) = 0 then 1 else 0 : Int) h1))) : JW K 0 [(2009, 396), (0, v1)] [] h := by
  have e1 := ki.2.2.2.2.1
  have e2 := ki.2.2.2.2.2.1
  subst e1; subst e2
  exact run_ok (dia := [(5, 36), (43, 51)]) (cnr := []) (cuts := []) ki.1 (pk_X9_hasSite ki hG) ok_X9_hasSite (by decide) 10 true _ _ _ _ H
abbrev k_X9_depth : List (Nat × List (Nat × Instr)) := [(33, [(0, .aload_n 0), (1, .iload_n 1), (2, .iload_n 2), (3, .invokevirtual 693), (6, .istore_n 3), (7, .iload_n 3), (8, .ifCond .ge 7), (11, .iconst 0), (12, .goto 12), (15, .aload_n 0), (16, .getfield 373), (19, .getfield 424), (22, .iload_n 3), (23, .iaload), (24, .ireturn)])]
theorem ok_X9_depth : CodeOK cX9_depth k_X9_depth := okw 0 (by decide +kernel) (okn)
abbrev p_X9_depth (l : Launch) (G : JG) : JP := (true, [(373, 9, 3, 14, 0), (424, 10, 31, 2500100, 27)], [], [], [], [], [], [(693, 1, [0, 0, 2009], 0, S_X9_placeOf l G)], false, 0, [])
theorem pk_X9_depth {K : JC} {l : Launch} {G : JG} {Q : Int → MH → Prop} {E : Nat → Int → MH → Prop} {h0 : MH} (ki : KI K l G yX9_depth cX9_depth 4 (some .int) [] 7 218 0 Q E h0) (hG : gO G = true) : POK K RX9 (p_X9_depth l G) :=
  POKi (y := yX9_depth) ki hG (rfs rf_X9_ok (by decide +kernel)) fmz fmz fmz fmz fmz
  (pkE ki (by
    intro K e1 e2 e3 e4; subst e1; subst e2
    exact fmE (ceV 9 e3 e4 yl_X9_placeOf ⟨by decide, ⟨_, _, rfl⟩, q2775, qs162, q2773⟩ rfl) (fmz))) (fun z => Bool.noConfusion z) rfl (pkP ki (by
    intro K e1 e2 e3 e4; subst e1; subst e2
    exact fmz))
theorem r_X9_depth_0 {K : JC} {l : Launch} {G : JG} {Q : Int → MH → Prop} {E : Nat → Int → MH → Prop} {h0 : MH} (ki : KI K l G yX9_depth cX9_depth 4 (some .int) [] 7 218 0 Q E h0) (hG : gO G = true) {v1 v2 : Int} {h : MH} (H :
    S_X9_placeOf l G [(2009, 396), (0, v1), (0, v2)] h (fun z1 h2 =>
    (∀ x3_3 : Int, x3_3 = z1 →
    ((0 ≤ x3_3 → ((hv h2 396 3) ≠ 0) ∧ (0 ≤ x3_3) ∧ x3_3 < 1500)) ∧
    Q (if x3_3 < 0 then 0 else (hv h2 ((hv h2 396 3) + 27) x3_3) : Int) h2)) E) : JW K 0 [(2009, 396), (0, v1), (0, v2), (5000, 0)] [] h := by
  have e1 := ki.2.2.2.2.1
  have e2 := ki.2.2.2.2.2.1
  subst e1; subst e2
  exact run_ok (dia := [(8, 24)]) (cnr := []) (cuts := []) ki.1 (pk_X9_depth ki hG) ok_X9_depth (by decide) 9 true _ _ _ _ H
abbrev k_X9_placeOf : List (Nat × List (Nat × Instr)) := [(40, [(0, .aload_n 0), (1, .iload_n 1), (2, .invokevirtual 677), (5, .ifCond .ne 5), (8, .iconst (-1)), (9, .ireturn), (10, .aload_n 0), (11, .iload_n 2), (12, .i2l), (13, .lconst 0), (14, .aload_n 0), (15, .getfield 373), (18, .getfield 306), (21, .iload_n 1), (22, .iaload), (23, .iconst 1), (24, .isub), (25, .i2l), (26, .invokestatic 231), (29, .ifCond .eq 7), (32, .iconst 0), (33, .goto 4), (36, .iconst 2), (37, .putfield 225)]),
  (71, [(40, .aload_n 0), (41, .getfield 225), (44, .ifCond .le 7), (47, .iconst (-1)), (48, .goto 14), (51, .aload_n 0), (52, .getfield 373), (55, .getfield 312), (58, .iload_n 1), (59, .iaload), (60, .iload_n 2), (61, .iadd), (62, .ireturn)])]
theorem ok_X9_placeOf : CodeOK cX9_placeOf k_X9_placeOf := okw 0 (by decide +kernel) (okw 40 (by decide +kernel) (okn))
abbrev p_X9_placeOf (l : Launch) (G : JG) : JP := (true, [(225, 9, 0, 0, 0), (306, 10, 16, 1040100, 14), (312, 10, 17, 1040100, 15), (373, 9, 3, 14, 0)], [], [], [(225, 9, 0, 0)], [], [], [(677, 1, [0, 2009], 2, S_X9_hasMethod l G)], false, 0, [(231, e_X9_in)])
theorem pk_X9_placeOf {K : JC} {l : Launch} {G : JG} {Q : Int → MH → Prop} {E : Nat → Int → MH → Prop} {h0 : MH} (ki : KI K l G yX9_placeOf cX9_placeOf 3 (some .int) [] 6 196 0 Q E h0) (hG : gO G = true) : POK K RX9 (p_X9_placeOf l G) :=
  POKi (y := yX9_placeOf) ki hG (rfs rf_X9_ok (by decide +kernel)) fmz fmz (rps rp_X9_ok (by decide +kernel)) fmz fmz
  (pkE ki (by
    intro K e1 e2 e3 e4; subst e1; subst e2
    exact fmE (ceV 9 e3 e4 yl_X9_hasMethod ⟨by decide, ⟨_, _, rfl⟩, q2583, qs119, q2581⟩ rfl) (fmz))) (fun z => Bool.noConfusion z) rfl (pkP ki (by
    intro K e1 e2 e3 e4; subst e1; subst e2
    exact fmP (pe_X9_in hG e3 e4 ⟨q2454, Or.inl q2453⟩ rfl rfl) (fmz)))
theorem r_X9_placeOf_0 {K : JC} {l : Launch} {G : JG} {Q : Int → MH → Prop} {E : Nat → Int → MH → Prop} {h0 : MH} (ki : KI K l G yX9_placeOf cX9_placeOf 3 (some .int) [] 6 196 0 Q E h0) (hG : gO G = true) {v1 v2 : Int} {h : MH} (H :
    S_X9_hasMethod l G [(2009, 396), (0, v1)] h (fun z1 h2 =>
    ((¬ z1 = 0 →
      ((hv h2 396 3) ≠ 0) ∧
      (0 ≤ v1) ∧
      (v1 < 40) ∧
      (∀ h3, h3 = hset h2 396 0 (if (isin v2 0 (w32 ((hv h2 ((hv h2 396 3) + 14) v1) - 1))) = 0 then 2 else 0 : Int) →
      (((hv h3 396 0) ≤ 0 → ((hv h3 396 3) ≠ 0) ∧ (0 ≤ v1) ∧ v1 < 40)) ∧
      Q (if 0 < (hv h3 396 0) then (-1) else (w32 ((hv h3 ((hv h3 396 3) + 15) v1) + v2)) : Int) h3)) ∧
    (z1 = 0 →
      Q (-1) h2))) E) : JW K 0 [(2009, 396), (0, v1), (0, v2)] [] h := by
  have e1 := ki.2.2.2.2.1
  have e2 := ki.2.2.2.2.2.1
  subst e1; subst e2
  exact run_ok (dia := [(29, 37), (44, 62)]) (cnr := []) (cuts := []) ki.1 (pk_X9_placeOf ki hG) ok_X9_placeOf (by decide) 24 true _ _ _ _ H
abbrev k_X9_reach : List (Nat × List (Nat × Instr)) := [(32, [(0, .aload_n 0), (1, .iload_n 1), (2, .iload_n 2), (3, .invokevirtual 693), (6, .istore_n 3), (7, .iload_n 3), (8, .ifCond .ge 5), (11, .iconst 0), (12, .ireturn), (13, .aload_n 0), (14, .invokevirtual 682), (17, .aload_n 0), (18, .getfield 37), (21, .iload_n 3), (22, .baload), (23, .ireturn)])]
theorem ok_X9_reach : CodeOK cX9_reach k_X9_reach := okw 0 (by decide +kernel) (okn)
abbrev p_X9_reach (l : Launch) (G : JG) : JP := (true, [(37, 9, 18, 2500102, 64)], [], [], [], [], [], [(682, 1, [2009], 700, S_X9_findFacts l G), (693, 1, [0, 0, 2009], 0, S_X9_placeOf l G)], false, 2, [])
theorem pk_X9_reach {K : JC} {l : Launch} {G : JG} {Q : Int → MH → Prop} {E : Nat → Int → MH → Prop} {h0 : MH} (ki : KI K l G yX9_reach cX9_reach 4 (some .boolean) [] 12 390 2 Q E h0) (hG : gO G = true) : POK K RX9 (p_X9_reach l G) :=
  POKi (y := yX9_reach) ki hG (rfs rf_X9_ok (by decide +kernel)) fmz fmz fmz fmz fmz
  (pkE ki (by
    intro K e1 e2 e3 e4; subst e1; subst e2
    exact fmE (ceV 9 e3 e4 yl_X9_findFacts ⟨by decide, ⟨_, _, rfl⟩, q2592, qs121, q2590⟩ rfl) (fmE (ceV 9 e3 e4 yl_X9_placeOf ⟨by decide, ⟨_, _, rfl⟩, q2775, qs162, q2773⟩ rfl) (fmz)))) (fun z => Bool.noConfusion z) rfl (pkP ki (by
    intro K e1 e2 e3 e4; subst e1; subst e2
    exact fmz))
theorem r_X9_reach_0 {K : JC} {l : Launch} {G : JG} {Q : Int → MH → Prop} {E : Nat → Int → MH → Prop} {h0 : MH} (ki : KI K l G yX9_reach cX9_reach 4 (some .boolean) [] 12 390 2 Q E h0) (hG : gO G = true) {v1 v2 : Int} {h : MH} (H :
    S_X9_placeOf l G [(2009, 396), (0, v1), (0, v2)] h (fun z1 h2 =>
    (∀ x3_3 : Int, x3_3 = z1 →
    ((0 ≤ x3_3 →
      S_X9_findFacts l G [(2009, 396)] h2 (fun _ h5 =>
      (0 ≤ x3_3) ∧
      (x3_3 < 1500) ∧
      (((hv h5 460 x3_3) = 0 ∨ (hv h5 460 x3_3) = 1) ∧ Q (hv h5 460 x3_3) h5)) E) ∧
    (x3_3 < 0 →
      (((0 : Int) = 0 ∨ (0 : Int) = 1) ∧ Q 0 h2))))) E) : JW K 0 [(2009, 396), (0, v1), (0, v2), (5000, 0)] [] h := by
  have e1 := ki.2.2.2.2.1
  have e2 := ki.2.2.2.2.2.1
  subst e1; subst e2
  exact run_ok (dia := []) (cnr := []) (cuts := []) ki.1 (pk_X9_reach ki hG) ok_X9_reach (by decide) 15 true _ _ _ _ H
abbrev k_X9_value : List (Nat × List (Nat × Instr)) := [(38, [(0, .aload_n 0), (1, .iload_n 1), (2, .iload_n 2), (3, .invokevirtual 693), (6, .istore 5), (8, .iload 5), (10, .ifCond .ge 5), (13, .lconst 0), (14, .lreturn), (15, .iload_n 3), (16, .i2l), (17, .lconst 0), (18, .aload_n 0), (19, .getfield 373), (22, .getfield 297), (25, .iload_n 1), (26, .iaload), (27, .iconst 1), (28, .isub), (29, .i2l), (30, .invokestatic 231), (33, .ifCond .ne 28), (36, .iload_n 3), (37, .i2l)]),
  (85, [(38, .ldc2_w 229), (41, .bipush 7), (43, .aload_n 0), (44, .getfield 373), (47, .getfield 424), (50, .iload 5), (52, .iaload), (53, .iadd), (54, .i2l), (55, .invokestatic 231), (58, .ifCond .eq 7), (61, .iconst 1), (62, .goto 4), (65, .iconst 0), (66, .istore 6), (68, .aload_n 0), (69, .invokevirtual 682), (72, .aload_n 0), (73, .iload 6), (75, .ifCond .eq 16), (78, .iload 4), (80, .i2l), (81, .lconst 0), (82, .ldc2_w 696)]),
  (131, [(85, .invokestatic 231), (88, .ifCond .ne 7), (91, .iconst 2), (92, .goto 18), (95, .aload_n 0), (96, .getfield 37), (99, .iload 5), (101, .baload), (102, .ifCond .ne 7), (105, .iconst 1), (106, .goto 4), (109, .iconst 0), (110, .putfield 225), (113, .aload_n 0), (114, .getfield 225), (117, .ifCond .le 5), (120, .lconst 0), (121, .lreturn), (122, .bipush 16), (124, .iload 5), (126, .imul), (127, .iload_n 3), (128, .iadd), (129, .istore 7)]),
  (177, [(131, .iload 4), (133, .ifCond .ne 14), (136, .aload_n 0), (137, .getfield 40), (140, .iload 7), (142, .iaload), (143, .i2l), (144, .goto 44), (147, .iload 4), (149, .iconst 1), (150, .if_icmp .ne 14), (153, .aload_n 0), (154, .getfield 43), (157, .iload 7), (159, .iaload), (160, .i2l), (161, .goto 27), (164, .iload 4), (166, .iconst 2), (167, .if_icmp .ne 14), (170, .aload_n 0), (171, .getfield 46), (174, .iload 7), (176, .iaload)]),
  (197, [(177, .i2l), (178, .goto 10), (181, .aload_n 0), (182, .getfield 49), (185, .iload 7), (187, .laload), (188, .lreturn)])]
theorem ok_X9_value : CodeOK cX9_value k_X9_value := okw 0 (by decide +kernel) (okw 38 (by decide +kernel) (okw 85 (by decide +kernel) (okw 131 (by decide +kernel) (okw 177 (by decide +kernel) (okn)))))
abbrev p_X9_value (l : Launch) (G : JG) : JP := (true, [(37, 9, 18, 2500102, 64), (40, 9, 19, 25000100, 65), (43, 9, 20, 25000100, 66), (46, 9, 21, 25000100, 67), (49, 9, 22, 25000101, 68), (225, 9, 0, 0, 0), (297, 10, 11, 1040100, 9), (373, 9, 3, 14, 0), (424, 10, 31, 2500100, 27)], [], [(229, 8), (696, 3)], [(225, 9, 0, 0)], [], [], [(682, 1, [2009], 700, S_X9_findFacts l G), (693, 1, [0, 0, 2009], 0, S_X9_placeOf l G)], false, 1, [(231, e_X9_in)])
theorem pk_X9_value {K : JC} {l : Launch} {G : JG} {Q : Int → MH → Prop} {E : Nat → Int → MH → Prop} {h0 : MH} (ki : KI K l G yX9_value cX9_value 8 (some .long) [] 12 390 1 Q E h0) (hG : gO G = true) : POK K RX9 (p_X9_value l G) :=
  POKi (y := yX9_value) ki hG (rfs rf_X9_ok (by decide +kernel)) fmz (subs (by decide +kernel) rl_X9_ok) (rps rp_X9_ok (by decide +kernel)) fmz fmz
  (pkE ki (by
    intro K e1 e2 e3 e4; subst e1; subst e2
    exact fmE (ceV 9 e3 e4 yl_X9_findFacts ⟨by decide, ⟨_, _, rfl⟩, q2592, qs121, q2590⟩ rfl) (fmE (ceV 9 e3 e4 yl_X9_placeOf ⟨by decide, ⟨_, _, rfl⟩, q2775, qs162, q2773⟩ rfl) (fmz)))) (fun z => Bool.noConfusion z) rfl (pkP ki (by
    intro K e1 e2 e3 e4; subst e1; subst e2
    exact fmP (pe_X9_in hG e3 e4 ⟨q2454, Or.inl q2453⟩ rfl rfl) (fmz)))
theorem r_X9_value_0 {K : JC} {l : Launch} {G : JG} {Q : Int → MH → Prop} {E : Nat → Int → MH → Prop} {h0 : MH} (ki : KI K l G yX9_value cX9_value 8 (some .long) [] 12 390 1 Q E h0) (hG : gO G = true) {v1 v2 v3 v4 : Int} {h : MH} (H :
    S_X9_placeOf l G [(2009, 396), (0, v1), (0, v2)] h (fun z1 h2 =>
    (∀ x5_3 : Int, x5_3 = z1 →
    ((0 ≤ x5_3 →
      ((hv h2 396 3) ≠ 0) ∧
      (0 ≤ v1) ∧
      (v1 < 40) ∧
      (((isin v3 0 (w32 ((hv h2 ((hv h2 396 3) + 9) v1) - 1))) = 0 → ((hv h2 396 3) ≠ 0) ∧ (0 ≤ x5_3) ∧ x5_3 < 1500)) ∧
      (∀ x6_4 : Int, x6_4 = (if (isin v3 0 (w32 ((hv h2 ((hv h2 396 3) + 9) v1) - 1))) = 0 then (if (isin v3 8 (w32 (7 + (hv h2 ((hv h2 396 3) + 27) x5_3)))) = 0 then 0 else 1 : Int) else 1 : Int) →
      S_X9_findFacts l G [(2009, 396)] h2 (fun _ h6 =>
      ((¬ x6_4 = 0 → (¬ (isin v4 0 3) = 0 → (0 ≤ x5_3) ∧ x5_3 < 1500))) ∧
      (∀ h7, h7 = hset h6 396 0 (if x6_4 = 0 then 2 else (if (isin v4 0 3) = 0 then 2 else (if (hv h6 460 x5_3) = 0 then 1 else 0 : Int) : Int) : Int) →
      (((hv h7 396 0) ≤ 0 →
        (∀ x7_8 : Int, x7_8 = (w32 ((w32 (16 * x5_3)) + v3)) →
        ((¬ v4 = 0 → ((¬ v4 = 1 → ((¬ v4 = 2 → (0 ≤ x7_8) ∧ x7_8 < 24000)) ∧ (v4 = 2 → (0 ≤ x7_8) ∧ x7_8 < 24000))) ∧ (v4 = 1 → (0 ≤ x7_8) ∧ x7_8 < 24000))) ∧
        ((v4 = 0 → (0 ≤ x7_8) ∧ x7_8 < 24000)) ∧
        Q (if v4 = 0 then (hv h7 461 x7_8) else (if v4 = 1 then (hv h7 462 x7_8) else (if v4 = 2 then (hv h7 463 x7_8) else (hv h7 464 x7_8) : Int) : Int) : Int) h7)) ∧
      (0 < (hv h7 396 0) →
        Q 0 h7)))) E)) ∧
    (x5_3 < 0 →
      Q 0 h2)))) E) : JW K 0 [(2009, 396), (0, v1), (0, v2), (0, v3), (0, v4), (5000, 0), (5000, 0), (5000, 0)] [] h := by
  have e1 := ki.2.2.2.2.1
  have e2 := ki.2.2.2.2.2.1
  subst e1; subst e2
  exact run_ok (dia := [(33, 66), (75, 110), (133, 188)]) (cnr := []) (cuts := []) ki.1 (pk_X9_value ki hG) ok_X9_value (by decide) 40 true _ _ _ _ H
abbrev k_X9_locks : List (Nat × List (Nat × Instr)) := [(41, [(0, .aload_n 0), (1, .iload_n 1), (2, .iload_n 2), (3, .invokevirtual 693), (6, .istore 4), (8, .iload 4), (10, .ifCond .ge 5), (13, .iconst 0), (14, .ireturn), (15, .aload_n 0), (16, .invokevirtual 682), (19, .aload_n 0), (20, .iload_n 3), (21, .i2l), (22, .lconst 0), (23, .lconst 1), (24, .invokestatic 231), (27, .ifCond .ne 7), (30, .iconst 2), (31, .goto 18), (34, .aload_n 0), (35, .getfield 37), (38, .iload 4), (40, .baload)]),
  (93, [(41, .ifCond .ne 7), (44, .iconst 1), (45, .goto 4), (48, .iconst 0), (49, .putfield 225), (52, .aload_n 0), (53, .getfield 225), (56, .ifCond .le 7), (59, .iconst 0), (60, .goto 24), (63, .iload_n 3), (64, .ifCond .ne 13), (67, .aload_n 0), (68, .getfield 53), (71, .iload 4), (73, .iaload), (74, .goto 10), (77, .aload_n 0), (78, .getfield 56), (81, .iload 4), (83, .iaload), (84, .ireturn)])]
theorem ok_X9_locks : CodeOK cX9_locks k_X9_locks := okw 0 (by decide +kernel) (okw 41 (by decide +kernel) (okn))
abbrev p_X9_locks (l : Launch) (G : JG) : JP := (true, [(37, 9, 18, 2500102, 64), (53, 9, 23, 2500100, 69), (56, 9, 24, 2500100, 70), (225, 9, 0, 0, 0)], [], [], [(225, 9, 0, 0)], [], [], [(682, 1, [2009], 700, S_X9_findFacts l G), (693, 1, [0, 0, 2009], 0, S_X9_placeOf l G)], false, 0, [(231, e_X9_in)])
theorem pk_X9_locks {K : JC} {l : Launch} {G : JG} {Q : Int → MH → Prop} {E : Nat → Int → MH → Prop} {h0 : MH} (ki : KI K l G yX9_locks cX9_locks 5 (some .int) [] 12 390 0 Q E h0) (hG : gO G = true) : POK K RX9 (p_X9_locks l G) :=
  POKi (y := yX9_locks) ki hG (rfs rf_X9_ok (by decide +kernel)) fmz fmz (rps rp_X9_ok (by decide +kernel)) fmz fmz
  (pkE ki (by
    intro K e1 e2 e3 e4; subst e1; subst e2
    exact fmE (ceV 9 e3 e4 yl_X9_findFacts ⟨by decide, ⟨_, _, rfl⟩, q2592, qs121, q2590⟩ rfl) (fmE (ceV 9 e3 e4 yl_X9_placeOf ⟨by decide, ⟨_, _, rfl⟩, q2775, qs162, q2773⟩ rfl) (fmz)))) (fun z => Bool.noConfusion z) rfl (pkP ki (by
    intro K e1 e2 e3 e4; subst e1; subst e2
    exact fmP (pe_X9_in hG e3 e4 ⟨q2454, Or.inl q2453⟩ rfl rfl) (fmz)))
theorem r_X9_locks_0 {K : JC} {l : Launch} {G : JG} {Q : Int → MH → Prop} {E : Nat → Int → MH → Prop} {h0 : MH} (ki : KI K l G yX9_locks cX9_locks 5 (some .int) [] 12 390 0 Q E h0) (hG : gO G = true) {v1 v2 v3 : Int} {h : MH} (H :
    S_X9_placeOf l G [(2009, 396), (0, v1), (0, v2)] h (fun z1 h2 =>
    (∀ x4_3 : Int, x4_3 = z1 →
    ((0 ≤ x4_3 →
      S_X9_findFacts l G [(2009, 396)] h2 (fun _ h5 =>
      ((¬ (isin v3 0 1) = 0 → (0 ≤ x4_3) ∧ x4_3 < 1500)) ∧
      (∀ h6, h6 = hset h5 396 0 (if (isin v3 0 1) = 0 then 2 else (if (hv h5 460 x4_3) = 0 then 1 else 0 : Int) : Int) →
      (((hv h6 396 0) ≤ 0 → ((¬ v3 = 0 → (0 ≤ x4_3) ∧ x4_3 < 1500)) ∧ (v3 = 0 → (0 ≤ x4_3) ∧ x4_3 < 1500))) ∧
      Q (if 0 < (hv h6 396 0) then 0 else (if v3 = 0 then (hv h6 465 x4_3) else (hv h6 466 x4_3) : Int) : Int) h6)) E) ∧
    (x4_3 < 0 →
      Q 0 h2)))) E) : JW K 0 [(2009, 396), (0, v1), (0, v2), (0, v3), (5000, 0)] [] h := by
  have e1 := ki.2.2.2.2.1
  have e2 := ki.2.2.2.2.2.1
  subst e1; subst e2
  exact run_ok (dia := [(27, 49), (56, 84)]) (cnr := []) (cuts := []) ki.1 (pk_X9_locks ki hG) ok_X9_locks (by decide) 22 true _ _ _ _ H
abbrev k_X9_throwsAt : List (Nat × List (Nat × Instr)) := [(32, [(0, .aload_n 0), (1, .iload_n 1), (2, .iload_n 2), (3, .invokevirtual 693), (6, .istore_n 3), (7, .iload_n 3), (8, .ifCond .ge 5), (11, .lconst 0), (12, .lreturn), (13, .aload_n 0), (14, .invokevirtual 682), (17, .aload_n 0), (18, .getfield 59), (21, .iload_n 3), (22, .laload), (23, .lreturn)])]
theorem ok_X9_throwsAt : CodeOK cX9_throwsAt k_X9_throwsAt := okw 0 (by decide +kernel) (okn)
abbrev p_X9_throwsAt (l : Launch) (G : JG) : JP := (true, [(59, 9, 25, 2500101, 71)], [], [], [], [], [], [(682, 1, [2009], 700, S_X9_findFacts l G), (693, 1, [0, 0, 2009], 0, S_X9_placeOf l G)], false, 1, [])
theorem pk_X9_throwsAt {K : JC} {l : Launch} {G : JG} {Q : Int → MH → Prop} {E : Nat → Int → MH → Prop} {h0 : MH} (ki : KI K l G yX9_throwsAt cX9_throwsAt 4 (some .long) [] 12 390 1 Q E h0) (hG : gO G = true) : POK K RX9 (p_X9_throwsAt l G) :=
  POKi (y := yX9_throwsAt) ki hG (rfs rf_X9_ok (by decide +kernel)) fmz fmz fmz fmz fmz
  (pkE ki (by
    intro K e1 e2 e3 e4; subst e1; subst e2
    exact fmE (ceV 9 e3 e4 yl_X9_findFacts ⟨by decide, ⟨_, _, rfl⟩, q2592, qs121, q2590⟩ rfl) (fmE (ceV 9 e3 e4 yl_X9_placeOf ⟨by decide, ⟨_, _, rfl⟩, q2775, qs162, q2773⟩ rfl) (fmz)))) (fun z => Bool.noConfusion z) rfl (pkP ki (by
    intro K e1 e2 e3 e4; subst e1; subst e2
    exact fmz))
theorem r_X9_throwsAt_0 {K : JC} {l : Launch} {G : JG} {Q : Int → MH → Prop} {E : Nat → Int → MH → Prop} {h0 : MH} (ki : KI K l G yX9_throwsAt cX9_throwsAt 4 (some .long) [] 12 390 1 Q E h0) (hG : gO G = true) {v1 v2 : Int} {h : MH} (H :
    S_X9_placeOf l G [(2009, 396), (0, v1), (0, v2)] h (fun z1 h2 =>
    (∀ x3_3 : Int, x3_3 = z1 →
    ((0 ≤ x3_3 →
      S_X9_findFacts l G [(2009, 396)] h2 (fun _ h5 =>
      (0 ≤ x3_3) ∧
      (x3_3 < 1500) ∧
      Q (hv h5 467 x3_3) h5) E) ∧
    (x3_3 < 0 →
      Q 0 h2)))) E) : JW K 0 [(2009, 396), (0, v1), (0, v2), (5000, 0)] [] h := by
  have e1 := ki.2.2.2.2.1
  have e2 := ki.2.2.2.2.2.1
  subst e1; subst e2
  exact run_ok (dia := []) (cnr := []) (cuts := []) ki.1 (pk_X9_throwsAt ki hG) ok_X9_throwsAt (by decide) 15 true _ _ _ _ H
abbrev k_X9_calls : List (Nat × List (Nat × Instr)) := [(32, [(0, .aload_n 0), (1, .iload_n 1), (2, .iload_n 2), (3, .invokevirtual 693), (6, .istore_n 3), (7, .iload_n 3), (8, .ifCond .ge 5), (11, .lconst 0), (12, .lreturn), (13, .aload_n 0), (14, .invokevirtual 682), (17, .aload_n 0), (18, .getfield 62), (21, .iload_n 3), (22, .laload), (23, .lreturn)])]
theorem ok_X9_calls : CodeOK cX9_calls k_X9_calls := okw 0 (by decide +kernel) (okn)
abbrev p_X9_calls (l : Launch) (G : JG) : JP := (true, [(62, 9, 26, 2500101, 72)], [], [], [], [], [], [(682, 1, [2009], 700, S_X9_findFacts l G), (693, 1, [0, 0, 2009], 0, S_X9_placeOf l G)], false, 1, [])
theorem pk_X9_calls {K : JC} {l : Launch} {G : JG} {Q : Int → MH → Prop} {E : Nat → Int → MH → Prop} {h0 : MH} (ki : KI K l G yX9_calls cX9_calls 4 (some .long) [] 12 390 1 Q E h0) (hG : gO G = true) : POK K RX9 (p_X9_calls l G) :=
  POKi (y := yX9_calls) ki hG (rfs rf_X9_ok (by decide +kernel)) fmz fmz fmz fmz fmz
  (pkE ki (by
    intro K e1 e2 e3 e4; subst e1; subst e2
    exact fmE (ceV 9 e3 e4 yl_X9_findFacts ⟨by decide, ⟨_, _, rfl⟩, q2592, qs121, q2590⟩ rfl) (fmE (ceV 9 e3 e4 yl_X9_placeOf ⟨by decide, ⟨_, _, rfl⟩, q2775, qs162, q2773⟩ rfl) (fmz)))) (fun z => Bool.noConfusion z) rfl (pkP ki (by
    intro K e1 e2 e3 e4; subst e1; subst e2
    exact fmz))
theorem r_X9_calls_0 {K : JC} {l : Launch} {G : JG} {Q : Int → MH → Prop} {E : Nat → Int → MH → Prop} {h0 : MH} (ki : KI K l G yX9_calls cX9_calls 4 (some .long) [] 12 390 1 Q E h0) (hG : gO G = true) {v1 v2 : Int} {h : MH} (H :
    S_X9_placeOf l G [(2009, 396), (0, v1), (0, v2)] h (fun z1 h2 =>
    (∀ x3_3 : Int, x3_3 = z1 →
    ((0 ≤ x3_3 →
      S_X9_findFacts l G [(2009, 396)] h2 (fun _ h5 =>
      (0 ≤ x3_3) ∧
      (x3_3 < 1500) ∧
      Q (hv h5 468 x3_3) h5) E) ∧
    (x3_3 < 0 →
      Q 0 h2)))) E) : JW K 0 [(2009, 396), (0, v1), (0, v2), (5000, 0)] [] h := by
  have e1 := ki.2.2.2.2.1
  have e2 := ki.2.2.2.2.2.1
  subst e1; subst e2
  exact run_ok (dia := []) (cnr := []) (cuts := []) ki.1 (pk_X9_calls ki hG) ok_X9_calls (by decide) 15 true _ _ _ _ H
abbrev k_X9_outcome : List (Nat × List (Nat × Instr)) := [(44, [(0, .aload_n 0), (1, .iload_n 1), (2, .invokevirtual 677), (5, .ifCond .ne 5), (8, .lconst 0), (9, .lreturn), (10, .aload_n 0), (11, .iload_n 2), (12, .i2l), (13, .lconst 0), (14, .ldc2_w 698), (17, .invokestatic 231), (20, .ifCond .eq 7), (23, .iconst 0), (24, .goto 4), (27, .iconst 2), (28, .putfield 225), (31, .aload_n 0), (32, .getfield 225), (35, .ifCond .le 5), (38, .lconst 0), (39, .lreturn), (40, .aload_n 0), (41, .invokevirtual 682)]),
  (45, [(44, .iload_n 2)]),
  (84, [(45, .tableswitch 92 0 5 #[39, 54, 62, 70, 78, 85])]),
  (120, [(84, .aload_n 0), (85, .getfield 122), (88, .iload_n 1), (89, .baload), (90, .ifCond .eq 7), (93, .lconst 1), (94, .goto 4), (97, .lconst 0), (98, .lreturn), (99, .aload_n 0), (100, .getfield 125), (103, .iload_n 1), (104, .iaload), (105, .i2l), (106, .lreturn), (107, .aload_n 0), (108, .getfield 128), (111, .iload_n 1), (112, .iaload), (113, .i2l), (114, .lreturn), (115, .aload_n 0), (116, .getfield 131), (119, .iload_n 1)]),
  (153, [(120, .iaload), (121, .i2l), (122, .lreturn), (123, .aload_n 0), (124, .getfield 134), (127, .iload_n 1), (128, .laload), (129, .lreturn), (130, .aload_n 0), (131, .getfield 143), (134, .iload_n 1), (135, .laload), (136, .lreturn), (137, .aload_n 0), (138, .getfield 152), (141, .iload_n 1), (142, .iaload), (143, .i2l), (144, .lreturn)])]
theorem ok_X9_outcome : CodeOK cX9_outcome k_X9_outcome := okw 0 (by decide +kernel) (okw 44 (by decide +kernel) (okc (by decide +kernel) (okw 84 (by decide +kernel) (okw 120 (by decide +kernel) (okn)))))
abbrev p_X9_outcome (l : Launch) (G : JG) : JP := (true, [(122, 9, 46, 1040102, 92), (125, 9, 47, 1040100, 93), (128, 9, 48, 1040100, 94), (131, 9, 49, 1040100, 95), (134, 9, 50, 1040101, 96), (143, 9, 53, 1040101, 99), (152, 9, 56, 1040100, 102), (225, 9, 0, 0, 0)], [], [(698, 6)], [(225, 9, 0, 0)], [], [], [(677, 1, [0, 2009], 2, S_X9_hasMethod l G), (682, 1, [2009], 700, S_X9_findFacts l G)], false, 1, [(231, e_X9_in)])
theorem pk_X9_outcome {K : JC} {l : Launch} {G : JG} {Q : Int → MH → Prop} {E : Nat → Int → MH → Prop} {h0 : MH} (ki : KI K l G yX9_outcome cX9_outcome 3 (some .long) [] 12 390 1 Q E h0) (hG : gO G = true) : POK K RX9 (p_X9_outcome l G) :=
  POKi (y := yX9_outcome) ki hG (rfs rf_X9_ok (by decide +kernel)) fmz (subs (by decide +kernel) rl_X9_ok) (rps rp_X9_ok (by decide +kernel)) fmz fmz
  (pkE ki (by
    intro K e1 e2 e3 e4; subst e1; subst e2
    exact fmE (ceV 9 e3 e4 yl_X9_hasMethod ⟨by decide, ⟨_, _, rfl⟩, q2583, qs119, q2581⟩ rfl) (fmE (ceV 9 e3 e4 yl_X9_findFacts ⟨by decide, ⟨_, _, rfl⟩, q2592, qs121, q2590⟩ rfl) (fmz)))) (fun z => Bool.noConfusion z) rfl (pkP ki (by
    intro K e1 e2 e3 e4; subst e1; subst e2
    exact fmP (pe_X9_in hG e3 e4 ⟨q2454, Or.inl q2453⟩ rfl rfl) (fmz)))
theorem r_X9_outcome_0 {K : JC} {l : Launch} {G : JG} {Q : Int → MH → Prop} {E : Nat → Int → MH → Prop} {h0 : MH} (ki : KI K l G yX9_outcome cX9_outcome 3 (some .long) [] 12 390 1 Q E h0) (hG : gO G = true) {v1 v2 : Int} {h : MH} (H :
    S_X9_hasMethod l G [(2009, 396), (0, v1)] h (fun z1 h2 =>
    ((¬ z1 = 0 →
      (∀ h3, h3 = hset h2 396 0 (if (isin v2 0 6) = 0 then 2 else 0 : Int) →
      (((hv h3 396 0) ≤ 0 →
        S_X9_findFacts l G [(2009, 396)] h3 (fun _ h5 =>
        (((v2 = 0 →
          (0 ≤ v1) ∧
          (v1 < 40) ∧
          Q (if (hv h5 488 v1) = 0 then 0 else 1 : Int) h5) ∧
        ((v2 = 0 + 1 →
          (0 ≤ v1) ∧
          (v1 < 40) ∧
          Q (hv h5 489 v1) h5) ∧
        ((v2 = 0 + 1 + 1 →
          (0 ≤ v1) ∧
          (v1 < 40) ∧
          Q (hv h5 490 v1) h5) ∧
        ((v2 = 0 + 1 + 1 + 1 →
          (0 ≤ v1) ∧
          (v1 < 40) ∧
          Q (hv h5 491 v1) h5) ∧
        ((v2 = 0 + 1 + 1 + 1 + 1 →
          (0 ≤ v1) ∧
          (v1 < 40) ∧
          Q (hv h5 492 v1) h5) ∧
        ((v2 = 0 + 1 + 1 + 1 + 1 + 1 →
          (0 ≤ v1) ∧
          (v1 < 40) ∧
          Q (hv h5 495 v1) h5) ∧
        True)))))) ∧ ((v2 < 0 ∨ 5 < v2) →
          (0 ≤ v1) ∧
          (v1 < 40) ∧
          Q (hv h5 498 v1) h5))) E) ∧
      (0 < (hv h3 396 0) →
        Q 0 h3)))) ∧
    (z1 = 0 →
      Q 0 h2))) E) : JW K 0 [(2009, 396), (0, v1), (0, v2)] [] h := by
  have e1 := ki.2.2.2.2.1
  have e2 := ki.2.2.2.2.2.1
  subst e1; subst e2
  exact run_ok (dia := [(20, 28), (90, 98)]) (cnr := []) (cuts := []) ki.1 (pk_X9_outcome ki hG) ok_X9_outcome (by decide) 26 true _ _ _ _ H
abbrev k_X9_held : List (Nat × List (Nat × Instr)) := [(44, [(0, .aload_n 0), (1, .iload_n 1), (2, .invokevirtual 690), (5, .ifCond .ne 5), (8, .lconst 0), (9, .lreturn), (10, .aload_n 0), (11, .getfield 373), (14, .getfield 336), (17, .iload_n 1), (18, .iaload), (19, .istore 4), (21, .iload 4), (23, .ifCond .ge 7), (26, .iconst 1), (27, .goto 13), (30, .aload_n 0), (31, .getfield 373), (34, .getfield 269), (37, .iload 4), (39, .iaload), (40, .istore 5), (42, .aload_n 0), (43, .iload_n 2)]),
  (87, [(44, .i2l), (45, .lconst 0), (46, .iload 5), (48, .iconst 1), (49, .isub), (50, .i2l), (51, .invokestatic 231), (54, .ifCond .eq 19), (57, .iload_n 3), (58, .i2l), (59, .lconst 0), (60, .ldc2_w 700), (63, .invokestatic 231), (66, .ifCond .eq 7), (69, .iconst 0), (70, .goto 4), (73, .iconst 2), (74, .putfield 225), (77, .aload_n 0), (78, .getfield 225), (81, .ifCond .le 5), (84, .lconst 0), (85, .lreturn), (86, .aload_n 0)]),
  (110, [(87, .invokevirtual 682), (90, .aload_n 0), (91, .getfield 74), (94, .iload_n 1), (95, .baload), (96, .ifCond .ne 5), (99, .lconst 0), (100, .lreturn), (101, .bipush 8), (103, .iload_n 1), (104, .imul), (105, .iload_n 2), (106, .iadd), (107, .istore 6), (109, .iload_n 3)]),
  (144, [(110, .tableswitch 77 0 4 #[34, 43, 52, 61, 69])]),
  (180, [(144, .aload_n 0), (145, .getfield 77), (148, .iload 6), (150, .iaload), (151, .i2l), (152, .lreturn), (153, .aload_n 0), (154, .getfield 80), (157, .iload 6), (159, .iaload), (160, .i2l), (161, .lreturn), (162, .aload_n 0), (163, .getfield 83), (166, .iload 6), (168, .iaload), (169, .i2l), (170, .lreturn), (171, .aload_n 0), (172, .getfield 86), (175, .iload 6), (177, .laload), (178, .lreturn), (179, .aload_n 0)]),
  (203, [(180, .getfield 89), (183, .iload_n 1), (184, .iaload), (185, .i2l), (186, .lreturn), (187, .aload_n 0), (188, .getfield 92), (191, .iload_n 1), (192, .iaload), (193, .i2l), (194, .lreturn)])]
theorem ok_X9_held : CodeOK cX9_held k_X9_held := okw 0 (by decide +kernel) (okw 44 (by decide +kernel) (okw 87 (by decide +kernel) (okc (by decide +kernel) (okw 144 (by decide +kernel) (okw 180 (by decide +kernel) (okn))))))
abbrev p_X9_held (l : Launch) (G : JG) : JP := (true, [(74, 9, 30, 1063102, 76), (77, 9, 31, 1504100, 77), (80, 9, 32, 1504100, 78), (83, 9, 33, 1504100, 79), (86, 9, 34, 1504101, 80), (89, 9, 35, 1063100, 81), (92, 9, 36, 1063100, 82), (225, 9, 0, 0, 0), (269, 10, 4, 1024100, 3), (336, 10, 29, 1063100, 26), (373, 9, 3, 14, 0)], [], [(700, 5)], [(225, 9, 0, 0)], [], [], [(682, 1, [2009], 700, S_X9_findFacts l G), (690, 1, [0, 2009], 2, S_X9_hasSite l G)], false, 1, [(231, e_X9_in)])
theorem pk_X9_held {K : JC} {l : Launch} {G : JG} {Q : Int → MH → Prop} {E : Nat → Int → MH → Prop} {h0 : MH} (ki : KI K l G yX9_held cX9_held 7 (some .long) [] 12 390 1 Q E h0) (hG : gO G = true) : POK K RX9 (p_X9_held l G) :=
  POKi (y := yX9_held) ki hG (rfs rf_X9_ok (by decide +kernel)) fmz (subs (by decide +kernel) rl_X9_ok) (rps rp_X9_ok (by decide +kernel)) fmz fmz
  (pkE ki (by
    intro K e1 e2 e3 e4; subst e1; subst e2
    exact fmE (ceV 9 e3 e4 yl_X9_findFacts ⟨by decide, ⟨_, _, rfl⟩, q2592, qs121, q2590⟩ rfl) (fmE (ceV 9 e3 e4 yl_X9_hasSite ⟨by decide, ⟨_, _, rfl⟩, q2767, qs161, q2765⟩ rfl) (fmz)))) (fun z => Bool.noConfusion z) rfl (pkP ki (by
    intro K e1 e2 e3 e4; subst e1; subst e2
    exact fmP (pe_X9_in hG e3 e4 ⟨q2454, Or.inl q2453⟩ rfl rfl) (fmz)))
theorem r_X9_held_0 {K : JC} {l : Launch} {G : JG} {Q : Int → MH → Prop} {E : Nat → Int → MH → Prop} {h0 : MH} (ki : KI K l G yX9_held cX9_held 7 (some .long) [] 12 390 1 Q E h0) (hG : gO G = true) {v1 v2 v3 : Int} {h : MH} (H :
    S_X9_hasSite l G [(2009, 396), (0, v1)] h (fun z1 h2 =>
    ((¬ z1 = 0 →
      ((hv h2 396 3) ≠ 0) ∧
      (0 ≤ v1) ∧
      (v1 < 63) ∧
      (∀ x4_3 : Int, x4_3 = (hv h2 ((hv h2 396 3) + 26) v1) →
      ((0 ≤ x4_3 → ((hv h2 396 3) ≠ 0) ∧ (0 ≤ x4_3) ∧ x4_3 < 24)) ∧
      (∀ x5_4 : Int, x5_4 = (if x4_3 < 0 then 1 else (hv h2 ((hv h2 396 3) + 3) x4_3) : Int) →
      (∀ h5, h5 = hset h2 396 0 (if (isin v2 0 (w32 (x5_4 - 1))) = 0 then 2 else (if (isin v3 0 5) = 0 then 2 else 0 : Int) : Int) →
      (((hv h5 396 0) ≤ 0 →
        S_X9_findFacts l G [(2009, 396)] h5 (fun _ h7 =>
        (0 ≤ v1) ∧
        (v1 < 63) ∧
        ((¬ (hv h7 472 v1) = 0 →
          (∀ x6_8 : Int, x6_8 = (w32 ((w32 (8 * v1)) + v2)) →
          (((v3 = 0 →
            (0 ≤ x6_8) ∧
            (x6_8 < 504) ∧
            Q (hv h7 473 x6_8) h7) ∧
          ((v3 = 0 + 1 →
            (0 ≤ x6_8) ∧
            (x6_8 < 504) ∧
            Q (hv h7 474 x6_8) h7) ∧
          ((v3 = 0 + 1 + 1 →
            (0 ≤ x6_8) ∧
            (x6_8 < 504) ∧
            Q (hv h7 475 x6_8) h7) ∧
          ((v3 = 0 + 1 + 1 + 1 →
            (0 ≤ x6_8) ∧
            (x6_8 < 504) ∧
            Q (hv h7 476 x6_8) h7) ∧
          ((v3 = 0 + 1 + 1 + 1 + 1 →
            (0 ≤ v1) ∧
            (v1 < 63) ∧
            Q (hv h7 477 v1) h7) ∧
          True))))) ∧ ((v3 < 0 ∨ 4 < v3) →
            (0 ≤ v1) ∧
            (v1 < 63) ∧
            Q (hv h7 478 v1) h7)))) ∧
        ((hv h7 472 v1) = 0 →
          Q 0 h7))) E) ∧
      (0 < (hv h5 396 0) →
        Q 0 h5)))))) ∧
    (z1 = 0 →
      Q 0 h2))) E) : JW K 0 [(2009, 396), (0, v1), (0, v2), (0, v3), (5000, 0), (5000, 0), (5000, 0)] [] h := by
  have e1 := ki.2.2.2.2.1
  have e2 := ki.2.2.2.2.2.1
  subst e1; subst e2
  exact run_ok (dia := [(23, 40), (54, 74)]) (cnr := []) (cuts := []) ki.1 (pk_X9_held ki hG) ok_X9_held (by decide) 49 true _ _ _ _ H
abbrev k_X9_statics : List (Nat × List (Nat × Instr)) := [(44, [(0, .aload_n 0), (1, .aload_n 0), (2, .getfield 373), (5, .ifnonnull 7), (8, .iconst 1), (9, .goto 39), (12, .iload_n 1), (13, .i2l), (14, .lconst 0), (15, .aload_n 0), (16, .getfield 373), (19, .getfield 260), (22, .iconst 1), (23, .isub), (24, .i2l), (25, .invokestatic 231), (28, .ifCond .eq 15), (31, .iload_n 2), (32, .i2l), (33, .lconst 0), (34, .ldc2_w 696), (37, .invokestatic 231), (40, .ifCond .ne 7), (43, .iconst 2)]),
  (88, [(44, .goto 4), (47, .iconst 0), (48, .putfield 225), (51, .aload_n 0), (52, .getfield 225), (55, .ifCond .le 5), (58, .lconst 0), (59, .lreturn), (60, .aload_n 0), (61, .invokevirtual 682), (64, .iload_n 2), (65, .ifCond .ne 13), (68, .aload_n 0), (69, .getfield 98), (72, .iload_n 1), (73, .iaload), (74, .i2l), (75, .goto 39), (78, .iload_n 2), (79, .iconst 1), (80, .if_icmp .ne 13), (83, .aload_n 0), (84, .getfield 101), (87, .iload_n 1)]),
  (123, [(88, .iaload), (89, .i2l), (90, .goto 24), (93, .iload_n 2), (94, .iconst 2), (95, .if_icmp .ne 13), (98, .aload_n 0), (99, .getfield 104), (102, .iload_n 1), (103, .iaload), (104, .i2l), (105, .goto 9), (108, .aload_n 0), (109, .getfield 107), (112, .iload_n 1), (113, .laload), (114, .lreturn)])]
theorem ok_X9_statics : CodeOK cX9_statics k_X9_statics := okw 0 (by decide +kernel) (okw 44 (by decide +kernel) (okw 88 (by decide +kernel) (okn)))
abbrev p_X9_statics (l : Launch) (G : JG) : JP := (true, [(98, 9, 38, 1008100, 84), (101, 9, 39, 1008100, 85), (104, 9, 40, 1008100, 86), (107, 9, 41, 1008101, 87), (225, 9, 0, 0, 0), (260, 10, 1, 0, 0), (373, 9, 3, 14, 0)], [], [(696, 3)], [(225, 9, 0, 0)], [], [], [(682, 1, [2009], 700, S_X9_findFacts l G)], false, 1, [(231, e_X9_in)])
theorem pk_X9_statics {K : JC} {l : Launch} {G : JG} {Q : Int → MH → Prop} {E : Nat → Int → MH → Prop} {h0 : MH} (ki : KI K l G yX9_statics cX9_statics 3 (some .long) [] 12 390 1 Q E h0) (hG : gO G = true) : POK K RX9 (p_X9_statics l G) :=
  POKi (y := yX9_statics) ki hG (rfs rf_X9_ok (by decide +kernel)) fmz (subs (by decide +kernel) rl_X9_ok) (rps rp_X9_ok (by decide +kernel)) fmz fmz
  (pkE ki (by
    intro K e1 e2 e3 e4; subst e1; subst e2
    exact fmE (ceV 9 e3 e4 yl_X9_findFacts ⟨by decide, ⟨_, _, rfl⟩, q2592, qs121, q2590⟩ rfl) (fmz))) (fun z => Bool.noConfusion z) rfl (pkP ki (by
    intro K e1 e2 e3 e4; subst e1; subst e2
    exact fmP (pe_X9_in hG e3 e4 ⟨q2454, Or.inl q2453⟩ rfl rfl) (fmz)))
theorem r_X9_statics_0 {K : JC} {l : Launch} {G : JG} {Q : Int → MH → Prop} {E : Nat → Int → MH → Prop} {h0 : MH} (ki : KI K l G yX9_statics cX9_statics 3 (some .long) [] 12 390 1 Q E h0) (hG : gO G = true) {v1 v2 : Int} {h : MH} (H :
    ((¬ (hv h 396 3) = 0 → (hv h 396 3) ≠ 0)) ∧
    (∀ h1, h1 = hset h 396 0 (if (hv h 396 3) = 0 then 1 else (if (isin v1 0 (w32 ((hv h (hv h 396 3) 1) - 1))) = 0 then 2 else (if (isin v2 0 3) = 0 then 2 else 0 : Int) : Int) : Int) →
    (((hv h1 396 0) ≤ 0 →
      S_X9_findFacts l G [(2009, 396)] h1 (fun _ h3 =>
      ((¬ v2 = 0 → ((¬ v2 = 1 → ((¬ v2 = 2 → (0 ≤ v1) ∧ v1 < 8)) ∧ (v2 = 2 → (0 ≤ v1) ∧ v1 < 8))) ∧ (v2 = 1 → (0 ≤ v1) ∧ v1 < 8))) ∧
      ((v2 = 0 → (0 ≤ v1) ∧ v1 < 8)) ∧
      Q (if v2 = 0 then (hv h3 480 v1) else (if v2 = 1 then (hv h3 481 v1) else (if v2 = 2 then (hv h3 482 v1) else (hv h3 483 v1) : Int) : Int) : Int) h3) E) ∧
    (0 < (hv h1 396 0) →
      Q 0 h1)))) : JW K 0 [(2009, 396), (0, v1), (0, v2)] [] h := by
  have e1 := ki.2.2.2.2.1
  have e2 := ki.2.2.2.2.2.1
  subst e1; subst e2
  exact run_ok (dia := [(5, 48), (65, 114)]) (cnr := []) (cuts := []) ki.1 (pk_X9_statics ki hG) ok_X9_statics (by decide) 14 true _ _ _ _ H
abbrev k_X9_sink : List (Nat × List (Nat × Instr)) := [(48, [(0, .aload_n 0), (1, .aload_n 0), (2, .getfield 373), (5, .ifnonnull 7), (8, .iconst 1), (9, .goto 32), (12, .iload_n 1), (13, .i2l), (14, .lconst 0), (15, .ldc2_w 680), (18, .invokestatic 231), (21, .ifCond .eq 15), (24, .iload_n 2), (25, .i2l), (26, .lconst 0), (27, .ldc2_w 696), (30, .invokestatic 231), (33, .ifCond .ne 7), (36, .iconst 2), (37, .goto 4), (40, .iconst 0), (41, .putfield 225), (44, .aload_n 0), (45, .getfield 225)]),
  (88, [(48, .ifCond .le 5), (51, .lconst 0), (52, .lreturn), (53, .aload_n 0), (54, .invokevirtual 682), (57, .aload_n 0), (58, .getfield 110), (61, .iload_n 1), (62, .baload), (63, .ifCond .ne 5), (66, .lconst 0), (67, .lreturn), (68, .iload_n 2), (69, .ifCond .ne 7), (72, .lconst 1), (73, .goto 40), (76, .iload_n 2), (77, .iconst 1), (78, .if_icmp .ne 13), (81, .aload_n 0), (82, .getfield 113), (85, .iload_n 1), (86, .iaload), (87, .i2l)]),
  (122, [(88, .goto 25), (91, .iload_n 2), (92, .iconst 2), (93, .if_icmp .ne 13), (96, .aload_n 0), (97, .getfield 116), (100, .iload_n 1), (101, .iaload), (102, .i2l), (103, .goto 10), (106, .aload_n 0), (107, .getfield 119), (110, .iload_n 1), (111, .iaload), (112, .i2l), (113, .lreturn)])]
theorem ok_X9_sink : CodeOK cX9_sink k_X9_sink := okw 0 (by decide +kernel) (okw 48 (by decide +kernel) (okw 88 (by decide +kernel) (okn)))
abbrev p_X9_sink (l : Launch) (G : JG) : JP := (true, [(110, 9, 42, 1008102, 88), (113, 9, 43, 1008100, 89), (116, 9, 44, 1008100, 90), (119, 9, 45, 1008100, 91), (225, 9, 0, 0, 0), (373, 9, 3, 14, 0)], [], [(680, 7), (696, 3)], [(225, 9, 0, 0)], [], [], [(682, 1, [2009], 700, S_X9_findFacts l G)], false, 1, [(231, e_X9_in)])
theorem pk_X9_sink {K : JC} {l : Launch} {G : JG} {Q : Int → MH → Prop} {E : Nat → Int → MH → Prop} {h0 : MH} (ki : KI K l G yX9_sink cX9_sink 3 (some .long) [] 12 390 1 Q E h0) (hG : gO G = true) : POK K RX9 (p_X9_sink l G) :=
  POKi (y := yX9_sink) ki hG (rfs rf_X9_ok (by decide +kernel)) fmz (subs (by decide +kernel) rl_X9_ok) (rps rp_X9_ok (by decide +kernel)) fmz fmz
  (pkE ki (by
    intro K e1 e2 e3 e4; subst e1; subst e2
    exact fmE (ceV 9 e3 e4 yl_X9_findFacts ⟨by decide, ⟨_, _, rfl⟩, q2592, qs121, q2590⟩ rfl) (fmz))) (fun z => Bool.noConfusion z) rfl (pkP ki (by
    intro K e1 e2 e3 e4; subst e1; subst e2
    exact fmP (pe_X9_in hG e3 e4 ⟨q2454, Or.inl q2453⟩ rfl rfl) (fmz)))
theorem r_X9_sink_0 {K : JC} {l : Launch} {G : JG} {Q : Int → MH → Prop} {E : Nat → Int → MH → Prop} {h0 : MH} (ki : KI K l G yX9_sink cX9_sink 3 (some .long) [] 12 390 1 Q E h0) (hG : gO G = true) {v1 v2 : Int} {h : MH} (H :
    (∀ h1, h1 = hset h 396 0 (if (hv h 396 3) = 0 then 1 else (if (isin v1 0 7) = 0 then 2 else (if (isin v2 0 3) = 0 then 2 else 0 : Int) : Int) : Int) →
    (((hv h1 396 0) ≤ 0 →
      S_X9_findFacts l G [(2009, 396)] h1 (fun _ h3 =>
      (0 ≤ v1) ∧
      (v1 < 8) ∧
      ((¬ (hv h3 484 v1) = 0 →
        ((¬ v2 = 0 → ((¬ v2 = 1 → ((¬ v2 = 2 → (0 ≤ v1) ∧ v1 < 8)) ∧ (v2 = 2 → (0 ≤ v1) ∧ v1 < 8))) ∧ (v2 = 1 → (0 ≤ v1) ∧ v1 < 8))) ∧
        Q (if v2 = 0 then 1 else (if v2 = 1 then (hv h3 485 v1) else (if v2 = 2 then (hv h3 486 v1) else (hv h3 487 v1) : Int) : Int) : Int) h3) ∧
      ((hv h3 484 v1) = 0 →
        Q 0 h3))) E) ∧
    (0 < (hv h1 396 0) →
      Q 0 h1)))) : JW K 0 [(2009, 396), (0, v1), (0, v2)] [] h := by
  have e1 := ki.2.2.2.2.1
  have e2 := ki.2.2.2.2.2.1
  subst e1; subst e2
  exact run_ok (dia := [(5, 41), (69, 113)]) (cnr := []) (cuts := []) ki.1 (pk_X9_sink ki hG) ok_X9_sink (by decide) 19 true _ _ _ _ H
abbrev k_X9_live : List (Nat × List (Nat × Instr)) := [(32, [(0, .aload_n 0), (1, .iload_n 1), (2, .iload_n 2), (3, .invokevirtual 693), (6, .istore_n 3), (7, .iload_n 3), (8, .ifCond .ge 5), (11, .iconst 0), (12, .ireturn), (13, .aload_n 0), (14, .invokevirtual 682), (17, .aload_n 0), (18, .getfield 167), (21, .iload_n 3), (22, .iaload), (23, .ireturn)])]
theorem ok_X9_live : CodeOK cX9_live k_X9_live := okw 0 (by decide +kernel) (okn)
abbrev p_X9_live (l : Launch) (G : JG) : JP := (true, [(167, 9, 73, 2500100, 107)], [], [], [], [], [], [(682, 1, [2009], 700, S_X9_findFacts l G), (693, 1, [0, 0, 2009], 0, S_X9_placeOf l G)], false, 0, [])
theorem pk_X9_live {K : JC} {l : Launch} {G : JG} {Q : Int → MH → Prop} {E : Nat → Int → MH → Prop} {h0 : MH} (ki : KI K l G yX9_live cX9_live 4 (some .int) [] 12 390 0 Q E h0) (hG : gO G = true) : POK K RX9 (p_X9_live l G) :=
  POKi (y := yX9_live) ki hG (rfs rf_X9_ok (by decide +kernel)) fmz fmz fmz fmz fmz
  (pkE ki (by
    intro K e1 e2 e3 e4; subst e1; subst e2
    exact fmE (ceV 9 e3 e4 yl_X9_findFacts ⟨by decide, ⟨_, _, rfl⟩, q2592, qs121, q2590⟩ rfl) (fmE (ceV 9 e3 e4 yl_X9_placeOf ⟨by decide, ⟨_, _, rfl⟩, q2775, qs162, q2773⟩ rfl) (fmz)))) (fun z => Bool.noConfusion z) rfl (pkP ki (by
    intro K e1 e2 e3 e4; subst e1; subst e2
    exact fmz))
theorem r_X9_live_0 {K : JC} {l : Launch} {G : JG} {Q : Int → MH → Prop} {E : Nat → Int → MH → Prop} {h0 : MH} (ki : KI K l G yX9_live cX9_live 4 (some .int) [] 12 390 0 Q E h0) (hG : gO G = true) {v1 v2 : Int} {h : MH} (H :
    S_X9_placeOf l G [(2009, 396), (0, v1), (0, v2)] h (fun z1 h2 =>
    (∀ x3_3 : Int, x3_3 = z1 →
    ((0 ≤ x3_3 →
      S_X9_findFacts l G [(2009, 396)] h2 (fun _ h5 =>
      (0 ≤ x3_3) ∧
      (x3_3 < 1500) ∧
      Q (hv h5 503 x3_3) h5) E) ∧
    (x3_3 < 0 →
      Q 0 h2)))) E) : JW K 0 [(2009, 396), (0, v1), (0, v2), (5000, 0)] [] h := by
  have e1 := ki.2.2.2.2.1
  have e2 := ki.2.2.2.2.2.1
  subst e1; subst e2
  exact run_ok (dia := []) (cnr := []) (cuts := []) ki.1 (pk_X9_live ki hG) ok_X9_live (by decide) 15 true _ _ _ _ H
abbrev k_X9_idle : List (Nat × List (Nat × Instr)) := [(40, [(0, .aload_n 0), (1, .iload_n 1), (2, .invokevirtual 677), (5, .ifCond .ne 5), (8, .iconst 0), (9, .ireturn), (10, .aload_n 0), (11, .invokevirtual 682), (14, .iconst 0), (15, .istore_n 2), (16, .aload_n 0), (17, .getfield 373), (20, .getfield 312), (23, .iload_n 1), (24, .iaload), (25, .istore_n 3), (26, .iload_n 3), (27, .aload_n 0), (28, .getfield 373), (31, .getfield 312), (34, .iload_n 1), (35, .iaload), (36, .aload_n 0), (37, .getfield 373)]),
  (80, [(40, .getfield 306), (43, .iload_n 1), (44, .iaload), (45, .iadd), (46, .if_icmp .ge 81), (49, .aload_n 0), (50, .getfield 37), (53, .iload_n 3), (54, .baload), (55, .ifCond .eq 66), (58, .aload_n 0), (59, .getfield 373), (62, .getfield 339), (65, .iload_n 3), (66, .iaload), (67, .iconst 3), (68, .if_icmp .ne 53), (71, .aload_n 0), (72, .iload_n 1), (73, .aload_n 0), (74, .getfield 65), (77, .iconst 2), (78, .iload_n 3), (79, .imul)]),
  (116, [(80, .laload), (81, .aload_n 0), (82, .getfield 65), (85, .iconst 2), (86, .iload_n 3), (87, .imul), (88, .iconst 1), (89, .iadd), (90, .laload), (91, .invokevirtual 649), (94, .istore 4), (96, .iload 4), (98, .aload_n 0), (99, .getfield 373), (102, .getfield 342), (105, .iload_n 3), (106, .iaload), (107, .ishr), (108, .iconst 1), (109, .iand), (110, .ifCond .ne 9), (113, .iload_n 2), (114, .iconst 1), (115, .iadd)]),
  (137, [(116, .goto 4), (119, .iload_n 2), (120, .istore_n 2), (121, .iinc 3 1), (124, .goto (-98)), (127, .iload_n 2), (128, .ireturn)])]
theorem ok_X9_idle : CodeOK cX9_idle k_X9_idle := okw 0 (by decide +kernel) (okw 40 (by decide +kernel) (okw 80 (by decide +kernel) (okw 116 (by decide +kernel) (okn))))
abbrev p_X9_idle (l : Launch) (G : JG) : JP := (true, [(37, 9, 18, 2500102, 64), (65, 9, 27, 4000101, 73), (306, 10, 16, 1040100, 14), (312, 10, 17, 1040100, 15), (339, 10, 22, 2500100, 19), (342, 10, 23, 2500100, 20), (373, 9, 3, 14, 0)], [], [], [], [], [], [(649, 1, [1, 1, 0, 2009], 0, S_X9_liveOf l G), (677, 1, [0, 2009], 2, S_X9_hasMethod l G), (682, 1, [2009], 700, S_X9_findFacts l G)], false, 0, [])
theorem pk_X9_idle {K : JC} {l : Launch} {G : JG} {Q : Int → MH → Prop} {E : Nat → Int → MH → Prop} {h0 : MH} (ki : KI K l G yX9_idle cX9_idle 5 (some .int) [] 12 390 0 Q E h0) (hG : gO G = true) : POK K RX9 (p_X9_idle l G) :=
  POKi (y := yX9_idle) ki hG (rfs rf_X9_ok (by decide +kernel)) fmz fmz fmz fmz fmz
  (pkE ki (by
    intro K e1 e2 e3 e4; subst e1; subst e2
    exact fmE (ceV 9 e3 e4 yl_X9_liveOf ⟨by decide, ⟨_, _, rfl⟩, q2751, qs158, q2749⟩ rfl) (fmE (ceV 9 e3 e4 yl_X9_hasMethod ⟨by decide, ⟨_, _, rfl⟩, q2583, qs119, q2581⟩ rfl) (fmE (ceV 9 e3 e4 yl_X9_findFacts ⟨by decide, ⟨_, _, rfl⟩, q2592, qs121, q2590⟩ rfl) (fmz))))) (fun z => Bool.noConfusion z) rfl (pkP ki (by
    intro K e1 e2 e3 e4; subst e1; subst e2
    exact fmz))
theorem r_X9_idle_0 {K : JC} {l : Launch} {G : JG} {Q : Int → MH → Prop} {E : Nat → Int → MH → Prop} {h0 : MH} (ki : KI K l G yX9_idle cX9_idle 5 (some .int) [] 12 390 0 Q E h0) (hG : gO G = true) {v1 : Int} {h : MH} (H :
    S_X9_hasMethod l G [(2009, 396), (0, v1)] h (fun z1 h2 =>
    ((¬ z1 = 0 →
      S_X9_findFacts l G [(2009, 396)] h2 (fun _ h4 =>
      (∀ x2_5 : Int, x2_5 = 0 →
      ((hv h4 396 3) ≠ 0) ∧
      (0 ≤ v1) ∧
      (v1 < 40) ∧
      (∀ x3_6 : Int, x3_6 = (hv h4 ((hv h4 396 3) + 15) v1) →
      JW K 26 [(2009, 396), (0, v1), (0, x2_5), (0, x3_6), (5000, 0)] [] h4))) E) ∧
    (z1 = 0 →
      Q 0 h2))) E) : JW K 0 [(2009, 396), (0, v1), (5000, 0), (5000, 0), (5000, 0)] [] h := by
  have e1 := ki.2.2.2.2.1
  have e2 := ki.2.2.2.2.2.1
  subst e1; subst e2
  exact run_ok (dia := [(110, 120)]) (cnr := [(55, 71, 121)]) (cuts := [(26, [2009, 0, 0, 0, 5000], [])]) ki.1 (pk_X9_idle ki hG) ok_X9_idle (by decide) 16 true _ _ _ _ H
theorem r_X9_idle_26 {K : JC} {l : Launch} {G : JG} {Q : Int → MH → Prop} {E : Nat → Int → MH → Prop} {h0 : MH} (ki : KI K l G yX9_idle cX9_idle 5 (some .int) [] 12 390 0 Q E h0) (hG : gO G = true) {v1 v2 v3 : Int} {h : MH} (H :
    ((hv h 396 3) ≠ 0) ∧
    (0 ≤ v1) ∧
    (v1 < 40) ∧
    ((hv h 396 3) ≠ 0) ∧
    (0 ≤ v1) ∧
    (v1 < 40) ∧
    (((w32 ((hv h ((hv h 396 3) + 15) v1) + (hv h ((hv h 396 3) + 14) v1))) ≤ v3 →
      Q v2 h) ∧
    (v3 < (w32 ((hv h ((hv h 396 3) + 15) v1) + (hv h ((hv h 396 3) + 14) v1))) →
      (0 ≤ v3) ∧
      (v3 < 1500) ∧
      ((¬ (hv h 460 v3) = 0 → ((hv h 396 3) ≠ 0) ∧ (0 ≤ v3) ∧ v3 < 1500)) ∧
      (((¬ (hv h 460 v3) = 0 ∧ (hv h ((hv h 396 3) + 19) v3) = 3) →
        (0 ≤ (w32 (2 * v3))) ∧
        ((w32 (2 * v3)) < 3000) ∧
        (0 ≤ (w32 ((w32 (2 * v3)) + 1))) ∧
        ((w32 ((w32 (2 * v3)) + 1)) < 3000) ∧
        S_X9_liveOf l G [(2009, 396), (0, v1), (1, (hv h 469 (w32 (2 * v3)))), (1, (hv h 469 (w32 ((w32 (2 * v3)) + 1))))] h (fun z1 h2 =>
        (∀ x4_3 : Int, x4_3 = z1 →
        ((hv h2 396 3) ≠ 0) ∧
        (0 ≤ v3) ∧
        (v3 < 1500) ∧
        (∀ x2_4 : Int, x2_4 = (if (i_and (i_shr x4_3 (hv h2 ((hv h2 396 3) + 20) v3)) 1) = 0 then (w32 (v2 + 1)) else v2 : Int) →
        (∀ x3_5 : Int, x3_5 = w32 (v3 + 1) →
        JW K 26 [(2009, 396), (0, v1), (0, x2_4), (0, x3_5), (5000, 0)] [] h2)))) E) ∧
      (¬ (¬ (hv h 460 v3) = 0 ∧ (hv h ((hv h 396 3) + 19) v3) = 3) →
        (∀ x3_6 : Int, x3_6 = w32 (v3 + 1) →
        JW K 26 [(2009, 396), (0, v1), (0, v2), (0, x3_6), (5000, 0)] [] h)))))) : JW K 26 [(2009, 396), (0, v1), (0, v2), (0, v3), (5000, 0)] [] h := by
  have e1 := ki.2.2.2.2.1
  have e2 := ki.2.2.2.2.2.1
  subst e1; subst e2
  exact run_ok (dia := [(110, 120)]) (cnr := [(55, 71, 121)]) (cuts := [(26, [2009, 0, 0, 0, 5000], [])]) ki.1 (pk_X9_idle ki hG) ok_X9_idle (by decide) 51 true _ _ _ _ H
abbrev k_X9_threads : List (Nat × List (Nat × Instr)) := [(50, [(0, .aload_n 0), (1, .aload_n 0), (2, .getfield 373), (5, .ifnonnull 7), (8, .iconst 1), (9, .goto 34), (12, .iload_n 1), (13, .i2l), (14, .lconst 0), (15, .ldc2_w 702), (18, .invokestatic 231), (21, .ifCond .ne 21), (24, .iload_n 1), (25, .i2l), (26, .ldc2_w 229), (29, .ldc2_w 704), (32, .invokestatic 231), (35, .ifCond .ne 7), (38, .iconst 2), (39, .goto 4), (42, .iconst 0), (43, .putfield 225), (46, .aload_n 0), (47, .getfield 225)]),
  (96, [(50, .ifCond .le 5), (53, .iconst 0), (54, .ireturn), (55, .aload_n 0), (56, .invokevirtual 682), (59, .iload_n 1), (60, .ifCond .ne 10), (63, .aload_n 0), (64, .getfield 656), (67, .goto 36), (70, .iload_n 1), (71, .iconst 1), (72, .if_icmp .ne 11), (75, .aload_n 0), (76, .iconst (-1)), (77, .invokevirtual 706), (80, .goto 23), (83, .iload_n 1), (84, .iconst 2), (85, .if_icmp .ne 10), (88, .aload_n 0), (89, .invokevirtual 709), (92, .goto 11), (95, .aload_n 0)]),
  (112, [(96, .iload_n 1), (97, .bipush 8), (99, .isub), (100, .invokevirtual 674), (103, .ireturn)])]
theorem ok_X9_threads : CodeOK cX9_threads k_X9_threads := okw 0 (by decide +kernel) (okw 50 (by decide +kernel) (okw 96 (by decide +kernel) (okn)))
abbrev p_X9_threads (l : Launch) (G : JG) : JP := (true, [(225, 9, 0, 0, 0), (373, 9, 3, 14, 0), (656, 9, 74, 0, 0)], [], [(229, 8), (702, 2), (704, 15)], [(225, 9, 0, 0)], [], [], [(674, 1, [0, 2009], 0, S_X9_before l G), (682, 1, [2009], 700, S_X9_findFacts l G), (706, 1, [0, 2009], 0, S_X9_findRace l G), (709, 1, [2009], 0, S_X9_ring l G)], false, 0, [(231, e_X9_in)])
theorem pk_X9_threads {K : JC} {l : Launch} {G : JG} {Q : Int → MH → Prop} {E : Nat → Int → MH → Prop} {h0 : MH} (ki : KI K l G yX9_threads cX9_threads 2 (some .int) [] 12 390 0 Q E h0) (hG : gO G = true) : POK K RX9 (p_X9_threads l G) :=
  POKi (y := yX9_threads) ki hG (rfs rf_X9_ok (by decide +kernel)) fmz (subs (by decide +kernel) rl_X9_ok) (rps rp_X9_ok (by decide +kernel)) fmz fmz
  (pkE ki (by
    intro K e1 e2 e3 e4; subst e1; subst e2
    exact fmE (ceV 9 e3 e4 yl_X9_before ⟨by decide, ⟨_, _, rfl⟩, q2850, qs166, q2848⟩ rfl) (fmE (ceV 9 e3 e4 yl_X9_findFacts ⟨by decide, ⟨_, _, rfl⟩, q2592, qs121, q2590⟩ rfl) (fmE (ceV 9 e3 e4 yl_X9_findRace ⟨by decide, ⟨_, _, rfl⟩, q2832, qs163, q2830⟩ rfl) (fmE (ceV 9 e3 e4 yl_X9_ring ⟨by decide, ⟨_, _, rfl⟩, q2846, qs165, q2844⟩ rfl) (fmz)))))) (fun z => Bool.noConfusion z) rfl (pkP ki (by
    intro K e1 e2 e3 e4; subst e1; subst e2
    exact fmP (pe_X9_in hG e3 e4 ⟨q2454, Or.inl q2453⟩ rfl rfl) (fmz)))
theorem r_X9_threads_0 {K : JC} {l : Launch} {G : JG} {Q : Int → MH → Prop} {E : Nat → Int → MH → Prop} {h0 : MH} (ki : KI K l G yX9_threads cX9_threads 2 (some .int) [] 12 390 0 Q E h0) (hG : gO G = true) {v1 : Int} {h : MH} (H :
    (∀ h1, h1 = hset h 396 0 (if (hv h 396 3) = 0 then 1 else (if (isin v1 0 2) = 0 then (if (isin v1 8 15) = 0 then 2 else 0 : Int) else 0 : Int) : Int) →
    (((hv h1 396 0) ≤ 0 →
      S_X9_findFacts l G [(2009, 396)] h1 (fun _ h3 =>
      ((¬ v1 = 0 →
        ((¬ v1 = 1 →
          ((¬ v1 = 2 →
            S_X9_before l G [(2009, 396), (0, (w32 (v1 - 8)))] h3 (fun z4 h5 =>
            Q z4 h5) E) ∧
          (v1 = 2 →
            S_X9_ring l G [(2009, 396)] h3 (fun z6 h7 =>
            Q z6 h7) E))) ∧
        (v1 = 1 →
          S_X9_findRace l G [(2009, 396), (0, (-1))] h3 (fun z8 h9 =>
          Q z8 h9) E))) ∧
      (v1 = 0 →
        Q (hv h3 396 74) h3))) E) ∧
    (0 < (hv h1 396 0) →
      Q 0 h1)))) : JW K 0 [(2009, 396), (0, v1)] [] h := by
  have e1 := ki.2.2.2.2.1
  have e2 := ki.2.2.2.2.2.1
  subst e1; subst e2
  exact run_ok (dia := [(5, 43)]) (cnr := []) (cuts := []) ki.1 (pk_X9_threads ki hG) ok_X9_threads (by decide) 25 true _ _ _ _ H
abbrev k_X9_findRace : List (Nat × List (Nat × Instr)) := [(45, [(0, .iconst 0), (1, .istore_n 2), (2, .iconst 0), (3, .istore_n 3), (4, .iload_n 3), (5, .aload_n 0), (6, .getfield 373), (9, .getfield 309), (12, .if_icmp .ge 93), (15, .aload_n 0), (16, .getfield 37), (19, .iload_n 3), (20, .baload), (21, .ifCond .eq 78), (24, .aload_n 0), (25, .getfield 373), (28, .getfield 339), (31, .iload_n 3), (32, .iaload), (33, .invokestatic 659), (36, .ifCond .ne 6), (39, .goto 60), (42, .iload_n 3), (43, .istore 4)]),
  (90, [(45, .iload 4), (47, .aload_n 0), (48, .getfield 373), (51, .getfield 309), (54, .if_icmp .ge 45), (57, .aload_n 0), (58, .iload_n 3), (59, .iload 4), (61, .invokevirtual 665), (64, .ifCond .ne 6), (67, .goto 26), (70, .iload_n 2), (71, .iload_n 1), (72, .if_icmp .ne 18), (75, .aload_n 0), (76, .iload_n 3), (77, .putfield 668), (80, .aload_n 0), (81, .iload 4), (83, .putfield 671), (86, .iload_n 2), (87, .iconst 1), (88, .iadd), (89, .ireturn)]),
  (115, [(90, .iinc 2 1), (93, .iinc 4 1), (96, .goto (-51)), (99, .iinc 3 1), (102, .goto (-98)), (105, .iload_n 2), (106, .ireturn)])]
theorem ok_X9_findRace : CodeOK cX9_findRace k_X9_findRace := okw 0 (by decide +kernel) (okw 45 (by decide +kernel) (okw 90 (by decide +kernel) (okn)))
abbrev p_X9_findRace (l : Launch) (G : JG) : JP := (true, [(37, 9, 18, 2500102, 64), (309, 10, 21, 0, 0), (339, 10, 22, 2500100, 19), (373, 9, 3, 14, 0)], [], [], [(668, 9, 78, 0), (671, 9, 79, 0)], [], [], [(665, 1, [0, 0, 2009], 2, S_X9_isRace l G)], false, 0, [(659, e_X9_uses)])
theorem pk_X9_findRace {K : JC} {l : Launch} {G : JG} {Q : Int → MH → Prop} {E : Nat → Int → MH → Prop} {h0 : MH} (ki : KI K l G yX9_findRace cX9_findRace 5 (some .int) [] 6 194 0 Q E h0) (hG : gO G = true) : POK K RX9 (p_X9_findRace l G) :=
  POKi (y := yX9_findRace) ki hG (rfs rf_X9_ok (by decide +kernel)) fmz fmz (rps rp_X9_ok (by decide +kernel)) fmz fmz
  (pkE ki (by
    intro K e1 e2 e3 e4; subst e1; subst e2
    exact fmE (ceV 9 e3 e4 yl_X9_isRace ⟨by decide, ⟨_, _, rfl⟩, q2839, qs164, q2837⟩ rfl) (fmz))) (fun z => Bool.noConfusion z) rfl (pkP ki (by
    intro K e1 e2 e3 e4; subst e1; subst e2
    exact fmP (pe_X9_uses hG e3 e4 ⟨q2835, Or.inl q2834⟩ rfl rfl) (fmz)))
theorem r_X9_findRace_0 {K : JC} {l : Launch} {G : JG} {Q : Int → MH → Prop} {E : Nat → Int → MH → Prop} {h0 : MH} (ki : KI K l G yX9_findRace cX9_findRace 5 (some .int) [] 6 194 0 Q E h0) (hG : gO G = true) {v1 : Int} {h : MH} (H :
    (∀ x2_1 : Int, x2_1 = 0 →
    (∀ x3_2 : Int, x3_2 = 0 →
    JW K 4 [(2009, 396), (0, v1), (0, x2_1), (0, x3_2), (5000, 0)] [] h))) : JW K 0 [(2009, 396), (0, v1), (5000, 0), (5000, 0), (5000, 0)] [] h := by
  have e1 := ki.2.2.2.2.1
  have e2 := ki.2.2.2.2.2.1
  subst e1; subst e2
  exact run_ok (dia := []) (cnr := []) (cuts := [(4, [2009, 0, 0, 0, 5000], []), (45, [2009, 0, 0, 0, 0], [])]) ki.1 (pk_X9_findRace ki hG) ok_X9_findRace (by decide) 6 true _ _ _ _ H
theorem r_X9_findRace_4 {K : JC} {l : Launch} {G : JG} {Q : Int → MH → Prop} {E : Nat → Int → MH → Prop} {h0 : MH} (ki : KI K l G yX9_findRace cX9_findRace 5 (some .int) [] 6 194 0 Q E h0) (hG : gO G = true) {v1 v2 v3 : Int} {h : MH} (H :
    ((hv h 396 3) ≠ 0) ∧
    (((hv h (hv h 396 3) 21) ≤ v3 →
      Q v2 h) ∧
    (v3 < (hv h (hv h 396 3) 21) →
      (0 ≤ v3) ∧
      (v3 < 1500) ∧
      (((hv h 460 v3) = 0 →
        (∀ x3_1 : Int, x3_1 = w32 (v3 + 1) →
        JW K 4 [(2009, 396), (0, v1), (0, v2), (0, x3_1), (5000, 0)] [] h)) ∧
      (¬ (hv h 460 v3) = 0 →
        ((hv h 396 3) ≠ 0) ∧
        (0 ≤ v3) ∧
        (v3 < 1500) ∧
        ((¬ (usesf (hv h ((hv h 396 3) + 19) v3)) = 0 →
          (∀ x4_2 : Int, x4_2 = v3 →
          JW K 45 [(2009, 396), (0, v1), (0, v2), (0, v3), (0, x4_2)] [] h)) ∧
        ((usesf (hv h ((hv h 396 3) + 19) v3)) = 0 →
          (∀ x3_3 : Int, x3_3 = w32 (v3 + 1) →
          JW K 4 [(2009, 396), (0, v1), (0, v2), (0, x3_3), (5000, 0)] [] h)))))))) : JW K 4 [(2009, 396), (0, v1), (0, v2), (0, v3), (5000, 0)] [] h := by
  have e1 := ki.2.2.2.2.1
  have e2 := ki.2.2.2.2.2.1
  subst e1; subst e2
  exact run_ok (dia := []) (cnr := []) (cuts := [(4, [2009, 0, 0, 0, 5000], []), (45, [2009, 0, 0, 0, 0], [])]) ki.1 (pk_X9_findRace ki hG) ok_X9_findRace (by decide) 22 true _ _ _ _ H
theorem r_X9_findRace_45 {K : JC} {l : Launch} {G : JG} {Q : Int → MH → Prop} {E : Nat → Int → MH → Prop} {h0 : MH} (ki : KI K l G yX9_findRace cX9_findRace 5 (some .int) [] 6 194 0 Q E h0) (hG : gO G = true) {v1 v2 v3 v4 : Int} {h : MH} (H :
    ((hv h 396 3) ≠ 0) ∧
    (((hv h (hv h 396 3) 21) ≤ v4 →
      (∀ x3_1 : Int, x3_1 = w32 (v3 + 1) →
      JW K 4 [(2009, 396), (0, v1), (0, v2), (0, x3_1), (5000, 0)] [] h)) ∧
    (v4 < (hv h (hv h 396 3) 21) →
      S_X9_isRace l G [(2009, 396), (0, v3), (0, v4)] h (fun z2 h3 =>
      ((¬ z2 = 0 →
        ((¬ v2 = v1 →
          (∀ x2_4 : Int, x2_4 = w32 (v2 + 1) →
          (∀ x4_5 : Int, x4_5 = w32 (v4 + 1) →
          JW K 45 [(2009, 396), (0, v1), (0, x2_4), (0, v3), (0, x4_5)] [] h3))) ∧
        (v2 = v1 →
          (∀ h6, h6 = hset h3 396 78 v3 →
          (∀ h7, h7 = hset h6 396 79 v4 →
          Q (w32 (v2 + 1)) h7))))) ∧
      (z2 = 0 →
        (∀ x4_8 : Int, x4_8 = w32 (v4 + 1) →
        JW K 45 [(2009, 396), (0, v1), (0, v2), (0, v3), (0, x4_8)] [] h3)))) E))) : JW K 45 [(2009, 396), (0, v1), (0, v2), (0, v3), (0, v4)] [] h := by
  have e1 := ki.2.2.2.2.1
  have e2 := ki.2.2.2.2.2.1
  subst e1; subst e2
  exact run_ok (dia := []) (cnr := []) (cuts := [(4, [2009, 0, 0, 0, 5000], []), (45, [2009, 0, 0, 0, 0], [])]) ki.1 (pk_X9_findRace ki hG) ok_X9_findRace (by decide) 24 true _ _ _ _ H
abbrev k_X9_isRace : List (Nat × List (Nat × Instr)) := [(46, [(0, .aload_n 0), (1, .getfield 373), (4, .getfield 339), (7, .iload_n 1), (8, .iaload), (9, .invokestatic 659), (12, .istore_n 3), (13, .iload_n 3), (14, .ifCond .eq 37), (17, .iload_n 3), (18, .aload_n 0), (19, .getfield 373), (22, .getfield 339), (25, .iload_n 2), (26, .iaload), (27, .invokestatic 659), (30, .if_icmp .ne 21), (33, .aload_n 0), (34, .getfield 37), (37, .iload_n 1), (38, .baload), (39, .ifCond .eq 12), (42, .aload_n 0), (43, .getfield 37)]),
  (90, [(46, .iload_n 2), (47, .baload), (48, .ifCond .ne 5), (51, .iconst 0), (52, .ireturn), (53, .aload_n 0), (54, .getfield 373), (57, .getfield 339), (60, .iload_n 1), (61, .iaload), (62, .invokestatic 662), (65, .ifCond .ne 18), (68, .aload_n 0), (69, .getfield 373), (72, .getfield 339), (75, .iload_n 2), (76, .iaload), (77, .invokestatic 662), (80, .ifCond .eq 19), (83, .aload_n 0), (84, .getfield 53), (87, .iload_n 1), (88, .iaload), (89, .aload_n 0)]),
  (132, [(90, .getfield 53), (93, .iload_n 2), (94, .iaload), (95, .iand), (96, .ifCond .eq 5), (99, .iconst 0), (100, .ireturn), (101, .iload_n 3), (102, .iconst 3), (103, .if_icmp .ne 32), (106, .aload_n 0), (107, .getfield 373), (110, .getfield 342), (113, .iload_n 1), (114, .iaload), (115, .aload_n 0), (116, .getfield 373), (119, .getfield 342), (122, .iload_n 2), (123, .iaload), (124, .if_icmp .ne 7), (127, .iconst 1), (128, .goto 56), (131, .iconst 0)]),
  (174, [(132, .goto 52), (135, .aload_n 0), (136, .getfield 71), (139, .iload_n 1), (140, .laload), (141, .aload_n 0), (142, .getfield 71), (145, .iload_n 2), (146, .laload), (147, .land), (148, .lconst 0), (149, .lcmp), (150, .ifCond .eq 33), (153, .iload_n 3), (154, .iconst 2), (155, .if_icmp .eq 24), (158, .aload_n 0), (159, .getfield 373), (162, .getfield 345), (165, .iload_n 1), (166, .iaload), (167, .aload_n 0), (168, .getfield 373), (171, .getfield 345)]),
  (217, [(174, .iload_n 2), (175, .iaload), (176, .if_icmp .ne 7), (179, .iconst 1), (180, .goto 4), (183, .iconst 0), (184, .istore 4), (186, .iload 4), (188, .ifCond .eq 37), (191, .aload_n 0), (192, .getfield 176), (195, .bipush 40), (197, .aload_n 0), (198, .getfield 373), (201, .getfield 354), (204, .iload_n 1), (205, .iaload), (206, .imul), (207, .aload_n 0), (208, .getfield 373), (211, .getfield 354), (214, .iload_n 2), (215, .iaload), (216, .iadd)]),
  (235, [(217, .baload), (218, .ifCond .eq 7), (221, .iconst 1), (222, .goto 4), (225, .iconst 0), (226, .ireturn)])]
theorem ok_X9_isRace : CodeOK cX9_isRace k_X9_isRace := okw 0 (by decide +kernel) (okw 46 (by decide +kernel) (okw 90 (by decide +kernel) (okw 132 (by decide +kernel) (okw 174 (by decide +kernel) (okw 217 (by decide +kernel) (okn))))))
abbrev p_X9_isRace (l : Launch) (G : JG) : JP := (true, [(37, 9, 18, 2500102, 64), (53, 9, 23, 2500100, 69), (71, 9, 29, 2500101, 75), (176, 9, 77, 2600102, 110), (339, 10, 22, 2500100, 19), (342, 10, 23, 2500100, 20), (345, 10, 24, 2500100, 21), (354, 10, 27, 2500100, 24), (373, 9, 3, 14, 0)], [], [], [], [], [], [], false, 2, [(659, e_X9_uses), (662, e_X9_sets)])
theorem pk_X9_isRace {K : JC} {l : Launch} {G : JG} {Q : Int → MH → Prop} {E : Nat → Int → MH → Prop} {h0 : MH} (ki : KI K l G yX9_isRace cX9_isRace 5 (some .boolean) [] 5 170 2 Q E h0) (hG : gO G = true) : POK K RX9 (p_X9_isRace l G) :=
  POKi (y := yX9_isRace) ki hG (rfs rf_X9_ok (by decide +kernel)) fmz fmz fmz fmz fmz
  (pkE ki (by
    intro K e1 e2 e3 e4; subst e1; subst e2
    exact fmz)) (fun z => Bool.noConfusion z) rfl (pkP ki (by
    intro K e1 e2 e3 e4; subst e1; subst e2
    exact fmP (pe_X9_uses hG e3 e4 ⟨q2835, Or.inl q2834⟩ rfl rfl) (fmP (pe_X9_sets hG e3 e4 ⟨q2842, Or.inl q2841⟩ rfl rfl) (fmz))))
theorem r_X9_isRace_0 {K : JC} {l : Launch} {G : JG} {Q : Int → MH → Prop} {E : Nat → Int → MH → Prop} {h0 : MH} (ki : KI K l G yX9_isRace cX9_isRace 5 (some .boolean) [] 5 170 2 Q E h0) (hG : gO G = true) {v1 v2 : Int} {h : MH} (H :
    ((hv h 396 3) ≠ 0) ∧
    (0 ≤ v1) ∧
    (v1 < 1500) ∧
    (∀ x3_1 : Int, x3_1 = (usesf (hv h ((hv h 396 3) + 19) v1)) →
    ((¬ x3_1 = 0 → ((hv h 396 3) ≠ 0) ∧ (0 ≤ v2) ∧ (v2 < 1500) ∧ (x3_1 = (usesf (hv h ((hv h 396 3) + 19) v2)) → (0 ≤ v1) ∧ (v1 < 1500) ∧ (¬ (hv h 460 v1) = 0 → (0 ≤ v2) ∧ v2 < 1500)))) ∧
    (((x3_1 = 0 ∨ (¬ x3_1 = (usesf (hv h ((hv h 396 3) + 19) v2)) ∨ ((hv h 460 v1) = 0 ∨ (hv h 460 v2) = 0))) →
      (((0 : Int) = 0 ∨ (0 : Int) = 1) ∧ Q 0 h)) ∧
    (¬ (x3_1 = 0 ∨ (¬ x3_1 = (usesf (hv h ((hv h 396 3) + 19) v2)) ∨ ((hv h 460 v1) = 0 ∨ (hv h 460 v2) = 0))) →
      ((hv h 396 3) ≠ 0) ∧
      (0 ≤ v1) ∧
      (v1 < 1500) ∧
      ((¬ (setsf (hv h ((hv h 396 3) + 19) v1)) = 0 → (0 ≤ v1) ∧ (v1 < 1500) ∧ (0 ≤ v2) ∧ v2 < 1500)) ∧
      (((setsf (hv h ((hv h 396 3) + 19) v1)) = 0 → ((hv h 396 3) ≠ 0) ∧ (0 ≤ v2) ∧ (v2 < 1500) ∧ (¬ (setsf (hv h ((hv h 396 3) + 19) v2)) = 0 → (0 ≤ v1) ∧ (v1 < 1500) ∧ (0 ≤ v2) ∧ v2 < 1500))) ∧
      ((((¬ (setsf (hv h ((hv h 396 3) + 19) v1)) = 0 ∧ ¬ (i_and (hv h 465 v1) (hv h 465 v2)) = 0) ∨ ((setsf (hv h ((hv h 396 3) + 19) v1)) = 0 ∧ ((setsf (hv h ((hv h 396 3) + 19) v2)) = 0 ∨ ¬ (i_and (hv h 465 v1) (hv h 465 v2)) = 0))) →
        (((0 : Int) = 0 ∨ (0 : Int) = 1) ∧ Q 0 h)) ∧
      (¬ ((¬ (setsf (hv h ((hv h 396 3) + 19) v1)) = 0 ∧ ¬ (i_and (hv h 465 v1) (hv h 465 v2)) = 0) ∨ ((setsf (hv h ((hv h 396 3) + 19) v1)) = 0 ∧ ((setsf (hv h ((hv h 396 3) + 19) v2)) = 0 ∨ ¬ (i_and (hv h 465 v1) (hv h 465 v2)) = 0))) →
        ((¬ x3_1 = 3 → (0 ≤ v1) ∧ (v1 < 1500) ∧ (0 ≤ v2) ∧ (v2 < 1500) ∧ (¬ (lc (l_and (hv h 471 v1) (hv h 471 v2)) 0) = 0 → (¬ x3_1 = 2 → ((hv h 396 3) ≠ 0) ∧ (0 ≤ v1) ∧ (v1 < 1500) ∧ ((hv h 396 3) ≠ 0) ∧ (0 ≤ v2) ∧ v2 < 1500)))) ∧
        ((x3_1 = 3 → ((hv h 396 3) ≠ 0) ∧ (0 ≤ v1) ∧ (v1 < 1500) ∧ ((hv h 396 3) ≠ 0) ∧ (0 ≤ v2) ∧ v2 < 1500)) ∧
        (∀ x4_2 : Int, x4_2 = (if x3_1 = 3 then (if (hv h ((hv h 396 3) + 20) v1) = (hv h ((hv h 396 3) + 20) v2) then 1 else 0 : Int) else (if (lc (l_and (hv h 471 v1) (hv h 471 v2)) 0) = 0 then 0 else (if x3_1 = 2 then 1 else (if (hv h ((hv h 396 3) + 21) v1) = (hv h ((hv h 396 3) + 21) v2) then 1 else 0 : Int) : Int) : Int) : Int) →
        ((¬ x4_2 = 0 → ((hv h 396 3) ≠ 0) ∧ (0 ≤ v1) ∧ (v1 < 1500) ∧ ((hv h 396 3) ≠ 0) ∧ (0 ≤ v2) ∧ (v2 < 1500) ∧ (0 ≤ (w32 ((w32 (40 * (hv h ((hv h 396 3) + 24) v1))) + (hv h ((hv h 396 3) + 24) v2)))) ∧ (w32 ((w32 (40 * (hv h ((hv h 396 3) + 24) v1))) + (hv h ((hv h 396 3) + 24) v2))) < 1600)) ∧
        (((if x4_2 = 0 then 0 else (if (hv h 506 (w32 ((w32 (40 * (hv h ((hv h 396 3) + 24) v1))) + (hv h ((hv h 396 3) + 24) v2)))) = 0 then 0 else 1 : Int) : Int) = 0 ∨ (if x4_2 = 0 then 0 else (if (hv h 506 (w32 ((w32 (40 * (hv h ((hv h 396 3) + 24) v1))) + (hv h ((hv h 396 3) + 24) v2)))) = 0 then 0 else 1 : Int) : Int) = 1) ∧ Q (if x4_2 = 0 then 0 else (if (hv h 506 (w32 ((w32 (40 * (hv h ((hv h 396 3) + 24) v1))) + (hv h ((hv h 396 3) + 24) v2)))) = 0 then 0 else 1 : Int) : Int) h)))))))) : JW K 0 [(2009, 396), (0, v1), (0, v2), (5000, 0), (5000, 0)] [] h := by
  have e1 := ki.2.2.2.2.1
  have e2 := ki.2.2.2.2.2.1
  subst e1; subst e2
  exact run_ok (dia := [(103, 184), (188, 226)]) (cnr := [(14, 51, 53), (65, 99, 101)]) (cuts := []) ki.1 (pk_X9_isRace ki hG) ok_X9_isRace (by decide) 24 true _ _ _ _ H
abbrev k_X9_ring : List (Nat × List (Nat × Instr)) := [(40, [(0, .iconst 0), (1, .istore_n 1), (2, .iconst 0), (3, .istore_n 2), (4, .iload_n 2), (5, .bipush 8), (7, .if_icmp .ge 78), (10, .aload_n 0), (11, .iload_n 2), (12, .invokevirtual 674), (15, .istore_n 3), (16, .iconst 0), (17, .istore 4), (19, .iload 4), (21, .bipush 8), (23, .if_icmp .ge 48), (26, .iconst 0), (27, .istore 5), (29, .iload 5), (31, .bipush 8), (33, .if_icmp .ge 32), (36, .iload_n 3), (37, .iload_n 3), (38, .iload 5)]),
  (79, [(40, .ishr), (41, .iconst 1), (42, .iand), (43, .iconst 1), (44, .if_icmp .ne 12), (47, .aload_n 0), (48, .iload 5), (50, .invokevirtual 674), (53, .goto 4), (56, .iconst 0), (57, .ior), (58, .istore_n 3), (59, .iinc 5 1), (62, .goto (-33)), (65, .iinc 4 1), (68, .goto (-49)), (71, .iload_n 1), (72, .iload_n 3), (73, .iconst 1), (74, .iload_n 2), (75, .ishl), (76, .iand), (77, .ior), (78, .istore_n 1)]),
  (95, [(79, .iinc 2 1), (82, .goto (-78)), (85, .iload_n 1), (86, .ireturn)])]
theorem ok_X9_ring : CodeOK cX9_ring k_X9_ring := okw 0 (by decide +kernel) (okw 40 (by decide +kernel) (okw 79 (by decide +kernel) (okn)))
abbrev p_X9_ring (l : Launch) (G : JG) : JP := (true, [], [], [], [], [], [], [(674, 1, [0, 2009], 0, S_X9_before l G)], false, 0, [])
theorem pk_X9_ring {K : JC} {l : Launch} {G : JG} {Q : Int → MH → Prop} {E : Nat → Int → MH → Prop} {h0 : MH} (ki : KI K l G yX9_ring cX9_ring 6 (some .int) [] 5 173 0 Q E h0) (hG : gO G = true) : POK K RX9 (p_X9_ring l G) :=
  POKi (y := yX9_ring) ki hG fmz fmz fmz fmz fmz fmz
  (pkE ki (by
    intro K e1 e2 e3 e4; subst e1; subst e2
    exact fmE (ceV 9 e3 e4 yl_X9_before ⟨by decide, ⟨_, _, rfl⟩, q2850, qs166, q2848⟩ rfl) (fmz))) (fun z => Bool.noConfusion z) rfl (pkP ki (by
    intro K e1 e2 e3 e4; subst e1; subst e2
    exact fmz))
theorem r_X9_ring_0 {K : JC} {l : Launch} {G : JG} {Q : Int → MH → Prop} {E : Nat → Int → MH → Prop} {h0 : MH} (ki : KI K l G yX9_ring cX9_ring 6 (some .int) [] 5 173 0 Q E h0) (hG : gO G = true) {h : MH} (H :
    (∀ x1_1 : Int, x1_1 = 0 →
    (∀ x2_2 : Int, x2_2 = 0 →
    JW K 4 [(2009, 396), (0, x1_1), (0, x2_2), (5000, 0), (5000, 0), (5000, 0)] [] h))) : JW K 0 [(2009, 396), (5000, 0), (5000, 0), (5000, 0), (5000, 0), (5000, 0)] [] h := by
  have e1 := ki.2.2.2.2.1
  have e2 := ki.2.2.2.2.2.1
  subst e1; subst e2
  exact run_ok (dia := []) (cnr := []) (cuts := [(4, [2009, 0, 0, 5000, 5000, 5000], []), (19, [2009, 0, 0, 0, 0, 5000], []), (29, [2009, 0, 0, 0, 0, 0], [])]) ki.1 (pk_X9_ring ki hG) ok_X9_ring (by decide) 6 true _ _ _ _ H
theorem r_X9_ring_4 {K : JC} {l : Launch} {G : JG} {Q : Int → MH → Prop} {E : Nat → Int → MH → Prop} {h0 : MH} (ki : KI K l G yX9_ring cX9_ring 6 (some .int) [] 5 173 0 Q E h0) (hG : gO G = true) {v1 v2 : Int} {h : MH} (H :
    ((8 ≤ v2 →
      Q v1 h) ∧
    (v2 < 8 →
      S_X9_before l G [(2009, 396), (0, v2)] h (fun z1 h2 =>
      (∀ x3_3 : Int, x3_3 = z1 →
      (∀ x4_4 : Int, x4_4 = 0 →
      JW K 19 [(2009, 396), (0, v1), (0, v2), (0, x3_3), (0, x4_4), (5000, 0)] [] h2))) E))) : JW K 4 [(2009, 396), (0, v1), (0, v2), (5000, 0), (5000, 0), (5000, 0)] [] h := by
  have e1 := ki.2.2.2.2.1
  have e2 := ki.2.2.2.2.2.1
  subst e1; subst e2
  exact run_ok (dia := []) (cnr := []) (cuts := [(4, [2009, 0, 0, 5000, 5000, 5000], []), (19, [2009, 0, 0, 0, 0, 5000], []), (29, [2009, 0, 0, 0, 0, 0], [])]) ki.1 (pk_X9_ring ki hG) ok_X9_ring (by decide) 11 true _ _ _ _ H
theorem r_X9_ring_19 {K : JC} {l : Launch} {G : JG} {Q : Int → MH → Prop} {E : Nat → Int → MH → Prop} {h0 : MH} (ki : KI K l G yX9_ring cX9_ring 6 (some .int) [] 5 173 0 Q E h0) (hG : gO G = true) {v1 v2 v3 v4 : Int} {h : MH} (H :
    ((8 ≤ v4 →
      (∀ x1_1 : Int, x1_1 = (i_or v1 (i_and v3 (i_shl 1 v2))) →
      (∀ x2_2 : Int, x2_2 = w32 (v2 + 1) →
      JW K 4 [(2009, 396), (0, x1_1), (0, x2_2), (5000, 0), (5000, 0), (5000, 0)] [] h))) ∧
    (v4 < 8 →
      (∀ x5_3 : Int, x5_3 = 0 →
      JW K 29 [(2009, 396), (0, v1), (0, v2), (0, v3), (0, v4), (0, x5_3)] [] h)))) : JW K 19 [(2009, 396), (0, v1), (0, v2), (0, v3), (0, v4), (5000, 0)] [] h := by
  have e1 := ki.2.2.2.2.1
  have e2 := ki.2.2.2.2.2.1
  subst e1; subst e2
  exact run_ok (dia := []) (cnr := []) (cuts := [(4, [2009, 0, 0, 5000, 5000, 5000], []), (19, [2009, 0, 0, 0, 0, 5000], []), (29, [2009, 0, 0, 0, 0, 0], [])]) ki.1 (pk_X9_ring ki hG) ok_X9_ring (by decide) 15 true _ _ _ _ H
theorem r_X9_ring_29 {K : JC} {l : Launch} {G : JG} {Q : Int → MH → Prop} {E : Nat → Int → MH → Prop} {h0 : MH} (ki : KI K l G yX9_ring cX9_ring 6 (some .int) [] 5 173 0 Q E h0) (hG : gO G = true) {v1 v2 v3 v4 v5 : Int} {h : MH} (H :
    ((8 ≤ v5 →
      (∀ x4_1 : Int, x4_1 = w32 (v4 + 1) →
      JW K 19 [(2009, 396), (0, v1), (0, v2), (0, v3), (0, x4_1), (5000, 0)] [] h)) ∧
    (v5 < 8 →
      ((¬ (i_and (i_shr v3 v5) 1) = 1 →
        (∀ x3_2 : Int, x3_2 = (i_or v3 0) →
        (∀ x5_3 : Int, x5_3 = w32 (v5 + 1) →
        JW K 29 [(2009, 396), (0, v1), (0, v2), (0, x3_2), (0, v4), (0, x5_3)] [] h))) ∧
      ((i_and (i_shr v3 v5) 1) = 1 →
        S_X9_before l G [(2009, 396), (0, v5)] h (fun z4 h5 =>
        (∀ x3_6 : Int, x3_6 = (i_or v3 z4) →
        (∀ x5_7 : Int, x5_7 = w32 (v5 + 1) →
        JW K 29 [(2009, 396), (0, v1), (0, v2), (0, x3_6), (0, v4), (0, x5_7)] [] h5))) E))))) : JW K 29 [(2009, 396), (0, v1), (0, v2), (0, v3), (0, v4), (0, v5)] [] h := by
  have e1 := ki.2.2.2.2.1
  have e2 := ki.2.2.2.2.2.1
  subst e1; subst e2
  exact run_ok (dia := []) (cnr := []) (cuts := [(4, [2009, 0, 0, 5000, 5000, 5000], []), (19, [2009, 0, 0, 0, 0, 5000], []), (29, [2009, 0, 0, 0, 0, 0], [])]) ki.1 (pk_X9_ring ki hG) ok_X9_ring (by decide) 21 true _ _ _ _ H
abbrev k_X9_before : List (Nat × List (Nat × Instr)) := [(43, [(0, .iconst 0), (1, .istore_n 2), (2, .iconst 0), (3, .istore_n 3), (4, .iload_n 3), (5, .aload_n 0), (6, .getfield 373), (9, .getfield 309), (12, .if_icmp .ge 58), (15, .iload_n 2), (16, .aload_n 0), (17, .getfield 37), (20, .iload_n 3), (21, .baload), (22, .ifCond .eq 39), (25, .aload_n 0), (26, .getfield 373), (29, .getfield 339), (32, .iload_n 3), (33, .iaload), (34, .bipush 34), (36, .if_icmp .ne 25), (39, .aload_n 0), (40, .getfield 373)]),
  (86, [(43, .getfield 342), (46, .iload_n 3), (47, .iaload), (48, .iload_n 1), (49, .if_icmp .ne 12), (52, .aload_n 0), (53, .getfield 56), (56, .iload_n 3), (57, .iaload), (58, .goto 4), (61, .iconst 0), (62, .ior), (63, .istore_n 2), (64, .iinc 3 1), (67, .goto (-63)), (70, .iload_n 2), (71, .iconst 1), (72, .iload_n 1), (73, .ishl), (74, .iconst (-1)), (75, .ixor), (76, .iand), (77, .ireturn)])]
theorem ok_X9_before : CodeOK cX9_before k_X9_before := okw 0 (by decide +kernel) (okw 43 (by decide +kernel) (okn))
abbrev p_X9_before (l : Launch) (G : JG) : JP := (true, [(37, 9, 18, 2500102, 64), (56, 9, 24, 2500100, 70), (309, 10, 21, 0, 0), (339, 10, 22, 2500100, 19), (342, 10, 23, 2500100, 20), (373, 9, 3, 14, 0)], [], [], [], [], [], [], false, 0, [])
theorem pk_X9_before {K : JC} {l : Launch} {G : JG} {Q : Int → MH → Prop} {E : Nat → Int → MH → Prop} {h0 : MH} (ki : KI K l G yX9_before cX9_before 4 (some .int) [] 4 150 0 Q E h0) (hG : gO G = true) : POK K RX9 (p_X9_before l G) :=
  POKi (y := yX9_before) ki hG (rfs rf_X9_ok (by decide +kernel)) fmz fmz fmz fmz fmz
  (pkE ki (by
    intro K e1 e2 e3 e4; subst e1; subst e2
    exact fmz)) (fun z => Bool.noConfusion z) rfl (pkP ki (by
    intro K e1 e2 e3 e4; subst e1; subst e2
    exact fmz))
theorem r_X9_before_0 {K : JC} {l : Launch} {G : JG} {Q : Int → MH → Prop} {E : Nat → Int → MH → Prop} {h0 : MH} (ki : KI K l G yX9_before cX9_before 4 (some .int) [] 4 150 0 Q E h0) (hG : gO G = true) {v1 : Int} {h : MH} (H :
    (∀ x2_1 : Int, x2_1 = 0 →
    (∀ x3_2 : Int, x3_2 = 0 →
    JW K 4 [(2009, 396), (0, v1), (0, x2_1), (0, x3_2)] [] h))) : JW K 0 [(2009, 396), (0, v1), (5000, 0), (5000, 0)] [] h := by
  have e1 := ki.2.2.2.2.1
  have e2 := ki.2.2.2.2.2.1
  subst e1; subst e2
  exact run_ok (dia := [(22, 62)]) (cnr := []) (cuts := [(4, [2009, 0, 0, 0], [])]) ki.1 (pk_X9_before ki hG) ok_X9_before (by decide) 6 true _ _ _ _ H
theorem r_X9_before_4 {K : JC} {l : Launch} {G : JG} {Q : Int → MH → Prop} {E : Nat → Int → MH → Prop} {h0 : MH} (ki : KI K l G yX9_before cX9_before 4 (some .int) [] 4 150 0 Q E h0) (hG : gO G = true) {v1 v2 v3 : Int} {h : MH} (H :
    ((hv h 396 3) ≠ 0) ∧
    (((hv h (hv h 396 3) 21) ≤ v3 →
      Q (i_and v2 (i_xor (i_shl 1 v1) (-1))) h) ∧
    (v3 < (hv h (hv h 396 3) 21) →
      (0 ≤ v3) ∧
      (v3 < 1500) ∧
      ((¬ (hv h 460 v3) = 0 → ((hv h 396 3) ≠ 0) ∧ (0 ≤ v3) ∧ (v3 < 1500) ∧ ((hv h ((hv h 396 3) + 19) v3) = 34 → ((hv h 396 3) ≠ 0) ∧ (0 ≤ v3) ∧ (v3 < 1500) ∧ ((hv h ((hv h 396 3) + 20) v3) = v1 → (0 ≤ v3) ∧ v3 < 1500)))) ∧
      (∀ x2_1 : Int, x2_1 = (i_or v2 (if (hv h 460 v3) = 0 then 0 else (if (hv h ((hv h 396 3) + 19) v3) = 34 then (if (hv h ((hv h 396 3) + 20) v3) = v1 then (hv h 466 v3) else 0 : Int) else 0 : Int) : Int)) →
      (∀ x3_2 : Int, x3_2 = w32 (v3 + 1) →
      JW K 4 [(2009, 396), (0, v1), (0, x2_1), (0, x3_2)] [] h))))) : JW K 4 [(2009, 396), (0, v1), (0, v2), (0, v3)] [] h := by
  have e1 := ki.2.2.2.2.1
  have e2 := ki.2.2.2.2.2.1
  subst e1; subst e2
  exact run_ok (dia := [(22, 62)]) (cnr := []) (cuts := [(4, [2009, 0, 0, 0], [])]) ki.1 (pk_X9_before ki hG) ok_X9_before (by decide) 17 true _ _ _ _ H
abbrev k_X9_race : List (Nat × List (Nat × Instr)) := [(46, [(0, .aload_n 0), (1, .aload_n 0), (2, .getfield 373), (5, .ifnonnull 7), (8, .iconst 1), (9, .goto 4), (12, .iconst 0), (13, .putfield 225), (16, .aload_n 0), (17, .getfield 225), (20, .ifCond .le 5), (23, .iconst 0), (24, .ireturn), (25, .aload_n 0), (26, .invokevirtual 682), (29, .aload_n 0), (30, .iload_n 1), (31, .ifCond .lt 24), (34, .iload_n 2), (35, .i2l), (36, .lconst 0), (37, .ldc2_w 696), (40, .invokestatic 231), (43, .ifCond .eq 12)]),
  (90, [(46, .aload_n 0), (47, .iload_n 1), (48, .invokevirtual 706), (51, .iload_n 1), (52, .if_icmp .gt 7), (55, .iconst 2), (56, .goto 4), (59, .iconst 0), (60, .putfield 225), (63, .aload_n 0), (64, .getfield 225), (67, .ifCond .le 5), (70, .iconst 0), (71, .ireturn), (72, .iload_n 2), (73, .iconst 2), (74, .if_icmp .ge 10), (77, .aload_n 0), (78, .getfield 668), (81, .goto 7), (84, .aload_n 0), (85, .getfield 671), (88, .istore_n 3), (89, .aload_n 0)]),
  (132, [(90, .getfield 373), (93, .getfield 354), (96, .iload_n 3), (97, .iaload), (98, .istore 4), (100, .iload_n 2), (101, .iconst 2), (102, .irem), (103, .ifCond .ne 8), (106, .iload 4), (108, .goto 15), (111, .iload_n 3), (112, .aload_n 0), (113, .getfield 373), (116, .getfield 312), (119, .iload 4), (121, .iaload), (122, .isub), (123, .ireturn)])]
theorem ok_X9_race : CodeOK cX9_race k_X9_race := okw 0 (by decide +kernel) (okw 46 (by decide +kernel) (okw 90 (by decide +kernel) (okn)))
abbrev p_X9_race (l : Launch) (G : JG) : JP := (true, [(225, 9, 0, 0, 0), (312, 10, 17, 1040100, 15), (354, 10, 27, 2500100, 24), (373, 9, 3, 14, 0), (668, 9, 78, 0, 0), (671, 9, 79, 0, 0)], [], [(696, 3)], [(225, 9, 0, 0)], [], [], [(682, 1, [2009], 700, S_X9_findFacts l G), (706, 1, [0, 2009], 0, S_X9_findRace l G)], false, 0, [(231, e_X9_in)])
theorem pk_X9_race {K : JC} {l : Launch} {G : JG} {Q : Int → MH → Prop} {E : Nat → Int → MH → Prop} {h0 : MH} (ki : KI K l G yX9_race cX9_race 5 (some .int) [] 12 390 0 Q E h0) (hG : gO G = true) : POK K RX9 (p_X9_race l G) :=
  POKi (y := yX9_race) ki hG (rfs rf_X9_ok (by decide +kernel)) fmz (subs (by decide +kernel) rl_X9_ok) (rps rp_X9_ok (by decide +kernel)) fmz fmz
  (pkE ki (by
    intro K e1 e2 e3 e4; subst e1; subst e2
    exact fmE (ceV 9 e3 e4 yl_X9_findFacts ⟨by decide, ⟨_, _, rfl⟩, q2592, qs121, q2590⟩ rfl) (fmE (ceV 9 e3 e4 yl_X9_findRace ⟨by decide, ⟨_, _, rfl⟩, q2832, qs163, q2830⟩ rfl) (fmz)))) (fun z => Bool.noConfusion z) rfl (pkP ki (by
    intro K e1 e2 e3 e4; subst e1; subst e2
    exact fmP (pe_X9_in hG e3 e4 ⟨q2454, Or.inl q2453⟩ rfl rfl) (fmz)))
theorem r_X9_race_0 {K : JC} {l : Launch} {G : JG} {Q : Int → MH → Prop} {E : Nat → Int → MH → Prop} {h0 : MH} (ki : KI K l G yX9_race cX9_race 5 (some .int) [] 12 390 0 Q E h0) (hG : gO G = true) {v1 v2 : Int} {h : MH} (H :
    (∀ h1, h1 = hset h 396 0 (if (hv h 396 3) = 0 then 1 else 0 : Int) →
    (((hv h1 396 0) ≤ 0 →
      S_X9_findFacts l G [(2009, 396)] h1 (fun _ h3 =>
      (((0 ≤ v1 ∧ ¬ (isin v2 0 3) = 0) →
        S_X9_findRace l G [(2009, 396), (0, v1)] h3 (fun z4 h5 =>
        (∀ h6, h6 = hset h5 396 0 (if v1 < z4 then 0 else 2 : Int) →
        (((hv h6 396 0) ≤ 0 →
          (∀ x3_7 : Int, x3_7 = (if v2 < 2 then (hv h6 396 78) else (hv h6 396 79) : Int) →
          ((hv h6 396 3) ≠ 0) ∧
          (0 ≤ x3_7) ∧
          (x3_7 < 1500) ∧
          (∀ x4_8 : Int, x4_8 = (hv h6 ((hv h6 396 3) + 24) x3_7) →
          (¬ (2 : Int) = 0) ∧
          ((¬ (i_rem v2 2) = 0 → ((hv h6 396 3) ≠ 0) ∧ (0 ≤ x4_8) ∧ x4_8 < 40)) ∧
          Q (if (i_rem v2 2) = 0 then x4_8 else (w32 (x3_7 - (hv h6 ((hv h6 396 3) + 15) x4_8))) : Int) h6))) ∧
        (0 < (hv h6 396 0) →
          Q 0 h6)))) E) ∧
      (¬ (0 ≤ v1 ∧ ¬ (isin v2 0 3) = 0) →
        (∀ h9, h9 = hset h3 396 0 2 →
        (((hv h9 396 0) ≤ 0 →
          (∀ x3_10 : Int, x3_10 = (if v2 < 2 then (hv h9 396 78) else (hv h9 396 79) : Int) →
          ((hv h9 396 3) ≠ 0) ∧
          (0 ≤ x3_10) ∧
          (x3_10 < 1500) ∧
          (∀ x4_11 : Int, x4_11 = (hv h9 ((hv h9 396 3) + 24) x3_10) →
          (¬ (2 : Int) = 0) ∧
          ((¬ (i_rem v2 2) = 0 → ((hv h9 396 3) ≠ 0) ∧ (0 ≤ x4_11) ∧ x4_11 < 40)) ∧
          Q (if (i_rem v2 2) = 0 then x4_11 else (w32 (x3_10 - (hv h9 ((hv h9 396 3) + 15) x4_11))) : Int) h9))) ∧
        (0 < (hv h9 396 0) →
          Q 0 h9)))))) E) ∧
    (0 < (hv h1 396 0) →
      Q 0 h1)))) : JW K 0 [(2009, 396), (0, v1), (0, v2), (5000, 0), (5000, 0)] [] h := by
  have e1 := ki.2.2.2.2.1
  have e2 := ki.2.2.2.2.2.1
  subst e1; subst e2
  exact run_ok (dia := [(5, 13), (52, 60), (74, 88), (103, 123)]) (cnr := [(31, 46, 55)]) (cuts := []) ki.1 (pk_X9_race ki hG) ok_X9_race (by decide) 38 true _ _ _ _ H
