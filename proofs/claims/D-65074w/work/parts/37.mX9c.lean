/-! by gen/mkall.py -/
set_option maxRecDepth 100000
abbrev k_X9_runs : List (Nat × List (Nat × Instr)) := [(40, [(0, .aload_n 0), (1, .aload_n 0), (2, .getfield 373), (5, .ifnonnull 7), (8, .iconst 1), (9, .goto 4), (12, .iconst 0), (13, .putfield 225), (16, .aload_n 0), (17, .getfield 225), (20, .ifCond .le 5), (23, .lconst 0), (24, .lreturn), (25, .aload_n 0), (26, .invokevirtual 682), (29, .aload_n 0), (30, .iload_n 1), (31, .i2l), (32, .lconst 0), (33, .aload_n 0), (34, .getfield 656), (37, .iconst 1), (38, .isub), (39, .i2l)]),
  (80, [(40, .invokestatic 231), (43, .ifCond .eq 7), (46, .iconst 0), (47, .goto 4), (50, .iconst 2), (51, .putfield 225), (54, .aload_n 0), (55, .getfield 225), (58, .ifCond .le 7), (61, .lconst 0), (62, .goto 9), (65, .aload_n 0), (66, .getfield 173), (69, .iload_n 1), (70, .laload), (71, .lreturn)])]
theorem ok_X9_runs : CodeOK cX9_runs k_X9_runs := okw 0 (by decide +kernel) (okw 40 (by decide +kernel) (okn))
abbrev p_X9_runs (l : Launch) (G : JG) : JP := (true, [(173, 9, 76, 2501101, 109), (225, 9, 0, 0, 0), (373, 9, 3, 14, 0), (656, 9, 74, 0, 0)], [], [], [(225, 9, 0, 0)], [], [], [(682, 1, [2009], 700, S_X9_findFacts l G)], false, 1, [(231, e_X9_in)])
theorem pk_X9_runs {K : JC} {l : Launch} {G : JG} {Q : Int → MH → Prop} {E : Nat → Int → MH → Prop} {h0 : MH} (ki : KI K l G yX9_runs cX9_runs 2 (some .long) [] 12 390 1 Q E h0) (hG : gO G = true) : POK K RX9 (p_X9_runs l G) :=
  POKi (y := yX9_runs) ki hG (rfs rf_X9_ok (by decide +kernel)) fmz fmz (rps rp_X9_ok (by decide +kernel)) fmz fmz
  (pkE ki (by
    intro K e1 e2 e3 e4; subst e1; subst e2
    exact fmE (ceV 9 e3 e4 yl_X9_findFacts ⟨by decide, ⟨_, _, rfl⟩, q2592, qs121, q2590⟩ rfl) (fmz))) (fun z => Bool.noConfusion z) rfl (pkP ki (by
    intro K e1 e2 e3 e4; subst e1; subst e2
    exact fmP (pe_X9_in hG e3 e4 ⟨q2454, Or.inl q2453⟩ rfl rfl) (fmz)))
theorem r_X9_runs_0 {K : JC} {l : Launch} {G : JG} {Q : Int → MH → Prop} {E : Nat → Int → MH → Prop} {h0 : MH} (ki : KI K l G yX9_runs cX9_runs 2 (some .long) [] 12 390 1 Q E h0) (hG : gO G = true) {v1 : Int} {h : MH} (H :
    (∀ h1, h1 = hset h 396 0 (if (hv h 396 3) = 0 then 1 else 0 : Int) →
    (((hv h1 396 0) ≤ 0 →
      S_X9_findFacts l G [(2009, 396)] h1 (fun _ h3 =>
      (∀ h4, h4 = hset h3 396 0 (if (isin v1 0 (w32 ((hv h3 396 74) - 1))) = 0 then 2 else 0 : Int) →
      (((hv h4 396 0) ≤ 0 → (0 ≤ v1) ∧ v1 < 1501)) ∧
      Q (if 0 < (hv h4 396 0) then 0 else (hv h4 505 v1) : Int) h4)) E) ∧
    (0 < (hv h1 396 0) →
      Q 0 h1)))) : JW K 0 [(2009, 396), (0, v1)] [] h := by
  have e1 := ki.2.2.2.2.1
  have e2 := ki.2.2.2.2.2.1
  subst e1; subst e2
  exact run_ok (dia := [(5, 13), (43, 51), (58, 71)]) (cnr := []) (cuts := []) ki.1 (pk_X9_runs ki hG) ok_X9_runs (by decide) 27 true _ _ _ _ H
abbrev k_X9_input : List (Nat × List (Nat × Instr)) := [(44, [(0, .aload_n 0), (1, .aload_n 0), (2, .getfield 387), (5, .sipush 200), (8, .if_icmp .ne 7), (11, .iconst 1), (12, .goto 4), (15, .iconst 0), (16, .putfield 225), (19, .aload_n 0), (20, .getfield 225), (23, .ifCond .le 5), (26, .iconst 0), (27, .ireturn), (28, .aload_n 0), (29, .getfield 179), (32, .aload_n 0), (33, .getfield 387), (36, .iload_n 1), (37, .iastore), (38, .aload_n 0), (39, .dup), (40, .getfield 387), (43, .iconst 1)]),
  (61, [(44, .iadd), (45, .putfield 387), (48, .aload_n 0), (49, .getfield 387), (52, .ireturn)])]
theorem ok_X9_input : CodeOK cX9_input k_X9_input := okw 0 (by decide +kernel) (okw 44 (by decide +kernel) (okn))
abbrev p_X9_input (l : Launch) (G : JG) : JP := (true, [(179, 9, 81, 1200100, 111), (225, 9, 0, 0, 0), (387, 9, 80, 0, 0)], [], [], [(225, 9, 0, 0), (387, 9, 80, 0)], [], [], [], false, 0, [])
theorem pk_X9_input {K : JC} {l : Launch} {G : JG} {Q : Int → MH → Prop} {E : Nat → Int → MH → Prop} {h0 : MH} (ki : KI K l G yX9_input cX9_input 2 (some .int) [] 4 150 0 Q E h0) (hG : gO G = true) : POK K RX9 (p_X9_input l G) :=
  POKi (y := yX9_input) ki hG (rfs rf_X9_ok (by decide +kernel)) fmz fmz (rps rp_X9_ok (by decide +kernel)) fmz fmz
  (pkE ki (by
    intro K e1 e2 e3 e4; subst e1; subst e2
    exact fmz)) (fun z => Bool.noConfusion z) rfl (pkP ki (by
    intro K e1 e2 e3 e4; subst e1; subst e2
    exact fmz))
theorem r_X9_input_0 {K : JC} {l : Launch} {G : JG} {Q : Int → MH → Prop} {E : Nat → Int → MH → Prop} {h0 : MH} (ki : KI K l G yX9_input cX9_input 2 (some .int) [] 4 150 0 Q E h0) (hG : gO G = true) {v1 : Int} {h : MH} (H :
    (∀ h1, h1 = hset h 396 0 (if (hv h 396 80) = 200 then 1 else 0 : Int) →
    (((hv h1 396 0) ≤ 0 →
      (0 ≤ (hv h1 396 80)) ∧
      ((hv h1 396 80) < 200) ∧
      (∀ h2, h2 = hset h1 507 (hv h1 396 80) v1 →
      (∀ h3, h3 = hset h2 396 80 (w32 ((hv h2 396 80) + 1)) →
      Q (hv h3 396 80) h3))) ∧
    (0 < (hv h1 396 0) →
      Q 0 h1)))) : JW K 0 [(2009, 396), (0, v1)] [] h := by
  have e1 := ki.2.2.2.2.1
  have e2 := ki.2.2.2.2.2.1
  subst e1; subst e2
  exact run_ok (dia := [(8, 16)]) (cnr := []) (cuts := []) ki.1 (pk_X9_input ki hG) ok_X9_input (by decide) 25 true _ _ _ _ H
abbrev k_X9_walk : List (Nat × List (Nat × Instr)) := [(44, [(0, .aload_n 0), (1, .aload_n 0), (2, .getfield 373), (5, .ifnonnull 7), (8, .iconst 1), (9, .goto 68), (12, .iload_n 1), (13, .i2l), (14, .lconst 0), (15, .aload_n 0), (16, .getfield 373), (19, .getfield 333), (22, .iconst 1), (23, .isub), (24, .i2l), (25, .invokestatic 231), (28, .ifCond .ne 7), (31, .iconst 2), (32, .goto 45), (35, .iload_n 2), (36, .i2l), (37, .lconst 1), (38, .ldc2_w 801), (41, .invokestatic 231)]),
  (90, [(44, .ifCond .eq 15), (47, .iload_n 3), (48, .i2l), (49, .lconst 1), (50, .ldc2_w 803), (53, .invokestatic 231), (56, .ifCond .ne 7), (59, .iconst 3), (60, .goto 17), (63, .aload_n 0), (64, .getfield 27), (67, .iload_n 1), (68, .baload), (69, .ifCond .ne 7), (72, .iconst 4), (73, .goto 4), (76, .iconst 0), (77, .putfield 225), (80, .aload_n 0), (81, .getfield 225), (84, .iconst 4), (85, .if_icmp .ne 8), (88, .aload_n 0), (89, .iconst 1)]),
  (135, [(90, .putfield 225), (93, .aload_n 0), (94, .getfield 225), (97, .ifCond .le 5), (100, .iconst 0), (101, .ireturn), (102, .aload_n 0), (103, .invokevirtual 393), (106, .aload_n 0), (107, .iconst 0), (108, .putfield 742), (111, .iconst 0), (112, .istore 4), (114, .iload 4), (116, .bipush 8), (118, .if_icmp .ge 25), (121, .aload_n 0), (122, .getfield 200), (125, .iload 4), (127, .iconst (-1)), (128, .iastore), (129, .aload_n 0), (130, .getfield 222), (133, .iload 4)]),
  (173, [(135, .iconst 0), (136, .iastore), (137, .iinc 4 1), (140, .goto (-26)), (143, .aload_n 0), (144, .iconst 1), (145, .putfield 712), (148, .aload_n 0), (149, .getfield 182), (152, .iconst 0), (153, .iconst 0), (154, .bastore), (155, .aload_n 0), (156, .getfield 185), (159, .iconst 0), (160, .iconst 0), (161, .iastore), (162, .aload_n 0), (163, .iconst 0), (164, .iload_n 1), (165, .invokevirtual 795), (168, .istore 4), (170, .iconst 0), (171, .istore 5)]),
  (217, [(173, .iload 5), (175, .aload_n 0), (176, .getfield 373), (179, .getfield 275), (182, .iload_n 1), (183, .iaload), (184, .if_icmp .ge 48), (187, .aload_n 0), (188, .getfield 197), (191, .bipush 16), (193, .iload 4), (195, .imul), (196, .iload 5), (198, .iadd), (199, .aload_n 0), (200, .getfield 373), (203, .getfield 281), (206, .bipush 8), (208, .iload_n 1), (209, .imul), (210, .iload 5), (212, .iadd), (213, .iaload), (214, .ifCond .ne 10)]),
  (263, [(217, .aload_n 0), (218, .invokevirtual 769), (221, .goto 4), (224, .iconst 0), (225, .iastore), (226, .iinc 5 1), (229, .goto (-56)), (232, .iconst (-1)), (233, .istore 5), (235, .iconst 0), (236, .istore 6), (238, .iload 5), (240, .iconst (-1)), (241, .if_icmp .ne 137), (244, .iconst 0), (245, .istore 7), (247, .iload 7), (249, .iload_n 2), (250, .if_icmp .ge 76), (253, .iload 5), (255, .iconst (-1)), (256, .if_icmp .ne 70), (259, .aload_n 0), (260, .getfield 182)]),
  (311, [(263, .iload 6), (265, .baload), (266, .ifCond .ne 60), (269, .aload_n 0), (270, .iload 6), (272, .invokevirtual 798), (275, .ifCond .ne 51), (278, .aload_n 0), (279, .getfield 718), (282, .iload_n 3), (283, .if_icmp .ne 7), (286, .iconst 1), (287, .goto 17), (290, .aload_n 0), (291, .iload 6), (293, .invokevirtual 805), (296, .ifCond .eq 7), (299, .iconst (-1)), (300, .goto 4), (303, .iconst 3), (304, .istore 5), (306, .aload_n 0), (307, .invokevirtual 808), (310, .aload_n 0)]),
  (359, [(311, .getfield 712), (314, .if_icmp .ne 6), (317, .iconst 0), (318, .istore 5), (320, .iinc 7 1), (323, .goto (-76)), (326, .iload 5), (328, .iconst (-1)), (329, .if_icmp .ne 25), (332, .aload_n 0), (333, .invokevirtual 811), (336, .ifCond .eq 18), (339, .aload_n 0), (340, .getfield 718), (343, .iload_n 3), (344, .if_icmp .ne 7), (347, .iconst 1), (348, .goto 4), (351, .iconst 2), (352, .istore 5), (354, .iload 6), (356, .iconst 1), (357, .iadd), (358, .aload_n 0)]),
  (394, [(359, .getfield 712), (362, .if_icmp .ge 10), (365, .iload 6), (367, .iconst 1), (368, .iadd), (369, .goto 4), (372, .iconst 0), (373, .istore 6), (375, .goto (-137)), (378, .aload_n 0), (379, .iconst 0), (380, .putfield 387), (383, .iload 5), (385, .ireturn)])]
theorem ok_X9_walk : CodeOK cX9_walk k_X9_walk := okw 0 (by decide +kernel) (okw 44 (by decide +kernel) (okw 90 (by decide +kernel) (okw 135 (by decide +kernel) (okw 173 (by decide +kernel) (okw 217 (by decide +kernel) (okw 263 (by decide +kernel) (okw 311 (by decide +kernel) (okw 359 (by decide +kernel) (okn)))))))))
abbrev p_X9_walk (l : Launch) (G : JG) : JP := (true, [(27, 9, 7, 1040102, 61), (182, 9, 84, 1008102, 112), (185, 9, 85, 1008100, 113), (197, 9, 89, 4840100, 117), (200, 9, 90, 1008100, 118), (222, 9, 105, 1008100, 125), (225, 9, 0, 0, 0), (275, 10, 9, 1040100, 7), (281, 10, 12, 1320100, 10), (333, 10, 6, 0, 0), (373, 9, 3, 14, 0), (712, 9, 83, 0, 0), (718, 9, 95, 0, 0)], [], [(801, 50), (803, 5000)], [(225, 9, 0, 0), (387, 9, 80, 0), (712, 9, 83, 0), (742, 9, 103, 2)], [], [], [(393, 1, [2009], 700, S_X9_forgetWalks l G), (769, 1, [2009], 0, S_X9_nextInput l G), (795, 1, [0, 0, 2009], 0, S_X9_open l G), (798, 1, [0, 2009], 2, S_X9_isWaiting l G), (805, 1, [0, 2009], 2, S_X9_act l G), (808, 1, [2009], 0, S_X9_endedThreads l G), (811, 1, [2009], 2, S_X9_isStuck l G)], false, 0, [(231, e_X9_in)])
theorem pk_X9_walk {K : JC} {l : Launch} {G : JG} {Q : Int → MH → Prop} {E : Nat → Int → MH → Prop} {h0 : MH} (ki : KI K l G yX9_walk cX9_walk 8 (some .int) [] 13 411 0 Q E h0) (hG : gO G = true) : POK K RX9 (p_X9_walk l G) :=
  POKi (y := yX9_walk) ki hG (rfs rf_X9_ok (by decide +kernel)) fmz (subs (by decide +kernel) rl_X9_ok) (rps rp_X9_ok (by decide +kernel)) fmz fmz
  (pkE ki (by
    intro K e1 e2 e3 e4; subst e1; subst e2
    exact fmE (ceV 9 e3 e4 yl_X9_forgetWalks ⟨by decide, ⟨_, _, rfl⟩, q2552, qs116, q2550⟩ rfl) (fmE (ceV 9 e3 e4 yl_X9_nextInput ⟨by decide, ⟨_, _, rfl⟩, q2880, qs169, q2878⟩ rfl) (fmE (ceV 9 e3 e4 yl_X9_open ⟨by decide, ⟨_, _, rfl⟩, q2872, qs167, q2870⟩ rfl) (fmE (ceV 9 e3 e4 yl_X9_isWaiting ⟨by decide, ⟨_, _, rfl⟩, q2884, qs170, q2882⟩ rfl) (fmE (ceV 9 e3 e4 yl_X9_act ⟨by decide, ⟨_, _, rfl⟩, q2888, qs171, q2886⟩ rfl) (fmE (ceV 9 e3 e4 yl_X9_endedThreads ⟨by decide, ⟨_, _, rfl⟩, q2953, qs187, q2951⟩ rfl) (fmE (ceV 9 e3 e4 yl_X9_isStuck ⟨by decide, ⟨_, _, rfl⟩, q2957, qs188, q2955⟩ rfl) (fmz))))))))) (fun z => Bool.noConfusion z) rfl (pkP ki (by
    intro K e1 e2 e3 e4; subst e1; subst e2
    exact fmP (pe_X9_in hG e3 e4 ⟨q2454, Or.inl q2453⟩ rfl rfl) (fmz)))
theorem r_X9_walk_0 {K : JC} {l : Launch} {G : JG} {Q : Int → MH → Prop} {E : Nat → Int → MH → Prop} {h0 : MH} (ki : KI K l G yX9_walk cX9_walk 8 (some .int) [] 13 411 0 Q E h0) (hG : gO G = true) {v1 v2 v3 : Int} {h : MH} (H :
    ((¬ (hv h 396 3) = 0 → ((hv h 396 3) ≠ 0) ∧ (¬ (isin v1 0 (w32 ((hv h (hv h 396 3) 6) - 1))) = 0 → (¬ (isin v2 1 50) = 0 → (¬ (isin v3 1 5000) = 0 → (0 ≤ v1) ∧ v1 < 40))))) ∧
    (∀ h1, h1 = hset h 396 0 (if (hv h 396 3) = 0 then 1 else (if (isin v1 0 (w32 ((hv h (hv h 396 3) 6) - 1))) = 0 then 2 else (if (isin v2 1 50) = 0 then 3 else (if (isin v3 1 5000) = 0 then 3 else (if (hv h 457 v1) = 0 then 4 else 0 : Int) : Int) : Int) : Int) : Int) →
    ((¬ (hv h1 396 0) = 4 →
      (((hv h1 396 0) ≤ 0 →
        S_X9_forgetWalks l G [(2009, 396)] h1 (fun _ h3 =>
        ((0 : Int) = 0 ∨ (0 : Int) = 1) ∧
        (∀ h4, h4 = hset h3 396 103 0 →
        (∀ x4_5 : Int, x4_5 = 0 →
        JW K 114 [(2009, 396), (0, v1), (0, v2), (0, v3), (0, x4_5), (5000, 0), (5000, 0), (5000, 0)] [] h4))) E) ∧
      (0 < (hv h1 396 0) →
        Q 0 h1))) ∧
    ((hv h1 396 0) = 4 →
      (∀ h6, h6 = hset h1 396 0 1 →
      (((hv h6 396 0) ≤ 0 →
        S_X9_forgetWalks l G [(2009, 396)] h6 (fun _ h8 =>
        ((0 : Int) = 0 ∨ (0 : Int) = 1) ∧
        (∀ h9, h9 = hset h8 396 103 0 →
        (∀ x4_10 : Int, x4_10 = 0 →
        JW K 114 [(2009, 396), (0, v1), (0, v2), (0, v3), (0, x4_10), (5000, 0), (5000, 0), (5000, 0)] [] h9))) E) ∧
      (0 < (hv h6 396 0) →
        Q 0 h6))))))) : JW K 0 [(2009, 396), (0, v1), (0, v2), (0, v3), (5000, 0), (5000, 0), (5000, 0), (5000, 0)] [] h := by
  have e1 := ki.2.2.2.2.1
  have e2 := ki.2.2.2.2.2.1
  subst e1; subst e2
  exact run_ok (dia := [(5, 77), (296, 304), (344, 352), (362, 373)]) (cnr := [(250, 269, 326)]) (cuts := [(114, [2009, 0, 0, 0, 0, 5000, 5000, 5000], []), (173, [2009, 0, 0, 0, 0, 0, 5000, 5000], []), (238, [2009, 0, 0, 0, 0, 0, 0, 5000], []), (247, [2009, 0, 0, 0, 0, 0, 0, 0], [])]) ki.1 (pk_X9_walk ki hG) ok_X9_walk (by decide) 24 true _ _ _ _ H
theorem r_X9_walk_114 {K : JC} {l : Launch} {G : JG} {Q : Int → MH → Prop} {E : Nat → Int → MH → Prop} {h0 : MH} (ki : KI K l G yX9_walk cX9_walk 8 (some .int) [] 13 411 0 Q E h0) (hG : gO G = true) {v1 v2 v3 v4 : Int} {h : MH} (H :
    ((8 ≤ v4 →
      (∀ h1, h1 = hset h 396 83 1 →
      (0 ≤ (0 : Int)) ∧
      ((0 : Int) < 8) ∧
      ((0 : Int) = 0 ∨ (0 : Int) = 1) ∧
      (∀ h2, h2 = hset h1 508 0 0 →
      (0 ≤ (0 : Int)) ∧
      ((0 : Int) < 8) ∧
      (∀ h3, h3 = hset h2 509 0 0 →
      S_X9_open l G [(2009, 396), (0, 0), (0, v1)] h3 (fun z4 h5 =>
      (∀ x4_6 : Int, x4_6 = z4 →
      (∀ x5_7 : Int, x5_7 = 0 →
      JW K 173 [(2009, 396), (0, v1), (0, v2), (0, v3), (0, x4_6), (0, x5_7), (5000, 0), (5000, 0)] [] h5))) E)))) ∧
    (v4 < 8 →
      (0 ≤ v4) ∧
      (v4 < 8) ∧
      (∀ h8, h8 = hset h 514 v4 (-1) →
      (0 ≤ v4) ∧
      (v4 < 8) ∧
      (∀ h9, h9 = hset h8 521 v4 0 →
      (∀ x4_10 : Int, x4_10 = w32 (v4 + 1) →
      JW K 114 [(2009, 396), (0, v1), (0, v2), (0, v3), (0, x4_10), (5000, 0), (5000, 0), (5000, 0)] [] h9)))))) : JW K 114 [(2009, 396), (0, v1), (0, v2), (0, v3), (0, v4), (5000, 0), (5000, 0), (5000, 0)] [] h := by
  have e1 := ki.2.2.2.2.1
  have e2 := ki.2.2.2.2.2.1
  subst e1; subst e2
  exact run_ok (dia := [(5, 77), (296, 304), (344, 352), (362, 373)]) (cnr := [(250, 269, 326)]) (cuts := [(114, [2009, 0, 0, 0, 0, 5000, 5000, 5000], []), (173, [2009, 0, 0, 0, 0, 0, 5000, 5000], []), (238, [2009, 0, 0, 0, 0, 0, 0, 5000], []), (247, [2009, 0, 0, 0, 0, 0, 0, 0], [])]) ki.1 (pk_X9_walk ki hG) ok_X9_walk (by decide) 25 true _ _ _ _ H
theorem r_X9_walk_173 {K : JC} {l : Launch} {G : JG} {Q : Int → MH → Prop} {E : Nat → Int → MH → Prop} {h0 : MH} (ki : KI K l G yX9_walk cX9_walk 8 (some .int) [] 13 411 0 Q E h0) (hG : gO G = true) {v1 v2 v3 v4 v5 : Int} {h : MH} (H :
    ((hv h 396 3) ≠ 0) ∧
    (0 ≤ v1) ∧
    (v1 < 40) ∧
    (((hv h ((hv h 396 3) + 7) v1) ≤ v5 →
      (∀ x5_1 : Int, x5_1 = (-1) →
      (∀ x6_2 : Int, x6_2 = 0 →
      JW K 238 [(2009, 396), (0, v1), (0, v2), (0, v3), (0, v4), (0, x5_1), (0, x6_2), (5000, 0)] [] h))) ∧
    (v5 < (hv h ((hv h 396 3) + 7) v1) →
      ((hv h 396 3) ≠ 0) ∧
      (0 ≤ (w32 ((w32 (8 * v1)) + v5))) ∧
      ((w32 ((w32 (8 * v1)) + v5)) < 320) ∧
      ((¬ (hv h ((hv h 396 3) + 10) (w32 ((w32 (8 * v1)) + v5))) = 0 →
        (0 ≤ (w32 ((w32 (16 * v4)) + v5))) ∧
        ((w32 ((w32 (16 * v4)) + v5)) < 3840) ∧
        (∀ h3, h3 = hset h 513 (w32 ((w32 (16 * v4)) + v5)) 0 →
        (∀ x5_4 : Int, x5_4 = w32 (v5 + 1) →
        JW K 173 [(2009, 396), (0, v1), (0, v2), (0, v3), (0, v4), (0, x5_4), (5000, 0), (5000, 0)] [] h3))) ∧
      ((hv h ((hv h 396 3) + 10) (w32 ((w32 (8 * v1)) + v5))) = 0 →
        S_X9_nextInput l G [(2009, 396)] h (fun z5 h6 =>
        (0 ≤ (w32 ((w32 (16 * v4)) + v5))) ∧
        ((w32 ((w32 (16 * v4)) + v5)) < 3840) ∧
        (∀ h7, h7 = hset h6 513 (w32 ((w32 (16 * v4)) + v5)) z5 →
        (∀ x5_8 : Int, x5_8 = w32 (v5 + 1) →
        JW K 173 [(2009, 396), (0, v1), (0, v2), (0, v3), (0, v4), (0, x5_8), (5000, 0), (5000, 0)] [] h7))) E))))) : JW K 173 [(2009, 396), (0, v1), (0, v2), (0, v3), (0, v4), (0, v5), (5000, 0), (5000, 0)] [] h := by
  have e1 := ki.2.2.2.2.1
  have e2 := ki.2.2.2.2.2.1
  subst e1; subst e2
  exact run_ok (dia := [(5, 77), (296, 304), (344, 352), (362, 373)]) (cnr := [(250, 269, 326)]) (cuts := [(114, [2009, 0, 0, 0, 0, 5000, 5000, 5000], []), (173, [2009, 0, 0, 0, 0, 0, 5000, 5000], []), (238, [2009, 0, 0, 0, 0, 0, 0, 5000], []), (247, [2009, 0, 0, 0, 0, 0, 0, 0], [])]) ki.1 (pk_X9_walk ki hG) ok_X9_walk (by decide) 32 true _ _ _ _ H
theorem r_X9_walk_238 {K : JC} {l : Launch} {G : JG} {Q : Int → MH → Prop} {E : Nat → Int → MH → Prop} {h0 : MH} (ki : KI K l G yX9_walk cX9_walk 8 (some .int) [] 13 411 0 Q E h0) (hG : gO G = true) {v1 v2 v3 v4 v5 v6 : Int} {h : MH} (H :
    ((¬ v5 = (-1) →
      (∀ h1, h1 = hset h 396 80 0 →
      Q v5 h1)) ∧
    (v5 = (-1) →
      (∀ x7_2 : Int, x7_2 = 0 →
      JW K 247 [(2009, 396), (0, v1), (0, v2), (0, v3), (0, v4), (0, v5), (0, v6), (0, x7_2)] [] h)))) : JW K 238 [(2009, 396), (0, v1), (0, v2), (0, v3), (0, v4), (0, v5), (0, v6), (5000, 0)] [] h := by
  have e1 := ki.2.2.2.2.1
  have e2 := ki.2.2.2.2.2.1
  subst e1; subst e2
  exact run_ok (dia := [(5, 77), (296, 304), (344, 352), (362, 373)]) (cnr := [(250, 269, 326)]) (cuts := [(114, [2009, 0, 0, 0, 0, 5000, 5000, 5000], []), (173, [2009, 0, 0, 0, 0, 0, 5000, 5000], []), (238, [2009, 0, 0, 0, 0, 0, 0, 5000], []), (247, [2009, 0, 0, 0, 0, 0, 0, 0], [])]) ki.1 (pk_X9_walk ki hG) ok_X9_walk (by decide) 9 true _ _ _ _ H
theorem r_X9_walk_247 {K : JC} {l : Launch} {G : JG} {Q : Int → MH → Prop} {E : Nat → Int → MH → Prop} {h0 : MH} (ki : KI K l G yX9_walk cX9_walk 8 (some .int) [] 13 411 0 Q E h0) (hG : gO G = true) {v1 v2 v3 v4 v5 v6 v7 : Int} {h : MH} (H :
    ((v7 < v2 → (v5 = (-1) → (0 ≤ v6) ∧ v6 < 8))) ∧
    (((v7 < v2 ∧ (v5 = (-1) ∧ (hv h 508 v6) = 0)) →
      S_X9_isWaiting l G [(2009, 396), (0, v6)] h (fun z1 h2 =>
      ((¬ z1 = 0 →
        ((¬ v5 = (-1) →
          (∀ x6_3 : Int, x6_3 = (if (w32 (v6 + 1)) < (hv h2 396 83) then (w32 (v6 + 1)) else 0 : Int) →
          JW K 238 [(2009, 396), (0, v1), (0, v2), (0, v3), (0, v4), (0, v5), (0, x6_3), (5000, 0)] [] h2)) ∧
        (v5 = (-1) →
          S_X9_isStuck l G [(2009, 396)] h2 (fun z4 h5 =>
          ((z4 = 0 →
            (∀ x6_6 : Int, x6_6 = (if (w32 (v6 + 1)) < (hv h5 396 83) then (w32 (v6 + 1)) else 0 : Int) →
            JW K 238 [(2009, 396), (0, v1), (0, v2), (0, v3), (0, v4), (0, v5), (0, x6_6), (5000, 0)] [] h5)) ∧
          (¬ z4 = 0 →
            (∀ x5_7 : Int, x5_7 = (if (hv h5 396 95) = v3 then 1 else 2 : Int) →
            (∀ x6_8 : Int, x6_8 = (if (w32 (v6 + 1)) < (hv h5 396 83) then (w32 (v6 + 1)) else 0 : Int) →
            JW K 238 [(2009, 396), (0, v1), (0, v2), (0, v3), (0, v4), (0, x5_7), (0, x6_8), (5000, 0)] [] h5))))) E))) ∧
      (z1 = 0 →
        ((¬ (hv h2 396 95) = v3 →
          S_X9_act l G [(2009, 396), (0, v6)] h2 (fun z9 h10 =>
          (∀ x5_11 : Int, x5_11 = (if z9 = 0 then 3 else (-1) : Int) →
          S_X9_endedThreads l G [(2009, 396)] h10 (fun z12 h13 =>
          ((¬ z12 = (hv h13 396 83) →
            (∀ x7_14 : Int, x7_14 = w32 (v7 + 1) →
            JW K 247 [(2009, 396), (0, v1), (0, v2), (0, v3), (0, v4), (0, x5_11), (0, v6), (0, x7_14)] [] h13)) ∧
          (z12 = (hv h13 396 83) →
            (∀ x5_15 : Int, x5_15 = 0 →
            (∀ x7_16 : Int, x7_16 = w32 (v7 + 1) →
            JW K 247 [(2009, 396), (0, v1), (0, v2), (0, v3), (0, v4), (0, x5_15), (0, v6), (0, x7_16)] [] h13))))) E)) E) ∧
        ((hv h2 396 95) = v3 →
          (∀ x5_17 : Int, x5_17 = 1 →
          S_X9_endedThreads l G [(2009, 396)] h2 (fun z18 h19 =>
          ((¬ z18 = (hv h19 396 83) →
            (∀ x7_20 : Int, x7_20 = w32 (v7 + 1) →
            JW K 247 [(2009, 396), (0, v1), (0, v2), (0, v3), (0, v4), (0, x5_17), (0, v6), (0, x7_20)] [] h19)) ∧
          (z18 = (hv h19 396 83) →
            (∀ x5_21 : Int, x5_21 = 0 →
            (∀ x7_22 : Int, x7_22 = w32 (v7 + 1) →
            JW K 247 [(2009, 396), (0, v1), (0, v2), (0, v3), (0, v4), (0, x5_21), (0, v6), (0, x7_22)] [] h19))))) E)))))) E) ∧
    (¬ (v7 < v2 ∧ (v5 = (-1) ∧ (hv h 508 v6) = 0)) →
      ((¬ v5 = (-1) →
        (∀ x6_23 : Int, x6_23 = (if (w32 (v6 + 1)) < (hv h 396 83) then (w32 (v6 + 1)) else 0 : Int) →
        JW K 238 [(2009, 396), (0, v1), (0, v2), (0, v3), (0, v4), (0, v5), (0, x6_23), (5000, 0)] [] h)) ∧
      (v5 = (-1) →
        S_X9_isStuck l G [(2009, 396)] h (fun z24 h25 =>
        ((z24 = 0 →
          (∀ x6_26 : Int, x6_26 = (if (w32 (v6 + 1)) < (hv h25 396 83) then (w32 (v6 + 1)) else 0 : Int) →
          JW K 238 [(2009, 396), (0, v1), (0, v2), (0, v3), (0, v4), (0, v5), (0, x6_26), (5000, 0)] [] h25)) ∧
        (¬ z24 = 0 →
          (∀ x5_27 : Int, x5_27 = (if (hv h25 396 95) = v3 then 1 else 2 : Int) →
          (∀ x6_28 : Int, x6_28 = (if (w32 (v6 + 1)) < (hv h25 396 83) then (w32 (v6 + 1)) else 0 : Int) →
          JW K 238 [(2009, 396), (0, v1), (0, v2), (0, v3), (0, v4), (0, x5_27), (0, x6_28), (5000, 0)] [] h25))))) E))))) : JW K 247 [(2009, 396), (0, v1), (0, v2), (0, v3), (0, v4), (0, v5), (0, v6), (0, v7)] [] h := by
  have e1 := ki.2.2.2.2.1
  have e2 := ki.2.2.2.2.2.1
  subst e1; subst e2
  exact run_ok (dia := [(5, 77), (296, 304), (344, 352), (362, 373)]) (cnr := [(250, 269, 326)]) (cuts := [(114, [2009, 0, 0, 0, 0, 5000, 5000, 5000], []), (173, [2009, 0, 0, 0, 0, 0, 5000, 5000], []), (238, [2009, 0, 0, 0, 0, 0, 0, 5000], []), (247, [2009, 0, 0, 0, 0, 0, 0, 0], [])]) ki.1 (pk_X9_walk ki hG) ok_X9_walk (by decide) 28 true _ _ _ _ H
abbrev k_X9_open : List (Nat × List (Nat × Instr)) := [(36, [(0, .aload_n 0), (1, .getfield 185), (4, .iload_n 1), (5, .dup2), (6, .iaload), (7, .iconst 1), (8, .iadd), (9, .iastore), (10, .aload_n 0), (11, .iload_n 1), (12, .invokevirtual 730), (15, .istore_n 3), (16, .aload_n 0), (17, .getfield 188), (20, .iload_n 3), (21, .iload_n 2), (22, .iastore), (23, .aload_n 0), (24, .getfield 191), (27, .iload_n 3), (28, .aload_n 0), (29, .getfield 373), (32, .getfield 312), (35, .iload_n 2)]),
  (75, [(36, .iaload), (37, .iastore), (38, .aload_n 0), (39, .getfield 194), (42, .iload_n 3), (43, .iconst 0), (44, .iastore), (45, .iconst 0), (46, .istore 4), (48, .iload 4), (50, .bipush 16), (52, .if_icmp .ge 22), (55, .aload_n 0), (56, .getfield 197), (59, .bipush 16), (61, .iload_n 3), (62, .imul), (63, .iload 4), (65, .iadd), (66, .iconst 0), (67, .iastore), (68, .iinc 4 1), (71, .goto (-23)), (74, .iload_n 3)]),
  (84, [(75, .ireturn)])]
theorem ok_X9_open : CodeOK cX9_open k_X9_open := okw 0 (by decide +kernel) (okw 36 (by decide +kernel) (okw 75 (by decide +kernel) (okn)))
abbrev p_X9_open (l : Launch) (G : JG) : JP := (true, [(185, 9, 85, 1008100, 113), (188, 9, 86, 1240100, 114), (191, 9, 87, 1240100, 115), (194, 9, 88, 1240100, 116), (197, 9, 89, 4840100, 117), (312, 10, 17, 1040100, 15), (373, 9, 3, 14, 0)], [], [], [], [], [], [(730, 1, [0, 2009], 0, S_X9_frame l G)], false, 0, [])
theorem pk_X9_open {K : JC} {l : Launch} {G : JG} {Q : Int → MH → Prop} {E : Nat → Int → MH → Prop} {h0 : MH} (ki : KI K l G yX9_open cX9_open 5 (some .int) [] 5 171 0 Q E h0) (hG : gO G = true) : POK K RX9 (p_X9_open l G) :=
  POKi (y := yX9_open) ki hG (rfs rf_X9_ok (by decide +kernel)) fmz fmz fmz fmz fmz
  (pkE ki (by
    intro K e1 e2 e3 e4; subst e1; subst e2
    exact fmE (ceV 9 e3 e4 yl_X9_frame ⟨by decide, ⟨_, _, rfl⟩, q2876, qs168, q2874⟩ rfl) (fmz))) (fun z => Bool.noConfusion z) rfl (pkP ki (by
    intro K e1 e2 e3 e4; subst e1; subst e2
    exact fmz))
theorem r_X9_open_0 {K : JC} {l : Launch} {G : JG} {Q : Int → MH → Prop} {E : Nat → Int → MH → Prop} {h0 : MH} (ki : KI K l G yX9_open cX9_open 5 (some .int) [] 5 171 0 Q E h0) (hG : gO G = true) {v1 v2 : Int} {h : MH} (H :
    (0 ≤ v1) ∧
    (v1 < 8) ∧
    (0 ≤ v1) ∧
    (v1 < 8) ∧
    (∀ h1, h1 = hset h 509 v1 (w32 ((hv h 509 v1) + 1)) →
    S_X9_frame l G [(2009, 396), (0, v1)] h1 (fun z2 h3 =>
    (∀ x3_4 : Int, x3_4 = z2 →
    (0 ≤ x3_4) ∧
    (x3_4 < 240) ∧
    (∀ h5, h5 = hset h3 510 x3_4 v2 →
    ((hv h5 396 3) ≠ 0) ∧
    (0 ≤ v2) ∧
    (v2 < 40) ∧
    (0 ≤ x3_4) ∧
    (x3_4 < 240) ∧
    (∀ h6, h6 = hset h5 511 x3_4 (hv h5 ((hv h5 396 3) + 15) v2) →
    (0 ≤ x3_4) ∧
    (x3_4 < 240) ∧
    (∀ h7, h7 = hset h6 512 x3_4 0 →
    (∀ x4_8 : Int, x4_8 = 0 →
    JW K 48 [(2009, 396), (0, v1), (0, v2), (0, x3_4), (0, x4_8)] [] h7)))))) E)) : JW K 0 [(2009, 396), (0, v1), (0, v2), (5000, 0), (5000, 0)] [] h := by
  have e1 := ki.2.2.2.2.1
  have e2 := ki.2.2.2.2.2.1
  subst e1; subst e2
  exact run_ok (dia := []) (cnr := []) (cuts := [(48, [2009, 0, 0, 0, 0], [])]) ki.1 (pk_X9_open ki hG) ok_X9_open (by decide) 35 true _ _ _ _ H
theorem r_X9_open_48 {K : JC} {l : Launch} {G : JG} {Q : Int → MH → Prop} {E : Nat → Int → MH → Prop} {h0 : MH} (ki : KI K l G yX9_open cX9_open 5 (some .int) [] 5 171 0 Q E h0) (hG : gO G = true) {v1 v2 v3 v4 : Int} {h : MH} (H :
    ((16 ≤ v4 →
      Q v3 h) ∧
    (v4 < 16 →
      (0 ≤ (w32 ((w32 (16 * v3)) + v4))) ∧
      ((w32 ((w32 (16 * v3)) + v4)) < 3840) ∧
      (∀ h1, h1 = hset h 513 (w32 ((w32 (16 * v3)) + v4)) 0 →
      (∀ x4_2 : Int, x4_2 = w32 (v4 + 1) →
      JW K 48 [(2009, 396), (0, v1), (0, v2), (0, v3), (0, x4_2)] [] h1))))) : JW K 48 [(2009, 396), (0, v1), (0, v2), (0, v3), (0, v4)] [] h := by
  have e1 := ki.2.2.2.2.1
  have e2 := ki.2.2.2.2.2.1
  subst e1; subst e2
  exact run_ok (dia := []) (cnr := []) (cuts := [(48, [2009, 0, 0, 0, 0], [])]) ki.1 (pk_X9_open ki hG) ok_X9_open (by decide) 16 true _ _ _ _ H
abbrev k_X9_frame : List (Nat × List (Nat × Instr)) := [(22, [(0, .bipush 30), (2, .iload_n 1), (3, .imul), (4, .aload_n 0), (5, .getfield 185), (8, .iload_n 1), (9, .iaload), (10, .iadd), (11, .iconst 1), (12, .isub), (13, .ireturn)])]
theorem ok_X9_frame : CodeOK cX9_frame k_X9_frame := okw 0 (by decide +kernel) (okn)
abbrev p_X9_frame (l : Launch) (G : JG) : JP := (true, [(185, 9, 85, 1008100, 113)], [], [], [], [], [], [], false, 0, [])
theorem pk_X9_frame {K : JC} {l : Launch} {G : JG} {Q : Int → MH → Prop} {E : Nat → Int → MH → Prop} {h0 : MH} (ki : KI K l G yX9_frame cX9_frame 2 (some .int) [] 4 150 0 Q E h0) (hG : gO G = true) : POK K RX9 (p_X9_frame l G) :=
  POKi (y := yX9_frame) ki hG (rfs rf_X9_ok (by decide +kernel)) fmz fmz fmz fmz fmz
  (pkE ki (by
    intro K e1 e2 e3 e4; subst e1; subst e2
    exact fmz)) (fun z => Bool.noConfusion z) rfl (pkP ki (by
    intro K e1 e2 e3 e4; subst e1; subst e2
    exact fmz))
theorem r_X9_frame_0 {K : JC} {l : Launch} {G : JG} {Q : Int → MH → Prop} {E : Nat → Int → MH → Prop} {h0 : MH} (ki : KI K l G yX9_frame cX9_frame 2 (some .int) [] 4 150 0 Q E h0) (hG : gO G = true) {v1 : Int} {h : MH} (H :
    (0 ≤ v1) ∧
    (v1 < 8) ∧
    Q (w32 ((w32 ((w32 (30 * v1)) + (hv h 509 v1))) - 1)) h) : JW K 0 [(2009, 396), (0, v1)] [] h := by
  have e1 := ki.2.2.2.2.1
  have e2 := ki.2.2.2.2.2.1
  subst e1; subst e2
  exact run_ok (dia := []) (cnr := []) (cuts := []) ki.1 (pk_X9_frame ki hG) ok_X9_frame (by decide) 12 true _ _ _ _ H
abbrev k_X9_nextInput : List (Nat × List (Nat × Instr)) := [(43, [(0, .aload_n 0), (1, .getfield 390), (4, .aload_n 0), (5, .getfield 387), (8, .if_icmp .ne 5), (11, .iconst 0), (12, .ireturn), (13, .aload_n 0), (14, .dup), (15, .getfield 390), (18, .iconst 1), (19, .iadd), (20, .putfield 390), (23, .aload_n 0), (24, .getfield 179), (27, .aload_n 0), (28, .getfield 390), (31, .iconst 1), (32, .isub), (33, .iaload), (34, .ireturn)])]
theorem ok_X9_nextInput : CodeOK cX9_nextInput k_X9_nextInput := okw 0 (by decide +kernel) (okn)
abbrev p_X9_nextInput (l : Launch) (G : JG) : JP := (true, [(179, 9, 81, 1200100, 111), (387, 9, 80, 0, 0), (390, 9, 82, 0, 0)], [], [], [(390, 9, 82, 0)], [], [], [], false, 0, [])
theorem pk_X9_nextInput {K : JC} {l : Launch} {G : JG} {Q : Int → MH → Prop} {E : Nat → Int → MH → Prop} {h0 : MH} (ki : KI K l G yX9_nextInput cX9_nextInput 1 (some .int) [] 4 150 0 Q E h0) (hG : gO G = true) : POK K RX9 (p_X9_nextInput l G) :=
  POKi (y := yX9_nextInput) ki hG (rfs rf_X9_ok (by decide +kernel)) fmz fmz (rps rp_X9_ok (by decide +kernel)) fmz fmz
  (pkE ki (by
    intro K e1 e2 e3 e4; subst e1; subst e2
    exact fmz)) (fun z => Bool.noConfusion z) rfl (pkP ki (by
    intro K e1 e2 e3 e4; subst e1; subst e2
    exact fmz))
theorem r_X9_nextInput_0 {K : JC} {l : Launch} {G : JG} {Q : Int → MH → Prop} {E : Nat → Int → MH → Prop} {h0 : MH} (ki : KI K l G yX9_nextInput cX9_nextInput 1 (some .int) [] 4 150 0 Q E h0) (hG : gO G = true) {h : MH} (H :
    ((¬ (hv h 396 82) = (hv h 396 80) →
      (∀ h1, h1 = hset h 396 82 (w32 ((hv h 396 82) + 1)) →
      (0 ≤ (w32 ((hv h1 396 82) - 1))) ∧
      ((w32 ((hv h1 396 82) - 1)) < 200) ∧
      Q (hv h1 507 (w32 ((hv h1 396 82) - 1))) h1)) ∧
    ((hv h 396 82) = (hv h 396 80) →
      Q 0 h))) : JW K 0 [(2009, 396)] [] h := by
  have e1 := ki.2.2.2.2.1
  have e2 := ki.2.2.2.2.2.1
  subst e1; subst e2
  exact run_ok (dia := []) (cnr := []) (cuts := []) ki.1 (pk_X9_nextInput ki hG) ok_X9_nextInput (by decide) 20 true _ _ _ _ H
abbrev k_X9_isWaiting : List (Nat × List (Nat × Instr)) := [(43, [(0, .aload_n 0), (1, .getfield 191), (4, .aload_n 0), (5, .iload_n 1), (6, .invokevirtual 730), (9, .iaload), (10, .istore_n 2), (11, .aload_n 0), (12, .getfield 373), (15, .getfield 339), (18, .iload_n 2), (19, .iaload), (20, .bipush 34), (22, .if_icmp .ne 43), (25, .aload_n 0), (26, .getfield 200), (29, .aload_n 0), (30, .getfield 373), (33, .getfield 342), (36, .iload_n 2), (37, .iaload), (38, .iaload), (39, .iconst (-1)), (40, .if_icmp .eq 25)]),
  (75, [(43, .aload_n 0), (44, .getfield 200), (47, .aload_n 0), (48, .getfield 373), (51, .getfield 342), (54, .iload_n 2), (55, .iaload), (56, .iaload), (57, .iload_n 1), (58, .if_icmp .eq 7), (61, .iconst 1), (62, .goto 4), (65, .iconst 0), (66, .ireturn)])]
theorem ok_X9_isWaiting : CodeOK cX9_isWaiting k_X9_isWaiting := okw 0 (by decide +kernel) (okw 43 (by decide +kernel) (okn))
abbrev p_X9_isWaiting (l : Launch) (G : JG) : JP := (true, [(191, 9, 87, 1240100, 115), (200, 9, 90, 1008100, 118), (339, 10, 22, 2500100, 19), (342, 10, 23, 2500100, 20), (373, 9, 3, 14, 0)], [], [], [], [], [], [(730, 1, [0, 2009], 0, S_X9_frame l G)], false, 2, [])
theorem pk_X9_isWaiting {K : JC} {l : Launch} {G : JG} {Q : Int → MH → Prop} {E : Nat → Int → MH → Prop} {h0 : MH} (ki : KI K l G yX9_isWaiting cX9_isWaiting 3 (some .boolean) [] 5 171 2 Q E h0) (hG : gO G = true) : POK K RX9 (p_X9_isWaiting l G) :=
  POKi (y := yX9_isWaiting) ki hG (rfs rf_X9_ok (by decide +kernel)) fmz fmz fmz fmz fmz
  (pkE ki (by
    intro K e1 e2 e3 e4; subst e1; subst e2
    exact fmE (ceV 9 e3 e4 yl_X9_frame ⟨by decide, ⟨_, _, rfl⟩, q2876, qs168, q2874⟩ rfl) (fmz))) (fun z => Bool.noConfusion z) rfl (pkP ki (by
    intro K e1 e2 e3 e4; subst e1; subst e2
    exact fmz))
theorem r_X9_isWaiting_0 {K : JC} {l : Launch} {G : JG} {Q : Int → MH → Prop} {E : Nat → Int → MH → Prop} {h0 : MH} (ki : KI K l G yX9_isWaiting cX9_isWaiting 3 (some .boolean) [] 5 171 2 Q E h0) (hG : gO G = true) {v1 : Int} {h : MH} (H :
    S_X9_frame l G [(2009, 396), (0, v1)] h (fun z1 h2 =>
    (0 ≤ z1) ∧
    (z1 < 240) ∧
    (∀ x2_3 : Int, x2_3 = (hv h2 511 z1) →
    ((hv h2 396 3) ≠ 0) ∧
    (0 ≤ x2_3) ∧
    (x2_3 < 1500) ∧
    (((hv h2 ((hv h2 396 3) + 19) x2_3) = 34 → ((hv h2 396 3) ≠ 0) ∧ (0 ≤ x2_3) ∧ (x2_3 < 1500) ∧ (0 ≤ (hv h2 ((hv h2 396 3) + 20) x2_3)) ∧ ((hv h2 ((hv h2 396 3) + 20) x2_3) < 8) ∧ (¬ (hv h2 514 (hv h2 ((hv h2 396 3) + 20) x2_3)) = (-1) → ((hv h2 396 3) ≠ 0) ∧ (0 ≤ x2_3) ∧ (x2_3 < 1500) ∧ (0 ≤ (hv h2 ((hv h2 396 3) + 20) x2_3)) ∧ (hv h2 ((hv h2 396 3) + 20) x2_3) < 8))) ∧
    (((if (hv h2 ((hv h2 396 3) + 19) x2_3) = 34 then (if (hv h2 514 (hv h2 ((hv h2 396 3) + 20) x2_3)) = (-1) then 0 else (if (hv h2 514 (hv h2 ((hv h2 396 3) + 20) x2_3)) = v1 then 0 else 1 : Int) : Int) else 0 : Int) = 0 ∨ (if (hv h2 ((hv h2 396 3) + 19) x2_3) = 34 then (if (hv h2 514 (hv h2 ((hv h2 396 3) + 20) x2_3)) = (-1) then 0 else (if (hv h2 514 (hv h2 ((hv h2 396 3) + 20) x2_3)) = v1 then 0 else 1 : Int) : Int) else 0 : Int) = 1) ∧ Q (if (hv h2 ((hv h2 396 3) + 19) x2_3) = 34 then (if (hv h2 514 (hv h2 ((hv h2 396 3) + 20) x2_3)) = (-1) then 0 else (if (hv h2 514 (hv h2 ((hv h2 396 3) + 20) x2_3)) = v1 then 0 else 1 : Int) : Int) else 0 : Int) h2))) E) : JW K 0 [(2009, 396), (0, v1), (5000, 0)] [] h := by
  have e1 := ki.2.2.2.2.1
  have e2 := ki.2.2.2.2.2.1
  subst e1; subst e2
  exact run_ok (dia := [(22, 66)]) (cnr := []) (cuts := []) ki.1 (pk_X9_isWaiting ki hG) ok_X9_isWaiting (by decide) 16 true _ _ _ _ H
abbrev k_X9_act : List (Nat × List (Nat × Instr)) := [(42, [(0, .aload_n 0), (1, .invokevirtual 682), (4, .aload_n 0), (5, .aload_n 0), (6, .iload_n 1), (7, .invokevirtual 748), (10, .ifCond .ne 7), (13, .iconst 1), (14, .goto 4), (17, .iconst 0), (18, .putfield 736), (21, .aload_n 0), (22, .iload_n 1), (23, .invokevirtual 751), (26, .aload_n 0), (27, .getfield 742), (30, .ifCond .eq 5), (33, .iconst 0), (34, .ireturn), (35, .aload_n 0), (36, .dup), (37, .getfield 718), (40, .iconst 1), (41, .iadd)]),
  (79, [(42, .putfield 718), (45, .aload_n 0), (46, .aload_n 0), (47, .getfield 736), (50, .ifCond .eq 12), (53, .aload_n 0), (54, .getfield 754), (57, .iconst 1), (58, .iadd), (59, .goto 7), (62, .aload_n 0), (63, .getfield 754), (66, .putfield 754), (69, .iconst 1), (70, .ireturn)])]
theorem ok_X9_act : CodeOK cX9_act k_X9_act := okw 0 (by decide +kernel) (okw 42 (by decide +kernel) (okn))
abbrev p_X9_act (l : Launch) (G : JG) : JP := (true, [(718, 9, 95, 0, 0), (736, 9, 102, 0, 0), (742, 9, 103, 0, 0), (754, 9, 101, 0, 0)], [], [], [(718, 9, 95, 0), (736, 9, 102, 2), (754, 9, 101, 0)], [], [], [(682, 1, [2009], 700, S_X9_findFacts l G), (748, 1, [0, 2009], 2, S_X9_isAsTold l G), (751, 1, [0, 2009], 700, S_X9_doIt l G)], false, 2, [])
theorem pk_X9_act {K : JC} {l : Launch} {G : JG} {Q : Int → MH → Prop} {E : Nat → Int → MH → Prop} {h0 : MH} (ki : KI K l G yX9_act cX9_act 2 (some .boolean) [] 12 390 2 Q E h0) (hG : gO G = true) : POK K RX9 (p_X9_act l G) :=
  POKi (y := yX9_act) ki hG (rfs rf_X9_ok (by decide +kernel)) fmz fmz (rps rp_X9_ok (by decide +kernel)) fmz fmz
  (pkE ki (by
    intro K e1 e2 e3 e4; subst e1; subst e2
    exact fmE (ceV 9 e3 e4 yl_X9_findFacts ⟨by decide, ⟨_, _, rfl⟩, q2592, qs121, q2590⟩ rfl) (fmE (ceV 9 e3 e4 yl_X9_isAsTold ⟨by decide, ⟨_, _, rfl⟩, q2892, qs172, q2890⟩ rfl) (fmE (ceV 9 e3 e4 yl_X9_doIt ⟨by decide, ⟨_, _, rfl⟩, q2900, qs174, q2898⟩ rfl) (fmz))))) (fun z => Bool.noConfusion z) rfl (pkP ki (by
    intro K e1 e2 e3 e4; subst e1; subst e2
    exact fmz))
theorem r_X9_act_0 {K : JC} {l : Launch} {G : JG} {Q : Int → MH → Prop} {E : Nat → Int → MH → Prop} {h0 : MH} (ki : KI K l G yX9_act cX9_act 2 (some .boolean) [] 12 390 2 Q E h0) (hG : gO G = true) {v1 : Int} {h : MH} (H :
    S_X9_findFacts l G [(2009, 396)] h (fun _ h2 =>
    S_X9_isAsTold l G [(2009, 396), (0, v1)] h2 (fun z3 h4 =>
    ((if z3 = 0 then 1 else 0 : Int) = 0 ∨ (if z3 = 0 then 1 else 0 : Int) = 1) ∧
    (∀ h5, h5 = hset h4 396 102 (if z3 = 0 then 1 else 0 : Int) →
    S_X9_doIt l G [(2009, 396), (0, v1)] h5 (fun _ h7 =>
    (((hv h7 396 103) = 0 →
      (∀ h8, h8 = hset h7 396 95 (w32 ((hv h7 396 95) + 1)) →
      (∀ h9, h9 = hset h8 396 101 (if (hv h8 396 102) = 0 then (hv h8 396 101) else (w32 ((hv h8 396 101) + 1)) : Int) →
      (((1 : Int) = 0 ∨ (1 : Int) = 1) ∧ Q 1 h9)))) ∧
    (¬ (hv h7 396 103) = 0 →
      (((0 : Int) = 0 ∨ (0 : Int) = 1) ∧ Q 0 h7)))) E)) E) E) : JW K 0 [(2009, 396), (0, v1)] [] h := by
  have e1 := ki.2.2.2.2.1
  have e2 := ki.2.2.2.2.2.1
  subst e1; subst e2
  exact run_ok (dia := [(10, 18), (50, 66)]) (cnr := []) (cuts := []) ki.1 (pk_X9_act ki hG) ok_X9_act (by decide) 28 true _ _ _ _ H
abbrev k_X9_isAsTold : List (Nat × List (Nat × Instr)) := [(38, [(0, .aload_n 0), (1, .iload_n 1), (2, .invokevirtual 730), (5, .istore_n 2), (6, .aload_n 0), (7, .getfield 191), (10, .iload_n 2), (11, .iaload), (12, .istore_n 3), (13, .aload_n 0), (14, .getfield 37), (17, .iload_n 3), (18, .baload), (19, .ifCond .ne 5), (22, .iconst 0), (23, .ireturn), (24, .aload_n 0), (25, .getfield 373), (28, .getfield 354), (31, .iload_n 3), (32, .iaload), (33, .istore 4), (35, .iconst 1), (36, .istore 5)]),
  (87, [(38, .iconst 0), (39, .istore 6), (41, .iload 6), (43, .bipush 8), (45, .aload_n 0), (46, .getfield 194), (49, .iload_n 2), (50, .iaload), (51, .iadd), (52, .if_icmp .ge 185), (55, .iload 6), (57, .bipush 8), (59, .if_icmp .ge 21), (62, .iload 6), (64, .aload_n 0), (65, .getfield 373), (68, .getfield 297), (71, .iload 4), (73, .iaload), (74, .if_icmp .lt 6), (77, .goto 154), (80, .iload 6), (82, .bipush 8), (84, .if_icmp .ge 31)]),
  (130, [(87, .aload_n 0), (88, .getfield 373), (91, .getfield 281), (94, .bipush 8), (96, .iload 4), (98, .imul), (99, .iload 6), (101, .iadd), (102, .iaload), (103, .iconst 1), (104, .if_icmp .ne 7), (107, .iconst 1), (108, .goto 33), (111, .iconst 0), (112, .goto 29), (115, .aload_n 0), (116, .getfield 373), (119, .getfield 427), (122, .iload_n 3), (123, .iaload), (124, .iload 6), (126, .bipush 8), (128, .isub), (129, .ishr)]),
  (168, [(130, .iconst 1), (131, .iand), (132, .iconst 1), (133, .if_icmp .ne 7), (136, .iconst 1), (137, .goto 4), (140, .iconst 0), (141, .istore 7), (143, .aload_n 0), (144, .getfield 197), (147, .bipush 16), (149, .iload_n 2), (150, .imul), (151, .iload 6), (153, .iadd), (154, .iaload), (155, .istore 8), (157, .bipush 16), (159, .iload_n 3), (160, .imul), (161, .iload 6), (163, .iadd), (164, .istore 9), (166, .iload 5)]),
  (214, [(168, .ifCond .eq 60), (171, .iload 7), (173, .ifCond .eq 27), (176, .aload_n 0), (177, .getfield 49), (180, .iload 9), (182, .laload), (183, .aload_n 0), (184, .iload 8), (186, .invokevirtual 733), (189, .lshr), (190, .lconst 1), (191, .land), (192, .lconst 1), (193, .lcmp), (194, .ifCond .ne 34), (197, .goto 27), (200, .iload 8), (202, .aload_n 0), (203, .getfield 40), (206, .iload 9), (208, .iaload), (209, .if_icmp .lt 19), (212, .iload 8)]),
  (260, [(214, .aload_n 0), (215, .getfield 43), (218, .iload 9), (220, .iaload), (221, .if_icmp .gt 7), (224, .iconst 1), (225, .goto 4), (228, .iconst 0), (229, .istore 5), (231, .iinc 6 1), (234, .goto (-193)), (237, .iconst 0), (238, .istore 6), (240, .iconst 0), (241, .istore 7), (243, .iload 7), (245, .bipush 8), (247, .if_icmp .ge 33), (250, .iload 6), (252, .aload_n 0), (253, .getfield 200), (256, .iload 7), (258, .iaload), (259, .iload_n 1)]),
  (305, [(260, .if_icmp .ne 10), (263, .iconst 1), (264, .iload 7), (266, .ishl), (267, .goto 4), (270, .iconst 0), (271, .ior), (272, .istore 6), (274, .iinc 7 1), (277, .goto (-34)), (280, .iload 5), (282, .ifCond .eq 35), (285, .aload_n 0), (286, .getfield 53), (289, .iload_n 3), (290, .iaload), (291, .iload 6), (293, .iconst (-1)), (294, .ixor), (295, .iand), (296, .ifCond .ne 21), (299, .iload 6), (301, .aload_n 0), (302, .getfield 56)]),
  (327, [(305, .iload_n 3), (306, .iaload), (307, .iconst (-1)), (308, .ixor), (309, .iand), (310, .ifCond .ne 7), (313, .iconst 1), (314, .goto 4), (317, .iconst 0), (318, .ireturn)])]
theorem ok_X9_isAsTold : CodeOK cX9_isAsTold k_X9_isAsTold := okw 0 (by decide +kernel) (okw 38 (by decide +kernel) (okw 87 (by decide +kernel) (okw 130 (by decide +kernel) (okw 168 (by decide +kernel) (okw 214 (by decide +kernel) (okw 260 (by decide +kernel) (okw 305 (by decide +kernel) (okn))))))))
abbrev p_X9_isAsTold (l : Launch) (G : JG) : JP := (true, [(37, 9, 18, 2500102, 64), (40, 9, 19, 25000100, 65), (43, 9, 20, 25000100, 66), (49, 9, 22, 25000101, 68), (53, 9, 23, 2500100, 69), (56, 9, 24, 2500100, 70), (191, 9, 87, 1240100, 115), (194, 9, 88, 1240100, 116), (197, 9, 89, 4840100, 117), (200, 9, 90, 1008100, 118), (281, 10, 12, 1320100, 10), (297, 10, 11, 1040100, 9), (354, 10, 27, 2500100, 24), (373, 9, 3, 14, 0), (427, 10, 32, 2500100, 28)], [], [], [], [], [], [(730, 1, [0, 2009], 0, S_X9_frame l G), (733, 1, [0, 2009], 0, S_X9_siteOf l G)], false, 2, [])
theorem pk_X9_isAsTold {K : JC} {l : Launch} {G : JG} {Q : Int → MH → Prop} {E : Nat → Int → MH → Prop} {h0 : MH} (ki : KI K l G yX9_isAsTold cX9_isAsTold 10 (some .boolean) [] 5 171 2 Q E h0) (hG : gO G = true) : POK K RX9 (p_X9_isAsTold l G) :=
  POKi (y := yX9_isAsTold) ki hG (rfs rf_X9_ok (by decide +kernel)) fmz fmz fmz fmz fmz
  (pkE ki (by
    intro K e1 e2 e3 e4; subst e1; subst e2
    exact fmE (ceV 9 e3 e4 yl_X9_frame ⟨by decide, ⟨_, _, rfl⟩, q2876, qs168, q2874⟩ rfl) (fmE (ceV 9 e3 e4 yl_X9_siteOf ⟨by decide, ⟨_, _, rfl⟩, q2896, qs173, q2894⟩ rfl) (fmz)))) (fun z => Bool.noConfusion z) rfl (pkP ki (by
    intro K e1 e2 e3 e4; subst e1; subst e2
    exact fmz))
theorem r_X9_isAsTold_0 {K : JC} {l : Launch} {G : JG} {Q : Int → MH → Prop} {E : Nat → Int → MH → Prop} {h0 : MH} (ki : KI K l G yX9_isAsTold cX9_isAsTold 10 (some .boolean) [] 5 171 2 Q E h0) (hG : gO G = true) {v1 : Int} {h : MH} (H :
    S_X9_frame l G [(2009, 396), (0, v1)] h (fun z1 h2 =>
    (∀ x2_3 : Int, x2_3 = z1 →
    (0 ≤ x2_3) ∧
    (x2_3 < 240) ∧
    (∀ x3_4 : Int, x3_4 = (hv h2 511 x2_3) →
    (0 ≤ x3_4) ∧
    (x3_4 < 1500) ∧
    ((¬ (hv h2 460 x3_4) = 0 →
      ((hv h2 396 3) ≠ 0) ∧
      (0 ≤ x3_4) ∧
      (x3_4 < 1500) ∧
      (∀ x4_5 : Int, x4_5 = (hv h2 ((hv h2 396 3) + 24) x3_4) →
      (∀ x5_6 : Int, x5_6 = 1 →
      (∀ x6_7 : Int, x6_7 = 0 →
      JW K 41 [(2009, 396), (0, v1), (0, x2_3), (0, x3_4), (0, x4_5), (0, x5_6), (0, x6_7), (5000, 0), (5000, 0), (5000, 0)] [] h2)))) ∧
    ((hv h2 460 x3_4) = 0 →
      (((0 : Int) = 0 ∨ (0 : Int) = 1) ∧ Q 0 h2)))))) E) : JW K 0 [(2009, 396), (0, v1), (5000, 0), (5000, 0), (5000, 0), (5000, 0), (5000, 0), (5000, 0), (5000, 0), (5000, 0)] [] h := by
  have e1 := ki.2.2.2.2.1
  have e2 := ki.2.2.2.2.2.1
  subst e1; subst e2
  exact run_ok (dia := [(84, 141), (194, 229), (209, 229), (260, 271), (282, 318)]) (cnr := [(59, 77, 80)]) (cuts := [(41, [2009, 0, 0, 0, 0, 0, 0, 5000, 5000, 5000], []), (243, [2009, 0, 0, 0, 0, 0, 0, 0, 5000, 5000], [])]) ki.1 (pk_X9_isAsTold ki hG) ok_X9_isAsTold (by decide) 26 true _ _ _ _ H
theorem r_X9_isAsTold_41 {K : JC} {l : Launch} {G : JG} {Q : Int → MH → Prop} {E : Nat → Int → MH → Prop} {h0 : MH} (ki : KI K l G yX9_isAsTold cX9_isAsTold 10 (some .boolean) [] 5 171 2 Q E h0) (hG : gO G = true) {v1 v2 v3 v4 v5 v6 : Int} {h : MH} (H :
    (0 ≤ v2) ∧
    (v2 < 240) ∧
    (((w32 (8 + (hv h 512 v2))) ≤ v6 →
      (∀ x6_1 : Int, x6_1 = 0 →
      (∀ x7_2 : Int, x7_2 = 0 →
      JW K 243 [(2009, 396), (0, v1), (0, v2), (0, v3), (0, v4), (0, v5), (0, x6_1), (0, x7_2), (5000, 0), (5000, 0)] [] h))) ∧
    (v6 < (w32 (8 + (hv h 512 v2))) →
      ((v6 < 8 → ((hv h 396 3) ≠ 0) ∧ (0 ≤ v4) ∧ v4 < 40)) ∧
      (((v6 < 8 ∧ (hv h ((hv h 396 3) + 9) v4) ≤ v6) →
        (∀ x6_3 : Int, x6_3 = w32 (v6 + 1) →
        JW K 41 [(2009, 396), (0, v1), (0, v2), (0, v3), (0, v4), (0, v5), (0, x6_3), (5000, 0), (5000, 0), (5000, 0)] [] h)) ∧
      (¬ (v6 < 8 ∧ (hv h ((hv h 396 3) + 9) v4) ≤ v6) →
        ((8 ≤ v6 → ((hv h 396 3) ≠ 0) ∧ (0 ≤ v3) ∧ v3 < 1500)) ∧
        ((v6 < 8 → ((hv h 396 3) ≠ 0) ∧ (0 ≤ (w32 ((w32 (8 * v4)) + v6))) ∧ (w32 ((w32 (8 * v4)) + v6)) < 320)) ∧
        (∀ x7_4 : Int, x7_4 = (if v6 < 8 then (if (hv h ((hv h 396 3) + 10) (w32 ((w32 (8 * v4)) + v6))) = 1 then 1 else 0 : Int) else (if (i_and (i_shr (hv h ((hv h 396 3) + 28) v3) (w32 (v6 - 8))) 1) = 1 then 1 else 0 : Int) : Int) →
        (0 ≤ (w32 ((w32 (16 * v2)) + v6))) ∧
        ((w32 ((w32 (16 * v2)) + v6)) < 3840) ∧
        (∀ x8_5 : Int, x8_5 = (hv h 513 (w32 ((w32 (16 * v2)) + v6))) →
        (∀ x9_6 : Int, x9_6 = (w32 ((w32 (16 * v3)) + v6)) →
        ((v5 = 0 →
          (∀ x5_7 : Int, x5_7 = 0 →
          (∀ x6_8 : Int, x6_8 = w32 (v6 + 1) →
          JW K 41 [(2009, 396), (0, v1), (0, v2), (0, v3), (0, v4), (0, x5_7), (0, x6_8), (5000, 0), (5000, 0), (5000, 0)] [] h))) ∧
        (¬ v5 = 0 →
          ((x7_4 = 0 →
            (0 ≤ x9_6) ∧
            (x9_6 < 24000) ∧
            (((hv h 461 x9_6) ≤ x8_5 → (0 ≤ x9_6) ∧ x9_6 < 24000)) ∧
            (∀ x5_9 : Int, x5_9 = (if x8_5 < (hv h 461 x9_6) then 0 else (if (hv h 462 x9_6) < x8_5 then 0 else 1 : Int) : Int) →
            (∀ x6_10 : Int, x6_10 = w32 (v6 + 1) →
            JW K 41 [(2009, 396), (0, v1), (0, v2), (0, v3), (0, v4), (0, x5_9), (0, x6_10), (5000, 0), (5000, 0), (5000, 0)] [] h))) ∧
          (¬ x7_4 = 0 →
            (0 ≤ x9_6) ∧
            (x9_6 < 24000) ∧
            S_X9_siteOf l G [(2009, 396), (0, x8_5)] h (fun z11 h12 =>
            (∀ x5_13 : Int, x5_13 = (if (lc (l_and (l_shr (hv h 464 x9_6) z11) 1) 1) = 0 then 1 else 0 : Int) →
            (∀ x6_14 : Int, x6_14 = w32 (v6 + 1) →
            JW K 41 [(2009, 396), (0, v1), (0, v2), (0, v3), (0, v4), (0, x5_13), (0, x6_14), (5000, 0), (5000, 0), (5000, 0)] [] h12))) E)))))))))))) : JW K 41 [(2009, 396), (0, v1), (0, v2), (0, v3), (0, v4), (0, v5), (0, v6), (5000, 0), (5000, 0), (5000, 0)] [] h := by
  have e1 := ki.2.2.2.2.1
  have e2 := ki.2.2.2.2.2.1
  subst e1; subst e2
  exact run_ok (dia := [(84, 141), (194, 229), (209, 229), (260, 271), (282, 318)]) (cnr := [(59, 77, 80)]) (cuts := [(41, [2009, 0, 0, 0, 0, 0, 0, 5000, 5000, 5000], []), (243, [2009, 0, 0, 0, 0, 0, 0, 0, 5000, 5000], [])]) ki.1 (pk_X9_isAsTold ki hG) ok_X9_isAsTold (by decide) 52 true _ _ _ _ H
theorem r_X9_isAsTold_243 {K : JC} {l : Launch} {G : JG} {Q : Int → MH → Prop} {E : Nat → Int → MH → Prop} {h0 : MH} (ki : KI K l G yX9_isAsTold cX9_isAsTold 10 (some .boolean) [] 5 171 2 Q E h0) (hG : gO G = true) {v1 v2 v3 v4 v5 v6 v7 : Int} {h : MH} (H :
    ((8 ≤ v7 →
      ((¬ v5 = 0 → (0 ≤ v3) ∧ (v3 < 1500) ∧ ((i_and (hv h 465 v3) (i_xor v6 (-1))) = 0 → (0 ≤ v3) ∧ v3 < 1500))) ∧
      (((if v5 = 0 then 0 else (if (i_and (hv h 465 v3) (i_xor v6 (-1))) = 0 then (if (i_and v6 (i_xor (hv h 466 v3) (-1))) = 0 then 1 else 0 : Int) else 0 : Int) : Int) = 0 ∨ (if v5 = 0 then 0 else (if (i_and (hv h 465 v3) (i_xor v6 (-1))) = 0 then (if (i_and v6 (i_xor (hv h 466 v3) (-1))) = 0 then 1 else 0 : Int) else 0 : Int) : Int) = 1) ∧ Q (if v5 = 0 then 0 else (if (i_and (hv h 465 v3) (i_xor v6 (-1))) = 0 then (if (i_and v6 (i_xor (hv h 466 v3) (-1))) = 0 then 1 else 0 : Int) else 0 : Int) : Int) h)) ∧
    (v7 < 8 →
      (0 ≤ v7) ∧
      (v7 < 8) ∧
      (∀ x6_1 : Int, x6_1 = (i_or v6 (if (hv h 514 v7) = v1 then (i_shl 1 v7) else 0 : Int)) →
      (∀ x7_2 : Int, x7_2 = w32 (v7 + 1) →
      JW K 243 [(2009, 396), (0, v1), (0, v2), (0, v3), (0, v4), (0, v5), (0, x6_1), (0, x7_2), (5000, 0), (5000, 0)] [] h))))) : JW K 243 [(2009, 396), (0, v1), (0, v2), (0, v3), (0, v4), (0, v5), (0, v6), (0, v7), (5000, 0), (5000, 0)] [] h := by
  have e1 := ki.2.2.2.2.1
  have e2 := ki.2.2.2.2.2.1
  subst e1; subst e2
  exact run_ok (dia := [(84, 141), (194, 229), (209, 229), (260, 271), (282, 318)]) (cnr := [(59, 77, 80)]) (cuts := [(41, [2009, 0, 0, 0, 0, 0, 0, 5000, 5000, 5000], []), (243, [2009, 0, 0, 0, 0, 0, 0, 0, 5000, 5000], [])]) ki.1 (pk_X9_isAsTold ki hG) ok_X9_isAsTold (by decide) 16 true _ _ _ _ H
abbrev k_X9_siteOf : List (Nat × List (Nat × Instr)) := [(28, [(0, .iload_n 1), (1, .bipush 7), (3, .if_icmp .ge 7), (6, .iload_n 1), (7, .goto 12), (10, .aload_n 0), (11, .getfield 203), (14, .iload_n 1), (15, .bipush 7), (17, .isub), (18, .iaload), (19, .ireturn)])]
theorem ok_X9_siteOf : CodeOK cX9_siteOf k_X9_siteOf := okw 0 (by decide +kernel) (okn)
abbrev p_X9_siteOf (l : Launch) (G : JG) : JP := (true, [(203, 9, 92, 1400100, 119)], [], [], [], [], [], [], false, 0, [])
theorem pk_X9_siteOf {K : JC} {l : Launch} {G : JG} {Q : Int → MH → Prop} {E : Nat → Int → MH → Prop} {h0 : MH} (ki : KI K l G yX9_siteOf cX9_siteOf 2 (some .int) [] 4 150 0 Q E h0) (hG : gO G = true) : POK K RX9 (p_X9_siteOf l G) :=
  POKi (y := yX9_siteOf) ki hG (rfs rf_X9_ok (by decide +kernel)) fmz fmz fmz fmz fmz
  (pkE ki (by
    intro K e1 e2 e3 e4; subst e1; subst e2
    exact fmz)) (fun z => Bool.noConfusion z) rfl (pkP ki (by
    intro K e1 e2 e3 e4; subst e1; subst e2
    exact fmz))
theorem r_X9_siteOf_0 {K : JC} {l : Launch} {G : JG} {Q : Int → MH → Prop} {E : Nat → Int → MH → Prop} {h0 : MH} (ki : KI K l G yX9_siteOf cX9_siteOf 2 (some .int) [] 4 150 0 Q E h0) (hG : gO G = true) {v1 : Int} {h : MH} (H :
    ((7 ≤ v1 → (0 ≤ (w32 (v1 - 7))) ∧ (w32 (v1 - 7)) < 400)) ∧
    Q (if v1 < 7 then v1 else (hv h 515 (w32 (v1 - 7))) : Int) h) : JW K 0 [(2009, 396), (0, v1)] [] h := by
  have e1 := ki.2.2.2.2.1
  have e2 := ki.2.2.2.2.2.1
  subst e1; subst e2
  exact run_ok (dia := [(3, 19)]) (cnr := []) (cuts := []) ki.1 (pk_X9_siteOf ki hG) ok_X9_siteOf (by decide) 5 true _ _ _ _ H
abbrev k_X9_doIt : List (Nat × List (Nat × Instr)) := [(39, [(0, .aload_n 0), (1, .iload_n 1), (2, .invokevirtual 730), (5, .istore_n 2), (6, .aload_n 0), (7, .getfield 191), (10, .iload_n 2), (11, .iaload), (12, .istore_n 3), (13, .aload_n 0), (14, .getfield 373), (17, .getfield 342), (20, .iload_n 3), (21, .iaload), (22, .istore 4), (24, .aload_n 0), (25, .getfield 373), (28, .getfield 345), (31, .iload_n 3), (32, .iaload), (33, .istore 5), (35, .bipush 16), (37, .iload_n 2), (38, .imul)]),
  (50, [(39, .istore 6), (41, .aload_n 0), (42, .getfield 373), (45, .getfield 339), (48, .iload_n 3), (49, .iaload)]),
  (212, [(50, .tableswitch 1368 0 36 #[162, 172, 181, 199, 229, 243, 257, 296, 296, 296, 296, 296, 430, 455, 499, 559, 569, 613, 653, 680, 726, 770, 851, 851, 851, 860, 860, 1014, 1029, 1056, 1056, 1074, 1241, 1286, 1331, 1368, 1065])]),
  (257, [(212, .aload_n 0), (213, .iload_n 1), (214, .iload 5), (216, .invokevirtual 757), (219, .goto 1233), (222, .aload_n 0), (223, .iload_n 1), (224, .iconst 0), (225, .invokevirtual 757), (228, .goto 1224), (231, .aload_n 0), (232, .iload_n 1), (233, .aload_n 0), (234, .getfield 197), (237, .iload 6), (239, .iload 4), (241, .iadd), (242, .iaload), (243, .invokevirtual 757), (246, .goto 1206), (249, .aload_n 0), (250, .getfield 197), (253, .iload 6), (255, .iload 4)]),
  (295, [(257, .iadd), (258, .aload_n 0), (259, .iload_n 1), (260, .iconst 0), (261, .invokevirtual 760), (264, .iastore), (265, .aload_n 0), (266, .iload_n 1), (267, .iconst 1), (268, .invokevirtual 763), (271, .aload_n 0), (272, .iload_n 1), (273, .invokevirtual 745), (276, .goto 1176), (279, .aload_n 0), (280, .iload_n 1), (281, .iconst 1), (282, .invokevirtual 763), (285, .aload_n 0), (286, .iload_n 1), (287, .invokevirtual 745), (290, .goto 1162), (293, .aload_n 0), (294, .iload_n 1)]),
  (336, [(295, .aload_n 0), (296, .iload_n 1), (297, .iconst 0), (298, .invokevirtual 760), (301, .invokevirtual 757), (304, .goto 1148), (307, .aload_n 0), (308, .iload_n 1), (309, .iconst 0), (310, .invokevirtual 760), (313, .istore 7), (315, .aload_n 0), (316, .iload_n 1), (317, .iconst 1), (318, .invokevirtual 760), (321, .istore 8), (323, .aload_n 0), (324, .iload_n 1), (325, .iconst 2), (326, .invokevirtual 763), (329, .aload_n 0), (330, .iload_n 1), (331, .iload 7), (333, .invokevirtual 739)]),
  (380, [(336, .aload_n 0), (337, .iload_n 1), (338, .iload 8), (340, .invokevirtual 757), (343, .goto 1109), (346, .aload_n 0), (347, .iload_n 1), (348, .iconst 0), (349, .invokevirtual 760), (352, .istore 8), (354, .aload_n 0), (355, .iload_n 1), (356, .iconst 1), (357, .invokevirtual 760), (360, .istore 7), (362, .aload_n 0), (363, .getfield 373), (366, .getfield 339), (369, .iload_n 3), (370, .iaload), (371, .istore 9), (373, .iload 9), (375, .bipush 10), (377, .if_icmp .eq 10)]),
  (426, [(380, .iload 9), (382, .bipush 11), (384, .if_icmp .ne 17), (387, .iload 8), (389, .ifCond .ne 12), (392, .aload_n 0), (393, .iload_n 1), (394, .iconst 4), (395, .invokevirtual 766), (398, .goto 1054), (401, .aload_n 0), (402, .iload_n 1), (403, .iconst 2), (404, .invokevirtual 763), (407, .aload_n 0), (408, .iload_n 1), (409, .iload 9), (411, .bipush 7), (413, .if_icmp .ne 11), (416, .iload 7), (418, .iload 8), (420, .iadd), (421, .goto 53), (424, .iload 9)]),
  (477, [(426, .bipush 8), (428, .if_icmp .ne 11), (431, .iload 7), (433, .iload 8), (435, .isub), (436, .goto 38), (439, .iload 9), (441, .bipush 9), (443, .if_icmp .ne 11), (446, .iload 7), (448, .iload 8), (450, .imul), (451, .goto 23), (454, .iload 9), (456, .bipush 10), (458, .if_icmp .ne 11), (461, .iload 7), (463, .iload 8), (465, .idiv), (466, .goto 8), (469, .iload 7), (471, .iload 8), (473, .irem), (474, .invokevirtual 757)]),
  (518, [(477, .goto 975), (480, .aload_n 0), (481, .iload_n 1), (482, .iconst 0), (483, .invokevirtual 760), (486, .ineg), (487, .istore 7), (489, .aload_n 0), (490, .iload_n 1), (491, .iconst 1), (492, .invokevirtual 763), (495, .aload_n 0), (496, .iload_n 1), (497, .iload 7), (499, .invokevirtual 757), (502, .goto 950), (505, .aload_n 0), (506, .getfield 373), (509, .getfield 348), (512, .iload_n 3), (513, .iaload), (514, .iload 5), (516, .isub), (517, .i2l)]),
  (560, [(518, .lconst 1), (519, .ladd), (520, .lstore 10), (522, .aload_n 0), (523, .iload_n 1), (524, .iload 5), (526, .i2l), (527, .aload_n 0), (528, .invokevirtual 769), (531, .i2l), (532, .iload 5), (534, .i2l), (535, .lsub), (536, .lload 10), (538, .invokestatic 772), (541, .ladd), (542, .l2i), (543, .invokevirtual 757), (546, .goto 906), (549, .aload_n 0), (550, .getfield 721), (553, .sipush 200), (556, .if_icmp .ge 29), (559, .aload_n 0)]),
  (601, [(560, .getfield 213), (563, .aload_n 0), (564, .getfield 721), (567, .iload 4), (569, .iastore), (570, .aload_n 0), (571, .getfield 216), (574, .aload_n 0), (575, .getfield 721), (578, .aload_n 0), (579, .iload_n 1), (580, .iconst 0), (581, .invokevirtual 760), (584, .iastore), (585, .aload_n 0), (586, .dup), (587, .getfield 721), (590, .iconst 1), (591, .iadd), (592, .putfield 721), (595, .aload_n 0), (596, .iload_n 1), (597, .iconst 1), (598, .invokevirtual 763)]),
  (641, [(601, .aload_n 0), (602, .iload_n 1), (603, .invokevirtual 745), (606, .goto 846), (609, .aload_n 0), (610, .iload_n 1), (611, .iload_n 3), (612, .iconst 1), (613, .invokevirtual 775), (616, .goto 836), (619, .aload_n 0), (620, .iload_n 1), (621, .iconst 0), (622, .invokevirtual 760), (625, .istore 8), (627, .aload_n 0), (628, .iload_n 1), (629, .iconst 1), (630, .invokevirtual 760), (633, .istore 7), (635, .aload_n 0), (636, .iload_n 1), (637, .iconst 2), (638, .invokevirtual 763)]),
  (683, [(641, .aload_n 0), (642, .iload_n 1), (643, .iload_n 3), (644, .iload 4), (646, .iload 7), (648, .iload 7), (650, .iload 8), (652, .iload 8), (654, .invokestatic 570), (657, .invokevirtual 775), (660, .goto 792), (663, .aload_n 0), (664, .getfield 197), (667, .iload 6), (669, .iload 4), (671, .bipush 8), (673, .irem), (674, .iadd), (675, .iaload), (676, .istore 7), (678, .aload_n 0), (679, .iload_n 1), (680, .iload_n 3), (681, .iload 4)]),
  (730, [(683, .bipush 8), (685, .idiv), (686, .iload 7), (688, .iload 7), (690, .iload 5), (692, .iload 5), (694, .invokestatic 570), (697, .invokevirtual 775), (700, .goto 752), (703, .aload_n 0), (704, .iload_n 1), (705, .iload_n 3), (706, .aload_n 0), (707, .getfield 197), (710, .iload 6), (712, .iload 4), (714, .iadd), (715, .iaload), (716, .ifCond .ne 7), (719, .iconst 1), (720, .goto 4), (723, .iconst 0), (724, .invokevirtual 775), (727, .goto 725)]),
  (776, [(730, .aload_n 0), (731, .getfield 197), (734, .iload 6), (736, .iload 4), (738, .iadd), (739, .iaload), (740, .istore 7), (742, .aload_n 0), (743, .iload_n 1), (744, .iload_n 3), (745, .iload 7), (747, .ifCond .eq 22), (750, .aload_n 0), (751, .aload_n 0), (752, .iload 7), (754, .invokevirtual 733), (757, .iload 5), (759, .invokevirtual 453), (762, .ifCond .eq 7), (765, .iconst 1), (766, .goto 4), (769, .iconst 0), (770, .invokevirtual 775), (773, .goto 679)]),
  (822, [(776, .aload_n 0), (777, .aload_n 0), (778, .getfield 715), (781, .sipush 400), (784, .if_icmp .ne 7), (787, .iconst 1), (788, .goto 4), (791, .iconst 0), (792, .invokevirtual 779), (795, .ifCond .ne 657), (798, .aload_n 0), (799, .iload_n 1), (800, .aload_n 0), (801, .aload_n 0), (802, .getfield 373), (805, .getfield 327), (808, .iload_n 3), (809, .iaload), (810, .iconst 0), (811, .invokevirtual 783), (814, .invokevirtual 757), (817, .goto 635), (820, .aload_n 0), (821, .iload_n 1)]),
  (872, [(822, .iconst 0), (823, .invokevirtual 760), (826, .istore 7), (828, .iload 7), (830, .i2l), (831, .lconst 0), (832, .ldc2_w 478), (835, .invokestatic 231), (838, .ifCond .ne 12), (841, .aload_n 0), (842, .iload_n 1), (843, .iconst 3), (844, .invokevirtual 766), (847, .goto 605), (850, .aload_n 0), (851, .aload_n 0), (852, .getfield 715), (855, .sipush 400), (858, .if_icmp .ne 7), (861, .iconst 1), (862, .goto 4), (865, .iconst 0), (866, .invokevirtual 779), (869, .ifCond .ne 583)]),
  (917, [(872, .aload_n 0), (873, .iload_n 1), (874, .iconst 1), (875, .invokevirtual 763), (878, .aload_n 0), (879, .iload_n 1), (880, .aload_n 0), (881, .aload_n 0), (882, .getfield 373), (885, .getfield 327), (888, .iload_n 3), (889, .iaload), (890, .iload 7), (892, .invokevirtual 783), (895, .invokevirtual 757), (898, .goto 554), (901, .aload_n 0), (902, .iload_n 1), (903, .iload_n 3), (904, .invokevirtual 786), (907, .goto 545), (910, .aload_n 0), (911, .getfield 373), (914, .getfield 339)]),
  (961, [(917, .iload_n 3), (918, .iaload), (919, .bipush 26), (921, .if_icmp .ne 7), (924, .iconst 1), (925, .goto 4), (928, .iconst 0), (929, .istore 12), (931, .aload_n 0), (932, .iload_n 1), (933, .iload 12), (935, .ifCond .eq 7), (938, .iconst 1), (939, .goto 4), (942, .iconst 0), (943, .invokevirtual 760), (946, .istore 7), (948, .aload_n 0), (949, .iload_n 1), (950, .iconst 0), (951, .invokevirtual 760), (954, .istore 8), (956, .iload 7), (958, .ifCond .eq 18)]),
  (1009, [(961, .aload_n 0), (962, .aload_n 0), (963, .iload 7), (965, .invokevirtual 733), (968, .iload 4), (970, .invokevirtual 453), (973, .ifCond .ne 21), (976, .aload_n 0), (977, .iload_n 1), (978, .iload 7), (980, .ifCond .ne 7), (983, .iconst 1), (984, .goto 4), (987, .iconst 5), (988, .invokevirtual 766), (991, .goto 461), (994, .aload_n 0), (995, .iload_n 1), (996, .iload 12), (998, .ifCond .eq 7), (1001, .iconst 2), (1002, .goto 4), (1005, .iconst 1), (1006, .invokevirtual 763)]),
  (1052, [(1009, .iload 12), (1011, .ifCond .eq 29), (1014, .aload_n 0), (1015, .getfield 210), (1018, .bipush 100), (1020, .iload 7), (1022, .bipush 7), (1024, .isub), (1025, .imul), (1026, .iload 5), (1028, .iadd), (1029, .iload 8), (1031, .iastore), (1032, .aload_n 0), (1033, .iload_n 1), (1034, .invokevirtual 745), (1037, .goto 415), (1040, .aload_n 0), (1041, .iload_n 1), (1042, .aload_n 0), (1043, .getfield 210), (1046, .bipush 100), (1048, .iload 7), (1050, .bipush 7)]),
  (1093, [(1052, .isub), (1053, .imul), (1054, .iload 5), (1056, .iadd), (1057, .iaload), (1058, .invokevirtual 757), (1061, .goto 391), (1064, .aload_n 0), (1065, .iload_n 1), (1066, .aload_n 0), (1067, .getfield 222), (1070, .iload 4), (1072, .iaload), (1073, .invokevirtual 757), (1076, .goto 376), (1079, .aload_n 0), (1080, .getfield 222), (1083, .iload 4), (1085, .aload_n 0), (1086, .iload_n 1), (1087, .iconst 0), (1088, .invokevirtual 760), (1091, .iastore), (1092, .aload_n 0)]),
  (1139, [(1093, .iload_n 1), (1094, .iconst 1), (1095, .invokevirtual 763), (1098, .aload_n 0), (1099, .iload_n 1), (1100, .invokevirtual 745), (1103, .goto 349), (1106, .aload_n 0), (1107, .iload_n 1), (1108, .iload_n 3), (1109, .invokevirtual 789), (1112, .goto 340), (1115, .aload_n 0), (1116, .iload_n 1), (1117, .iload_n 3), (1118, .invokevirtual 792), (1121, .goto 331), (1124, .aload_n 0), (1125, .getfield 373), (1128, .getfield 278), (1131, .aload_n 0), (1132, .getfield 373), (1135, .getfield 354), (1138, .iload_n 3)]),
  (1182, [(1139, .iaload), (1140, .iaload), (1141, .ifCond .le 12), (1144, .aload_n 0), (1145, .iload_n 1), (1146, .iconst 0), (1147, .invokevirtual 760), (1150, .goto 4), (1153, .iconst 0), (1154, .istore 7), (1156, .aload_n 0), (1157, .getfield 373), (1160, .getfield 278), (1163, .aload_n 0), (1164, .getfield 373), (1167, .getfield 354), (1170, .iload_n 3), (1171, .iaload), (1172, .iaload), (1173, .iconst 1), (1174, .if_icmp .ne 7), (1177, .iconst 1), (1178, .goto 4), (1181, .iconst 0)]),
  (1222, [(1182, .istore 13), (1184, .aload_n 0), (1185, .getfield 373), (1188, .getfield 278), (1191, .aload_n 0), (1192, .getfield 373), (1195, .getfield 354), (1198, .iload_n 3), (1199, .iaload), (1200, .iaload), (1201, .ifCond .le 7), (1204, .iconst 1), (1205, .goto 4), (1208, .iconst 0), (1209, .istore 14), (1211, .aload_n 0), (1212, .getfield 185), (1215, .iload_n 1), (1216, .dup2), (1217, .iaload), (1218, .iconst 1), (1219, .isub), (1220, .iastore), (1221, .aload_n 0)]),
  (1271, [(1222, .getfield 185), (1225, .iload_n 1), (1226, .iaload), (1227, .ifCond .ne 44), (1230, .aload_n 0), (1231, .getfield 182), (1234, .iload_n 1), (1235, .iconst 1), (1236, .bastore), (1237, .aload_n 0), (1238, .iload_n 1), (1239, .ifCond .ne 22), (1242, .iload 13), (1244, .ifCond .eq 8), (1247, .iload 7), (1249, .goto 16), (1252, .aload_n 0), (1253, .iload 7), (1255, .invokevirtual 733), (1258, .goto 7), (1261, .aload_n 0), (1262, .getfield 724), (1265, .putfield 724), (1268, .goto 184)]),
  (1314, [(1271, .iload 14), (1273, .ifCond .eq 10), (1276, .aload_n 0), (1277, .iload_n 1), (1278, .iload 7), (1280, .invokevirtual 739), (1283, .aload_n 0), (1284, .iload_n 1), (1285, .invokevirtual 745), (1288, .goto 164), (1291, .aload_n 0), (1292, .iload_n 1), (1293, .iconst 0), (1294, .invokevirtual 760), (1297, .istore 7), (1299, .aload_n 0), (1300, .iload_n 1), (1301, .iload 7), (1303, .ifCond .ne 7), (1306, .iconst 1), (1307, .goto 23), (1310, .aload_n 0), (1311, .aload_n 0), (1312, .iload 7)]),
  (1365, [(1314, .invokevirtual 733), (1317, .iconst 1), (1318, .invokevirtual 453), (1321, .ifCond .eq 8), (1324, .iload 7), (1326, .goto 4), (1329, .iconst 5), (1330, .invokevirtual 766), (1333, .goto 119), (1336, .aload_n 0), (1337, .iload_n 1), (1338, .iconst 0), (1339, .invokevirtual 760), (1342, .istore 7), (1344, .iload 7), (1346, .ifCond .eq 27), (1349, .aload_n 0), (1350, .aload_n 0), (1351, .iload 7), (1353, .invokevirtual 733), (1356, .iload 4), (1358, .invokevirtual 453), (1361, .ifCond .ne 12), (1364, .aload_n 0)]),
  (1410, [(1365, .iload_n 1), (1366, .iconst 5), (1367, .invokevirtual 766), (1370, .goto 82), (1373, .aload_n 0), (1374, .iload_n 1), (1375, .invokevirtual 745), (1378, .goto 74), (1381, .aload_n 0), (1382, .getfield 200), (1385, .iload 4), (1387, .iaload), (1388, .iload_n 1), (1389, .if_icmp .ne 13), (1392, .aload_n 0), (1393, .iload_n 1), (1394, .bipush 6), (1396, .invokevirtual 766), (1399, .goto 53), (1402, .aload_n 0), (1403, .getfield 200), (1406, .iload 4), (1408, .iload_n 1), (1409, .iastore)]),
  (1461, [(1410, .aload_n 0), (1411, .iload_n 1), (1412, .invokevirtual 745), (1415, .goto 37), (1418, .aload_n 0), (1419, .getfield 200), (1422, .iload 4), (1424, .iaload), (1425, .iload_n 1), (1426, .if_icmp .eq 13), (1429, .aload_n 0), (1430, .iload_n 1), (1431, .bipush 6), (1433, .invokevirtual 766), (1436, .goto 16), (1439, .aload_n 0), (1440, .getfield 200), (1443, .iload 4), (1445, .iconst (-1)), (1446, .iastore), (1447, .aload_n 0), (1448, .iload_n 1), (1449, .invokevirtual 745), (1452, .return_)])]
theorem ok_X9_doIt : CodeOK cX9_doIt k_X9_doIt := okw 0 (by decide +kernel) (okw 39 (by decide +kernel) (okc (by decide +kernel) (okw 212 (by decide +kernel) (okw 257 (by decide +kernel) (okw 295 (by decide +kernel) (okw 336 (by decide +kernel) (okw 380 (by decide +kernel) (okw 426 (by decide +kernel) (okw 477 (by decide +kernel) (okw 518 (by decide +kernel) (okw 560 (by decide +kernel) (okw 601 (by decide +kernel) (okw 641 (by decide +kernel) (okw 683 (by decide +kernel) (okw 730 (by decide +kernel) (okw 776 (by decide +kernel) (okw 822 (by decide +kernel) (okw 872 (by decide +kernel) (okw 917 (by decide +kernel) (okw 961 (by decide +kernel) (okw 1009 (by decide +kernel) (okw 1052 (by decide +kernel) (okw 1093 (by decide +kernel) (okw 1139 (by decide +kernel) (okw 1182 (by decide +kernel) (okw 1222 (by decide +kernel) (okw 1271 (by decide +kernel) (okw 1314 (by decide +kernel) (okw 1365 (by decide +kernel) (okw 1410 (by decide +kernel) (okn)))))))))))))))))))))))))))))))
abbrev p_X9_doIt (l : Launch) (G : JG) : JP := (true, [(182, 9, 84, 1008102, 112), (185, 9, 85, 1008100, 113), (191, 9, 87, 1240100, 115), (197, 9, 89, 4840100, 117), (200, 9, 90, 1008100, 118), (210, 9, 94, 41000100, 121), (213, 9, 97, 1200100, 122), (216, 9, 98, 1200100, 123), (222, 9, 105, 1008100, 125), (278, 10, 10, 1040100, 8), (327, 10, 28, 2500100, 25), (339, 10, 22, 2500100, 19), (342, 10, 23, 2500100, 20), (345, 10, 24, 2500100, 21), (348, 10, 25, 2500100, 22), (354, 10, 27, 2500100, 24), (373, 9, 3, 14, 0), (715, 9, 91, 0, 0), (721, 9, 96, 0, 0), (724, 9, 99, 0, 0)], [], [(478, 100)], [(721, 9, 96, 0), (724, 9, 99, 0)], [], [], [(453, 1, [0, 0, 2009], 2, S_X9_isOf l G), (730, 1, [0, 2009], 0, S_X9_frame l G), (733, 1, [0, 2009], 0, S_X9_siteOf l G), (739, 1, [0, 0, 2009], 700, S_X9_push l G), (745, 1, [0, 2009], 700, S_X9_step l G), (757, 1, [0, 0, 2009], 700, S_X9_lie l G), (760, 1, [0, 0, 2009], 0, S_X9_top l G), (763, 1, [0, 0, 2009], 700, S_X9_drop l G), (766, 1, [0, 0, 2009], 700, S_X9_hurl l G), (769, 1, [2009], 0, S_X9_nextInput l G), (772, 0, [1, 1], 1, S_J8_floorMod l G), (775, 1, [0, 0, 0, 2009], 700, S_X9_jump l G), (779, 1, [0, 2009], 2, S_X9_isFullBy l G), (783, 1, [0, 0, 2009], 0, S_X9_make l G), (786, 1, [0, 0, 2009], 700, S_X9_element l G), (789, 1, [0, 0, 2009], 700, S_X9_enterCall l G), (792, 1, [0, 0, 2009], 700, S_X9_begin l G)], false, 700, [(231, e_X9_in), (570, e_X9_may)])
theorem pk_X9_doIt {K : JC} {l : Launch} {G : JG} {Q : Int → MH → Prop} {E : Nat → Int → MH → Prop} {h0 : MH} (ki : KI K l G yX9_doIt cX9_doIt 15 none [] 9 277 700 Q E h0) (hG : gO G = true) : POK K RX9 (p_X9_doIt l G) :=
  POKi (y := yX9_doIt) ki hG (rfs rf_X9_ok (by decide +kernel)) fmz (subs (by decide +kernel) rl_X9_ok) (rps rp_X9_ok (by decide +kernel)) fmz fmz
  (pkE ki (by
    intro K e1 e2 e3 e4; subst e1; subst e2
    exact fmE (ceV 9 e3 e4 yl_X9_isOf ⟨by decide, ⟨_, _, rfl⟩, q2675, qs140, q2673⟩ rfl) (fmE (ceV 9 e3 e4 yl_X9_frame ⟨by decide, ⟨_, _, rfl⟩, q2876, qs168, q2874⟩ rfl) (fmE (ceV 9 e3 e4 yl_X9_siteOf ⟨by decide, ⟨_, _, rfl⟩, q2896, qs173, q2894⟩ rfl) (fmE (ceV 9 e3 e4 yl_X9_push ⟨by decide, ⟨_, _, rfl⟩, q2908, qs176, q2906⟩ rfl) (fmE (ceV 9 e3 e4 yl_X9_step ⟨by decide, ⟨_, _, rfl⟩, q2912, qs177, q2910⟩ rfl) (fmE (ceV 9 e3 e4 yl_X9_lie ⟨by decide, ⟨_, _, rfl⟩, q2904, qs175, q2902⟩ rfl) (fmE (ceV 9 e3 e4 yl_X9_top ⟨by decide, ⟨_, _, rfl⟩, q2916, qs178, q2914⟩ rfl) (fmE (ceV 9 e3 e4 yl_X9_drop ⟨by decide, ⟨_, _, rfl⟩, q2920, qs179, q2918⟩ rfl) (fmE (ceV 9 e3 e4 yl_X9_hurl ⟨by decide, ⟨_, _, rfl⟩, q2924, qs180, q2922⟩ rfl) (fmE (ceV 9 e3 e4 yl_X9_nextInput ⟨by decide, ⟨_, _, rfl⟩, q2880, qs169, q2878⟩ rfl) (fmE (ceS e3 e4 yl_J8_floorMod ⟨q1899, Or.inl q2926⟩ rfl) (fmE (ceV 9 e3 e4 yl_X9_jump ⟨by decide, ⟨_, _, rfl⟩, q2929, qs181, q2927⟩ rfl) (fmE (ceV 9 e3 e4 yl_X9_isFullBy ⟨by decide, ⟨_, _, rfl⟩, q2933, qs182, q2931⟩ rfl) (fmE (ceV 9 e3 e4 yl_X9_make ⟨by decide, ⟨_, _, rfl⟩, q2937, qs183, q2935⟩ rfl) (fmE (ceV 9 e3 e4 yl_X9_element ⟨by decide, ⟨_, _, rfl⟩, q2941, qs184, q2939⟩ rfl) (fmE (ceV 9 e3 e4 yl_X9_enterCall ⟨by decide, ⟨_, _, rfl⟩, q2945, qs185, q2943⟩ rfl) (fmE (ceV 9 e3 e4 yl_X9_begin ⟨by decide, ⟨_, _, rfl⟩, q2949, qs186, q2947⟩ rfl) (fmz))))))))))))))))))) (fun z => Bool.noConfusion z) rfl (pkP ki (by
    intro K e1 e2 e3 e4; subst e1; subst e2
    exact fmP (pe_X9_in hG e3 e4 ⟨q2454, Or.inl q2453⟩ rfl rfl) (fmP (pe_X9_may hG e3 e4 ⟨q2686, Or.inl q2685⟩ rfl rfl) (fmz))))
theorem r_X9_doIt_0 {K : JC} {l : Launch} {G : JG} {Q : Int → MH → Prop} {E : Nat → Int → MH → Prop} {h0 : MH} (ki : KI K l G yX9_doIt cX9_doIt 15 none [] 9 277 700 Q E h0) (hG : gO G = true) {v1 : Int} {h : MH} (H :
    S_X9_frame l G [(2009, 396), (0, v1)] h (fun z1 h2 =>
    (∀ x2_3 : Int, x2_3 = z1 →
    (0 ≤ x2_3) ∧
    (x2_3 < 240) ∧
    (∀ x3_4 : Int, x3_4 = (hv h2 511 x2_3) →
    ((hv h2 396 3) ≠ 0) ∧
    (0 ≤ x3_4) ∧
    (x3_4 < 1500) ∧
    (∀ x4_5 : Int, x4_5 = (hv h2 ((hv h2 396 3) + 20) x3_4) →
    ((hv h2 396 3) ≠ 0) ∧
    (0 ≤ x3_4) ∧
    (x3_4 < 1500) ∧
    (∀ x5_6 : Int, x5_6 = (hv h2 ((hv h2 396 3) + 21) x3_4) →
    (∀ x6_7 : Int, x6_7 = (w32 (16 * x2_3)) →
    ((hv h2 396 3) ≠ 0) ∧
    (0 ≤ x3_4) ∧
    (x3_4 < 1500) ∧
    ((((hv h2 ((hv h2 396 3) + 19) x3_4) = 0 →
      S_X9_lie l G [(2009, 396), (0, v1), (0, x5_6)] h2 (fun _ h9 =>
      Q 0 h9) E) ∧
    (((hv h2 ((hv h2 396 3) + 19) x3_4) = 0 + 1 →
      S_X9_lie l G [(2009, 396), (0, v1), (0, 0)] h2 (fun _ h11 =>
      Q 0 h11) E) ∧
    (((hv h2 ((hv h2 396 3) + 19) x3_4) = 0 + 1 + 1 →
      (0 ≤ (w32 (x6_7 + x4_5))) ∧
      ((w32 (x6_7 + x4_5)) < 3840) ∧
      S_X9_lie l G [(2009, 396), (0, v1), (0, (hv h2 513 (w32 (x6_7 + x4_5))))] h2 (fun _ h13 =>
      Q 0 h13) E) ∧
    (((hv h2 ((hv h2 396 3) + 19) x3_4) = 0 + 1 + 1 + 1 →
      S_X9_top l G [(2009, 396), (0, v1), (0, 0)] h2 (fun z14 h15 =>
      (0 ≤ (w32 (x6_7 + x4_5))) ∧
      ((w32 (x6_7 + x4_5)) < 3840) ∧
      (∀ h16, h16 = hset h15 513 (w32 (x6_7 + x4_5)) z14 →
      S_X9_drop l G [(2009, 396), (0, v1), (0, 1)] h16 (fun _ h18 =>
      S_X9_step l G [(2009, 396), (0, v1)] h18 (fun _ h20 =>
      Q 0 h20) E) E)) E) ∧
    (((hv h2 ((hv h2 396 3) + 19) x3_4) = 0 + 1 + 1 + 1 + 1 →
      S_X9_drop l G [(2009, 396), (0, v1), (0, 1)] h2 (fun _ h22 =>
      S_X9_step l G [(2009, 396), (0, v1)] h22 (fun _ h24 =>
      Q 0 h24) E) E) ∧
    (((hv h2 ((hv h2 396 3) + 19) x3_4) = 0 + 1 + 1 + 1 + 1 + 1 →
      S_X9_top l G [(2009, 396), (0, v1), (0, 0)] h2 (fun z25 h26 =>
      S_X9_lie l G [(2009, 396), (0, v1), (0, z25)] h26 (fun _ h28 =>
      Q 0 h28) E) E) ∧
    (((hv h2 ((hv h2 396 3) + 19) x3_4) = 0 + 1 + 1 + 1 + 1 + 1 + 1 →
      S_X9_top l G [(2009, 396), (0, v1), (0, 0)] h2 (fun z29 h30 =>
      (∀ x7_31 : Int, x7_31 = z29 →
      S_X9_top l G [(2009, 396), (0, v1), (0, 1)] h30 (fun z32 h33 =>
      (∀ x8_34 : Int, x8_34 = z32 →
      S_X9_drop l G [(2009, 396), (0, v1), (0, 2)] h33 (fun _ h36 =>
      S_X9_push l G [(2009, 396), (0, v1), (0, x7_31)] h36 (fun _ h38 =>
      S_X9_lie l G [(2009, 396), (0, v1), (0, x8_34)] h38 (fun _ h40 =>
      Q 0 h40) E) E) E)) E)) E) ∧
    (((hv h2 ((hv h2 396 3) + 19) x3_4) = 0 + 1 + 1 + 1 + 1 + 1 + 1 + 1 →
      S_X9_top l G [(2009, 396), (0, v1), (0, 0)] h2 (fun z41 h42 =>
      (∀ x8_43 : Int, x8_43 = z41 →
      S_X9_top l G [(2009, 396), (0, v1), (0, 1)] h42 (fun z44 h45 =>
      (∀ x7_46 : Int, x7_46 = z44 →
      ((hv h45 396 3) ≠ 0) ∧
      (0 ≤ x3_4) ∧
      (x3_4 < 1500) ∧
      (∀ x9_47 : Int, x9_47 = (hv h45 ((hv h45 396 3) + 19) x3_4) →
      ((((x9_47 = 10 ∧ x8_43 = 0) ∨ (¬ x9_47 = 10 ∧ (x9_47 = 11 ∧ x8_43 = 0))) →
        S_X9_hurl l G [(2009, 396), (0, v1), (0, 4)] h45 (fun _ h49 =>
        Q 0 h49) E) ∧
      (¬ ((x9_47 = 10 ∧ x8_43 = 0) ∨ (¬ x9_47 = 10 ∧ (x9_47 = 11 ∧ x8_43 = 0))) →
        S_X9_drop l G [(2009, 396), (0, v1), (0, 2)] h45 (fun _ h51 =>
        ((¬ x9_47 = 7 → (¬ x9_47 = 8 → (¬ x9_47 = 9 → ((¬ x9_47 = 10 → ¬ x8_43 = 0)) ∧ (x9_47 = 10 → ¬ x8_43 = 0))))) ∧
        S_X9_lie l G [(2009, 396), (0, v1), (0, (if x9_47 = 7 then (w32 (x7_46 + x8_43)) else (if x9_47 = 8 then (w32 (x7_46 - x8_43)) else (if x9_47 = 9 then (w32 (x7_46 * x8_43)) else (if x9_47 = 10 then (i_div x7_46 x8_43) else (i_rem x7_46 x8_43) : Int) : Int) : Int) : Int))] h51 (fun _ h53 =>
        Q 0 h53) E) E))))) E)) E) ∧
    (((hv h2 ((hv h2 396 3) + 19) x3_4) = 0 + 1 + 1 + 1 + 1 + 1 + 1 + 1 + 1 →
      S_X9_top l G [(2009, 396), (0, v1), (0, 0)] h2 (fun z54 h55 =>
      (∀ x8_56 : Int, x8_56 = z54 →
      S_X9_top l G [(2009, 396), (0, v1), (0, 1)] h55 (fun z57 h58 =>
      (∀ x7_59 : Int, x7_59 = z57 →
      ((hv h58 396 3) ≠ 0) ∧
      (0 ≤ x3_4) ∧
      (x3_4 < 1500) ∧
      (∀ x9_60 : Int, x9_60 = (hv h58 ((hv h58 396 3) + 19) x3_4) →
      ((((x9_60 = 10 ∧ x8_56 = 0) ∨ (¬ x9_60 = 10 ∧ (x9_60 = 11 ∧ x8_56 = 0))) →
        S_X9_hurl l G [(2009, 396), (0, v1), (0, 4)] h58 (fun _ h62 =>
        Q 0 h62) E) ∧
      (¬ ((x9_60 = 10 ∧ x8_56 = 0) ∨ (¬ x9_60 = 10 ∧ (x9_60 = 11 ∧ x8_56 = 0))) →
        S_X9_drop l G [(2009, 396), (0, v1), (0, 2)] h58 (fun _ h64 =>
        ((¬ x9_60 = 7 → (¬ x9_60 = 8 → (¬ x9_60 = 9 → ((¬ x9_60 = 10 → ¬ x8_56 = 0)) ∧ (x9_60 = 10 → ¬ x8_56 = 0))))) ∧
        S_X9_lie l G [(2009, 396), (0, v1), (0, (if x9_60 = 7 then (w32 (x7_59 + x8_56)) else (if x9_60 = 8 then (w32 (x7_59 - x8_56)) else (if x9_60 = 9 then (w32 (x7_59 * x8_56)) else (if x9_60 = 10 then (i_div x7_59 x8_56) else (i_rem x7_59 x8_56) : Int) : Int) : Int) : Int))] h64 (fun _ h66 =>
        Q 0 h66) E) E))))) E)) E) ∧
    (((hv h2 ((hv h2 396 3) + 19) x3_4) = 0 + 1 + 1 + 1 + 1 + 1 + 1 + 1 + 1 + 1 →
      S_X9_top l G [(2009, 396), (0, v1), (0, 0)] h2 (fun z67 h68 =>
      (∀ x8_69 : Int, x8_69 = z67 →
      S_X9_top l G [(2009, 396), (0, v1), (0, 1)] h68 (fun z70 h71 =>
      (∀ x7_72 : Int, x7_72 = z70 →
      ((hv h71 396 3) ≠ 0) ∧
      (0 ≤ x3_4) ∧
      (x3_4 < 1500) ∧
      (∀ x9_73 : Int, x9_73 = (hv h71 ((hv h71 396 3) + 19) x3_4) →
      ((((x9_73 = 10 ∧ x8_69 = 0) ∨ (¬ x9_73 = 10 ∧ (x9_73 = 11 ∧ x8_69 = 0))) →
        S_X9_hurl l G [(2009, 396), (0, v1), (0, 4)] h71 (fun _ h75 =>
        Q 0 h75) E) ∧
      (¬ ((x9_73 = 10 ∧ x8_69 = 0) ∨ (¬ x9_73 = 10 ∧ (x9_73 = 11 ∧ x8_69 = 0))) →
        S_X9_drop l G [(2009, 396), (0, v1), (0, 2)] h71 (fun _ h77 =>
        ((¬ x9_73 = 7 → (¬ x9_73 = 8 → (¬ x9_73 = 9 → ((¬ x9_73 = 10 → ¬ x8_69 = 0)) ∧ (x9_73 = 10 → ¬ x8_69 = 0))))) ∧
        S_X9_lie l G [(2009, 396), (0, v1), (0, (if x9_73 = 7 then (w32 (x7_72 + x8_69)) else (if x9_73 = 8 then (w32 (x7_72 - x8_69)) else (if x9_73 = 9 then (w32 (x7_72 * x8_69)) else (if x9_73 = 10 then (i_div x7_72 x8_69) else (i_rem x7_72 x8_69) : Int) : Int) : Int) : Int))] h77 (fun _ h79 =>
        Q 0 h79) E) E))))) E)) E) ∧
    (((hv h2 ((hv h2 396 3) + 19) x3_4) = 0 + 1 + 1 + 1 + 1 + 1 + 1 + 1 + 1 + 1 + 1 →
      S_X9_top l G [(2009, 396), (0, v1), (0, 0)] h2 (fun z80 h81 =>
      (∀ x8_82 : Int, x8_82 = z80 →
      S_X9_top l G [(2009, 396), (0, v1), (0, 1)] h81 (fun z83 h84 =>
      (∀ x7_85 : Int, x7_85 = z83 →
      ((hv h84 396 3) ≠ 0) ∧
      (0 ≤ x3_4) ∧
      (x3_4 < 1500) ∧
      (∀ x9_86 : Int, x9_86 = (hv h84 ((hv h84 396 3) + 19) x3_4) →
      ((((x9_86 = 10 ∧ x8_82 = 0) ∨ (¬ x9_86 = 10 ∧ (x9_86 = 11 ∧ x8_82 = 0))) →
        S_X9_hurl l G [(2009, 396), (0, v1), (0, 4)] h84 (fun _ h88 =>
        Q 0 h88) E) ∧
      (¬ ((x9_86 = 10 ∧ x8_82 = 0) ∨ (¬ x9_86 = 10 ∧ (x9_86 = 11 ∧ x8_82 = 0))) →
        S_X9_drop l G [(2009, 396), (0, v1), (0, 2)] h84 (fun _ h90 =>
        ((¬ x9_86 = 7 → (¬ x9_86 = 8 → (¬ x9_86 = 9 → ((¬ x9_86 = 10 → ¬ x8_82 = 0)) ∧ (x9_86 = 10 → ¬ x8_82 = 0))))) ∧
        S_X9_lie l G [(2009, 396), (0, v1), (0, (if x9_86 = 7 then (w32 (x7_85 + x8_82)) else (if x9_86 = 8 then (w32 (x7_85 - x8_82)) else (if x9_86 = 9 then (w32 (x7_85 * x8_82)) else (if x9_86 = 10 then (i_div x7_85 x8_82) else (i_rem x7_85 x8_82) : Int) : Int) : Int) : Int))] h90 (fun _ h92 =>
        Q 0 h92) E) E))))) E)) E) ∧
    (((hv h2 ((hv h2 396 3) + 19) x3_4) = 0 + 1 + 1 + 1 + 1 + 1 + 1 + 1 + 1 + 1 + 1 + 1 →
      S_X9_top l G [(2009, 396), (0, v1), (0, 0)] h2 (fun z93 h94 =>
      (∀ x8_95 : Int, x8_95 = z93 →
      S_X9_top l G [(2009, 396), (0, v1), (0, 1)] h94 (fun z96 h97 =>
      (∀ x7_98 : Int, x7_98 = z96 →
      ((hv h97 396 3) ≠ 0) ∧
      (0 ≤ x3_4) ∧
      (x3_4 < 1500) ∧
      (∀ x9_99 : Int, x9_99 = (hv h97 ((hv h97 396 3) + 19) x3_4) →
      ((((x9_99 = 10 ∧ x8_95 = 0) ∨ (¬ x9_99 = 10 ∧ (x9_99 = 11 ∧ x8_95 = 0))) →
        S_X9_hurl l G [(2009, 396), (0, v1), (0, 4)] h97 (fun _ h101 =>
        Q 0 h101) E) ∧
      (¬ ((x9_99 = 10 ∧ x8_95 = 0) ∨ (¬ x9_99 = 10 ∧ (x9_99 = 11 ∧ x8_95 = 0))) →
        S_X9_drop l G [(2009, 396), (0, v1), (0, 2)] h97 (fun _ h103 =>
        ((¬ x9_99 = 7 → (¬ x9_99 = 8 → (¬ x9_99 = 9 → ((¬ x9_99 = 10 → ¬ x8_95 = 0)) ∧ (x9_99 = 10 → ¬ x8_95 = 0))))) ∧
        S_X9_lie l G [(2009, 396), (0, v1), (0, (if x9_99 = 7 then (w32 (x7_98 + x8_95)) else (if x9_99 = 8 then (w32 (x7_98 - x8_95)) else (if x9_99 = 9 then (w32 (x7_98 * x8_95)) else (if x9_99 = 10 then (i_div x7_98 x8_95) else (i_rem x7_98 x8_95) : Int) : Int) : Int) : Int))] h103 (fun _ h105 =>
        Q 0 h105) E) E))))) E)) E) ∧
    (((hv h2 ((hv h2 396 3) + 19) x3_4) = 0 + 1 + 1 + 1 + 1 + 1 + 1 + 1 + 1 + 1 + 1 + 1 + 1 →
      S_X9_top l G [(2009, 396), (0, v1), (0, 0)] h2 (fun z106 h107 =>
      (∀ x7_108 : Int, x7_108 = (w32 (-z106)) →
      S_X9_drop l G [(2009, 396), (0, v1), (0, 1)] h107 (fun _ h110 =>
      S_X9_lie l G [(2009, 396), (0, v1), (0, x7_108)] h110 (fun _ h112 =>
      Q 0 h112) E) E)) E) ∧
    (((hv h2 ((hv h2 396 3) + 19) x3_4) = 0 + 1 + 1 + 1 + 1 + 1 + 1 + 1 + 1 + 1 + 1 + 1 + 1 + 1 →
      ((hv h2 396 3) ≠ 0) ∧
      (0 ≤ x3_4) ∧
      (x3_4 < 1500) ∧
      (∀ x10_113 : Int, x10_113 = (w64 ((w32 ((hv h2 ((hv h2 396 3) + 22) x3_4) - x5_6)) + 1)) →
      S_X9_nextInput l G [(2009, 396)] h2 (fun z114 h115 =>
      S_J8_floorMod l G [(1, (w64 (z114 - x5_6))), (1, x10_113)] h115 (fun z116 h117 =>
      S_X9_lie l G [(2009, 396), (0, v1), (0, (w32 (w64 (x5_6 + z116))))] h117 (fun _ h119 =>
      Q 0 h119) E) E) E)) ∧
    (((hv h2 ((hv h2 396 3) + 19) x3_4) = 0 + 1 + 1 + 1 + 1 + 1 + 1 + 1 + 1 + 1 + 1 + 1 + 1 + 1 + 1 →
      ((200 ≤ (hv h2 396 96) →
        (∀ h120, h120 = hset h2 396 96 (w32 ((hv h2 396 96) + 1)) →
        S_X9_drop l G [(2009, 396), (0, v1), (0, 1)] h120 (fun _ h122 =>
        S_X9_step l G [(2009, 396), (0, v1)] h122 (fun _ h124 =>
        Q 0 h124) E) E)) ∧
      ((hv h2 396 96) < 200 →
        (0 ≤ (hv h2 396 96)) ∧
        ((hv h2 396 96) < 200) ∧
        (∀ h125, h125 = hset h2 518 (hv h2 396 96) x4_5 →
        S_X9_top l G [(2009, 396), (0, v1), (0, 0)] h125 (fun z126 h127 =>
        (0 ≤ (hv h125 396 96)) ∧
        ((hv h125 396 96) < 200) ∧
        (∀ h128, h128 = hset h127 519 (hv h125 396 96) z126 →
        (∀ h129, h129 = hset h128 396 96 (w32 ((hv h128 396 96) + 1)) →
        S_X9_drop l G [(2009, 396), (0, v1), (0, 1)] h129 (fun _ h131 =>
        S_X9_step l G [(2009, 396), (0, v1)] h131 (fun _ h133 =>
        Q 0 h133) E) E))) E)))) ∧
    (((hv h2 ((hv h2 396 3) + 19) x3_4) = 0 + 1 + 1 + 1 + 1 + 1 + 1 + 1 + 1 + 1 + 1 + 1 + 1 + 1 + 1 + 1 →
      S_X9_jump l G [(2009, 396), (0, v1), (0, x3_4), (0, 1)] h2 (fun _ h135 =>
      Q 0 h135) E) ∧
    (((hv h2 ((hv h2 396 3) + 19) x3_4) = 0 + 1 + 1 + 1 + 1 + 1 + 1 + 1 + 1 + 1 + 1 + 1 + 1 + 1 + 1 + 1 + 1 →
      S_X9_top l G [(2009, 396), (0, v1), (0, 0)] h2 (fun z136 h137 =>
      (∀ x8_138 : Int, x8_138 = z136 →
      S_X9_top l G [(2009, 396), (0, v1), (0, 1)] h137 (fun z139 h140 =>
      (∀ x7_141 : Int, x7_141 = z139 →
      S_X9_drop l G [(2009, 396), (0, v1), (0, 2)] h140 (fun _ h143 =>
      S_X9_jump l G [(2009, 396), (0, v1), (0, x3_4), (0, (mayf x4_5 x7_141 x7_141 x8_138 x8_138))] h143 (fun _ h145 =>
      Q 0 h145) E) E)) E)) E) ∧
    (((hv h2 ((hv h2 396 3) + 19) x3_4) = 0 + 1 + 1 + 1 + 1 + 1 + 1 + 1 + 1 + 1 + 1 + 1 + 1 + 1 + 1 + 1 + 1 + 1 →
      (¬ (8 : Int) = 0) ∧
      (0 ≤ (w32 (x6_7 + (i_rem x4_5 8)))) ∧
      ((w32 (x6_7 + (i_rem x4_5 8))) < 3840) ∧
      (∀ x7_146 : Int, x7_146 = (hv h2 513 (w32 (x6_7 + (i_rem x4_5 8)))) →
      (¬ (8 : Int) = 0) ∧
      S_X9_jump l G [(2009, 396), (0, v1), (0, x3_4), (0, (mayf (i_div x4_5 8) x7_146 x7_146 x5_6 x5_6))] h2 (fun _ h148 =>
      Q 0 h148) E)) ∧
    (((hv h2 ((hv h2 396 3) + 19) x3_4) = 0 + 1 + 1 + 1 + 1 + 1 + 1 + 1 + 1 + 1 + 1 + 1 + 1 + 1 + 1 + 1 + 1 + 1 + 1 →
      (0 ≤ (w32 (x6_7 + x4_5))) ∧
      ((w32 (x6_7 + x4_5)) < 3840) ∧
      S_X9_jump l G [(2009, 396), (0, v1), (0, x3_4), (0, (if (hv h2 513 (w32 (x6_7 + x4_5))) = 0 then 1 else 0 : Int))] h2 (fun _ h150 =>
      Q 0 h150) E) ∧
    (((hv h2 ((hv h2 396 3) + 19) x3_4) = 0 + 1 + 1 + 1 + 1 + 1 + 1 + 1 + 1 + 1 + 1 + 1 + 1 + 1 + 1 + 1 + 1 + 1 + 1 + 1 →
      (0 ≤ (w32 (x6_7 + x4_5))) ∧
      ((w32 (x6_7 + x4_5)) < 3840) ∧
      (∀ x7_151 : Int, x7_151 = (hv h2 513 (w32 (x6_7 + x4_5))) →
      ((x7_151 = 0 →
        S_X9_jump l G [(2009, 396), (0, v1), (0, x3_4), (0, 0)] h2 (fun _ h153 =>
        Q 0 h153) E) ∧
      (¬ x7_151 = 0 →
        S_X9_siteOf l G [(2009, 396), (0, x7_151)] h2 (fun z154 h155 =>
        S_X9_isOf l G [(2009, 396), (0, z154), (0, x5_6)] h155 (fun z156 h157 =>
        S_X9_jump l G [(2009, 396), (0, v1), (0, x3_4), (0, (if z156 = 0 then 0 else 1 : Int))] h157 (fun _ h159 =>
        Q 0 h159) E) E) E)))) ∧
    (((hv h2 ((hv h2 396 3) + 19) x3_4) = 0 + 1 + 1 + 1 + 1 + 1 + 1 + 1 + 1 + 1 + 1 + 1 + 1 + 1 + 1 + 1 + 1 + 1 + 1 + 1 + 1 →
      S_X9_isFullBy l G [(2009, 396), (0, (if (hv h2 396 91) = 400 then 1 else 0 : Int))] h2 (fun z160 h161 =>
      ((¬ z160 = 0 →
        Q 0 h161) ∧
      (z160 = 0 →
        ((hv h161 396 3) ≠ 0) ∧
        (0 ≤ x3_4) ∧
        (x3_4 < 1500) ∧
        S_X9_make l G [(2009, 396), (0, (hv h161 ((hv h161 396 3) + 25) x3_4)), (0, 0)] h161 (fun z162 h163 =>
        S_X9_lie l G [(2009, 396), (0, v1), (0, z162)] h163 (fun _ h165 =>
        Q 0 h165) E) E))) E) ∧
    (((hv h2 ((hv h2 396 3) + 19) x3_4) = 0 + 1 + 1 + 1 + 1 + 1 + 1 + 1 + 1 + 1 + 1 + 1 + 1 + 1 + 1 + 1 + 1 + 1 + 1 + 1 + 1 + 1 →
      S_X9_top l G [(2009, 396), (0, v1), (0, 0)] h2 (fun z166 h167 =>
      (∀ x7_168 : Int, x7_168 = z166 →
      ((¬ (isin x7_168 0 100) = 0 →
        S_X9_isFullBy l G [(2009, 396), (0, (if (hv h167 396 91) = 400 then 1 else 0 : Int))] h167 (fun z169 h170 =>
        ((¬ z169 = 0 →
          Q 0 h170) ∧
        (z169 = 0 →
          S_X9_drop l G [(2009, 396), (0, v1), (0, 1)] h170 (fun _ h172 =>
          ((hv h172 396 3) ≠ 0) ∧
          (0 ≤ x3_4) ∧
          (x3_4 < 1500) ∧
          S_X9_make l G [(2009, 396), (0, (hv h172 ((hv h172 396 3) + 25) x3_4)), (0, x7_168)] h172 (fun z173 h174 =>
          S_X9_lie l G [(2009, 396), (0, v1), (0, z173)] h174 (fun _ h176 =>
          Q 0 h176) E) E) E))) E) ∧
      ((isin x7_168 0 100) = 0 →
        S_X9_hurl l G [(2009, 396), (0, v1), (0, 3)] h167 (fun _ h178 =>
        Q 0 h178) E)))) E) ∧
    (((hv h2 ((hv h2 396 3) + 19) x3_4) = 0 + 1 + 1 + 1 + 1 + 1 + 1 + 1 + 1 + 1 + 1 + 1 + 1 + 1 + 1 + 1 + 1 + 1 + 1 + 1 + 1 + 1 + 1 →
      S_X9_element l G [(2009, 396), (0, v1), (0, x3_4)] h2 (fun _ h180 =>
      Q 0 h180) E) ∧
    (((hv h2 ((hv h2 396 3) + 19) x3_4) = 0 + 1 + 1 + 1 + 1 + 1 + 1 + 1 + 1 + 1 + 1 + 1 + 1 + 1 + 1 + 1 + 1 + 1 + 1 + 1 + 1 + 1 + 1 + 1 →
      S_X9_element l G [(2009, 396), (0, v1), (0, x3_4)] h2 (fun _ h182 =>
      Q 0 h182) E) ∧
    (((hv h2 ((hv h2 396 3) + 19) x3_4) = 0 + 1 + 1 + 1 + 1 + 1 + 1 + 1 + 1 + 1 + 1 + 1 + 1 + 1 + 1 + 1 + 1 + 1 + 1 + 1 + 1 + 1 + 1 + 1 + 1 →
      S_X9_element l G [(2009, 396), (0, v1), (0, x3_4)] h2 (fun _ h184 =>
      Q 0 h184) E) ∧
    (((hv h2 ((hv h2 396 3) + 19) x3_4) = 0 + 1 + 1 + 1 + 1 + 1 + 1 + 1 + 1 + 1 + 1 + 1 + 1 + 1 + 1 + 1 + 1 + 1 + 1 + 1 + 1 + 1 + 1 + 1 + 1 + 1 →
      ((hv h2 396 3) ≠ 0) ∧
      (0 ≤ x3_4) ∧
      (x3_4 < 1500) ∧
      (∀ x12_185 : Int, x12_185 = (if (hv h2 ((hv h2 396 3) + 19) x3_4) = 26 then 1 else 0 : Int) →
      S_X9_top l G [(2009, 396), (0, v1), (0, (if x12_185 = 0 then 0 else 1 : Int))] h2 (fun z186 h187 =>
      (∀ x7_188 : Int, x7_188 = z186 →
      S_X9_top l G [(2009, 396), (0, v1), (0, 0)] h187 (fun z189 h190 =>
      (∀ x8_191 : Int, x8_191 = z189 →
      ((x7_188 = 0 →
        S_X9_hurl l G [(2009, 396), (0, v1), (0, (if x7_188 = 0 then 1 else 5 : Int))] h190 (fun _ h193 =>
        Q 0 h193) E) ∧
      (¬ x7_188 = 0 →
        S_X9_siteOf l G [(2009, 396), (0, x7_188)] h190 (fun z194 h195 =>
        S_X9_isOf l G [(2009, 396), (0, z194), (0, x4_5)] h195 (fun z196 h197 =>
        ((¬ z196 = 0 →
          S_X9_drop l G [(2009, 396), (0, v1), (0, (if x12_185 = 0 then 1 else 2 : Int))] h197 (fun _ h199 =>
          ((x12_185 = 0 →
            (0 ≤ (w32 ((w32 (100 * (w32 (x7_188 - 7)))) + x5_6))) ∧
            ((w32 ((w32 (100 * (w32 (x7_188 - 7)))) + x5_6)) < 40000) ∧
            S_X9_lie l G [(2009, 396), (0, v1), (0, (hv h199 517 (w32 ((w32 (100 * (w32 (x7_188 - 7)))) + x5_6))))] h199 (fun _ h201 =>
            Q 0 h201) E) ∧
          (¬ x12_185 = 0 →
            (0 ≤ (w32 ((w32 (100 * (w32 (x7_188 - 7)))) + x5_6))) ∧
            ((w32 ((w32 (100 * (w32 (x7_188 - 7)))) + x5_6)) < 40000) ∧
            (∀ h202, h202 = hset h199 517 (w32 ((w32 (100 * (w32 (x7_188 - 7)))) + x5_6)) x8_191 →
            S_X9_step l G [(2009, 396), (0, v1)] h202 (fun _ h204 =>
            Q 0 h204) E)))) E) ∧
        (z196 = 0 →
          S_X9_hurl l G [(2009, 396), (0, v1), (0, (if x7_188 = 0 then 1 else 5 : Int))] h197 (fun _ h206 =>
          Q 0 h206) E))) E) E)))) E)) E)) ∧
    (((hv h2 ((hv h2 396 3) + 19) x3_4) = 0 + 1 + 1 + 1 + 1 + 1 + 1 + 1 + 1 + 1 + 1 + 1 + 1 + 1 + 1 + 1 + 1 + 1 + 1 + 1 + 1 + 1 + 1 + 1 + 1 + 1 + 1 →
      ((hv h2 396 3) ≠ 0) ∧
      (0 ≤ x3_4) ∧
      (x3_4 < 1500) ∧
      (∀ x12_207 : Int, x12_207 = (if (hv h2 ((hv h2 396 3) + 19) x3_4) = 26 then 1 else 0 : Int) →
      S_X9_top l G [(2009, 396), (0, v1), (0, (if x12_207 = 0 then 0 else 1 : Int))] h2 (fun z208 h209 =>
      (∀ x7_210 : Int, x7_210 = z208 →
      S_X9_top l G [(2009, 396), (0, v1), (0, 0)] h209 (fun z211 h212 =>
      (∀ x8_213 : Int, x8_213 = z211 →
      ((x7_210 = 0 →
        S_X9_hurl l G [(2009, 396), (0, v1), (0, (if x7_210 = 0 then 1 else 5 : Int))] h212 (fun _ h215 =>
        Q 0 h215) E) ∧
      (¬ x7_210 = 0 →
        S_X9_siteOf l G [(2009, 396), (0, x7_210)] h212 (fun z216 h217 =>
        S_X9_isOf l G [(2009, 396), (0, z216), (0, x4_5)] h217 (fun z218 h219 =>
        ((¬ z218 = 0 →
          S_X9_drop l G [(2009, 396), (0, v1), (0, (if x12_207 = 0 then 1 else 2 : Int))] h219 (fun _ h221 =>
          ((x12_207 = 0 →
            (0 ≤ (w32 ((w32 (100 * (w32 (x7_210 - 7)))) + x5_6))) ∧
            ((w32 ((w32 (100 * (w32 (x7_210 - 7)))) + x5_6)) < 40000) ∧
            S_X9_lie l G [(2009, 396), (0, v1), (0, (hv h221 517 (w32 ((w32 (100 * (w32 (x7_210 - 7)))) + x5_6))))] h221 (fun _ h223 =>
            Q 0 h223) E) ∧
          (¬ x12_207 = 0 →
            (0 ≤ (w32 ((w32 (100 * (w32 (x7_210 - 7)))) + x5_6))) ∧
            ((w32 ((w32 (100 * (w32 (x7_210 - 7)))) + x5_6)) < 40000) ∧
            (∀ h224, h224 = hset h221 517 (w32 ((w32 (100 * (w32 (x7_210 - 7)))) + x5_6)) x8_213 →
            S_X9_step l G [(2009, 396), (0, v1)] h224 (fun _ h226 =>
            Q 0 h226) E)))) E) ∧
        (z218 = 0 →
          S_X9_hurl l G [(2009, 396), (0, v1), (0, (if x7_210 = 0 then 1 else 5 : Int))] h219 (fun _ h228 =>
          Q 0 h228) E))) E) E)))) E)) E)) ∧
    (((hv h2 ((hv h2 396 3) + 19) x3_4) = 0 + 1 + 1 + 1 + 1 + 1 + 1 + 1 + 1 + 1 + 1 + 1 + 1 + 1 + 1 + 1 + 1 + 1 + 1 + 1 + 1 + 1 + 1 + 1 + 1 + 1 + 1 + 1 →
      (0 ≤ x4_5) ∧
      (x4_5 < 8) ∧
      S_X9_lie l G [(2009, 396), (0, v1), (0, (hv h2 521 x4_5))] h2 (fun _ h230 =>
      Q 0 h230) E) ∧
    (((hv h2 ((hv h2 396 3) + 19) x3_4) = 0 + 1 + 1 + 1 + 1 + 1 + 1 + 1 + 1 + 1 + 1 + 1 + 1 + 1 + 1 + 1 + 1 + 1 + 1 + 1 + 1 + 1 + 1 + 1 + 1 + 1 + 1 + 1 + 1 →
      S_X9_top l G [(2009, 396), (0, v1), (0, 0)] h2 (fun z231 h232 =>
      (0 ≤ x4_5) ∧
      (x4_5 < 8) ∧
      (∀ h233, h233 = hset h232 521 x4_5 z231 →
      S_X9_drop l G [(2009, 396), (0, v1), (0, 1)] h233 (fun _ h235 =>
      S_X9_step l G [(2009, 396), (0, v1)] h235 (fun _ h237 =>
      Q 0 h237) E) E)) E) ∧
    (((hv h2 ((hv h2 396 3) + 19) x3_4) = 0 + 1 + 1 + 1 + 1 + 1 + 1 + 1 + 1 + 1 + 1 + 1 + 1 + 1 + 1 + 1 + 1 + 1 + 1 + 1 + 1 + 1 + 1 + 1 + 1 + 1 + 1 + 1 + 1 + 1 →
      S_X9_enterCall l G [(2009, 396), (0, v1), (0, x3_4)] h2 (fun _ h239 =>
      Q 0 h239) E) ∧
    (((hv h2 ((hv h2 396 3) + 19) x3_4) = 0 + 1 + 1 + 1 + 1 + 1 + 1 + 1 + 1 + 1 + 1 + 1 + 1 + 1 + 1 + 1 + 1 + 1 + 1 + 1 + 1 + 1 + 1 + 1 + 1 + 1 + 1 + 1 + 1 + 1 + 1 →
      S_X9_enterCall l G [(2009, 396), (0, v1), (0, x3_4)] h2 (fun _ h241 =>
      Q 0 h241) E) ∧
    (((hv h2 ((hv h2 396 3) + 19) x3_4) = 0 + 1 + 1 + 1 + 1 + 1 + 1 + 1 + 1 + 1 + 1 + 1 + 1 + 1 + 1 + 1 + 1 + 1 + 1 + 1 + 1 + 1 + 1 + 1 + 1 + 1 + 1 + 1 + 1 + 1 + 1 + 1 →
      ((hv h2 396 3) ≠ 0) ∧
      ((hv h2 396 3) ≠ 0) ∧
      (0 ≤ x3_4) ∧
      (x3_4 < 1500) ∧
      (0 ≤ (hv h2 ((hv h2 396 3) + 24) x3_4)) ∧
      ((hv h2 ((hv h2 396 3) + 24) x3_4) < 40) ∧
      (((hv h2 ((hv h2 396 3) + 8) (hv h2 ((hv h2 396 3) + 24) x3_4)) ≤ 0 →
        (∀ x7_242 : Int, x7_242 = 0 →
        ((hv h2 396 3) ≠ 0) ∧
        ((hv h2 396 3) ≠ 0) ∧
        (0 ≤ x3_4) ∧
        (x3_4 < 1500) ∧
        (0 ≤ (hv h2 ((hv h2 396 3) + 24) x3_4)) ∧
        ((hv h2 ((hv h2 396 3) + 24) x3_4) < 40) ∧
        (∀ x13_243 : Int, x13_243 = (if (hv h2 ((hv h2 396 3) + 8) (hv h2 ((hv h2 396 3) + 24) x3_4)) = 1 then 1 else 0 : Int) →
        ((hv h2 396 3) ≠ 0) ∧
        ((hv h2 396 3) ≠ 0) ∧
        (0 ≤ x3_4) ∧
        (x3_4 < 1500) ∧
        (0 ≤ (hv h2 ((hv h2 396 3) + 24) x3_4)) ∧
        ((hv h2 ((hv h2 396 3) + 24) x3_4) < 40) ∧
        (∀ x14_244 : Int, x14_244 = (if 0 < (hv h2 ((hv h2 396 3) + 8) (hv h2 ((hv h2 396 3) + 24) x3_4)) then 1 else 0 : Int) →
        (0 ≤ v1) ∧
        (v1 < 8) ∧
        (0 ≤ v1) ∧
        (v1 < 8) ∧
        (∀ h245, h245 = hset h2 509 v1 (w32 ((hv h2 509 v1) - 1)) →
        (0 ≤ v1) ∧
        (v1 < 8) ∧
        ((¬ (hv h245 509 v1) = 0 →
          ((x14_244 = 0 →
            S_X9_step l G [(2009, 396), (0, v1)] h245 (fun _ h247 =>
            Q 0 h247) E) ∧
          (¬ x14_244 = 0 →
            S_X9_push l G [(2009, 396), (0, v1), (0, x7_242)] h245 (fun _ h249 =>
            S_X9_step l G [(2009, 396), (0, v1)] h249 (fun _ h251 =>
            Q 0 h251) E) E))) ∧
        ((hv h245 509 v1) = 0 →
          (0 ≤ v1) ∧
          (v1 < 8) ∧
          ((1 : Int) = 0 ∨ (1 : Int) = 1) ∧
          (∀ h252, h252 = hset h245 508 v1 1 →
          ((¬ v1 = 0 →
            (∀ h253, h253 = hset h252 396 99 (hv h252 396 99) →
            Q 0 h253)) ∧
          (v1 = 0 →
            ((x13_243 = 0 →
              S_X9_siteOf l G [(2009, 396), (0, x7_242)] h252 (fun z254 h255 =>
              (∀ h256, h256 = hset h255 396 99 z254 →
              Q 0 h256)) E) ∧
            (¬ x13_243 = 0 →
              (∀ h257, h257 = hset h252 396 99 x7_242 →
              Q 0 h257))))))))))))) ∧
      (0 < (hv h2 ((hv h2 396 3) + 8) (hv h2 ((hv h2 396 3) + 24) x3_4)) →
        S_X9_top l G [(2009, 396), (0, v1), (0, 0)] h2 (fun z258 h259 =>
        (∀ x7_260 : Int, x7_260 = z258 →
        ((hv h259 396 3) ≠ 0) ∧
        ((hv h259 396 3) ≠ 0) ∧
        (0 ≤ x3_4) ∧
        (x3_4 < 1500) ∧
        (0 ≤ (hv h259 ((hv h259 396 3) + 24) x3_4)) ∧
        ((hv h259 ((hv h259 396 3) + 24) x3_4) < 40) ∧
        (∀ x13_261 : Int, x13_261 = (if (hv h259 ((hv h259 396 3) + 8) (hv h259 ((hv h259 396 3) + 24) x3_4)) = 1 then 1 else 0 : Int) →
        ((hv h259 396 3) ≠ 0) ∧
        ((hv h259 396 3) ≠ 0) ∧
        (0 ≤ x3_4) ∧
        (x3_4 < 1500) ∧
        (0 ≤ (hv h259 ((hv h259 396 3) + 24) x3_4)) ∧
        ((hv h259 ((hv h259 396 3) + 24) x3_4) < 40) ∧
        (∀ x14_262 : Int, x14_262 = (if 0 < (hv h259 ((hv h259 396 3) + 8) (hv h259 ((hv h259 396 3) + 24) x3_4)) then 1 else 0 : Int) →
        (0 ≤ v1) ∧
        (v1 < 8) ∧
        (0 ≤ v1) ∧
        (v1 < 8) ∧
        (∀ h263, h263 = hset h259 509 v1 (w32 ((hv h259 509 v1) - 1)) →
        (0 ≤ v1) ∧
        (v1 < 8) ∧
        ((¬ (hv h263 509 v1) = 0 →
          ((x14_262 = 0 →
            S_X9_step l G [(2009, 396), (0, v1)] h263 (fun _ h265 =>
            Q 0 h265) E) ∧
          (¬ x14_262 = 0 →
            S_X9_push l G [(2009, 396), (0, v1), (0, x7_260)] h263 (fun _ h267 =>
            S_X9_step l G [(2009, 396), (0, v1)] h267 (fun _ h269 =>
            Q 0 h269) E) E))) ∧
        ((hv h263 509 v1) = 0 →
          (0 ≤ v1) ∧
          (v1 < 8) ∧
          ((1 : Int) = 0 ∨ (1 : Int) = 1) ∧
          (∀ h270, h270 = hset h263 508 v1 1 →
          ((¬ v1 = 0 →
            (∀ h271, h271 = hset h270 396 99 (hv h270 396 99) →
            Q 0 h271)) ∧
          (v1 = 0 →
            ((x13_261 = 0 →
              S_X9_siteOf l G [(2009, 396), (0, x7_260)] h270 (fun z272 h273 =>
              (∀ h274, h274 = hset h273 396 99 z272 →
              Q 0 h274)) E) ∧
            (¬ x13_261 = 0 →
              (∀ h275, h275 = hset h270 396 99 x7_260 →
              Q 0 h275))))))))))))) E))) ∧
    (((hv h2 ((hv h2 396 3) + 19) x3_4) = 0 + 1 + 1 + 1 + 1 + 1 + 1 + 1 + 1 + 1 + 1 + 1 + 1 + 1 + 1 + 1 + 1 + 1 + 1 + 1 + 1 + 1 + 1 + 1 + 1 + 1 + 1 + 1 + 1 + 1 + 1 + 1 + 1 →
      S_X9_top l G [(2009, 396), (0, v1), (0, 0)] h2 (fun z276 h277 =>
      (∀ x7_278 : Int, x7_278 = z276 →
      ((¬ x7_278 = 0 →
        S_X9_siteOf l G [(2009, 396), (0, x7_278)] h277 (fun z279 h280 =>
        S_X9_isOf l G [(2009, 396), (0, z279), (0, 1)] h280 (fun z281 h282 =>
        S_X9_hurl l G [(2009, 396), (0, v1), (0, (if z281 = 0 then 5 else x7_278 : Int))] h282 (fun _ h284 =>
        Q 0 h284) E) E) E) ∧
      (x7_278 = 0 →
        S_X9_hurl l G [(2009, 396), (0, v1), (0, 1)] h277 (fun _ h286 =>
        Q 0 h286) E)))) E) ∧
    (((hv h2 ((hv h2 396 3) + 19) x3_4) = 0 + 1 + 1 + 1 + 1 + 1 + 1 + 1 + 1 + 1 + 1 + 1 + 1 + 1 + 1 + 1 + 1 + 1 + 1 + 1 + 1 + 1 + 1 + 1 + 1 + 1 + 1 + 1 + 1 + 1 + 1 + 1 + 1 + 1 →
      S_X9_top l G [(2009, 396), (0, v1), (0, 0)] h2 (fun z287 h288 =>
      (∀ x7_289 : Int, x7_289 = z287 →
      ((x7_289 = 0 →
        S_X9_step l G [(2009, 396), (0, v1)] h288 (fun _ h291 =>
        Q 0 h291) E) ∧
      (¬ x7_289 = 0 →
        S_X9_siteOf l G [(2009, 396), (0, x7_289)] h288 (fun z292 h293 =>
        S_X9_isOf l G [(2009, 396), (0, z292), (0, x4_5)] h293 (fun z294 h295 =>
        ((¬ z294 = 0 →
          S_X9_step l G [(2009, 396), (0, v1)] h295 (fun _ h297 =>
          Q 0 h297) E) ∧
        (z294 = 0 →
          S_X9_hurl l G [(2009, 396), (0, v1), (0, 5)] h295 (fun _ h299 =>
          Q 0 h299) E))) E) E)))) E) ∧
    (((hv h2 ((hv h2 396 3) + 19) x3_4) = 0 + 1 + 1 + 1 + 1 + 1 + 1 + 1 + 1 + 1 + 1 + 1 + 1 + 1 + 1 + 1 + 1 + 1 + 1 + 1 + 1 + 1 + 1 + 1 + 1 + 1 + 1 + 1 + 1 + 1 + 1 + 1 + 1 + 1 + 1 →
      (0 ≤ x4_5) ∧
      (x4_5 < 8) ∧
      ((¬ (hv h2 514 x4_5) = v1 →
        (0 ≤ x4_5) ∧
        (x4_5 < 8) ∧
        (∀ h300, h300 = hset h2 514 x4_5 v1 →
        S_X9_step l G [(2009, 396), (0, v1)] h300 (fun _ h302 =>
        Q 0 h302) E)) ∧
      ((hv h2 514 x4_5) = v1 →
        S_X9_hurl l G [(2009, 396), (0, v1), (0, 6)] h2 (fun _ h304 =>
        Q 0 h304) E))) ∧
    (((hv h2 ((hv h2 396 3) + 19) x3_4) = 0 + 1 + 1 + 1 + 1 + 1 + 1 + 1 + 1 + 1 + 1 + 1 + 1 + 1 + 1 + 1 + 1 + 1 + 1 + 1 + 1 + 1 + 1 + 1 + 1 + 1 + 1 + 1 + 1 + 1 + 1 + 1 + 1 + 1 + 1 + 1 →
      (0 ≤ x4_5) ∧
      (x4_5 < 8) ∧
      (((hv h2 514 x4_5) = v1 →
        (0 ≤ x4_5) ∧
        (x4_5 < 8) ∧
        (∀ h305, h305 = hset h2 514 x4_5 (-1) →
        S_X9_step l G [(2009, 396), (0, v1)] h305 (fun _ h307 =>
        Q 0 h307) E)) ∧
      (¬ (hv h2 514 x4_5) = v1 →
        S_X9_hurl l G [(2009, 396), (0, v1), (0, 6)] h2 (fun _ h309 =>
        Q 0 h309) E))) ∧
    (((hv h2 ((hv h2 396 3) + 19) x3_4) = 0 + 1 + 1 + 1 + 1 + 1 + 1 + 1 + 1 + 1 + 1 + 1 + 1 + 1 + 1 + 1 + 1 + 1 + 1 + 1 + 1 + 1 + 1 + 1 + 1 + 1 + 1 + 1 + 1 + 1 + 1 + 1 + 1 + 1 + 1 + 1 + 1 →
      S_X9_begin l G [(2009, 396), (0, v1), (0, x3_4)] h2 (fun _ h311 =>
      Q 0 h311) E) ∧
    True))))))))))))))))))))))))))))))))))))) ∧ (((hv h2 ((hv h2 396 3) + 19) x3_4) < 0 ∨ 36 < (hv h2 ((hv h2 396 3) + 19) x3_4)) →
      (0 ≤ x4_5) ∧
      (x4_5 < 8) ∧
      (((hv h2 514 x4_5) = v1 →
        (0 ≤ x4_5) ∧
        (x4_5 < 8) ∧
        (∀ h312, h312 = hset h2 514 x4_5 (-1) →
        S_X9_step l G [(2009, 396), (0, v1)] h312 (fun _ h314 =>
        Q 0 h314) E)) ∧
      (¬ (hv h2 514 x4_5) = v1 →
        S_X9_hurl l G [(2009, 396), (0, v1), (0, 6)] h2 (fun _ h316 =>
        Q 0 h316) E)))))))))) E) : JW K 0 [(2009, 396), (0, v1), (5000, 0), (5000, 0), (5000, 0), (5000, 0), (5000, 0), (5000, 0), (5000, 0), (5000, 0), (5000, 0), (5000, 0), (5000, 0), (5000, 0), (5000, 0)] [] h := by
  have e1 := ki.2.2.2.2.1
  have e2 := ki.2.2.2.2.2.1
  subst e1; subst e2
  exact run_ok (dia := [(413, 474), (716, 724), (762, 770), (784, 792), (858, 866), (921, 929), (935, 943), (980, 988), (998, 1006), (1174, 1182), (1201, 1209), (1321, 1330)]) (cnr := [(377, 392, 401)]) (cuts := []) ki.1 (pk_X9_doIt ki hG) ok_X9_doIt (by decide) 101 true _ _ _ _ H
abbrev k_X9_lie : List (Nat × List (Nat × Instr)) := [(20, [(0, .aload_n 0), (1, .iload_n 1), (2, .iload_n 2), (3, .invokevirtual 739), (6, .aload_n 0), (7, .iload_n 1), (8, .invokevirtual 745), (11, .return_)])]
theorem ok_X9_lie : CodeOK cX9_lie k_X9_lie := okw 0 (by decide +kernel) (okn)
abbrev p_X9_lie (l : Launch) (G : JG) : JP := (true, [], [], [], [], [], [], [(739, 1, [0, 0, 2009], 700, S_X9_push l G), (745, 1, [0, 2009], 700, S_X9_step l G)], false, 700, [])
theorem pk_X9_lie {K : JC} {l : Launch} {G : JG} {Q : Int → MH → Prop} {E : Nat → Int → MH → Prop} {h0 : MH} (ki : KI K l G yX9_lie cX9_lie 3 none [] 6 194 700 Q E h0) (hG : gO G = true) : POK K RX9 (p_X9_lie l G) :=
  POKi (y := yX9_lie) ki hG fmz fmz fmz fmz fmz fmz
  (pkE ki (by
    intro K e1 e2 e3 e4; subst e1; subst e2
    exact fmE (ceV 9 e3 e4 yl_X9_push ⟨by decide, ⟨_, _, rfl⟩, q2908, qs176, q2906⟩ rfl) (fmE (ceV 9 e3 e4 yl_X9_step ⟨by decide, ⟨_, _, rfl⟩, q2912, qs177, q2910⟩ rfl) (fmz)))) (fun z => Bool.noConfusion z) rfl (pkP ki (by
    intro K e1 e2 e3 e4; subst e1; subst e2
    exact fmz))
theorem r_X9_lie_0 {K : JC} {l : Launch} {G : JG} {Q : Int → MH → Prop} {E : Nat → Int → MH → Prop} {h0 : MH} (ki : KI K l G yX9_lie cX9_lie 3 none [] 6 194 700 Q E h0) (hG : gO G = true) {v1 v2 : Int} {h : MH} (H :
    S_X9_push l G [(2009, 396), (0, v1), (0, v2)] h (fun _ h2 =>
    S_X9_step l G [(2009, 396), (0, v1)] h2 (fun _ h4 =>
    Q 0 h4) E) E) : JW K 0 [(2009, 396), (0, v1), (0, v2)] [] h := by
  have e1 := ki.2.2.2.2.1
  have e2 := ki.2.2.2.2.2.1
  subst e1; subst e2
  exact run_ok (dia := []) (cnr := []) (cuts := []) ki.1 (pk_X9_lie ki hG) ok_X9_lie (by decide) 9 true _ _ _ _ H
abbrev k_X9_push : List (Nat × List (Nat × Instr)) := [(34, [(0, .aload_n 0), (1, .iload_n 1), (2, .invokevirtual 730), (5, .istore_n 3), (6, .aload_n 0), (7, .getfield 197), (10, .bipush 16), (12, .iload_n 3), (13, .imul), (14, .bipush 8), (16, .iadd), (17, .aload_n 0), (18, .getfield 194), (21, .iload_n 3), (22, .iaload), (23, .iadd), (24, .iload_n 2), (25, .iastore), (26, .aload_n 0), (27, .getfield 194), (30, .iload_n 3), (31, .dup2), (32, .iaload), (33, .iconst 1)]),
  (45, [(34, .iadd), (35, .iastore), (36, .return_)])]
theorem ok_X9_push : CodeOK cX9_push k_X9_push := okw 0 (by decide +kernel) (okw 34 (by decide +kernel) (okn))
abbrev p_X9_push (l : Launch) (G : JG) : JP := (true, [(194, 9, 88, 1240100, 116), (197, 9, 89, 4840100, 117)], [], [], [], [], [], [(730, 1, [0, 2009], 0, S_X9_frame l G)], false, 700, [])
theorem pk_X9_push {K : JC} {l : Launch} {G : JG} {Q : Int → MH → Prop} {E : Nat → Int → MH → Prop} {h0 : MH} (ki : KI K l G yX9_push cX9_push 4 none [] 5 171 700 Q E h0) (hG : gO G = true) : POK K RX9 (p_X9_push l G) :=
  POKi (y := yX9_push) ki hG (rfs rf_X9_ok (by decide +kernel)) fmz fmz fmz fmz fmz
  (pkE ki (by
    intro K e1 e2 e3 e4; subst e1; subst e2
    exact fmE (ceV 9 e3 e4 yl_X9_frame ⟨by decide, ⟨_, _, rfl⟩, q2876, qs168, q2874⟩ rfl) (fmz))) (fun z => Bool.noConfusion z) rfl (pkP ki (by
    intro K e1 e2 e3 e4; subst e1; subst e2
    exact fmz))
theorem r_X9_push_0 {K : JC} {l : Launch} {G : JG} {Q : Int → MH → Prop} {E : Nat → Int → MH → Prop} {h0 : MH} (ki : KI K l G yX9_push cX9_push 4 none [] 5 171 700 Q E h0) (hG : gO G = true) {v1 v2 : Int} {h : MH} (H :
    S_X9_frame l G [(2009, 396), (0, v1)] h (fun z1 h2 =>
    (∀ x3_3 : Int, x3_3 = z1 →
    (0 ≤ x3_3) ∧
    (x3_3 < 240) ∧
    (0 ≤ (w32 ((w32 ((w32 (16 * x3_3)) + 8)) + (hv h2 512 x3_3)))) ∧
    ((w32 ((w32 ((w32 (16 * x3_3)) + 8)) + (hv h2 512 x3_3))) < 3840) ∧
    (∀ h4, h4 = hset h2 513 (w32 ((w32 ((w32 (16 * x3_3)) + 8)) + (hv h2 512 x3_3))) v2 →
    (0 ≤ x3_3) ∧
    (x3_3 < 240) ∧
    (0 ≤ x3_3) ∧
    (x3_3 < 240) ∧
    (∀ h5, h5 = hset h4 512 x3_3 (w32 ((hv h4 512 x3_3) + 1)) →
    Q 0 h5)))) E) : JW K 0 [(2009, 396), (0, v1), (0, v2), (5000, 0)] [] h := by
  have e1 := ki.2.2.2.2.1
  have e2 := ki.2.2.2.2.2.1
  subst e1; subst e2
  exact run_ok (dia := []) (cnr := []) (cuts := []) ki.1 (pk_X9_push ki hG) ok_X9_push (by decide) 28 true _ _ _ _ H
abbrev k_X9_step : List (Nat × List (Nat × Instr)) := [(23, [(0, .aload_n 0), (1, .getfield 191), (4, .aload_n 0), (5, .iload_n 1), (6, .invokevirtual 730), (9, .dup2), (10, .iaload), (11, .iconst 1), (12, .iadd), (13, .iastore), (14, .return_)])]
theorem ok_X9_step : CodeOK cX9_step k_X9_step := okw 0 (by decide +kernel) (okn)
abbrev p_X9_step (l : Launch) (G : JG) : JP := (true, [(191, 9, 87, 1240100, 115)], [], [], [], [], [], [(730, 1, [0, 2009], 0, S_X9_frame l G)], false, 700, [])
theorem pk_X9_step {K : JC} {l : Launch} {G : JG} {Q : Int → MH → Prop} {E : Nat → Int → MH → Prop} {h0 : MH} (ki : KI K l G yX9_step cX9_step 2 none [] 5 171 700 Q E h0) (hG : gO G = true) : POK K RX9 (p_X9_step l G) :=
  POKi (y := yX9_step) ki hG (rfs rf_X9_ok (by decide +kernel)) fmz fmz fmz fmz fmz
  (pkE ki (by
    intro K e1 e2 e3 e4; subst e1; subst e2
    exact fmE (ceV 9 e3 e4 yl_X9_frame ⟨by decide, ⟨_, _, rfl⟩, q2876, qs168, q2874⟩ rfl) (fmz))) (fun z => Bool.noConfusion z) rfl (pkP ki (by
    intro K e1 e2 e3 e4; subst e1; subst e2
    exact fmz))
theorem r_X9_step_0 {K : JC} {l : Launch} {G : JG} {Q : Int → MH → Prop} {E : Nat → Int → MH → Prop} {h0 : MH} (ki : KI K l G yX9_step cX9_step 2 none [] 5 171 700 Q E h0) (hG : gO G = true) {v1 : Int} {h : MH} (H :
    S_X9_frame l G [(2009, 396), (0, v1)] h (fun z1 h2 =>
    (0 ≤ z1) ∧
    (z1 < 240) ∧
    (0 ≤ z1) ∧
    (z1 < 240) ∧
    (∀ h3, h3 = hset h2 511 z1 (w32 ((hv h2 511 z1) + 1)) →
    Q 0 h3)) E) : JW K 0 [(2009, 396), (0, v1)] [] h := by
  have e1 := ki.2.2.2.2.1
  have e2 := ki.2.2.2.2.2.1
  subst e1; subst e2
  exact run_ok (dia := []) (cnr := []) (cuts := []) ki.1 (pk_X9_step ki hG) ok_X9_step (by decide) 12 true _ _ _ _ H
abbrev k_X9_top : List (Nat × List (Nat × Instr)) := [(38, [(0, .aload_n 0), (1, .iload_n 1), (2, .invokevirtual 730), (5, .istore_n 3), (6, .aload_n 0), (7, .getfield 197), (10, .bipush 16), (12, .iload_n 3), (13, .imul), (14, .bipush 8), (16, .iadd), (17, .aload_n 0), (18, .getfield 194), (21, .iload_n 3), (22, .iaload), (23, .iadd), (24, .iconst 1), (25, .isub), (26, .iload_n 2), (27, .isub), (28, .iaload), (29, .ireturn)])]
theorem ok_X9_top : CodeOK cX9_top k_X9_top := okw 0 (by decide +kernel) (okn)
abbrev p_X9_top (l : Launch) (G : JG) : JP := (true, [(194, 9, 88, 1240100, 116), (197, 9, 89, 4840100, 117)], [], [], [], [], [], [(730, 1, [0, 2009], 0, S_X9_frame l G)], false, 0, [])
theorem pk_X9_top {K : JC} {l : Launch} {G : JG} {Q : Int → MH → Prop} {E : Nat → Int → MH → Prop} {h0 : MH} (ki : KI K l G yX9_top cX9_top 4 (some .int) [] 5 171 0 Q E h0) (hG : gO G = true) : POK K RX9 (p_X9_top l G) :=
  POKi (y := yX9_top) ki hG (rfs rf_X9_ok (by decide +kernel)) fmz fmz fmz fmz fmz
  (pkE ki (by
    intro K e1 e2 e3 e4; subst e1; subst e2
    exact fmE (ceV 9 e3 e4 yl_X9_frame ⟨by decide, ⟨_, _, rfl⟩, q2876, qs168, q2874⟩ rfl) (fmz))) (fun z => Bool.noConfusion z) rfl (pkP ki (by
    intro K e1 e2 e3 e4; subst e1; subst e2
    exact fmz))
theorem r_X9_top_0 {K : JC} {l : Launch} {G : JG} {Q : Int → MH → Prop} {E : Nat → Int → MH → Prop} {h0 : MH} (ki : KI K l G yX9_top cX9_top 4 (some .int) [] 5 171 0 Q E h0) (hG : gO G = true) {v1 v2 : Int} {h : MH} (H :
    S_X9_frame l G [(2009, 396), (0, v1)] h (fun z1 h2 =>
    (∀ x3_3 : Int, x3_3 = z1 →
    (0 ≤ x3_3) ∧
    (x3_3 < 240) ∧
    (0 ≤ (w32 ((w32 ((w32 ((w32 ((w32 (16 * x3_3)) + 8)) + (hv h2 512 x3_3))) - 1)) - v2))) ∧
    ((w32 ((w32 ((w32 ((w32 ((w32 (16 * x3_3)) + 8)) + (hv h2 512 x3_3))) - 1)) - v2)) < 3840) ∧
    Q (hv h2 513 (w32 ((w32 ((w32 ((w32 ((w32 (16 * x3_3)) + 8)) + (hv h2 512 x3_3))) - 1)) - v2))) h2)) E) : JW K 0 [(2009, 396), (0, v1), (0, v2), (5000, 0)] [] h := by
  have e1 := ki.2.2.2.2.1
  have e2 := ki.2.2.2.2.2.1
  subst e1; subst e2
  exact run_ok (dia := []) (cnr := []) (cuts := []) ki.1 (pk_X9_top ki hG) ok_X9_top (by decide) 23 true _ _ _ _ H
abbrev k_X9_drop : List (Nat × List (Nat × Instr)) := [(23, [(0, .aload_n 0), (1, .getfield 194), (4, .aload_n 0), (5, .iload_n 1), (6, .invokevirtual 730), (9, .dup2), (10, .iaload), (11, .iload_n 2), (12, .isub), (13, .iastore), (14, .return_)])]
theorem ok_X9_drop : CodeOK cX9_drop k_X9_drop := okw 0 (by decide +kernel) (okn)
abbrev p_X9_drop (l : Launch) (G : JG) : JP := (true, [(194, 9, 88, 1240100, 116)], [], [], [], [], [], [(730, 1, [0, 2009], 0, S_X9_frame l G)], false, 700, [])
theorem pk_X9_drop {K : JC} {l : Launch} {G : JG} {Q : Int → MH → Prop} {E : Nat → Int → MH → Prop} {h0 : MH} (ki : KI K l G yX9_drop cX9_drop 3 none [] 5 171 700 Q E h0) (hG : gO G = true) : POK K RX9 (p_X9_drop l G) :=
  POKi (y := yX9_drop) ki hG (rfs rf_X9_ok (by decide +kernel)) fmz fmz fmz fmz fmz
  (pkE ki (by
    intro K e1 e2 e3 e4; subst e1; subst e2
    exact fmE (ceV 9 e3 e4 yl_X9_frame ⟨by decide, ⟨_, _, rfl⟩, q2876, qs168, q2874⟩ rfl) (fmz))) (fun z => Bool.noConfusion z) rfl (pkP ki (by
    intro K e1 e2 e3 e4; subst e1; subst e2
    exact fmz))
theorem r_X9_drop_0 {K : JC} {l : Launch} {G : JG} {Q : Int → MH → Prop} {E : Nat → Int → MH → Prop} {h0 : MH} (ki : KI K l G yX9_drop cX9_drop 3 none [] 5 171 700 Q E h0) (hG : gO G = true) {v1 v2 : Int} {h : MH} (H :
    S_X9_frame l G [(2009, 396), (0, v1)] h (fun z1 h2 =>
    (0 ≤ z1) ∧
    (z1 < 240) ∧
    (0 ≤ z1) ∧
    (z1 < 240) ∧
    (∀ h3, h3 = hset h2 512 z1 (w32 ((hv h2 512 z1) - v2)) →
    Q 0 h3)) E) : JW K 0 [(2009, 396), (0, v1), (0, v2)] [] h := by
  have e1 := ki.2.2.2.2.1
  have e2 := ki.2.2.2.2.2.1
  subst e1; subst e2
  exact run_ok (dia := []) (cnr := []) (cuts := []) ki.1 (pk_X9_drop ki hG) ok_X9_drop (by decide) 12 true _ _ _ _ H
abbrev k_X9_hurl : List (Nat × List (Nat × Instr)) := [(40, [(0, .aload_n 0), (1, .iload_n 2), (2, .invokevirtual 733), (5, .istore_n 3), (6, .aload_n 0), (7, .getfield 185), (10, .iload_n 1), (11, .iaload), (12, .ifCond .le 157), (15, .aload_n 0), (16, .iload_n 1), (17, .invokevirtual 730), (20, .istore 4), (22, .aload_n 0), (23, .getfield 191), (26, .iload 4), (28, .iaload), (29, .istore 5), (31, .aload_n 0), (32, .getfield 219), (35, .iload 5), (37, .dup2), (38, .laload), (39, .lconst 1)]),
  (77, [(40, .iload_n 3), (41, .lshl), (42, .lor), (43, .lastore), (44, .aload_n 0), (45, .aload_n 0), (46, .getfield 736), (49, .ifCond .ne 19), (52, .aload_n 0), (53, .getfield 59), (56, .iload 5), (58, .laload), (59, .iload_n 3), (60, .lshr), (61, .lconst 1), (62, .land), (63, .lconst 0), (64, .lcmp), (65, .ifCond .ne 7), (68, .iconst 1), (69, .goto 4), (72, .iconst 0), (73, .putfield 736), (76, .aload_n 0)]),
  (126, [(77, .iload 5), (79, .iload_n 3), (80, .invokevirtual 560), (83, .istore 6), (85, .iload 6), (87, .iconst (-1)), (88, .if_icmp .eq 68), (91, .aload_n 0), (92, .getfield 373), (95, .getfield 354), (98, .iload 5), (100, .iaload), (101, .istore 7), (103, .aload_n 0), (104, .getfield 191), (107, .iload 4), (109, .aload_n 0), (110, .getfield 373), (113, .getfield 312), (116, .iload 7), (118, .iaload), (119, .aload_n 0), (120, .getfield 373), (123, .getfield 319)]),
  (160, [(126, .bipush 16), (128, .iload 7), (130, .imul), (131, .iconst 4), (132, .iload 6), (134, .imul), (135, .iadd), (136, .iconst 2), (137, .iadd), (138, .iaload), (139, .iadd), (140, .iastore), (141, .aload_n 0), (142, .getfield 194), (145, .iload 4), (147, .iconst 0), (148, .iastore), (149, .aload_n 0), (150, .iload_n 1), (151, .iload_n 2), (152, .invokevirtual 739), (155, .return_), (156, .aload_n 0), (157, .getfield 185)]),
  (200, [(160, .iload_n 1), (161, .dup2), (162, .iaload), (163, .iconst 1), (164, .isub), (165, .iastore), (166, .goto (-160)), (169, .aload_n 0), (170, .getfield 182), (173, .iload_n 1), (174, .iconst 1), (175, .bastore), (176, .aload_n 0), (177, .iload_n 1), (178, .ifCond .ne 15), (181, .aload_n 0), (182, .getfield 373), (185, .getfield 336), (188, .iload_n 3), (189, .iaload), (190, .goto 7), (193, .aload_n 0), (194, .getfield 727), (197, .putfield 727)]),
  (209, [(200, .return_)])]
theorem ok_X9_hurl : CodeOK cX9_hurl k_X9_hurl := okw 0 (by decide +kernel) (okw 40 (by decide +kernel) (okw 77 (by decide +kernel) (okw 126 (by decide +kernel) (okw 160 (by decide +kernel) (okw 200 (by decide +kernel) (okn))))))
abbrev p_X9_hurl (l : Launch) (G : JG) : JP := (true, [(59, 9, 25, 2500101, 71), (182, 9, 84, 1008102, 112), (185, 9, 85, 1008100, 113), (191, 9, 87, 1240100, 115), (194, 9, 88, 1240100, 116), (219, 9, 104, 2500101, 124), (312, 10, 17, 1040100, 15), (319, 10, 15, 1640100, 13), (336, 10, 29, 1063100, 26), (354, 10, 27, 2500100, 24), (373, 9, 3, 14, 0), (727, 9, 100, 0, 0), (736, 9, 102, 0, 0)], [], [], [(727, 9, 100, 0), (736, 9, 102, 2)], [], [], [(560, 1, [0, 0, 2009], 0, S_X9_handlerOf l G), (730, 1, [0, 2009], 0, S_X9_frame l G), (733, 1, [0, 2009], 0, S_X9_siteOf l G), (739, 1, [0, 0, 2009], 700, S_X9_push l G)], false, 700, [])
theorem pk_X9_hurl {K : JC} {l : Launch} {G : JG} {Q : Int → MH → Prop} {E : Nat → Int → MH → Prop} {h0 : MH} (ki : KI K l G yX9_hurl cX9_hurl 8 none [] 7 221 700 Q E h0) (hG : gO G = true) : POK K RX9 (p_X9_hurl l G) :=
  POKi (y := yX9_hurl) ki hG (rfs rf_X9_ok (by decide +kernel)) fmz fmz (rps rp_X9_ok (by decide +kernel)) fmz fmz
  (pkE ki (by
    intro K e1 e2 e3 e4; subst e1; subst e2
    exact fmE (ceV 9 e3 e4 yl_X9_handlerOf ⟨by decide, ⟨_, _, rfl⟩, q2671, qs139, q2669⟩ rfl) (fmE (ceV 9 e3 e4 yl_X9_frame ⟨by decide, ⟨_, _, rfl⟩, q2876, qs168, q2874⟩ rfl) (fmE (ceV 9 e3 e4 yl_X9_siteOf ⟨by decide, ⟨_, _, rfl⟩, q2896, qs173, q2894⟩ rfl) (fmE (ceV 9 e3 e4 yl_X9_push ⟨by decide, ⟨_, _, rfl⟩, q2908, qs176, q2906⟩ rfl) (fmz)))))) (fun z => Bool.noConfusion z) rfl (pkP ki (by
    intro K e1 e2 e3 e4; subst e1; subst e2
    exact fmz))
theorem r_X9_hurl_0 {K : JC} {l : Launch} {G : JG} {Q : Int → MH → Prop} {E : Nat → Int → MH → Prop} {h0 : MH} (ki : KI K l G yX9_hurl cX9_hurl 8 none [] 7 221 700 Q E h0) (hG : gO G = true) {v1 v2 : Int} {h : MH} (H :
    S_X9_siteOf l G [(2009, 396), (0, v2)] h (fun z1 h2 =>
    (∀ x3_3 : Int, x3_3 = z1 →
    JW K 6 [(2009, 396), (0, v1), (0, v2), (0, x3_3), (5000, 0), (5000, 0), (5000, 0), (5000, 0)] [] h2)) E) : JW K 0 [(2009, 396), (0, v1), (0, v2), (5000, 0), (5000, 0), (5000, 0), (5000, 0), (5000, 0)] [] h := by
  have e1 := ki.2.2.2.2.1
  have e2 := ki.2.2.2.2.2.1
  subst e1; subst e2
  exact run_ok (dia := [(49, 73), (178, 197)]) (cnr := []) (cuts := [(6, [2009, 0, 0, 0, 5000, 5000, 5000, 5000], [])]) ki.1 (pk_X9_hurl ki hG) ok_X9_hurl (by decide) 6 true _ _ _ _ H
theorem r_X9_hurl_6 {K : JC} {l : Launch} {G : JG} {Q : Int → MH → Prop} {E : Nat → Int → MH → Prop} {h0 : MH} (ki : KI K l G yX9_hurl cX9_hurl 8 none [] 7 221 700 Q E h0) (hG : gO G = true) {v1 v2 v3 : Int} {h : MH} (H :
    (0 ≤ v1) ∧
    (v1 < 8) ∧
    (((hv h 509 v1) ≤ 0 →
      (0 ≤ v1) ∧
      (v1 < 8) ∧
      ((1 : Int) = 0 ∨ (1 : Int) = 1) ∧
      (∀ h1, h1 = hset h 508 v1 1 →
      ((v1 = 0 → ((hv h1 396 3) ≠ 0) ∧ (0 ≤ v3) ∧ v3 < 63)) ∧
      (∀ h2, h2 = hset h1 396 100 (if v1 = 0 then (hv h1 ((hv h1 396 3) + 26) v3) else (hv h1 396 100) : Int) →
      Q 0 h2))) ∧
    (0 < (hv h 509 v1) →
      S_X9_frame l G [(2009, 396), (0, v1)] h (fun z3 h4 =>
      (∀ x4_5 : Int, x4_5 = z3 →
      (0 ≤ x4_5) ∧
      (x4_5 < 240) ∧
      (∀ x5_6 : Int, x5_6 = (hv h4 511 x4_5) →
      (0 ≤ x5_6) ∧
      (x5_6 < 1500) ∧
      (0 ≤ x5_6) ∧
      (x5_6 < 1500) ∧
      (∀ h7, h7 = hset h4 520 x5_6 (l_or (hv h4 520 x5_6) (l_shl 1 v3)) →
      (((hv h7 396 102) = 0 → (0 ≤ x5_6) ∧ x5_6 < 1500)) ∧
      ((if (hv h7 396 102) = 0 then (if (lc (l_and (l_shr (hv h7 467 x5_6) v3) 1) 0) = 0 then 1 else 0 : Int) else 1 : Int) = 0 ∨ (if (hv h7 396 102) = 0 then (if (lc (l_and (l_shr (hv h7 467 x5_6) v3) 1) 0) = 0 then 1 else 0 : Int) else 1 : Int) = 1) ∧
      (∀ h8, h8 = hset h7 396 102 (if (hv h7 396 102) = 0 then (if (lc (l_and (l_shr (hv h7 467 x5_6) v3) 1) 0) = 0 then 1 else 0 : Int) else 1 : Int) →
      S_X9_handlerOf l G [(2009, 396), (0, x5_6), (0, v3)] h8 (fun z9 h10 =>
      (∀ x6_11 : Int, x6_11 = z9 →
      ((x6_11 = (-1) →
        (0 ≤ v1) ∧
        (v1 < 8) ∧
        (0 ≤ v1) ∧
        (v1 < 8) ∧
        (∀ h12, h12 = hset h10 509 v1 (w32 ((hv h10 509 v1) - 1)) →
        JW K 6 [(2009, 396), (0, v1), (0, v2), (0, v3), (5000, 0), (5000, 0), (5000, 0), (5000, 0)] [] h12)) ∧
      (¬ x6_11 = (-1) →
        ((hv h10 396 3) ≠ 0) ∧
        (0 ≤ x5_6) ∧
        (x5_6 < 1500) ∧
        (∀ x7_13 : Int, x7_13 = (hv h10 ((hv h10 396 3) + 24) x5_6) →
        ((hv h10 396 3) ≠ 0) ∧
        (0 ≤ x7_13) ∧
        (x7_13 < 40) ∧
        ((hv h10 396 3) ≠ 0) ∧
        (0 ≤ (w32 ((w32 ((w32 (16 * x7_13)) + (w32 (4 * x6_11)))) + 2))) ∧
        ((w32 ((w32 ((w32 (16 * x7_13)) + (w32 (4 * x6_11)))) + 2)) < 640) ∧
        (0 ≤ x4_5) ∧
        (x4_5 < 240) ∧
        (∀ h14, h14 = hset h10 511 x4_5 (w32 ((hv h10 ((hv h10 396 3) + 15) x7_13) + (hv h10 ((hv h10 396 3) + 13) (w32 ((w32 ((w32 (16 * x7_13)) + (w32 (4 * x6_11)))) + 2))))) →
        (0 ≤ x4_5) ∧
        (x4_5 < 240) ∧
        (∀ h15, h15 = hset h14 512 x4_5 0 →
        S_X9_push l G [(2009, 396), (0, v1), (0, v2)] h15 (fun _ h17 =>
        Q 0 h17) E))))))) E))))) E))) : JW K 6 [(2009, 396), (0, v1), (0, v2), (0, v3), (5000, 0), (5000, 0), (5000, 0), (5000, 0)] [] h := by
  have e1 := ki.2.2.2.2.1
  have e2 := ki.2.2.2.2.2.1
  subst e1; subst e2
  exact run_ok (dia := [(49, 73), (178, 197)]) (cnr := []) (cuts := [(6, [2009, 0, 0, 0, 5000, 5000, 5000, 5000], [])]) ki.1 (pk_X9_hurl ki hG) ok_X9_hurl (by decide) 77 true _ _ _ _ H
abbrev k_X9_jump : List (Nat × List (Nat × Instr)) := [(44, [(0, .iload_n 3), (1, .ifCond .eq 43), (4, .aload_n 0), (5, .getfield 191), (8, .aload_n 0), (9, .iload_n 1), (10, .invokevirtual 730), (13, .aload_n 0), (14, .getfield 373), (17, .getfield 312), (20, .aload_n 0), (21, .getfield 373), (24, .getfield 354), (27, .iload_n 2), (28, .iaload), (29, .iaload), (30, .aload_n 0), (31, .getfield 373), (34, .getfield 348), (37, .iload_n 2), (38, .iaload), (39, .iadd), (40, .iastore), (41, .goto 8)]),
  (58, [(44, .aload_n 0), (45, .iload_n 1), (46, .invokevirtual 745), (49, .return_)])]
theorem ok_X9_jump : CodeOK cX9_jump k_X9_jump := okw 0 (by decide +kernel) (okw 44 (by decide +kernel) (okn))
abbrev p_X9_jump (l : Launch) (G : JG) : JP := (true, [(191, 9, 87, 1240100, 115), (312, 10, 17, 1040100, 15), (348, 10, 25, 2500100, 22), (354, 10, 27, 2500100, 24), (373, 9, 3, 14, 0)], [], [], [], [], [], [(730, 1, [0, 2009], 0, S_X9_frame l G), (745, 1, [0, 2009], 700, S_X9_step l G)], false, 700, [])
theorem pk_X9_jump {K : JC} {l : Launch} {G : JG} {Q : Int → MH → Prop} {E : Nat → Int → MH → Prop} {h0 : MH} (ki : KI K l G yX9_jump cX9_jump 4 none [] 6 192 700 Q E h0) (hG : gO G = true) : POK K RX9 (p_X9_jump l G) :=
  POKi (y := yX9_jump) ki hG (rfs rf_X9_ok (by decide +kernel)) fmz fmz fmz fmz fmz
  (pkE ki (by
    intro K e1 e2 e3 e4; subst e1; subst e2
    exact fmE (ceV 9 e3 e4 yl_X9_frame ⟨by decide, ⟨_, _, rfl⟩, q2876, qs168, q2874⟩ rfl) (fmE (ceV 9 e3 e4 yl_X9_step ⟨by decide, ⟨_, _, rfl⟩, q2912, qs177, q2910⟩ rfl) (fmz)))) (fun z => Bool.noConfusion z) rfl (pkP ki (by
    intro K e1 e2 e3 e4; subst e1; subst e2
    exact fmz))
theorem r_X9_jump_0 {K : JC} {l : Launch} {G : JG} {Q : Int → MH → Prop} {E : Nat → Int → MH → Prop} {h0 : MH} (ki : KI K l G yX9_jump cX9_jump 4 none [] 6 192 700 Q E h0) (hG : gO G = true) {v1 v2 v3 : Int} {h : MH} (H :
    ((v3 = 0 →
      S_X9_step l G [(2009, 396), (0, v1)] h (fun _ h2 =>
      Q 0 h2) E) ∧
    (¬ v3 = 0 →
      S_X9_frame l G [(2009, 396), (0, v1)] h (fun z3 h4 =>
      ((hv h4 396 3) ≠ 0) ∧
      ((hv h4 396 3) ≠ 0) ∧
      (0 ≤ v2) ∧
      (v2 < 1500) ∧
      (0 ≤ (hv h4 ((hv h4 396 3) + 24) v2)) ∧
      ((hv h4 ((hv h4 396 3) + 24) v2) < 40) ∧
      ((hv h4 396 3) ≠ 0) ∧
      (0 ≤ v2) ∧
      (v2 < 1500) ∧
      (0 ≤ z3) ∧
      (z3 < 240) ∧
      (∀ h5, h5 = hset h4 511 z3 (w32 ((hv h4 ((hv h4 396 3) + 15) (hv h4 ((hv h4 396 3) + 24) v2)) + (hv h4 ((hv h4 396 3) + 22) v2))) →
      Q 0 h5)) E))) : JW K 0 [(2009, 396), (0, v1), (0, v2), (0, v3)] [] h := by
  have e1 := ki.2.2.2.2.1
  have e2 := ki.2.2.2.2.2.1
  subst e1; subst e2
  exact run_ok (dia := []) (cnr := []) (cuts := []) ki.1 (pk_X9_jump ki hG) ok_X9_jump (by decide) 26 true _ _ _ _ H
abbrev k_X9_isFullBy : List (Nat × List (Nat × Instr)) := [(30, [(0, .aload_n 0), (1, .aload_n 0), (2, .getfield 742), (5, .ifCond .ne 7), (8, .iload_n 1), (9, .ifCond .eq 7), (12, .iconst 1), (13, .goto 4), (16, .iconst 0), (17, .putfield 742), (20, .iload_n 1), (21, .ireturn)])]
theorem ok_X9_isFullBy : CodeOK cX9_isFullBy k_X9_isFullBy := okw 0 (by decide +kernel) (okn)
abbrev p_X9_isFullBy (l : Launch) (G : JG) : JP := (true, [(742, 9, 103, 0, 0)], [], [], [(742, 9, 103, 2)], [], [], [], false, 2, [])
theorem pk_X9_isFullBy {K : JC} {l : Launch} {G : JG} {Q : Int → MH → Prop} {E : Nat → Int → MH → Prop} {h0 : MH} (ki : KI K l G yX9_isFullBy cX9_isFullBy 2 (some .boolean) [] 4 150 2 Q E h0) (hG : gO G = true) : POK K RX9 (p_X9_isFullBy l G) :=
  POKi (y := yX9_isFullBy) ki hG (rfs rf_X9_ok (by decide +kernel)) fmz fmz (rps rp_X9_ok (by decide +kernel)) fmz fmz
  (pkE ki (by
    intro K e1 e2 e3 e4; subst e1; subst e2
    exact fmz)) (fun z => Bool.noConfusion z) rfl (pkP ki (by
    intro K e1 e2 e3 e4; subst e1; subst e2
    exact fmz))
theorem r_X9_isFullBy_0 {K : JC} {l : Launch} {G : JG} {Q : Int → MH → Prop} {E : Nat → Int → MH → Prop} {h0 : MH} (ki : KI K l G yX9_isFullBy cX9_isFullBy 2 (some .boolean) [] 4 150 2 Q E h0) (hG : gO G = true) {v1 : Int} {h : MH} (H :
    ((if (hv h 396 103) = 0 then (if v1 = 0 then 0 else 1 : Int) else 1 : Int) = 0 ∨ (if (hv h 396 103) = 0 then (if v1 = 0 then 0 else 1 : Int) else 1 : Int) = 1) ∧
    (∀ h1, h1 = hset h 396 103 (if (hv h 396 103) = 0 then (if v1 = 0 then 0 else 1 : Int) else 1 : Int) →
    ((v1 = 0 ∨ v1 = 1) ∧ Q v1 h1))) : JW K 0 [(2009, 396), (0, v1)] [] h := by
  have e1 := ki.2.2.2.2.1
  have e2 := ki.2.2.2.2.2.1
  subst e1; subst e2
  exact run_ok (dia := [(5, 17)]) (cnr := []) (cuts := []) ki.1 (pk_X9_isFullBy ki hG) ok_X9_isFullBy (by decide) 8 true _ _ _ _ H
abbrev k_X9_make : List (Nat × List (Nat × Instr)) := [(40, [(0, .aload_n 0), (1, .getfield 203), (4, .aload_n 0), (5, .getfield 715), (8, .iload_n 1), (9, .iastore), (10, .aload_n 0), (11, .getfield 206), (14, .aload_n 0), (15, .getfield 715), (18, .iload_n 2), (19, .iastore), (20, .iconst 0), (21, .istore_n 3), (22, .iload_n 3), (23, .bipush 100), (25, .if_icmp .ge 24), (28, .aload_n 0), (29, .getfield 210), (32, .bipush 100), (34, .aload_n 0), (35, .getfield 715), (38, .imul), (39, .iload_n 3)]),
  (75, [(40, .iadd), (41, .iconst 0), (42, .iastore), (43, .iinc 3 1), (46, .goto (-24)), (49, .aload_n 0), (50, .dup), (51, .getfield 715), (54, .iconst 1), (55, .iadd), (56, .putfield 715), (59, .aload_n 0), (60, .getfield 715), (63, .bipush 6), (65, .iadd), (66, .ireturn)])]
theorem ok_X9_make : CodeOK cX9_make k_X9_make := okw 0 (by decide +kernel) (okw 40 (by decide +kernel) (okn))
abbrev p_X9_make (l : Launch) (G : JG) : JP := (true, [(203, 9, 92, 1400100, 119), (206, 9, 93, 1400100, 120), (210, 9, 94, 41000100, 121), (715, 9, 91, 0, 0)], [], [], [(715, 9, 91, 0)], [], [], [], false, 0, [])
theorem pk_X9_make {K : JC} {l : Launch} {G : JG} {Q : Int → MH → Prop} {E : Nat → Int → MH → Prop} {h0 : MH} (ki : KI K l G yX9_make cX9_make 4 (some .int) [] 4 150 0 Q E h0) (hG : gO G = true) : POK K RX9 (p_X9_make l G) :=
  POKi (y := yX9_make) ki hG (rfs rf_X9_ok (by decide +kernel)) fmz fmz (rps rp_X9_ok (by decide +kernel)) fmz fmz
  (pkE ki (by
    intro K e1 e2 e3 e4; subst e1; subst e2
    exact fmz)) (fun z => Bool.noConfusion z) rfl (pkP ki (by
    intro K e1 e2 e3 e4; subst e1; subst e2
    exact fmz))
theorem r_X9_make_0 {K : JC} {l : Launch} {G : JG} {Q : Int → MH → Prop} {E : Nat → Int → MH → Prop} {h0 : MH} (ki : KI K l G yX9_make cX9_make 4 (some .int) [] 4 150 0 Q E h0) (hG : gO G = true) {v1 v2 : Int} {h : MH} (H :
    (0 ≤ (hv h 396 91)) ∧
    ((hv h 396 91) < 400) ∧
    (∀ h1, h1 = hset h 515 (hv h 396 91) v1 →
    (0 ≤ (hv h1 396 91)) ∧
    ((hv h1 396 91) < 400) ∧
    (∀ h2, h2 = hset h1 516 (hv h1 396 91) v2 →
    (∀ x3_3 : Int, x3_3 = 0 →
    JW K 22 [(2009, 396), (0, v1), (0, v2), (0, x3_3)] [] h2)))) : JW K 0 [(2009, 396), (0, v1), (0, v2), (5000, 0)] [] h := by
  have e1 := ki.2.2.2.2.1
  have e2 := ki.2.2.2.2.2.1
  subst e1; subst e2
  exact run_ok (dia := []) (cnr := []) (cuts := [(22, [2009, 0, 0, 0], [])]) ki.1 (pk_X9_make ki hG) ok_X9_make (by decide) 16 true _ _ _ _ H
theorem r_X9_make_22 {K : JC} {l : Launch} {G : JG} {Q : Int → MH → Prop} {E : Nat → Int → MH → Prop} {h0 : MH} (ki : KI K l G yX9_make cX9_make 4 (some .int) [] 4 150 0 Q E h0) (hG : gO G = true) {v1 v2 v3 : Int} {h : MH} (H :
    ((100 ≤ v3 →
      (∀ h1, h1 = hset h 396 91 (w32 ((hv h 396 91) + 1)) →
      Q (w32 ((hv h1 396 91) + 6)) h1)) ∧
    (v3 < 100 →
      (0 ≤ (w32 ((w32 (100 * (hv h 396 91))) + v3))) ∧
      ((w32 ((w32 (100 * (hv h 396 91))) + v3)) < 40000) ∧
      (∀ h2, h2 = hset h 517 (w32 ((w32 (100 * (hv h 396 91))) + v3)) 0 →
      (∀ x3_3 : Int, x3_3 = w32 (v3 + 1) →
      JW K 22 [(2009, 396), (0, v1), (0, v2), (0, x3_3)] [] h2))))) : JW K 22 [(2009, 396), (0, v1), (0, v2), (0, v3)] [] h := by
  have e1 := ki.2.2.2.2.1
  have e2 := ki.2.2.2.2.2.1
  subst e1; subst e2
  exact run_ok (dia := []) (cnr := []) (cuts := [(22, [2009, 0, 0, 0], [])]) ki.1 (pk_X9_make ki hG) ok_X9_make (by decide) 17 true _ _ _ _ H
abbrev k_X9_element : List (Nat × List (Nat × Instr)) := [(43, [(0, .aload_n 0), (1, .getfield 373), (4, .getfield 339), (7, .iload_n 2), (8, .iaload), (9, .istore_n 3), (10, .iload_n 3), (11, .bipush 22), (13, .if_icmp .ne 7), (16, .iconst 0), (17, .goto 14), (20, .iload_n 3), (21, .bipush 23), (23, .if_icmp .ne 7), (26, .iconst 1), (27, .goto 4), (30, .iconst 2), (31, .istore 4), (33, .aload_n 0), (34, .iload_n 1), (35, .iload 4), (37, .invokevirtual 760), (40, .istore 5), (42, .iload_n 3)]),
  (84, [(43, .bipush 22), (45, .if_icmp .ne 7), (48, .iconst 0), (49, .goto 12), (52, .aload_n 0), (53, .iload_n 1), (54, .iload 4), (56, .iconst 1), (57, .isub), (58, .invokevirtual 760), (61, .istore 6), (63, .aload_n 0), (64, .iload_n 1), (65, .iconst 0), (66, .invokevirtual 760), (69, .istore 7), (71, .iload 5), (73, .ifCond .ne 10), (76, .aload_n 0), (77, .iload_n 1), (78, .iconst 1), (79, .invokevirtual 766), (82, .return_), (83, .aload_n 0)]),
  (129, [(84, .getfield 373), (87, .getfield 336), (90, .aload_n 0), (91, .iload 5), (93, .invokevirtual 733), (96, .iaload), (97, .istore 8), (99, .iload 8), (101, .ifCond .ge 25), (104, .iload_n 3), (105, .bipush 22), (107, .if_icmp .eq 26), (110, .iload 8), (112, .iconst (-1)), (113, .aload_n 0), (114, .getfield 373), (117, .getfield 342), (120, .iload_n 2), (121, .iaload), (122, .isub), (123, .if_icmp .eq 10), (126, .aload_n 0), (127, .iload_n 1), (128, .iconst 5)]),
  (169, [(129, .invokevirtual 766), (132, .return_), (133, .aload_n 0), (134, .getfield 206), (137, .iload 5), (139, .bipush 7), (141, .isub), (142, .iaload), (143, .istore 9), (145, .iload_n 3), (146, .bipush 22), (148, .if_icmp .eq 25), (151, .iload 6), (153, .i2l), (154, .lconst 0), (155, .iload 9), (157, .iconst 1), (158, .isub), (159, .i2l), (160, .invokestatic 231), (163, .ifCond .ne 10), (166, .aload_n 0), (167, .iload_n 1), (168, .iconst 2)]),
  (208, [(169, .invokevirtual 766), (172, .return_), (173, .aload_n 0), (174, .iload_n 1), (175, .iload 4), (177, .iconst 1), (178, .iadd), (179, .invokevirtual 763), (182, .iload_n 3), (183, .bipush 24), (185, .if_icmp .ne 29), (188, .aload_n 0), (189, .getfield 210), (192, .bipush 100), (194, .iload 5), (196, .bipush 7), (198, .isub), (199, .imul), (200, .iload 6), (202, .iadd), (203, .iload 7), (205, .iastore), (206, .aload_n 0), (207, .iload_n 1)]),
  (255, [(208, .invokevirtual 745), (211, .goto 35), (214, .aload_n 0), (215, .iload_n 1), (216, .iload_n 3), (217, .bipush 22), (219, .if_icmp .ne 8), (222, .iload 9), (224, .goto 19), (227, .aload_n 0), (228, .getfield 210), (231, .bipush 100), (233, .iload 5), (235, .bipush 7), (237, .isub), (238, .imul), (239, .iload 6), (241, .iadd), (242, .iaload), (243, .invokevirtual 757), (246, .return_)])]
theorem ok_X9_element : CodeOK cX9_element k_X9_element := okw 0 (by decide +kernel) (okw 43 (by decide +kernel) (okw 84 (by decide +kernel) (okw 129 (by decide +kernel) (okw 169 (by decide +kernel) (okw 208 (by decide +kernel) (okn))))))
abbrev p_X9_element (l : Launch) (G : JG) : JP := (true, [(206, 9, 93, 1400100, 120), (210, 9, 94, 41000100, 121), (336, 10, 29, 1063100, 26), (339, 10, 22, 2500100, 19), (342, 10, 23, 2500100, 20), (373, 9, 3, 14, 0)], [], [], [], [], [], [(733, 1, [0, 2009], 0, S_X9_siteOf l G), (745, 1, [0, 2009], 700, S_X9_step l G), (757, 1, [0, 0, 2009], 700, S_X9_lie l G), (760, 1, [0, 0, 2009], 0, S_X9_top l G), (763, 1, [0, 0, 2009], 700, S_X9_drop l G), (766, 1, [0, 0, 2009], 700, S_X9_hurl l G)], false, 700, [(231, e_X9_in)])
theorem pk_X9_element {K : JC} {l : Launch} {G : JG} {Q : Int → MH → Prop} {E : Nat → Int → MH → Prop} {h0 : MH} (ki : KI K l G yX9_element cX9_element 10 none [] 8 248 700 Q E h0) (hG : gO G = true) : POK K RX9 (p_X9_element l G) :=
  POKi (y := yX9_element) ki hG (rfs rf_X9_ok (by decide +kernel)) fmz fmz fmz fmz fmz
  (pkE ki (by
    intro K e1 e2 e3 e4; subst e1; subst e2
    exact fmE (ceV 9 e3 e4 yl_X9_siteOf ⟨by decide, ⟨_, _, rfl⟩, q2896, qs173, q2894⟩ rfl) (fmE (ceV 9 e3 e4 yl_X9_step ⟨by decide, ⟨_, _, rfl⟩, q2912, qs177, q2910⟩ rfl) (fmE (ceV 9 e3 e4 yl_X9_lie ⟨by decide, ⟨_, _, rfl⟩, q2904, qs175, q2902⟩ rfl) (fmE (ceV 9 e3 e4 yl_X9_top ⟨by decide, ⟨_, _, rfl⟩, q2916, qs178, q2914⟩ rfl) (fmE (ceV 9 e3 e4 yl_X9_drop ⟨by decide, ⟨_, _, rfl⟩, q2920, qs179, q2918⟩ rfl) (fmE (ceV 9 e3 e4 yl_X9_hurl ⟨by decide, ⟨_, _, rfl⟩, q2924, qs180, q2922⟩ rfl) (fmz)))))))) (fun z => Bool.noConfusion z) rfl (pkP ki (by
    intro K e1 e2 e3 e4; subst e1; subst e2
    exact fmP (pe_X9_in hG e3 e4 ⟨q2454, Or.inl q2453⟩ rfl rfl) (fmz)))
theorem r_X9_element_0 {K : JC} {l : Launch} {G : JG} {Q : Int → MH → Prop} {E : Nat → Int → MH → Prop} {h0 : MH} (ki : KI K l G yX9_element cX9_element 10 none [] 8 248 700 Q E h0) (hG : gO G = true) {v1 v2 : Int} {h : MH} (H :
    ((hv h 396 3) ≠ 0) ∧
    (0 ≤ v2) ∧
    (v2 < 1500) ∧
    (∀ x3_1 : Int, x3_1 = (hv h ((hv h 396 3) + 19) v2) →
    (∀ x4_2 : Int, x4_2 = (if x3_1 = 22 then 0 else (if x3_1 = 23 then 1 else 2 : Int) : Int) →
    S_X9_top l G [(2009, 396), (0, v1), (0, x4_2)] h (fun z3 h4 =>
    (∀ x5_5 : Int, x5_5 = z3 →
    ((¬ x3_1 = 22 →
      S_X9_top l G [(2009, 396), (0, v1), (0, (w32 (x4_2 - 1)))] h4 (fun z6 h7 =>
      (∀ x6_8 : Int, x6_8 = z6 →
      S_X9_top l G [(2009, 396), (0, v1), (0, 0)] h7 (fun z9 h10 =>
      (∀ x7_11 : Int, x7_11 = z9 →
      ((¬ x5_5 = 0 →
        ((hv h10 396 3) ≠ 0) ∧
        S_X9_siteOf l G [(2009, 396), (0, x5_5)] h10 (fun z12 h13 =>
        (0 ≤ z12) ∧
        (z12 < 63) ∧
        (∀ x8_14 : Int, x8_14 = (hv h13 ((hv h10 396 3) + 26) z12) →
        ((0 ≤ x8_14 →
          S_X9_hurl l G [(2009, 396), (0, v1), (0, 5)] h13 (fun _ h16 =>
          Q 0 h16) E) ∧
        (x8_14 < 0 →
          ((¬ x3_1 = 22 → ((hv h13 396 3) ≠ 0) ∧ (0 ≤ v2) ∧ v2 < 1500)) ∧
          (((¬ x3_1 = 22 ∧ ¬ x8_14 = (w32 ((-1) - (hv h13 ((hv h13 396 3) + 20) v2)))) →
            S_X9_hurl l G [(2009, 396), (0, v1), (0, 5)] h13 (fun _ h18 =>
            Q 0 h18) E) ∧
          (¬ (¬ x3_1 = 22 ∧ ¬ x8_14 = (w32 ((-1) - (hv h13 ((hv h13 396 3) + 20) v2)))) →
            (0 ≤ (w32 (x5_5 - 7))) ∧
            ((w32 (x5_5 - 7)) < 400) ∧
            (∀ x9_19 : Int, x9_19 = (hv h13 516 (w32 (x5_5 - 7))) →
            (((¬ x3_1 = 22 ∧ (isin x6_8 0 (w32 (x9_19 - 1))) = 0) →
              S_X9_hurl l G [(2009, 396), (0, v1), (0, 2)] h13 (fun _ h21 =>
              Q 0 h21) E) ∧
            (¬ (¬ x3_1 = 22 ∧ (isin x6_8 0 (w32 (x9_19 - 1))) = 0) →
              S_X9_drop l G [(2009, 396), (0, v1), (0, (w32 (x4_2 + 1)))] h13 (fun _ h23 =>
              ((¬ x3_1 = 24 →
                ((¬ x3_1 = 22 → (0 ≤ (w32 ((w32 (100 * (w32 (x5_5 - 7)))) + x6_8))) ∧ (w32 ((w32 (100 * (w32 (x5_5 - 7)))) + x6_8)) < 40000)) ∧
                S_X9_lie l G [(2009, 396), (0, v1), (0, (if x3_1 = 22 then x9_19 else (hv h23 517 (w32 ((w32 (100 * (w32 (x5_5 - 7)))) + x6_8))) : Int))] h23 (fun _ h25 =>
                Q 0 h25) E) ∧
              (x3_1 = 24 →
                (0 ≤ (w32 ((w32 (100 * (w32 (x5_5 - 7)))) + x6_8))) ∧
                ((w32 ((w32 (100 * (w32 (x5_5 - 7)))) + x6_8)) < 40000) ∧
                (∀ h26, h26 = hset h23 517 (w32 ((w32 (100 * (w32 (x5_5 - 7)))) + x6_8)) x7_11 →
                S_X9_step l G [(2009, 396), (0, v1)] h26 (fun _ h28 =>
                Q 0 h28) E)))) E))))))))) E) ∧
      (x5_5 = 0 →
        S_X9_hurl l G [(2009, 396), (0, v1), (0, 1)] h10 (fun _ h30 =>
        Q 0 h30) E)))) E)) E) ∧
    (x3_1 = 22 →
      (∀ x6_31 : Int, x6_31 = 0 →
      S_X9_top l G [(2009, 396), (0, v1), (0, 0)] h4 (fun z32 h33 =>
      (∀ x7_34 : Int, x7_34 = z32 →
      ((¬ x5_5 = 0 →
        ((hv h33 396 3) ≠ 0) ∧
        S_X9_siteOf l G [(2009, 396), (0, x5_5)] h33 (fun z35 h36 =>
        (0 ≤ z35) ∧
        (z35 < 63) ∧
        (∀ x8_37 : Int, x8_37 = (hv h36 ((hv h33 396 3) + 26) z35) →
        ((0 ≤ x8_37 →
          S_X9_hurl l G [(2009, 396), (0, v1), (0, 5)] h36 (fun _ h39 =>
          Q 0 h39) E) ∧
        (x8_37 < 0 →
          ((¬ x3_1 = 22 → ((hv h36 396 3) ≠ 0) ∧ (0 ≤ v2) ∧ v2 < 1500)) ∧
          (((¬ x3_1 = 22 ∧ ¬ x8_37 = (w32 ((-1) - (hv h36 ((hv h36 396 3) + 20) v2)))) →
            S_X9_hurl l G [(2009, 396), (0, v1), (0, 5)] h36 (fun _ h41 =>
            Q 0 h41) E) ∧
          (¬ (¬ x3_1 = 22 ∧ ¬ x8_37 = (w32 ((-1) - (hv h36 ((hv h36 396 3) + 20) v2)))) →
            (0 ≤ (w32 (x5_5 - 7))) ∧
            ((w32 (x5_5 - 7)) < 400) ∧
            (∀ x9_42 : Int, x9_42 = (hv h36 516 (w32 (x5_5 - 7))) →
            (((¬ x3_1 = 22 ∧ (isin x6_31 0 (w32 (x9_42 - 1))) = 0) →
              S_X9_hurl l G [(2009, 396), (0, v1), (0, 2)] h36 (fun _ h44 =>
              Q 0 h44) E) ∧
            (¬ (¬ x3_1 = 22 ∧ (isin x6_31 0 (w32 (x9_42 - 1))) = 0) →
              S_X9_drop l G [(2009, 396), (0, v1), (0, (w32 (x4_2 + 1)))] h36 (fun _ h46 =>
              ((¬ x3_1 = 24 →
                ((¬ x3_1 = 22 → (0 ≤ (w32 ((w32 (100 * (w32 (x5_5 - 7)))) + x6_31))) ∧ (w32 ((w32 (100 * (w32 (x5_5 - 7)))) + x6_31)) < 40000)) ∧
                S_X9_lie l G [(2009, 396), (0, v1), (0, (if x3_1 = 22 then x9_42 else (hv h46 517 (w32 ((w32 (100 * (w32 (x5_5 - 7)))) + x6_31))) : Int))] h46 (fun _ h48 =>
                Q 0 h48) E) ∧
              (x3_1 = 24 →
                (0 ≤ (w32 ((w32 (100 * (w32 (x5_5 - 7)))) + x6_31))) ∧
                ((w32 ((w32 (100 * (w32 (x5_5 - 7)))) + x6_31)) < 40000) ∧
                (∀ h49, h49 = hset h46 517 (w32 ((w32 (100 * (w32 (x5_5 - 7)))) + x6_31)) x7_34 →
                S_X9_step l G [(2009, 396), (0, v1)] h49 (fun _ h51 =>
                Q 0 h51) E)))) E))))))))) E) ∧
      (x5_5 = 0 →
        S_X9_hurl l G [(2009, 396), (0, v1), (0, 1)] h33 (fun _ h53 =>
        Q 0 h53) E)))) E))))) E))) : JW K 0 [(2009, 396), (0, v1), (0, v2), (5000, 0), (5000, 0), (5000, 0), (5000, 0), (5000, 0), (5000, 0), (5000, 0)] [] h := by
  have e1 := ki.2.2.2.2.1
  have e2 := ki.2.2.2.2.2.1
  subst e1; subst e2
  exact run_ok (dia := [(13, 31), (219, 243)]) (cnr := [(107, 126, 133), (148, 166, 173)]) (cuts := []) ki.1 (pk_X9_element ki hG) ok_X9_element (by decide) 81 true _ _ _ _ H
abbrev k_X9_enterCall : List (Nat × List (Nat × Instr)) := [(47, [(0, .aload_n 0), (1, .getfield 373), (4, .getfield 339), (7, .iload_n 2), (8, .iaload), (9, .bipush 29), (11, .if_icmp .ne 7), (14, .iconst 1), (15, .goto 4), (18, .iconst 0), (19, .istore_n 3), (20, .iload_n 3), (21, .ifCond .eq 15), (24, .aload_n 0), (25, .getfield 373), (28, .getfield 345), (31, .iload_n 2), (32, .iaload), (33, .goto 19), (36, .aload_n 0), (37, .getfield 373), (40, .aload_n 0), (41, .getfield 373), (44, .getfield 342)]),
  (91, [(47, .iload_n 2), (48, .iaload), (49, .invokestatic 439), (52, .istore 4), (54, .aload_n 0), (55, .getfield 373), (58, .getfield 275), (61, .iload 4), (63, .iaload), (64, .istore 5), (66, .iload 4), (68, .istore 6), (70, .iload_n 3), (71, .ifCond .ne 66), (74, .aload_n 0), (75, .iload_n 1), (76, .iload 5), (78, .iconst 1), (79, .isub), (80, .invokevirtual 760), (83, .istore 7), (85, .iload 7), (87, .ifCond .ne 7), (90, .iconst (-1))]),
  (137, [(91, .goto 22), (94, .aload_n 0), (95, .aload_n 0), (96, .iload 7), (98, .invokevirtual 733), (101, .aload_n 0), (102, .getfield 373), (105, .getfield 342), (108, .iload_n 2), (109, .iaload), (110, .invokevirtual 599), (113, .istore 6), (115, .iload 6), (117, .iconst (-1)), (118, .if_icmp .ne 19), (121, .aload_n 0), (122, .iload_n 1), (123, .iload 7), (125, .ifCond .ne 7), (128, .iconst 1), (129, .goto 4), (132, .iconst 5), (133, .invokevirtual 766), (136, .return_)]),
  (179, [(137, .aload_n 0), (138, .aload_n 0), (139, .getfield 185), (142, .iload_n 1), (143, .iaload), (144, .bipush 30), (146, .if_icmp .ne 7), (149, .iconst 1), (150, .goto 4), (153, .iconst 0), (154, .invokevirtual 779), (157, .ifCond .eq 4), (160, .return_), (161, .aload_n 0), (162, .iload_n 1), (163, .invokevirtual 730), (166, .istore 7), (168, .aload_n 0), (169, .iload_n 1), (170, .iload 5), (172, .invokevirtual 763), (175, .aload_n 0), (176, .iload_n 1), (177, .iload 6)]),
  (224, [(179, .invokevirtual 795), (182, .istore 8), (184, .iconst 0), (185, .istore 9), (187, .iload 9), (189, .iload 5), (191, .if_icmp .ge 46), (194, .aload_n 0), (195, .getfield 197), (198, .bipush 16), (200, .iload 8), (202, .imul), (203, .iload 9), (205, .iadd), (206, .aload_n 0), (207, .getfield 197), (210, .bipush 16), (212, .iload 7), (214, .imul), (215, .bipush 8), (217, .iadd), (218, .aload_n 0), (219, .getfield 194), (222, .iload 7)]),
  (246, [(224, .iaload), (225, .iadd), (226, .iload 9), (228, .iadd), (229, .iaload), (230, .iastore), (231, .iinc 9 1), (234, .goto (-47)), (237, .return_)])]
theorem ok_X9_enterCall : CodeOK cX9_enterCall k_X9_enterCall := okw 0 (by decide +kernel) (okw 47 (by decide +kernel) (okw 91 (by decide +kernel) (okw 137 (by decide +kernel) (okw 179 (by decide +kernel) (okw 224 (by decide +kernel) (okn))))))
abbrev p_X9_enterCall (l : Launch) (G : JG) : JP := (true, [(185, 9, 85, 1008100, 113), (194, 9, 88, 1240100, 116), (197, 9, 89, 4840100, 117), (275, 10, 9, 1040100, 7), (339, 10, 22, 2500100, 19), (342, 10, 23, 2500100, 20), (345, 10, 24, 2500100, 21), (373, 9, 3, 14, 0)], [], [], [], [], [], [(439, 0, [0, 14], 0, S_X9_withName l G), (599, 1, [0, 0, 2009], 0, S_X9_sentTo l G), (730, 1, [0, 2009], 0, S_X9_frame l G), (733, 1, [0, 2009], 0, S_X9_siteOf l G), (760, 1, [0, 0, 2009], 0, S_X9_top l G), (763, 1, [0, 0, 2009], 700, S_X9_drop l G), (766, 1, [0, 0, 2009], 700, S_X9_hurl l G), (779, 1, [0, 2009], 2, S_X9_isFullBy l G), (795, 1, [0, 0, 2009], 0, S_X9_open l G)], false, 700, [])
theorem pk_X9_enterCall {K : JC} {l : Launch} {G : JG} {Q : Int → MH → Prop} {E : Nat → Int → MH → Prop} {h0 : MH} (ki : KI K l G yX9_enterCall cX9_enterCall 10 none [] 8 248 700 Q E h0) (hG : gO G = true) : POK K RX9 (p_X9_enterCall l G) :=
  POKi (y := yX9_enterCall) ki hG (rfs rf_X9_ok (by decide +kernel)) fmz fmz fmz fmz fmz
  (pkE ki (by
    intro K e1 e2 e3 e4; subst e1; subst e2
    exact fmE (ceS e3 e4 yl_X9_withName ⟨q2538, Or.inl q2537⟩ rfl) (fmE (ceV 9 e3 e4 yl_X9_sentTo ⟨by decide, ⟨_, _, rfl⟩, q2731, qs153, q2729⟩ rfl) (fmE (ceV 9 e3 e4 yl_X9_frame ⟨by decide, ⟨_, _, rfl⟩, q2876, qs168, q2874⟩ rfl) (fmE (ceV 9 e3 e4 yl_X9_siteOf ⟨by decide, ⟨_, _, rfl⟩, q2896, qs173, q2894⟩ rfl) (fmE (ceV 9 e3 e4 yl_X9_top ⟨by decide, ⟨_, _, rfl⟩, q2916, qs178, q2914⟩ rfl) (fmE (ceV 9 e3 e4 yl_X9_drop ⟨by decide, ⟨_, _, rfl⟩, q2920, qs179, q2918⟩ rfl) (fmE (ceV 9 e3 e4 yl_X9_hurl ⟨by decide, ⟨_, _, rfl⟩, q2924, qs180, q2922⟩ rfl) (fmE (ceV 9 e3 e4 yl_X9_isFullBy ⟨by decide, ⟨_, _, rfl⟩, q2933, qs182, q2931⟩ rfl) (fmE (ceV 9 e3 e4 yl_X9_open ⟨by decide, ⟨_, _, rfl⟩, q2872, qs167, q2870⟩ rfl) (fmz))))))))))) (fun z => Bool.noConfusion z) rfl (pkP ki (by
    intro K e1 e2 e3 e4; subst e1; subst e2
    exact fmz))
theorem r_X9_enterCall_0 {K : JC} {l : Launch} {G : JG} {Q : Int → MH → Prop} {E : Nat → Int → MH → Prop} {h0 : MH} (ki : KI K l G yX9_enterCall cX9_enterCall 10 none [] 8 248 700 Q E h0) (hG : gO G = true) {v1 v2 : Int} {h : MH} (H :
    ((hv h 396 3) ≠ 0) ∧
    (0 ≤ v2) ∧
    (v2 < 1500) ∧
    (∀ x3_1 : Int, x3_1 = (if (hv h ((hv h 396 3) + 19) v2) = 29 then 1 else 0 : Int) →
    ((x3_1 = 0 →
      ((hv h 396 3) ≠ 0) ∧
      (0 ≤ v2) ∧
      (v2 < 1500) ∧
      S_X9_withName l G [(14, (hv h 396 3)), (0, (hv h ((hv h 396 3) + 20) v2))] h (fun z2 h3 =>
      (∀ x4_4 : Int, x4_4 = z2 →
      ((hv h3 396 3) ≠ 0) ∧
      (0 ≤ x4_4) ∧
      (x4_4 < 40) ∧
      (∀ x5_5 : Int, x5_5 = (hv h3 ((hv h3 396 3) + 7) x4_4) →
      (∀ x6_6 : Int, x6_6 = x4_4 →
      ((¬ x3_1 = 0 →
        (0 ≤ v1) ∧
        (v1 < 8) ∧
        S_X9_isFullBy l G [(2009, 396), (0, (if (hv h3 509 v1) = 30 then 1 else 0 : Int))] h3 (fun z7 h8 =>
        ((z7 = 0 →
          S_X9_frame l G [(2009, 396), (0, v1)] h8 (fun z9 h10 =>
          (∀ x7_11 : Int, x7_11 = z9 →
          S_X9_drop l G [(2009, 396), (0, v1), (0, x5_5)] h10 (fun _ h13 =>
          S_X9_open l G [(2009, 396), (0, v1), (0, x6_6)] h13 (fun z14 h15 =>
          (∀ x8_16 : Int, x8_16 = z14 →
          (∀ x9_17 : Int, x9_17 = 0 →
          JW K 187 [(2009, 396), (0, v1), (0, v2), (0, x3_1), (0, x4_4), (0, x5_5), (0, x6_6), (0, x7_11), (0, x8_16), (0, x9_17)] [] h15))) E) E)) E) ∧
        (¬ z7 = 0 →
          Q 0 h8))) E) ∧
      (x3_1 = 0 →
        S_X9_top l G [(2009, 396), (0, v1), (0, (w32 (x5_5 - 1)))] h3 (fun z18 h19 =>
        (∀ x7_20 : Int, x7_20 = z18 →
        ((¬ x7_20 = 0 →
          S_X9_siteOf l G [(2009, 396), (0, x7_20)] h19 (fun z21 h22 =>
          ((hv h22 396 3) ≠ 0) ∧
          (0 ≤ v2) ∧
          (v2 < 1500) ∧
          S_X9_sentTo l G [(2009, 396), (0, z21), (0, (hv h22 ((hv h22 396 3) + 20) v2))] h22 (fun z23 h24 =>
          (∀ x6_25 : Int, x6_25 = z23 →
          ((¬ x6_25 = (-1) →
            (0 ≤ v1) ∧
            (v1 < 8) ∧
            S_X9_isFullBy l G [(2009, 396), (0, (if (hv h24 509 v1) = 30 then 1 else 0 : Int))] h24 (fun z26 h27 =>
            ((z26 = 0 →
              S_X9_frame l G [(2009, 396), (0, v1)] h27 (fun z28 h29 =>
              (∀ x7_30 : Int, x7_30 = z28 →
              S_X9_drop l G [(2009, 396), (0, v1), (0, x5_5)] h29 (fun _ h32 =>
              S_X9_open l G [(2009, 396), (0, v1), (0, x6_25)] h32 (fun z33 h34 =>
              (∀ x8_35 : Int, x8_35 = z33 →
              (∀ x9_36 : Int, x9_36 = 0 →
              JW K 187 [(2009, 396), (0, v1), (0, v2), (0, x3_1), (0, x4_4), (0, x5_5), (0, x6_25), (0, x7_30), (0, x8_35), (0, x9_36)] [] h34))) E) E)) E) ∧
            (¬ z26 = 0 →
              Q 0 h27))) E) ∧
          (x6_25 = (-1) →
            S_X9_hurl l G [(2009, 396), (0, v1), (0, (if x7_20 = 0 then 1 else 5 : Int))] h24 (fun _ h38 =>
            Q 0 h38) E)))) E) E) ∧
        (x7_20 = 0 →
          (∀ x6_39 : Int, x6_39 = (-1) →
          ((¬ x6_39 = (-1) →
            (0 ≤ v1) ∧
            (v1 < 8) ∧
            S_X9_isFullBy l G [(2009, 396), (0, (if (hv h19 509 v1) = 30 then 1 else 0 : Int))] h19 (fun z40 h41 =>
            ((z40 = 0 →
              S_X9_frame l G [(2009, 396), (0, v1)] h41 (fun z42 h43 =>
              (∀ x7_44 : Int, x7_44 = z42 →
              S_X9_drop l G [(2009, 396), (0, v1), (0, x5_5)] h43 (fun _ h46 =>
              S_X9_open l G [(2009, 396), (0, v1), (0, x6_39)] h46 (fun z47 h48 =>
              (∀ x8_49 : Int, x8_49 = z47 →
              (∀ x9_50 : Int, x9_50 = 0 →
              JW K 187 [(2009, 396), (0, v1), (0, v2), (0, x3_1), (0, x4_4), (0, x5_5), (0, x6_39), (0, x7_44), (0, x8_49), (0, x9_50)] [] h48))) E) E)) E) ∧
            (¬ z40 = 0 →
              Q 0 h41))) E) ∧
          (x6_39 = (-1) →
            S_X9_hurl l G [(2009, 396), (0, v1), (0, (if x7_20 = 0 then 1 else 5 : Int))] h19 (fun _ h52 =>
            Q 0 h52) E))))))) E)))))) E) ∧
    (¬ x3_1 = 0 →
      ((hv h 396 3) ≠ 0) ∧
      (0 ≤ v2) ∧
      (v2 < 1500) ∧
      (∀ x4_53 : Int, x4_53 = (hv h ((hv h 396 3) + 21) v2) →
      ((hv h 396 3) ≠ 0) ∧
      (0 ≤ x4_53) ∧
      (x4_53 < 40) ∧
      (∀ x5_54 : Int, x5_54 = (hv h ((hv h 396 3) + 7) x4_53) →
      (∀ x6_55 : Int, x6_55 = x4_53 →
      ((¬ x3_1 = 0 →
        (0 ≤ v1) ∧
        (v1 < 8) ∧
        S_X9_isFullBy l G [(2009, 396), (0, (if (hv h 509 v1) = 30 then 1 else 0 : Int))] h (fun z56 h57 =>
        ((z56 = 0 →
          S_X9_frame l G [(2009, 396), (0, v1)] h57 (fun z58 h59 =>
          (∀ x7_60 : Int, x7_60 = z58 →
          S_X9_drop l G [(2009, 396), (0, v1), (0, x5_54)] h59 (fun _ h62 =>
          S_X9_open l G [(2009, 396), (0, v1), (0, x6_55)] h62 (fun z63 h64 =>
          (∀ x8_65 : Int, x8_65 = z63 →
          (∀ x9_66 : Int, x9_66 = 0 →
          JW K 187 [(2009, 396), (0, v1), (0, v2), (0, x3_1), (0, x4_53), (0, x5_54), (0, x6_55), (0, x7_60), (0, x8_65), (0, x9_66)] [] h64))) E) E)) E) ∧
        (¬ z56 = 0 →
          Q 0 h57))) E) ∧
      (x3_1 = 0 →
        S_X9_top l G [(2009, 396), (0, v1), (0, (w32 (x5_54 - 1)))] h (fun z67 h68 =>
        (∀ x7_69 : Int, x7_69 = z67 →
        ((¬ x7_69 = 0 →
          S_X9_siteOf l G [(2009, 396), (0, x7_69)] h68 (fun z70 h71 =>
          ((hv h71 396 3) ≠ 0) ∧
          (0 ≤ v2) ∧
          (v2 < 1500) ∧
          S_X9_sentTo l G [(2009, 396), (0, z70), (0, (hv h71 ((hv h71 396 3) + 20) v2))] h71 (fun z72 h73 =>
          (∀ x6_74 : Int, x6_74 = z72 →
          ((¬ x6_74 = (-1) →
            (0 ≤ v1) ∧
            (v1 < 8) ∧
            S_X9_isFullBy l G [(2009, 396), (0, (if (hv h73 509 v1) = 30 then 1 else 0 : Int))] h73 (fun z75 h76 =>
            ((z75 = 0 →
              S_X9_frame l G [(2009, 396), (0, v1)] h76 (fun z77 h78 =>
              (∀ x7_79 : Int, x7_79 = z77 →
              S_X9_drop l G [(2009, 396), (0, v1), (0, x5_54)] h78 (fun _ h81 =>
              S_X9_open l G [(2009, 396), (0, v1), (0, x6_74)] h81 (fun z82 h83 =>
              (∀ x8_84 : Int, x8_84 = z82 →
              (∀ x9_85 : Int, x9_85 = 0 →
              JW K 187 [(2009, 396), (0, v1), (0, v2), (0, x3_1), (0, x4_53), (0, x5_54), (0, x6_74), (0, x7_79), (0, x8_84), (0, x9_85)] [] h83))) E) E)) E) ∧
            (¬ z75 = 0 →
              Q 0 h76))) E) ∧
          (x6_74 = (-1) →
            S_X9_hurl l G [(2009, 396), (0, v1), (0, (if x7_69 = 0 then 1 else 5 : Int))] h73 (fun _ h87 =>
            Q 0 h87) E)))) E) E) ∧
        (x7_69 = 0 →
          (∀ x6_88 : Int, x6_88 = (-1) →
          ((¬ x6_88 = (-1) →
            (0 ≤ v1) ∧
            (v1 < 8) ∧
            S_X9_isFullBy l G [(2009, 396), (0, (if (hv h68 509 v1) = 30 then 1 else 0 : Int))] h68 (fun z89 h90 =>
            ((z89 = 0 →
              S_X9_frame l G [(2009, 396), (0, v1)] h90 (fun z91 h92 =>
              (∀ x7_93 : Int, x7_93 = z91 →
              S_X9_drop l G [(2009, 396), (0, v1), (0, x5_54)] h92 (fun _ h95 =>
              S_X9_open l G [(2009, 396), (0, v1), (0, x6_88)] h95 (fun z96 h97 =>
              (∀ x8_98 : Int, x8_98 = z96 →
              (∀ x9_99 : Int, x9_99 = 0 →
              JW K 187 [(2009, 396), (0, v1), (0, v2), (0, x3_1), (0, x4_53), (0, x5_54), (0, x6_88), (0, x7_93), (0, x8_98), (0, x9_99)] [] h97))) E) E)) E) ∧
            (¬ z89 = 0 →
              Q 0 h90))) E) ∧
          (x6_88 = (-1) →
            S_X9_hurl l G [(2009, 396), (0, v1), (0, (if x7_69 = 0 then 1 else 5 : Int))] h68 (fun _ h101 =>
            Q 0 h101) E))))))) E))))))))) : JW K 0 [(2009, 396), (0, v1), (0, v2), (5000, 0), (5000, 0), (5000, 0), (5000, 0), (5000, 0), (5000, 0), (5000, 0)] [] h := by
  have e1 := ki.2.2.2.2.1
  have e2 := ki.2.2.2.2.2.1
  subst e1; subst e2
  exact run_ok (dia := [(11, 19), (125, 133), (146, 154)]) (cnr := []) (cuts := [(187, [2009, 0, 0, 0, 0, 0, 0, 0, 0, 0], [])]) ki.1 (pk_X9_enterCall ki hG) ok_X9_enterCall (by decide) 78 true _ _ _ _ H
theorem r_X9_enterCall_187 {K : JC} {l : Launch} {G : JG} {Q : Int → MH → Prop} {E : Nat → Int → MH → Prop} {h0 : MH} (ki : KI K l G yX9_enterCall cX9_enterCall 10 none [] 8 248 700 Q E h0) (hG : gO G = true) {v1 v2 v3 v4 v5 v6 v7 v8 v9 : Int} {h : MH} (H :
    ((v5 ≤ v9 →
      Q 0 h) ∧
    (v9 < v5 →
      (0 ≤ v7) ∧
      (v7 < 240) ∧
      (0 ≤ (w32 ((w32 ((w32 ((w32 (16 * v7)) + 8)) + (hv h 512 v7))) + v9))) ∧
      ((w32 ((w32 ((w32 ((w32 (16 * v7)) + 8)) + (hv h 512 v7))) + v9)) < 3840) ∧
      (0 ≤ (w32 ((w32 (16 * v8)) + v9))) ∧
      ((w32 ((w32 (16 * v8)) + v9)) < 3840) ∧
      (∀ h1, h1 = hset h 513 (w32 ((w32 (16 * v8)) + v9)) (hv h 513 (w32 ((w32 ((w32 ((w32 (16 * v7)) + 8)) + (hv h 512 v7))) + v9))) →
      (∀ x9_2 : Int, x9_2 = w32 (v9 + 1) →
      JW K 187 [(2009, 396), (0, v1), (0, v2), (0, v3), (0, v4), (0, v5), (0, v6), (0, v7), (0, v8), (0, x9_2)] [] h1))))) : JW K 187 [(2009, 396), (0, v1), (0, v2), (0, v3), (0, v4), (0, v5), (0, v6), (0, v7), (0, v8), (0, v9)] [] h := by
  have e1 := ki.2.2.2.2.1
  have e2 := ki.2.2.2.2.2.1
  subst e1; subst e2
  exact run_ok (dia := [(11, 19), (125, 133), (146, 154)]) (cnr := []) (cuts := [(187, [2009, 0, 0, 0, 0, 0, 0, 0, 0, 0], [])]) ki.1 (pk_X9_enterCall ki hG) ok_X9_enterCall (by decide) 30 true _ _ _ _ H
abbrev k_X9_begin : List (Nat × List (Nat × Instr)) := [(42, [(0, .aload_n 0), (1, .iload_n 1), (2, .iconst 0), (3, .invokevirtual 760), (6, .istore_n 3), (7, .iload_n 3), (8, .ifCond .ne 7), (11, .iconst (-1)), (12, .goto 21), (15, .aload_n 0), (16, .aload_n 0), (17, .iload_n 3), (18, .invokevirtual 733), (21, .aload_n 0), (22, .getfield 373), (25, .getfield 342), (28, .iload_n 2), (29, .iaload), (30, .invokevirtual 599), (33, .istore 4), (35, .iload 4), (37, .iconst (-1)), (38, .if_icmp .ne 18), (41, .aload_n 0)]),
  (84, [(42, .iload_n 1), (43, .iload_n 3), (44, .ifCond .ne 7), (47, .iconst 1), (48, .goto 4), (51, .iconst 5), (52, .invokevirtual 766), (55, .return_), (56, .aload_n 0), (57, .getfield 712), (60, .bipush 8), (62, .if_icmp .ne 11), (65, .aload_n 0), (66, .iload_n 1), (67, .bipush 6), (69, .invokevirtual 766), (72, .return_), (73, .aload_n 0), (74, .iload_n 1), (75, .iconst 1), (76, .invokevirtual 763), (79, .aload_n 0), (80, .iload_n 1), (81, .invokevirtual 745)]),
  (126, [(84, .aload_n 0), (85, .getfield 712), (88, .istore 5), (90, .aload_n 0), (91, .dup), (92, .getfield 712), (95, .iconst 1), (96, .iadd), (97, .putfield 712), (100, .aload_n 0), (101, .getfield 182), (104, .iload 5), (106, .iconst 0), (107, .bastore), (108, .aload_n 0), (109, .getfield 185), (112, .iload 5), (114, .iconst 0), (115, .iastore), (116, .aload_n 0), (117, .iload 5), (119, .iload 4), (121, .invokevirtual 795), (124, .istore 6)]),
  (146, [(126, .aload_n 0), (127, .getfield 197), (130, .bipush 16), (132, .iload 6), (134, .imul), (135, .iload_n 3), (136, .iastore), (137, .return_)])]
theorem ok_X9_begin : CodeOK cX9_begin k_X9_begin := okw 0 (by decide +kernel) (okw 42 (by decide +kernel) (okw 84 (by decide +kernel) (okw 126 (by decide +kernel) (okn))))
abbrev p_X9_begin (l : Launch) (G : JG) : JP := (true, [(182, 9, 84, 1008102, 112), (185, 9, 85, 1008100, 113), (197, 9, 89, 4840100, 117), (342, 10, 23, 2500100, 20), (373, 9, 3, 14, 0), (712, 9, 83, 0, 0)], [], [], [(712, 9, 83, 0)], [], [], [(599, 1, [0, 0, 2009], 0, S_X9_sentTo l G), (733, 1, [0, 2009], 0, S_X9_siteOf l G), (745, 1, [0, 2009], 700, S_X9_step l G), (760, 1, [0, 0, 2009], 0, S_X9_top l G), (763, 1, [0, 0, 2009], 700, S_X9_drop l G), (766, 1, [0, 0, 2009], 700, S_X9_hurl l G), (795, 1, [0, 0, 2009], 0, S_X9_open l G)], false, 700, [])
theorem pk_X9_begin {K : JC} {l : Launch} {G : JG} {Q : Int → MH → Prop} {E : Nat → Int → MH → Prop} {h0 : MH} (ki : KI K l G yX9_begin cX9_begin 7 none [] 8 248 700 Q E h0) (hG : gO G = true) : POK K RX9 (p_X9_begin l G) :=
  POKi (y := yX9_begin) ki hG (rfs rf_X9_ok (by decide +kernel)) fmz fmz (rps rp_X9_ok (by decide +kernel)) fmz fmz
  (pkE ki (by
    intro K e1 e2 e3 e4; subst e1; subst e2
    exact fmE (ceV 9 e3 e4 yl_X9_sentTo ⟨by decide, ⟨_, _, rfl⟩, q2731, qs153, q2729⟩ rfl) (fmE (ceV 9 e3 e4 yl_X9_siteOf ⟨by decide, ⟨_, _, rfl⟩, q2896, qs173, q2894⟩ rfl) (fmE (ceV 9 e3 e4 yl_X9_step ⟨by decide, ⟨_, _, rfl⟩, q2912, qs177, q2910⟩ rfl) (fmE (ceV 9 e3 e4 yl_X9_top ⟨by decide, ⟨_, _, rfl⟩, q2916, qs178, q2914⟩ rfl) (fmE (ceV 9 e3 e4 yl_X9_drop ⟨by decide, ⟨_, _, rfl⟩, q2920, qs179, q2918⟩ rfl) (fmE (ceV 9 e3 e4 yl_X9_hurl ⟨by decide, ⟨_, _, rfl⟩, q2924, qs180, q2922⟩ rfl) (fmE (ceV 9 e3 e4 yl_X9_open ⟨by decide, ⟨_, _, rfl⟩, q2872, qs167, q2870⟩ rfl) (fmz))))))))) (fun z => Bool.noConfusion z) rfl (pkP ki (by
    intro K e1 e2 e3 e4; subst e1; subst e2
    exact fmz))
theorem r_X9_begin_0 {K : JC} {l : Launch} {G : JG} {Q : Int → MH → Prop} {E : Nat → Int → MH → Prop} {h0 : MH} (ki : KI K l G yX9_begin cX9_begin 7 none [] 8 248 700 Q E h0) (hG : gO G = true) {v1 v2 : Int} {h : MH} (H :
    S_X9_top l G [(2009, 396), (0, v1), (0, 0)] h (fun z1 h2 =>
    (∀ x3_3 : Int, x3_3 = z1 →
    ((¬ x3_3 = 0 →
      S_X9_siteOf l G [(2009, 396), (0, x3_3)] h2 (fun z4 h5 =>
      ((hv h5 396 3) ≠ 0) ∧
      (0 ≤ v2) ∧
      (v2 < 1500) ∧
      S_X9_sentTo l G [(2009, 396), (0, z4), (0, (hv h5 ((hv h5 396 3) + 20) v2))] h5 (fun z6 h7 =>
      (∀ x4_8 : Int, x4_8 = z6 →
      ((¬ x4_8 = (-1) →
        ((¬ (hv h7 396 83) = 8 →
          S_X9_drop l G [(2009, 396), (0, v1), (0, 1)] h7 (fun _ h10 =>
          S_X9_step l G [(2009, 396), (0, v1)] h10 (fun _ h12 =>
          (∀ x5_13 : Int, x5_13 = (hv h12 396 83) →
          (∀ h14, h14 = hset h12 396 83 (w32 ((hv h12 396 83) + 1)) →
          (0 ≤ x5_13) ∧
          (x5_13 < 8) ∧
          ((0 : Int) = 0 ∨ (0 : Int) = 1) ∧
          (∀ h15, h15 = hset h14 508 x5_13 0 →
          (0 ≤ x5_13) ∧
          (x5_13 < 8) ∧
          (∀ h16, h16 = hset h15 509 x5_13 0 →
          S_X9_open l G [(2009, 396), (0, x5_13), (0, x4_8)] h16 (fun z17 h18 =>
          (∀ x6_19 : Int, x6_19 = z17 →
          (0 ≤ (w32 (16 * x6_19))) ∧
          ((w32 (16 * x6_19)) < 3840) ∧
          (∀ h20, h20 = hset h18 513 (w32 (16 * x6_19)) x3_3 →
          Q 0 h20))) E))))) E) E) ∧
        ((hv h7 396 83) = 8 →
          S_X9_hurl l G [(2009, 396), (0, v1), (0, 6)] h7 (fun _ h22 =>
          Q 0 h22) E))) ∧
      (x4_8 = (-1) →
        S_X9_hurl l G [(2009, 396), (0, v1), (0, (if x3_3 = 0 then 1 else 5 : Int))] h7 (fun _ h24 =>
        Q 0 h24) E)))) E) E) ∧
    (x3_3 = 0 →
      (∀ x4_25 : Int, x4_25 = (-1) →
      ((¬ x4_25 = (-1) →
        ((¬ (hv h2 396 83) = 8 →
          S_X9_drop l G [(2009, 396), (0, v1), (0, 1)] h2 (fun _ h27 =>
          S_X9_step l G [(2009, 396), (0, v1)] h27 (fun _ h29 =>
          (∀ x5_30 : Int, x5_30 = (hv h29 396 83) →
          (∀ h31, h31 = hset h29 396 83 (w32 ((hv h29 396 83) + 1)) →
          (0 ≤ x5_30) ∧
          (x5_30 < 8) ∧
          ((0 : Int) = 0 ∨ (0 : Int) = 1) ∧
          (∀ h32, h32 = hset h31 508 x5_30 0 →
          (0 ≤ x5_30) ∧
          (x5_30 < 8) ∧
          (∀ h33, h33 = hset h32 509 x5_30 0 →
          S_X9_open l G [(2009, 396), (0, x5_30), (0, x4_25)] h33 (fun z34 h35 =>
          (∀ x6_36 : Int, x6_36 = z34 →
          (0 ≤ (w32 (16 * x6_36))) ∧
          ((w32 (16 * x6_36)) < 3840) ∧
          (∀ h37, h37 = hset h35 513 (w32 (16 * x6_36)) x3_3 →
          Q 0 h37))) E))))) E) E) ∧
        ((hv h2 396 83) = 8 →
          S_X9_hurl l G [(2009, 396), (0, v1), (0, 6)] h2 (fun _ h39 =>
          Q 0 h39) E))) ∧
      (x4_25 = (-1) →
        S_X9_hurl l G [(2009, 396), (0, v1), (0, (if x3_3 = 0 then 1 else 5 : Int))] h2 (fun _ h41 =>
        Q 0 h41) E))))))) E) : JW K 0 [(2009, 396), (0, v1), (0, v2), (5000, 0), (5000, 0), (5000, 0), (5000, 0)] [] h := by
  have e1 := ki.2.2.2.2.1
  have e2 := ki.2.2.2.2.2.1
  subst e1; subst e2
  exact run_ok (dia := [(44, 52)]) (cnr := []) (cuts := []) ki.1 (pk_X9_begin ki hG) ok_X9_begin (by decide) 65 true _ _ _ _ H
abbrev k_X9_endedThreads : List (Nat × List (Nat × Instr)) := [(45, [(0, .iconst 0), (1, .istore_n 1), (2, .iconst 0), (3, .istore_n 2), (4, .iload_n 2), (5, .aload_n 0), (6, .getfield 712), (9, .if_icmp .ge 26), (12, .aload_n 0), (13, .getfield 182), (16, .iload_n 2), (17, .baload), (18, .ifCond .eq 9), (21, .iload_n 1), (22, .iconst 1), (23, .iadd), (24, .goto 4), (27, .iload_n 1), (28, .istore_n 1), (29, .iinc 2 1), (32, .goto (-28)), (35, .iload_n 1), (36, .ireturn)])]
theorem ok_X9_endedThreads : CodeOK cX9_endedThreads k_X9_endedThreads := okw 0 (by decide +kernel) (okn)
abbrev p_X9_endedThreads (l : Launch) (G : JG) : JP := (true, [(182, 9, 84, 1008102, 112), (712, 9, 83, 0, 0)], [], [], [], [], [], [], false, 0, [])
theorem pk_X9_endedThreads {K : JC} {l : Launch} {G : JG} {Q : Int → MH → Prop} {E : Nat → Int → MH → Prop} {h0 : MH} (ki : KI K l G yX9_endedThreads cX9_endedThreads 3 (some .int) [] 4 150 0 Q E h0) (hG : gO G = true) : POK K RX9 (p_X9_endedThreads l G) :=
  POKi (y := yX9_endedThreads) ki hG (rfs rf_X9_ok (by decide +kernel)) fmz fmz fmz fmz fmz
  (pkE ki (by
    intro K e1 e2 e3 e4; subst e1; subst e2
    exact fmz)) (fun z => Bool.noConfusion z) rfl (pkP ki (by
    intro K e1 e2 e3 e4; subst e1; subst e2
    exact fmz))
theorem r_X9_endedThreads_0 {K : JC} {l : Launch} {G : JG} {Q : Int → MH → Prop} {E : Nat → Int → MH → Prop} {h0 : MH} (ki : KI K l G yX9_endedThreads cX9_endedThreads 3 (some .int) [] 4 150 0 Q E h0) (hG : gO G = true) {h : MH} (H :
    (∀ x1_1 : Int, x1_1 = 0 →
    (∀ x2_2 : Int, x2_2 = 0 →
    JW K 4 [(2009, 396), (0, x1_1), (0, x2_2)] [] h))) : JW K 0 [(2009, 396), (5000, 0), (5000, 0)] [] h := by
  have e1 := ki.2.2.2.2.1
  have e2 := ki.2.2.2.2.2.1
  subst e1; subst e2
  exact run_ok (dia := [(18, 28)]) (cnr := []) (cuts := [(4, [2009, 0, 0], [])]) ki.1 (pk_X9_endedThreads ki hG) ok_X9_endedThreads (by decide) 6 true _ _ _ _ H
theorem r_X9_endedThreads_4 {K : JC} {l : Launch} {G : JG} {Q : Int → MH → Prop} {E : Nat → Int → MH → Prop} {h0 : MH} (ki : KI K l G yX9_endedThreads cX9_endedThreads 3 (some .int) [] 4 150 0 Q E h0) (hG : gO G = true) {v1 v2 : Int} {h : MH} (H :
    (((hv h 396 83) ≤ v2 →
      Q v1 h) ∧
    (v2 < (hv h 396 83) →
      (0 ≤ v2) ∧
      (v2 < 8) ∧
      (∀ x1_1 : Int, x1_1 = (if (hv h 508 v2) = 0 then v1 else (w32 (v1 + 1)) : Int) →
      (∀ x2_2 : Int, x2_2 = w32 (v2 + 1) →
      JW K 4 [(2009, 396), (0, x1_1), (0, x2_2)] [] h))))) : JW K 4 [(2009, 396), (0, v1), (0, v2)] [] h := by
  have e1 := ki.2.2.2.2.1
  have e2 := ki.2.2.2.2.2.1
  subst e1; subst e2
  exact run_ok (dia := [(18, 28)]) (cnr := []) (cuts := [(4, [2009, 0, 0], [])]) ki.1 (pk_X9_endedThreads ki hG) ok_X9_endedThreads (by decide) 14 true _ _ _ _ H
abbrev k_X9_isStuck : List (Nat × List (Nat × Instr)) := [(42, [(0, .iconst 1), (1, .istore_n 1), (2, .iconst 0), (3, .istore_n 2), (4, .iload_n 2), (5, .aload_n 0), (6, .getfield 712), (9, .if_icmp .ge 36), (12, .iload_n 1), (13, .ifCond .eq 24), (16, .aload_n 0), (17, .getfield 182), (20, .iload_n 2), (21, .baload), (22, .ifCond .ne 11), (25, .aload_n 0), (26, .iload_n 2), (27, .invokevirtual 798), (30, .ifCond .eq 7), (33, .iconst 1), (34, .goto 4), (37, .iconst 0), (38, .istore_n 1), (39, .iinc 2 1)]),
  (55, [(42, .goto (-38)), (45, .iload_n 1), (46, .ireturn)])]
theorem ok_X9_isStuck : CodeOK cX9_isStuck k_X9_isStuck := okw 0 (by decide +kernel) (okw 42 (by decide +kernel) (okn))
abbrev p_X9_isStuck (l : Launch) (G : JG) : JP := (true, [(182, 9, 84, 1008102, 112), (712, 9, 83, 0, 0)], [], [], [], [], [], [(798, 1, [0, 2009], 2, S_X9_isWaiting l G)], false, 2, [])
theorem pk_X9_isStuck {K : JC} {l : Launch} {G : JG} {Q : Int → MH → Prop} {E : Nat → Int → MH → Prop} {h0 : MH} (ki : KI K l G yX9_isStuck cX9_isStuck 3 (some .boolean) [] 6 193 2 Q E h0) (hG : gO G = true) : POK K RX9 (p_X9_isStuck l G) :=
  POKi (y := yX9_isStuck) ki hG (rfs rf_X9_ok (by decide +kernel)) fmz fmz fmz fmz fmz
  (pkE ki (by
    intro K e1 e2 e3 e4; subst e1; subst e2
    exact fmE (ceV 9 e3 e4 yl_X9_isWaiting ⟨by decide, ⟨_, _, rfl⟩, q2884, qs170, q2882⟩ rfl) (fmz))) (fun z => Bool.noConfusion z) rfl (pkP ki (by
    intro K e1 e2 e3 e4; subst e1; subst e2
    exact fmz))
theorem r_X9_isStuck_0 {K : JC} {l : Launch} {G : JG} {Q : Int → MH → Prop} {E : Nat → Int → MH → Prop} {h0 : MH} (ki : KI K l G yX9_isStuck cX9_isStuck 3 (some .boolean) [] 6 193 2 Q E h0) (hG : gO G = true) {h : MH} (H :
    (∀ x1_1 : Int, x1_1 = 1 →
    (∀ x2_2 : Int, x2_2 = 0 →
    JW K 4 [(2009, 396), (0, x1_1), (0, x2_2)] [] h))) : JW K 0 [(2009, 396), (5000, 0), (5000, 0)] [] h := by
  have e1 := ki.2.2.2.2.1
  have e2 := ki.2.2.2.2.2.1
  subst e1; subst e2
  exact run_ok (dia := [(30, 38)]) (cnr := []) (cuts := [(4, [2009, 0, 0], [])]) ki.1 (pk_X9_isStuck ki hG) ok_X9_isStuck (by decide) 6 true _ _ _ _ H
theorem r_X9_isStuck_4 {K : JC} {l : Launch} {G : JG} {Q : Int → MH → Prop} {E : Nat → Int → MH → Prop} {h0 : MH} (ki : KI K l G yX9_isStuck cX9_isStuck 3 (some .boolean) [] 6 193 2 Q E h0) (hG : gO G = true) {v1 v2 : Int} {h : MH} (H :
    (((hv h 396 83) ≤ v2 →
      ((v1 = 0 ∨ v1 = 1) ∧ Q v1 h)) ∧
    (v2 < (hv h 396 83) →
      ((v1 = 0 →
        (∀ x1_1 : Int, x1_1 = 0 →
        (∀ x2_2 : Int, x2_2 = w32 (v2 + 1) →
        JW K 4 [(2009, 396), (0, x1_1), (0, x2_2)] [] h))) ∧
      (¬ v1 = 0 →
        (0 ≤ v2) ∧
        (v2 < 8) ∧
        ((¬ (hv h 508 v2) = 0 →
          (∀ x1_3 : Int, x1_3 = 1 →
          (∀ x2_4 : Int, x2_4 = w32 (v2 + 1) →
          JW K 4 [(2009, 396), (0, x1_3), (0, x2_4)] [] h))) ∧
        ((hv h 508 v2) = 0 →
          S_X9_isWaiting l G [(2009, 396), (0, v2)] h (fun z5 h6 =>
          (∀ x1_7 : Int, x1_7 = (if z5 = 0 then 0 else 1 : Int) →
          (∀ x2_8 : Int, x2_8 = w32 (v2 + 1) →
          JW K 4 [(2009, 396), (0, x1_7), (0, x2_8)] [] h6))) E))))))) : JW K 4 [(2009, 396), (0, v1), (0, v2)] [] h := by
  have e1 := ki.2.2.2.2.1
  have e2 := ki.2.2.2.2.2.1
  subst e1; subst e2
  exact run_ok (dia := [(30, 38)]) (cnr := []) (cuts := [(4, [2009, 0, 0], [])]) ki.1 (pk_X9_isStuck ki hG) ok_X9_isStuck (by decide) 20 true _ _ _ _ H
abbrev k_X9_walked : List (Nat × List (Nat × Instr)) := [(31, [(0, .aload_n 0), (1, .iload_n 1), (2, .i2l), (3, .lconst 0), (4, .ldc2_w 229), (7, .invokestatic 231), (10, .ifCond .eq 7), (13, .iconst 0), (14, .goto 4), (17, .iconst 1), (18, .putfield 225), (21, .aload_n 0), (22, .getfield 225), (25, .ifCond .le 5), (28, .iconst 0), (29, .ireturn), (30, .iload_n 1)]),
  (76, [(31, .tableswitch 85 0 7 #[45, 50, 55, 60, 65, 70, 75, 80])]),
  (116, [(76, .aload_n 0), (77, .getfield 718), (80, .ireturn), (81, .aload_n 0), (82, .getfield 712), (85, .ireturn), (86, .aload_n 0), (87, .invokevirtual 808), (90, .ireturn), (91, .aload_n 0), (92, .getfield 715), (95, .ireturn), (96, .aload_n 0), (97, .getfield 721), (100, .ireturn), (101, .aload_n 0), (102, .getfield 390), (105, .ireturn), (106, .aload_n 0), (107, .getfield 724), (110, .ireturn), (111, .aload_n 0), (112, .getfield 727), (115, .ireturn)]),
  (129, [(116, .aload_n 0), (117, .getfield 754), (120, .ireturn)])]
theorem ok_X9_walked : CodeOK cX9_walked k_X9_walked := okw 0 (by decide +kernel) (okc (by decide +kernel) (okw 76 (by decide +kernel) (okw 116 (by decide +kernel) (okn))))
abbrev p_X9_walked (l : Launch) (G : JG) : JP := (true, [(225, 9, 0, 0, 0), (390, 9, 82, 0, 0), (712, 9, 83, 0, 0), (715, 9, 91, 0, 0), (718, 9, 95, 0, 0), (721, 9, 96, 0, 0), (724, 9, 99, 0, 0), (727, 9, 100, 0, 0), (754, 9, 101, 0, 0)], [], [(229, 8)], [(225, 9, 0, 0)], [], [], [(808, 1, [2009], 0, S_X9_endedThreads l G)], false, 0, [(231, e_X9_in)])
theorem pk_X9_walked {K : JC} {l : Launch} {G : JG} {Q : Int → MH → Prop} {E : Nat → Int → MH → Prop} {h0 : MH} (ki : KI K l G yX9_walked cX9_walked 2 (some .int) [] 5 175 0 Q E h0) (hG : gO G = true) : POK K RX9 (p_X9_walked l G) :=
  POKi (y := yX9_walked) ki hG (rfs rf_X9_ok (by decide +kernel)) fmz (subs (by decide +kernel) rl_X9_ok) (rps rp_X9_ok (by decide +kernel)) fmz fmz
  (pkE ki (by
    intro K e1 e2 e3 e4; subst e1; subst e2
    exact fmE (ceV 9 e3 e4 yl_X9_endedThreads ⟨by decide, ⟨_, _, rfl⟩, q2953, qs187, q2951⟩ rfl) (fmz))) (fun z => Bool.noConfusion z) rfl (pkP ki (by
    intro K e1 e2 e3 e4; subst e1; subst e2
    exact fmP (pe_X9_in hG e3 e4 ⟨q2454, Or.inl q2453⟩ rfl rfl) (fmz)))
theorem r_X9_walked_0 {K : JC} {l : Launch} {G : JG} {Q : Int → MH → Prop} {E : Nat → Int → MH → Prop} {h0 : MH} (ki : KI K l G yX9_walked cX9_walked 2 (some .int) [] 5 175 0 Q E h0) (hG : gO G = true) {v1 : Int} {h : MH} (H :
    (∀ h1, h1 = hset h 396 0 (if (isin v1 0 8) = 0 then 1 else 0 : Int) →
    (((hv h1 396 0) ≤ 0 →
      (((v1 = 0 →
        Q (hv h1 396 95) h1) ∧
      ((v1 = 0 + 1 →
        Q (hv h1 396 83) h1) ∧
      ((v1 = 0 + 1 + 1 →
        S_X9_endedThreads l G [(2009, 396)] h1 (fun z2 h3 =>
        Q z2 h3) E) ∧
      ((v1 = 0 + 1 + 1 + 1 →
        Q (hv h1 396 91) h1) ∧
      ((v1 = 0 + 1 + 1 + 1 + 1 →
        Q (hv h1 396 96) h1) ∧
      ((v1 = 0 + 1 + 1 + 1 + 1 + 1 →
        Q (hv h1 396 82) h1) ∧
      ((v1 = 0 + 1 + 1 + 1 + 1 + 1 + 1 →
        Q (hv h1 396 99) h1) ∧
      ((v1 = 0 + 1 + 1 + 1 + 1 + 1 + 1 + 1 →
        Q (hv h1 396 100) h1) ∧
      True)))))))) ∧ ((v1 < 0 ∨ 7 < v1) →
        Q (hv h1 396 101) h1))) ∧
    (0 < (hv h1 396 0) →
      Q 0 h1)))) : JW K 0 [(2009, 396), (0, v1)] [] h := by
  have e1 := ki.2.2.2.2.1
  have e2 := ki.2.2.2.2.2.1
  subst e1; subst e2
  exact run_ok (dia := [(10, 18)]) (cnr := []) (cuts := []) ki.1 (pk_X9_walked ki hG) ok_X9_walked (by decide) 17 true _ _ _ _ H
abbrev k_X9_output : List (Nat × List (Nat × Instr)) := [(42, [(0, .aload_n 0), (1, .iload_n 1), (2, .i2l), (3, .lconst 0), (4, .aload_n 0), (5, .getfield 721), (8, .sipush 200), (11, .invokestatic 528), (14, .iconst 1), (15, .isub), (16, .i2l), (17, .invokestatic 231), (20, .ifCond .eq 17), (23, .iload_n 2), (24, .i2l), (25, .lconst 0), (26, .lconst 1), (27, .invokestatic 231), (30, .ifCond .eq 7), (33, .iconst 0), (34, .goto 4), (37, .iconst 1), (38, .putfield 225), (41, .aload_n 0)]),
  (80, [(42, .getfield 225), (45, .ifCond .le 7), (48, .iconst 0), (49, .goto 22), (52, .iload_n 2), (53, .ifCond .ne 12), (56, .aload_n 0), (57, .getfield 213), (60, .iload_n 1), (61, .iaload), (62, .goto 9), (65, .aload_n 0), (66, .getfield 216), (69, .iload_n 1), (70, .iaload), (71, .ireturn)])]
theorem ok_X9_output : CodeOK cX9_output k_X9_output := okw 0 (by decide +kernel) (okw 42 (by decide +kernel) (okn))
abbrev p_X9_output (l : Launch) (G : JG) : JP := (true, [(213, 9, 97, 1200100, 122), (216, 9, 98, 1200100, 123), (225, 9, 0, 0, 0), (721, 9, 96, 0, 0)], [], [], [(225, 9, 0, 0)], [], [], [], false, 0, [(231, e_X9_in), (528, e_J8_min)])
theorem pk_X9_output {K : JC} {l : Launch} {G : JG} {Q : Int → MH → Prop} {E : Nat → Int → MH → Prop} {h0 : MH} (ki : KI K l G yX9_output cX9_output 3 (some .int) [] 5 175 0 Q E h0) (hG : gO G = true) : POK K RX9 (p_X9_output l G) :=
  POKi (y := yX9_output) ki hG (rfs rf_X9_ok (by decide +kernel)) fmz fmz (rps rp_X9_ok (by decide +kernel)) fmz fmz
  (pkE ki (by
    intro K e1 e2 e3 e4; subst e1; subst e2
    exact fmz)) (fun z => Bool.noConfusion z) rfl (pkP ki (by
    intro K e1 e2 e3 e4; subst e1; subst e2
    exact fmP (pe_X9_in hG e3 e4 ⟨q2454, Or.inl q2453⟩ rfl rfl) (fmP (pe_J8_min hG e3 e4 ⟨q1370, Or.inl q2608⟩ rfl rfl) (fmz))))
theorem r_X9_output_0 {K : JC} {l : Launch} {G : JG} {Q : Int → MH → Prop} {E : Nat → Int → MH → Prop} {h0 : MH} (ki : KI K l G yX9_output cX9_output 3 (some .int) [] 5 175 0 Q E h0) (hG : gO G = true) {v1 v2 : Int} {h : MH} (H :
    (∀ h1, h1 = hset h 396 0 (if (isin v1 0 (w32 ((min (hv h 396 96) 200) - 1))) = 0 then 1 else (if (isin v2 0 1) = 0 then 1 else 0 : Int) : Int) →
    (((hv h1 396 0) ≤ 0 → ((¬ v2 = 0 → (0 ≤ v1) ∧ v1 < 200)) ∧ (v2 = 0 → (0 ≤ v1) ∧ v1 < 200))) ∧
    Q (if 0 < (hv h1 396 0) then 0 else (if v2 = 0 then (hv h1 518 v1) else (hv h1 519 v1) : Int) : Int) h1)) : JW K 0 [(2009, 396), (0, v1), (0, v2)] [] h := by
  have e1 := ki.2.2.2.2.1
  have e2 := ki.2.2.2.2.2.1
  subst e1; subst e2
  exact run_ok (dia := [(20, 38), (45, 71)]) (cnr := []) (cuts := []) ki.1 (pk_X9_output ki hG) ok_X9_output (by decide) 19 true _ _ _ _ H
abbrev k_X9_met : List (Nat × List (Nat × Instr)) := [(30, [(0, .aload_n 0), (1, .iload_n 1), (2, .iload_n 2), (3, .invokevirtual 693), (6, .istore_n 3), (7, .iload_n 3), (8, .ifCond .ge 7), (11, .lconst 0), (12, .goto 9), (15, .aload_n 0), (16, .getfield 219), (19, .iload_n 3), (20, .laload), (21, .lreturn)])]
theorem ok_X9_met : CodeOK cX9_met k_X9_met := okw 0 (by decide +kernel) (okn)
abbrev p_X9_met (l : Launch) (G : JG) : JP := (true, [(219, 9, 104, 2500101, 124)], [], [], [], [], [], [(693, 1, [0, 0, 2009], 0, S_X9_placeOf l G)], false, 1, [])
theorem pk_X9_met {K : JC} {l : Launch} {G : JG} {Q : Int → MH → Prop} {E : Nat → Int → MH → Prop} {h0 : MH} (ki : KI K l G yX9_met cX9_met 4 (some .long) [] 7 218 1 Q E h0) (hG : gO G = true) : POK K RX9 (p_X9_met l G) :=
  POKi (y := yX9_met) ki hG (rfs rf_X9_ok (by decide +kernel)) fmz fmz fmz fmz fmz
  (pkE ki (by
    intro K e1 e2 e3 e4; subst e1; subst e2
    exact fmE (ceV 9 e3 e4 yl_X9_placeOf ⟨by decide, ⟨_, _, rfl⟩, q2775, qs162, q2773⟩ rfl) (fmz))) (fun z => Bool.noConfusion z) rfl (pkP ki (by
    intro K e1 e2 e3 e4; subst e1; subst e2
    exact fmz))
theorem r_X9_met_0 {K : JC} {l : Launch} {G : JG} {Q : Int → MH → Prop} {E : Nat → Int → MH → Prop} {h0 : MH} (ki : KI K l G yX9_met cX9_met 4 (some .long) [] 7 218 1 Q E h0) (hG : gO G = true) {v1 v2 : Int} {h : MH} (H :
    S_X9_placeOf l G [(2009, 396), (0, v1), (0, v2)] h (fun z1 h2 =>
    (∀ x3_3 : Int, x3_3 = z1 →
    ((0 ≤ x3_3 → (0 ≤ x3_3) ∧ x3_3 < 1500)) ∧
    Q (if x3_3 < 0 then 0 else (hv h2 520 x3_3) : Int) h2)) E) : JW K 0 [(2009, 396), (0, v1), (0, v2), (5000, 0)] [] h := by
  have e1 := ki.2.2.2.2.1
  have e2 := ki.2.2.2.2.2.1
  subst e1; subst e2
  exact run_ok (dia := [(8, 21)]) (cnr := []) (cuts := []) ki.1 (pk_X9_met ki hG) ok_X9_met (by decide) 9 true _ _ _ _ H
