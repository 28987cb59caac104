/-! by gen/mkall.py -/
set_option maxRecDepth 100000
abbrev k_X2_init : List (Nat × List (Nat × Instr)) := [(28, [(0, .aload_n 0), (1, .invokespecial 3), (4, .aload_n 0), (5, .sipush 1500), (8, .anewarray 9), (11, .putfield 11), (14, .aload_n 0), (15, .bipush 40), (17, .anewarray 17), (20, .putfield 19), (23, .aload_n 0), (24, .bipush 63), (26, .bipush 8)]),
  (32, [(28, .multianewarray 23 2)]),
  (66, [(32, .putfield 25), (35, .aload_n 0), (36, .bipush 63), (38, .anewarray 28), (41, .putfield 30), (44, .aload_n 0), (45, .bipush 8), (47, .anewarray 28), (50, .putfield 34), (53, .aload_n 0), (54, .bipush 8), (56, .anewarray 37), (59, .putfield 39), (62, .aload_n 0), (63, .sipush 1500)]),
  (68, [(66, .newarray .long)]),
  (75, [(68, .putfield 43), (71, .aload_n 0), (72, .sipush 1500)]),
  (77, [(75, .newarray .long)]),
  (84, [(77, .putfield 47), (80, .aload_n 0), (81, .sipush 1500)]),
  (86, [(84, .newarray .boolean)]),
  (93, [(86, .putfield 50), (89, .aload_n 0), (90, .sipush 1500)]),
  (95, [(93, .newarray .boolean)]),
  (102, [(95, .putfield 54), (98, .aload_n 0), (99, .sipush 1500)]),
  (104, [(102, .newarray .long)]),
  (111, [(104, .putfield 57), (107, .aload_n 0), (108, .sipush 1500)]),
  (113, [(111, .newarray .int)]),
  (120, [(113, .putfield 60), (116, .aload_n 0), (117, .sipush 1500)]),
  (122, [(120, .newarray .boolean)]),
  (174, [(122, .putfield 64), (125, .aload_n 0), (126, .new 9), (129, .dup), (130, .invokespecial 67), (133, .putfield 68), (136, .aload_n 0), (137, .new 9), (140, .dup), (141, .invokespecial 67), (144, .putfield 72), (147, .aload_n 0), (148, .new 9), (151, .dup), (152, .invokespecial 67), (155, .putfield 75), (158, .aload_n 0), (159, .new 37), (162, .dup), (163, .invokespecial 78), (166, .putfield 79), (169, .aload_n 0), (170, .new 37), (173, .dup)]),
  (222, [(174, .invokespecial 78), (177, .putfield 83), (180, .aload_n 0), (181, .new 37), (184, .dup), (185, .invokespecial 78), (188, .putfield 86), (191, .aload_n 0), (192, .new 37), (195, .dup), (196, .invokespecial 78), (199, .putfield 89), (202, .aload_n 0), (203, .iconst 4), (204, .anewarray 37), (207, .dup), (208, .iconst 0), (209, .new 37), (212, .dup), (213, .invokespecial 78), (216, .aastore), (217, .dup), (218, .iconst 1), (219, .new 37)]),
  (253, [(222, .dup), (223, .invokespecial 78), (226, .aastore), (227, .dup), (228, .iconst 2), (229, .new 37), (232, .dup), (233, .invokespecial 78), (236, .aastore), (237, .dup), (238, .iconst 3), (239, .new 37), (242, .dup), (243, .invokespecial 78), (246, .aastore), (247, .putfield 92), (250, .aload_n 0), (251, .bipush 40)]),
  (255, [(253, .newarray .long)]),
  (301, [(255, .putfield 95), (258, .iconst 0), (259, .istore_n 1), (260, .iload_n 1), (261, .bipush 40), (263, .if_icmp .ge 22), (266, .aload_n 0), (267, .getfield 19), (270, .iload_n 1), (271, .new 17), (274, .dup), (275, .invokespecial 98), (278, .aastore), (279, .iinc 1 1), (282, .goto (-22)), (285, .iconst 0), (286, .istore_n 1), (287, .iload_n 1), (288, .bipush 8), (290, .if_icmp .ge 22), (293, .aload_n 0), (294, .getfield 34), (297, .iload_n 1), (298, .new 28)]),
  (348, [(301, .dup), (302, .invokespecial 99), (305, .aastore), (306, .iinc 1 1), (309, .goto (-22)), (312, .iconst 0), (313, .istore_n 1), (314, .iload_n 1), (315, .bipush 8), (317, .if_icmp .ge 22), (320, .aload_n 0), (321, .getfield 39), (324, .iload_n 1), (325, .new 37), (328, .dup), (329, .invokespecial 78), (332, .aastore), (333, .iinc 1 1), (336, .goto (-22)), (339, .return_)])]
theorem ok_X2_init : CodeOK cX2_init k_X2_init := okw 0 (by decide +kernel) (okc (by decide +kernel) (okw 32 (by decide +kernel) (okc (by decide +kernel) (okw 68 (by decide +kernel) (okc (by decide +kernel) (okw 77 (by decide +kernel) (okc (by decide +kernel) (okw 86 (by decide +kernel) (okc (by decide +kernel) (okw 95 (by decide +kernel) (okc (by decide +kernel) (okw 104 (by decide +kernel) (okc (by decide +kernel) (okw 113 (by decide +kernel) (okc (by decide +kernel) (okw 122 (by decide +kernel) (okw 174 (by decide +kernel) (okw 222 (by decide +kernel) (okc (by decide +kernel) (okw 255 (by decide +kernel) (okw 301 (by decide +kernel) (okn))))))))))))))))))))))
abbrev p_X2_init (l : Launch) (G : JG) : JP := (false, [(19, 2, 2, 119, 0), (34, 2, 5, 120, 0), (39, 2, 6, 118, 0)], [], [], [(11, 2, 1, 117), (19, 2, 2, 119)], [(17, 5, 9), (28, 6, 2), (37, 4, 5)], [(9, 113), (17, 115)], [(3, 3, [], 700, fun _ _ _ _ => True), (78, 2, [2004], 700, S_X4_init l G), (98, 2, [2005], 700, S_X5_init l G), (99, 2, [2006], 700, S_X6_init l G)], true, 700, [])
theorem pk_X2_init {K : JC} {l : Launch} {G : JG} {Q : Int → MH → Prop} {E : Nat → Int → MH → Prop} {h0 : MH} (ki : KI K l G yX2_init cX2_init 2 none [] 7 211 700 Q E h0) (hG : gO G = false) : POK K RX2 (p_X2_init l G) :=
  POKi (y := yX2_init) ki hG (rfs rf_X2_ok (by decide +kernel)) fmz fmz (rps rp_X2_ok (by decide +kernel)) (subs (by decide +kernel) rn_X2_ok) (subs (by decide +kernel) ra_X2_ok)
  (pkE ki (by
    intro K e1 e2 e3 e4; subst e1; subst e2
    exact fmE (ceO e3 e4 q232 rfl) (fmE (ceI e3 e4 yl_X4_init ⟨rfl, q251, Or.inr ⟨_, List.mem_of_getElem? (i := 2) rfl⟩, _, _, q252⟩ rfl) (fmE (ceI e3 e4 yl_X5_init ⟨rfl, q311, Or.inr ⟨_, List.mem_of_getElem? (i := 3) rfl⟩, _, _, q312⟩ rfl) (fmE (ceI e3 e4 yl_X6_init ⟨rfl, q355, Or.inr ⟨_, List.mem_of_getElem? (i := 4) rfl⟩, _, _, q356⟩ rfl) (fmz)))))) (fun _ => rfl) rfl (pkP ki (by
    intro K e1 e2 e3 e4; subst e1; subst e2
    exact fmz))
theorem r_X2_init_0 {K : JC} {l : Launch} {G : JG} {Q : Int → MH → Prop} {E : Nat → Int → MH → Prop} {h0 : MH} (ki : KI K l G yX2_init cX2_init 2 none [] 7 211 700 Q E h0) (hG : gO G = false) {v0 : Int} {h : MH} (H :
    (0 ≤ (1500 : Int)) ∧
    (hz h + 1 ≤ LIMC) ∧
    (hs h + 1500 ≤ LIMS) ∧
    (∀ h1, h1 = hnew h 113 1500 1500 →
    (∀ h2, h2 = hset h1 v0 1 (hz h + 1) →
    (0 ≤ (40 : Int)) ∧
    (hz h2 + 1 ≤ LIMC) ∧
    (hs h2 + 40 ≤ LIMS) ∧
    (∀ h3, h3 = hnew h2 115 40 40 →
    (∀ h4, h4 = hset h3 v0 2 (hz h2 + 1) →
    JW K 28 [(2002, v0), (5000, 0)] [(0, 8), (0, 63), (2002, v0)] h4))))) : JW K 0 [(2002, v0), (5000, 0)] [] h := by
  have e1 := ki.2.2.2.2.1
  have e2 := ki.2.2.2.2.2.1
  subst e1; subst e2
  exact run_ok (dia := []) (cnr := []) (cuts := [(260, [2002, 0], []), (287, [2002, 0], []), (314, [2002, 0], [])]) ki.1 (pk_X2_init ki hG) ok_X2_init (by decide) 15 true _ _ _ _ H
theorem r_X2_init_260 {K : JC} {l : Launch} {G : JG} {Q : Int → MH → Prop} {E : Nat → Int → MH → Prop} {h0 : MH} (ki : KI K l G yX2_init cX2_init 2 none [] 7 211 700 Q E h0) (hG : gO G = false) {v0 v1 : Int} {h : MH} (H :
    ((40 ≤ v1 →
      (∀ x1_1 : Int, x1_1 = 0 →
      JW K 287 [(2002, v0), (0, x1_1)] [] h)) ∧
    (v1 < 40 →
      (hz h + 1 ≤ LIMC) ∧
      (hs h + 9 ≤ LIMS) ∧
      (∀ h2, h2 = hnew h 5 0 9 →
      S_X5_init l G [(2005, (hz h + 1))] h2 (fun _ h4 =>
      ((hv h v0 2) ≠ 0) ∧
      (0 ≤ v1) ∧
      (v1 < (hn h4 (hv h v0 2))) ∧
      (∀ h5, h5 = hset h4 (hv h v0 2) v1 (hz h + 1) →
      (∀ x1_6 : Int, x1_6 = w32 (v1 + 1) →
      JW K 260 [(2002, v0), (0, x1_6)] [] h5))) E)))) : JW K 260 [(2002, v0), (0, v1)] [] h := by
  have e1 := ki.2.2.2.2.1
  have e2 := ki.2.2.2.2.2.1
  subst e1; subst e2
  exact run_ok (dia := []) (cnr := []) (cuts := [(260, [2002, 0], []), (287, [2002, 0], []), (314, [2002, 0], [])]) ki.1 (pk_X2_init ki hG) ok_X2_init (by decide) 14 true _ _ _ _ H
theorem r_X2_init_287 {K : JC} {l : Launch} {G : JG} {Q : Int → MH → Prop} {E : Nat → Int → MH → Prop} {h0 : MH} (ki : KI K l G yX2_init cX2_init 2 none [] 7 211 700 Q E h0) (hG : gO G = false) {v0 v1 : Int} {h : MH} (H :
    ((8 ≤ v1 →
      (∀ x1_1 : Int, x1_1 = 0 →
      JW K 314 [(2002, v0), (0, x1_1)] [] h)) ∧
    (v1 < 8 →
      (hz h + 1 ≤ LIMC) ∧
      (hs h + 2 ≤ LIMS) ∧
      (∀ h2, h2 = hnew h 6 0 2 →
      S_X6_init l G [(2006, (hz h + 1))] h2 (fun _ h4 =>
      ((hv h v0 5) ≠ 0) ∧
      (0 ≤ v1) ∧
      (v1 < (hn h4 (hv h v0 5))) ∧
      (∀ h5, h5 = hset h4 (hv h v0 5) v1 (hz h + 1) →
      (∀ x1_6 : Int, x1_6 = w32 (v1 + 1) →
      JW K 287 [(2002, v0), (0, x1_6)] [] h5))) E)))) : JW K 287 [(2002, v0), (0, v1)] [] h := by
  have e1 := ki.2.2.2.2.1
  have e2 := ki.2.2.2.2.2.1
  subst e1; subst e2
  exact run_ok (dia := []) (cnr := []) (cuts := [(260, [2002, 0], []), (287, [2002, 0], []), (314, [2002, 0], [])]) ki.1 (pk_X2_init ki hG) ok_X2_init (by decide) 14 true _ _ _ _ H
theorem r_X2_init_314 {K : JC} {l : Launch} {G : JG} {Q : Int → MH → Prop} {E : Nat → Int → MH → Prop} {h0 : MH} (ki : KI K l G yX2_init cX2_init 2 none [] 7 211 700 Q E h0) (hG : gO G = false) {v0 v1 : Int} {h : MH} (H :
    ((8 ≤ v1 →
      Q 0 h) ∧
    (v1 < 8 →
      (hz h + 1 ≤ LIMC) ∧
      (hs h + 5 ≤ LIMS) ∧
      (∀ h1, h1 = hnew h 4 0 5 →
      S_X4_init l G [(2004, (hz h + 1))] h1 (fun _ h3 =>
      ((hv h v0 6) ≠ 0) ∧
      (0 ≤ v1) ∧
      (v1 < (hn h3 (hv h v0 6))) ∧
      (∀ h4, h4 = hset h3 (hv h v0 6) v1 (hz h + 1) →
      (∀ x1_5 : Int, x1_5 = w32 (v1 + 1) →
      JW K 314 [(2002, v0), (0, x1_5)] [] h4))) E)))) : JW K 314 [(2002, v0), (0, v1)] [] h := by
  have e1 := ki.2.2.2.2.1
  have e2 := ki.2.2.2.2.2.1
  subst e1; subst e2
  exact run_ok (dia := []) (cnr := []) (cuts := [(260, [2002, 0], []), (287, [2002, 0], []), (314, [2002, 0], [])]) ki.1 (pk_X2_init ki hG) ok_X2_init (by decide) 14 true _ _ _ _ H
abbrev k_X2_find : List (Nat × List (Nat × Instr)) := [(44, [(0, .aload_n 0), (1, .aload_n 1), (2, .invokevirtual 144), (5, .iconst 0), (6, .istore_n 2), (7, .iload_n 2), (8, .aload_n 0), (9, .getfield 100), (12, .getfield 148), (15, .arraylength), (16, .if_icmp .ge 37), (19, .aload_n 0), (20, .getfield 100), (23, .getfield 152), (26, .iload_n 2), (27, .baload), (28, .ifCond .ne 6), (31, .goto 16), (34, .aload_n 0), (35, .aload_n 0), (36, .getfield 100), (39, .getfield 148), (42, .iload_n 2), (43, .aaload)]),
  (90, [(44, .invokevirtual 155), (47, .iinc 2 1), (50, .goto (-43)), (53, .aload_n 0), (54, .getfield 135), (57, .ifCond .le 52), (60, .aload_n 0), (61, .getfield 60), (64, .aload_n 0), (65, .getfield 132), (68, .iaload), (69, .istore_n 2), (70, .aload_n 0), (71, .aload_n 0), (72, .getfield 132), (75, .iconst 1), (76, .iadd), (77, .sipush 1500), (80, .irem), (81, .putfield 132), (84, .aload_n 0), (85, .dup), (86, .getfield 135), (89, .iconst 1)]),
  (118, [(90, .isub), (91, .putfield 135), (94, .aload_n 0), (95, .getfield 64), (98, .iload_n 2), (99, .iconst 0), (100, .bastore), (101, .aload_n 0), (102, .iload_n 2), (103, .invokevirtual 159), (106, .goto (-53)), (109, .return_)])]
theorem ok_X2_find : CodeOK cX2_find k_X2_find := okw 0 (by decide +kernel) (okw 44 (by decide +kernel) (okw 90 (by decide +kernel) (okn)))
abbrev p_X2_find (l : Launch) (G : JG) : JP := (true, [(60, 2, 12, 2500100, 75), (64, 2, 13, 2500102, 76), (100, 2, 0, 16, 0), (132, 2, 14, 0, 0), (135, 2, 15, 0, 0), (148, 12, 6, 128, 0), (152, 12, 13, 106, 0)], [], [], [(132, 2, 14, 0), (135, 2, 15, 0)], [], [], [(144, 1, [16, 2002], 700, S_X2_make l G), (155, 1, [18, 2002], 700, S_X2_enterRoot l G), (159, 1, [0, 2002], 700, S_X2_work l G)], false, 700, [])
theorem pk_X2_find {K : JC} {l : Launch} {G : JG} {Q : Int → MH → Prop} {E : Nat → Int → MH → Prop} {h0 : MH} (ki : KI K l G yX2_find cX2_find 3 none [] 14 402 700 Q E h0) (hG : gO G = true) : POK K RX2 (p_X2_find l G) :=
  POKi (y := yX2_find) ki hG (rfs rf_X2_ok (by decide +kernel)) fmz fmz (rps rp_X2_ok (by decide +kernel)) fmz fmz
  (pkE ki (by
    intro K e1 e2 e3 e4; subst e1; subst e2
    exact fmE (ceV 2 e3 e4 yl_X2_make ⟨by decide, ⟨_, _, rfl⟩, q1308, qs25, q1306⟩ rfl) (fmE (ceV 2 e3 e4 yl_X2_enterRoot ⟨by decide, ⟨_, _, rfl⟩, q1347, qs26, q1345⟩ rfl) (fmE (ceV 2 e3 e4 yl_X2_work ⟨by decide, ⟨_, _, rfl⟩, q1381, qs29, q1379⟩ rfl) (fmz))))) (fun z => Bool.noConfusion z) rfl (pkP ki (by
    intro K e1 e2 e3 e4; subst e1; subst e2
    exact fmz))
theorem r_X2_find_0 {K : JC} {l : Launch} {G : JG} {Q : Int → MH → Prop} {E : Nat → Int → MH → Prop} {h0 : MH} (ki : KI K l G yX2_find cX2_find 3 none [] 14 402 700 Q E h0) (hG : gO G = true) {v1 : Int} {h : MH} (H :
    S_X2_make l G [(2002, 3), (16, v1)] h (fun _ h2 =>
    (∀ x2_3 : Int, x2_3 = 0 →
    JW K 7 [(2002, 3), (16, v1), (0, x2_3)] [] h2)) E) : JW K 0 [(2002, 3), (16, v1), (5000, 0)] [] h := by
  have e1 := ki.2.2.2.2.1
  have e2 := ki.2.2.2.2.2.1
  subst e1; subst e2
  exact run_ok (dia := []) (cnr := []) (cuts := [(7, [2002, 16, 0], []), (53, [2002, 16, 0], [])]) ki.1 (pk_X2_find ki hG) ok_X2_find (by decide) 7 true _ _ _ _ H
theorem r_X2_find_7 {K : JC} {l : Launch} {G : JG} {Q : Int → MH → Prop} {E : Nat → Int → MH → Prop} {h0 : MH} (ki : KI K l G yX2_find cX2_find 3 none [] 14 402 700 Q E h0) (hG : gO G = true) {v1 v2 : Int} {h : MH} (H :
    ((hv h 3 0) ≠ 0) ∧
    ((hv h (hv h 3 0) 6) ≠ 0) ∧
    (((hn h (hv h (hv h 3 0) 6)) ≤ v2 →
      JW K 53 [(2002, 3), (16, v1), (0, v2)] [] h) ∧
    (v2 < (hn h (hv h (hv h 3 0) 6)) →
      ((hv h 3 0) ≠ 0) ∧
      ((hv h (hv h 3 0) 13) ≠ 0) ∧
      (0 ≤ v2) ∧
      (v2 < (hn h (hv h (hv h 3 0) 13))) ∧
      ((¬ (hv h (hv h (hv h 3 0) 13) v2) = 0 →
        ((hv h 3 0) ≠ 0) ∧
        ((hv h (hv h 3 0) 6) ≠ 0) ∧
        (0 ≤ v2) ∧
        (v2 < (hn h (hv h (hv h 3 0) 6))) ∧
        S_X2_enterRoot l G [(2002, 3), (18, (hv h (hv h (hv h 3 0) 6) v2))] h (fun _ h2 =>
        (∀ x2_3 : Int, x2_3 = w32 (v2 + 1) →
        JW K 7 [(2002, 3), (16, v1), (0, x2_3)] [] h2)) E) ∧
      ((hv h (hv h (hv h 3 0) 13) v2) = 0 →
        (∀ x2_4 : Int, x2_4 = w32 (v2 + 1) →
        JW K 7 [(2002, 3), (16, v1), (0, x2_4)] [] h)))))) : JW K 7 [(2002, 3), (16, v1), (0, v2)] [] h := by
  have e1 := ki.2.2.2.2.1
  have e2 := ki.2.2.2.2.2.1
  subst e1; subst e2
  exact run_ok (dia := []) (cnr := []) (cuts := [(7, [2002, 16, 0], []), (53, [2002, 16, 0], [])]) ki.1 (pk_X2_find ki hG) ok_X2_find (by decide) 23 true _ _ _ _ H
theorem r_X2_find_53 {K : JC} {l : Launch} {G : JG} {Q : Int → MH → Prop} {E : Nat → Int → MH → Prop} {h0 : MH} (ki : KI K l G yX2_find cX2_find 3 none [] 14 402 700 Q E h0) (hG : gO G = true) {v1 v2 : Int} {h : MH} (H :
    (((hv h 3 15) ≤ 0 →
      Q 0 h) ∧
    (0 < (hv h 3 15) →
      (0 ≤ (hv h 3 14)) ∧
      ((hv h 3 14) < 1500) ∧
      (∀ x2_1 : Int, x2_1 = (hv h 78 (hv h 3 14)) →
      (¬ (1500 : Int) = 0) ∧
      (∀ h2, h2 = hset h 3 14 (i_rem (w32 ((hv h 3 14) + 1)) 1500) →
      (∀ h3, h3 = hset h2 3 15 (w32 ((hv h2 3 15) - 1)) →
      (0 ≤ x2_1) ∧
      (x2_1 < 1500) ∧
      ((0 : Int) = 0 ∨ (0 : Int) = 1) ∧
      (∀ h4, h4 = hset h3 79 x2_1 0 →
      S_X2_work l G [(2002, 3), (0, x2_1)] h4 (fun _ h6 =>
      JW K 53 [(2002, 3), (16, v1), (0, x2_1)] [] h6) E))))))) : JW K 53 [(2002, 3), (16, v1), (0, v2)] [] h := by
  have e1 := ki.2.2.2.2.1
  have e2 := ki.2.2.2.2.2.1
  subst e1; subst e2
  exact run_ok (dia := []) (cnr := []) (cuts := [(7, [2002, 16, 0], []), (53, [2002, 16, 0], [])]) ki.1 (pk_X2_find ki hG) ok_X2_find (by decide) 34 true _ _ _ _ H
abbrev k_X2_make : List (Nat × List (Nat × Instr)) := [(44, [(0, .aload_n 0), (1, .aload_n 1), (2, .putfield 100), (5, .iconst 0), (6, .istore_n 2), (7, .iload_n 2), (8, .aload_n 0), (9, .getfield 100), (12, .getfield 104), (15, .if_icmp .ge 82), (18, .aload_n 0), (19, .getfield 11), (22, .iload_n 2), (23, .aaload), (24, .ifnonnull 16), (27, .aload_n 0), (28, .getfield 11), (31, .iload_n 2), (32, .new 9), (35, .dup), (36, .invokespecial 67), (39, .aastore), (40, .aload_n 0), (41, .getfield 11)]),
  (78, [(44, .iload_n 2), (45, .aaload), (46, .invokevirtual 110), (49, .aload_n 0), (50, .getfield 43), (53, .iload_n 2), (54, .lconst 0), (55, .lastore), (56, .aload_n 0), (57, .getfield 47), (60, .iload_n 2), (61, .lconst 0), (62, .lastore), (63, .aload_n 0), (64, .getfield 50), (67, .iload_n 2), (68, .iconst 0), (69, .bastore), (70, .aload_n 0), (71, .getfield 54), (74, .iload_n 2), (75, .iconst 0), (76, .bastore), (77, .aload_n 0)]),
  (120, [(78, .getfield 57), (81, .iload_n 2), (82, .lconst 0), (83, .lastore), (84, .aload_n 0), (85, .getfield 64), (88, .iload_n 2), (89, .iconst 0), (90, .bastore), (91, .iinc 2 1), (94, .goto (-87)), (97, .bipush 7), (99, .istore_n 2), (100, .iload_n 2), (101, .bipush 7), (103, .aload_n 0), (104, .getfield 100), (107, .getfield 113), (110, .iadd), (111, .if_icmp .ge 94), (114, .aload_n 0), (115, .getfield 30), (118, .iload_n 2), (119, .aaload)]),
  (162, [(120, .ifnonnull 16), (123, .aload_n 0), (124, .getfield 30), (127, .iload_n 2), (128, .new 28), (131, .dup), (132, .invokespecial 99), (135, .aastore), (136, .aload_n 0), (137, .getfield 30), (140, .iload_n 2), (141, .aaload), (142, .invokevirtual 116), (145, .iconst 0), (146, .istore_n 3), (147, .iload_n 3), (148, .aload_n 0), (149, .iload_n 2), (150, .invokevirtual 117), (153, .if_icmp .ge 46), (156, .aload_n 0), (157, .getfield 25), (160, .iload_n 2), (161, .aaload)]),
  (206, [(162, .iload_n 3), (163, .aaload), (164, .ifnonnull 18), (167, .aload_n 0), (168, .getfield 25), (171, .iload_n 2), (172, .aaload), (173, .iload_n 3), (174, .new 28), (177, .dup), (178, .invokespecial 99), (181, .aastore), (182, .aload_n 0), (183, .getfield 25), (186, .iload_n 2), (187, .aaload), (188, .iload_n 3), (189, .aaload), (190, .invokevirtual 116), (193, .iinc 3 1), (196, .goto (-49)), (199, .iinc 2 1), (202, .goto (-102)), (205, .iconst 0)]),
  (252, [(206, .istore_n 2), (207, .iload_n 2), (208, .bipush 40), (210, .if_icmp .ge 18), (213, .aload_n 0), (214, .getfield 19), (217, .iload_n 2), (218, .aaload), (219, .invokevirtual 121), (222, .iinc 2 1), (225, .goto (-18)), (228, .iconst 0), (229, .istore_n 2), (230, .iload_n 2), (231, .bipush 8), (233, .if_icmp .ge 18), (236, .aload_n 0), (237, .getfield 39), (240, .iload_n 2), (241, .aaload), (242, .invokevirtual 122), (245, .iinc 2 1), (248, .goto (-18)), (251, .iconst 0)]),
  (296, [(252, .istore_n 2), (253, .iload_n 2), (254, .aload_n 0), (255, .getfield 100), (258, .getfield 123), (261, .arraylength), (262, .if_icmp .ge 40), (265, .aload_n 0), (266, .getfield 34), (269, .iload_n 2), (270, .aaload), (271, .invokevirtual 116), (274, .aload_n 0), (275, .getfield 34), (278, .iload_n 2), (279, .aaload), (280, .getfield 125), (283, .aload_n 0), (284, .getfield 100), (287, .getfield 123), (290, .iload_n 2), (291, .iaload), (292, .invokevirtual 128), (295, .pop)]),
  (321, [(296, .iinc 2 1), (299, .goto (-46)), (302, .aload_n 0), (303, .iconst 0), (304, .putfield 132), (307, .aload_n 0), (308, .iconst 0), (309, .putfield 135), (312, .return_)])]
theorem ok_X2_make : CodeOK cX2_make k_X2_make := okw 0 (by decide +kernel) (okw 44 (by decide +kernel) (okw 78 (by decide +kernel) (okw 120 (by decide +kernel) (okw 162 (by decide +kernel) (okw 206 (by decide +kernel) (okw 252 (by decide +kernel) (okw 296 (by decide +kernel) (okn))))))))
abbrev p_X2_make (l : Launch) (G : JG) : JP := (true, [(11, 2, 1, 2500113, 1), (19, 2, 2, 1040115, 2), (25, 2, 3, 1063132, 3), (30, 2, 4, 1063116, 67), (34, 2, 5, 1008116, 68), (39, 2, 6, 1008114, 69), (43, 2, 7, 2500101, 70), (47, 2, 8, 2500101, 71), (50, 2, 9, 2500102, 72), (54, 2, 10, 2500102, 73), (57, 2, 11, 2500101, 74), (64, 2, 13, 2500102, 76), (100, 2, 0, 16, 0), (104, 12, 7, 0, 0), (113, 12, 8, 0, 0), (123, 12, 5, 104, 0), (125, 6, 0, 8, 0)], [], [], [(100, 2, 0, 16), (132, 2, 14, 0), (135, 2, 15, 0)], [(9, 3, 4), (28, 6, 2)], [], [(67, 2, [2003], 700, S_X3_init l G), (99, 2, [2006], 700, S_X6_init l G), (110, 1, [2003], 700, S_X3_none l G), (116, 1, [2006], 700, S_X6_none l G), (117, 1, [0, 2002], 0, S_X2_fieldsOf l G), (121, 1, [2005], 700, S_X5_none l G), (122, 1, [2004], 700, S_X4_none l G), (128, 1, [0, 2004], 8, S_X4_first l G)], false, 700, [])
theorem pk_X2_make {K : JC} {l : Launch} {G : JG} {Q : Int → MH → Prop} {E : Nat → Int → MH → Prop} {h0 : MH} (ki : KI K l G yX2_make cX2_make 4 none [] 7 211 700 Q E h0) (hG : gO G = true) : POK K RX2 (p_X2_make l G) :=
  POKi (y := yX2_make) ki hG (rfs rf_X2_ok (by decide +kernel)) fmz fmz (rps rp_X2_ok (by decide +kernel)) (subs (by decide +kernel) rn_X2_ok) fmz
  (pkE ki (by
    intro K e1 e2 e3 e4; subst e1; subst e2
    exact fmE (ceI e3 e4 yl_X3_init ⟨rfl, q245, Or.inl q244, _, _, q246⟩ rfl) (fmE (ceI e3 e4 yl_X6_init ⟨rfl, q355, Or.inr ⟨_, List.mem_of_getElem? (i := 4) rfl⟩, _, _, q356⟩ rfl) (fmE (ceV 3 e3 e4 yl_X3_none ⟨by decide, ⟨_, _, rfl⟩, q1311, q1312, q1310⟩ rfl) (fmE (ceV 6 e3 e4 yl_X6_none ⟨by decide, ⟨_, _, rfl⟩, q1319, q1320, q1318⟩ rfl) (fmE (ceV 2 e3 e4 yl_X2_fieldsOf ⟨by decide, ⟨_, _, rfl⟩, q1324, q1325, q1323⟩ rfl) (fmE (ceV 5 e3 e4 yl_X5_none ⟨by decide, ⟨_, _, rfl⟩, q1328, q1329, q1327⟩ rfl) (fmE (ceV 4 e3 e4 yl_X4_none ⟨by decide, ⟨_, _, rfl⟩, q1315, q1316, q1332⟩ rfl) (fmE (ceV 4 e3 e4 yl_X4_first ⟨by decide, ⟨_, _, rfl⟩, q1334, q1335, q1333⟩ rfl) (fmz)))))))))) (fun z => Bool.noConfusion z) rfl (pkP ki (by
    intro K e1 e2 e3 e4; subst e1; subst e2
    exact fmz))
theorem r_X2_make_0 {K : JC} {l : Launch} {G : JG} {Q : Int → MH → Prop} {E : Nat → Int → MH → Prop} {h0 : MH} (ki : KI K l G yX2_make cX2_make 4 none [] 7 211 700 Q E h0) (hG : gO G = true) {v1 : Int} {h : MH} (H :
    (∀ h1, h1 = hset h 3 0 v1 →
    (∀ x2_2 : Int, x2_2 = 0 →
    JW K 7 [(2002, 3), (16, v1), (0, x2_2), (5000, 0)] [] h1))) : JW K 0 [(2002, 3), (16, v1), (5000, 0), (5000, 0)] [] h := by
  have e1 := ki.2.2.2.2.1
  have e2 := ki.2.2.2.2.2.1
  subst e1; subst e2
  exact run_ok (dia := []) (cnr := []) (cuts := [(7, [2002, 16, 0, 5000], []), (100, [2002, 16, 0, 5000], []), (147, [2002, 16, 0, 0], []), (207, [2002, 16, 0, 5000], []), (230, [2002, 16, 0, 5000], []), (253, [2002, 16, 0, 5000], [])]) ki.1 (pk_X2_make ki hG) ok_X2_make (by decide) 7 true _ _ _ _ H
theorem r_X2_make_7 {K : JC} {l : Launch} {G : JG} {Q : Int → MH → Prop} {E : Nat → Int → MH → Prop} {h0 : MH} (ki : KI K l G yX2_make cX2_make 4 none [] 7 211 700 Q E h0) (hG : gO G = true) {v1 v2 : Int} {h : MH} (H :
    ((hv h 3 0) ≠ 0) ∧
    (((hv h (hv h 3 0) 7) ≤ v2 →
      (∀ x2_1 : Int, x2_1 = 7 →
      JW K 100 [(2002, 3), (16, v1), (0, x2_1), (5000, 0)] [] h)) ∧
    (v2 < (hv h (hv h 3 0) 7) →
      (0 ≤ v2) ∧
      (v2 < 1500) ∧
      ((¬ (hv h 4 v2) = 0 →
        (0 ≤ v2) ∧
        (v2 < 1500) ∧
        ((hv h 4 v2) ≠ 0) ∧
        S_X3_none l G [(2003, (hv h 4 v2))] h (fun _ h3 =>
        (0 ≤ v2) ∧
        (v2 < 1500) ∧
        (∀ h4, h4 = hset h3 73 v2 0 →
        (0 ≤ v2) ∧
        (v2 < 1500) ∧
        (∀ h5, h5 = hset h4 74 v2 0 →
        (0 ≤ v2) ∧
        (v2 < 1500) ∧
        ((0 : Int) = 0 ∨ (0 : Int) = 1) ∧
        (∀ h6, h6 = hset h5 75 v2 0 →
        (0 ≤ v2) ∧
        (v2 < 1500) ∧
        ((0 : Int) = 0 ∨ (0 : Int) = 1) ∧
        (∀ h7, h7 = hset h6 76 v2 0 →
        (0 ≤ v2) ∧
        (v2 < 1500) ∧
        (∀ h8, h8 = hset h7 77 v2 0 →
        (0 ≤ v2) ∧
        (v2 < 1500) ∧
        ((0 : Int) = 0 ∨ (0 : Int) = 1) ∧
        (∀ h9, h9 = hset h8 79 v2 0 →
        (∀ x2_10 : Int, x2_10 = w32 (v2 + 1) →
        JW K 7 [(2002, 3), (16, v1), (0, x2_10), (5000, 0)] [] h9)))))))) E) ∧
      ((hv h 4 v2) = 0 →
        (hz h + 1 ≤ LIMC) ∧
        (hs h + 4 ≤ LIMS) ∧
        (∀ h11, h11 = hnew h 3 0 4 →
        S_X3_init l G [(2003, (hz h + 1))] h11 (fun _ h13 =>
        (0 ≤ v2) ∧
        (v2 < 1500) ∧
        (∀ h14, h14 = hset h13 4 v2 (hz h + 1) →
        (0 ≤ v2) ∧
        (v2 < 1500) ∧
        ((hv h14 4 v2) ≠ 0) ∧
        S_X3_none l G [(2003, (hv h14 4 v2))] h14 (fun _ h16 =>
        (0 ≤ v2) ∧
        (v2 < 1500) ∧
        (∀ h17, h17 = hset h16 73 v2 0 →
        (0 ≤ v2) ∧
        (v2 < 1500) ∧
        (∀ h18, h18 = hset h17 74 v2 0 →
        (0 ≤ v2) ∧
        (v2 < 1500) ∧
        ((0 : Int) = 0 ∨ (0 : Int) = 1) ∧
        (∀ h19, h19 = hset h18 75 v2 0 →
        (0 ≤ v2) ∧
        (v2 < 1500) ∧
        ((0 : Int) = 0 ∨ (0 : Int) = 1) ∧
        (∀ h20, h20 = hset h19 76 v2 0 →
        (0 ≤ v2) ∧
        (v2 < 1500) ∧
        (∀ h21, h21 = hset h20 77 v2 0 →
        (0 ≤ v2) ∧
        (v2 < 1500) ∧
        ((0 : Int) = 0 ∨ (0 : Int) = 1) ∧
        (∀ h22, h22 = hset h21 79 v2 0 →
        (∀ x2_23 : Int, x2_23 = w32 (v2 + 1) →
        JW K 7 [(2002, 3), (16, v1), (0, x2_23), (5000, 0)] [] h22)))))))) E)) E)))))) : JW K 7 [(2002, 3), (16, v1), (0, v2), (5000, 0)] [] h := by
  have e1 := ki.2.2.2.2.1
  have e2 := ki.2.2.2.2.2.1
  subst e1; subst e2
  exact run_ok (dia := []) (cnr := []) (cuts := [(7, [2002, 16, 0, 5000], []), (100, [2002, 16, 0, 5000], []), (147, [2002, 16, 0, 0], []), (207, [2002, 16, 0, 5000], []), (230, [2002, 16, 0, 5000], []), (253, [2002, 16, 0, 5000], [])]) ki.1 (pk_X2_make ki hG) ok_X2_make (by decide) 56 true _ _ _ _ H
theorem r_X2_make_100 {K : JC} {l : Launch} {G : JG} {Q : Int → MH → Prop} {E : Nat → Int → MH → Prop} {h0 : MH} (ki : KI K l G yX2_make cX2_make 4 none [] 7 211 700 Q E h0) (hG : gO G = true) {v1 v2 : Int} {h : MH} (H :
    ((hv h 3 0) ≠ 0) ∧
    (((w32 (7 + (hv h (hv h 3 0) 8))) ≤ v2 →
      (∀ x2_1 : Int, x2_1 = 0 →
      JW K 207 [(2002, 3), (16, v1), (0, x2_1), (5000, 0)] [] h)) ∧
    (v2 < (w32 (7 + (hv h (hv h 3 0) 8))) →
      (0 ≤ v2) ∧
      (v2 < 63) ∧
      ((¬ (hv h 70 v2) = 0 →
        (0 ≤ v2) ∧
        (v2 < 63) ∧
        ((hv h 70 v2) ≠ 0) ∧
        S_X6_none l G [(2006, (hv h 70 v2))] h (fun _ h3 =>
        (∀ x3_4 : Int, x3_4 = 0 →
        JW K 147 [(2002, 3), (16, v1), (0, v2), (0, x3_4)] [] h3)) E) ∧
      ((hv h 70 v2) = 0 →
        (hz h + 1 ≤ LIMC) ∧
        (hs h + 2 ≤ LIMS) ∧
        (∀ h5, h5 = hnew h 6 0 2 →
        S_X6_init l G [(2006, (hz h + 1))] h5 (fun _ h7 =>
        (0 ≤ v2) ∧
        (v2 < 63) ∧
        (∀ h8, h8 = hset h7 70 v2 (hz h + 1) →
        (0 ≤ v2) ∧
        (v2 < 63) ∧
        ((hv h8 70 v2) ≠ 0) ∧
        S_X6_none l G [(2006, (hv h8 70 v2))] h8 (fun _ h10 =>
        (∀ x3_11 : Int, x3_11 = 0 →
        JW K 147 [(2002, 3), (16, v1), (0, v2), (0, x3_11)] [] h10)) E)) E)))))) : JW K 100 [(2002, 3), (16, v1), (0, v2), (5000, 0)] [] h := by
  have e1 := ki.2.2.2.2.1
  have e2 := ki.2.2.2.2.2.1
  subst e1; subst e2
  exact run_ok (dia := []) (cnr := []) (cuts := [(7, [2002, 16, 0, 5000], []), (100, [2002, 16, 0, 5000], []), (147, [2002, 16, 0, 0], []), (207, [2002, 16, 0, 5000], []), (230, [2002, 16, 0, 5000], []), (253, [2002, 16, 0, 5000], [])]) ki.1 (pk_X2_make ki hG) ok_X2_make (by decide) 28 true _ _ _ _ H
theorem r_X2_make_147 {K : JC} {l : Launch} {G : JG} {Q : Int → MH → Prop} {E : Nat → Int → MH → Prop} {h0 : MH} (ki : KI K l G yX2_make cX2_make 4 none [] 7 211 700 Q E h0) (hG : gO G = true) {v1 v2 v3 : Int} {h : MH} (H :
    S_X2_fieldsOf l G [(2002, 3), (0, v2)] h (fun z1 h2 =>
    ((z1 ≤ v3 →
      (∀ x2_3 : Int, x2_3 = w32 (v2 + 1) →
      JW K 100 [(2002, 3), (16, v1), (0, x2_3), (5000, 0)] [] h2)) ∧
    (v3 < z1 →
      (0 ≤ v2) ∧
      (v2 < 63) ∧
      ((hv h2 6 v2) ≠ 0) ∧
      (0 ≤ v3) ∧
      (v3 < (hn h2 (hv h2 6 v2))) ∧
      ((¬ (hv h2 (hv h2 6 v2) v3) = 0 →
        (0 ≤ v2) ∧
        (v2 < 63) ∧
        ((hv h2 6 v2) ≠ 0) ∧
        (0 ≤ v3) ∧
        (v3 < (hn h2 (hv h2 6 v2))) ∧
        ((hv h2 (hv h2 6 v2) v3) ≠ 0) ∧
        S_X6_none l G [(2006, (hv h2 (hv h2 6 v2) v3))] h2 (fun _ h5 =>
        (∀ x3_6 : Int, x3_6 = w32 (v3 + 1) →
        JW K 147 [(2002, 3), (16, v1), (0, v2), (0, x3_6)] [] h5)) E) ∧
      ((hv h2 (hv h2 6 v2) v3) = 0 →
        (0 ≤ v2) ∧
        (v2 < 63) ∧
        (hz h2 + 1 ≤ LIMC) ∧
        (hs h2 + 2 ≤ LIMS) ∧
        (∀ h7, h7 = hnew h2 6 0 2 →
        S_X6_init l G [(2006, (hz h2 + 1))] h7 (fun _ h9 =>
        ((hv h2 6 v2) ≠ 0) ∧
        (0 ≤ v3) ∧
        (v3 < (hn h9 (hv h2 6 v2))) ∧
        (∀ h10, h10 = hset h9 (hv h2 6 v2) v3 (hz h2 + 1) →
        (0 ≤ v2) ∧
        (v2 < 63) ∧
        ((hv h10 6 v2) ≠ 0) ∧
        (0 ≤ v3) ∧
        (v3 < (hn h10 (hv h10 6 v2))) ∧
        ((hv h10 (hv h10 6 v2) v3) ≠ 0) ∧
        S_X6_none l G [(2006, (hv h10 (hv h10 6 v2) v3))] h10 (fun _ h12 =>
        (∀ x3_13 : Int, x3_13 = w32 (v3 + 1) →
        JW K 147 [(2002, 3), (16, v1), (0, v2), (0, x3_13)] [] h12)) E)) E)))))) E) : JW K 147 [(2002, 3), (16, v1), (0, v2), (0, v3)] [] h := by
  have e1 := ki.2.2.2.2.1
  have e2 := ki.2.2.2.2.2.1
  subst e1; subst e2
  exact run_ok (dia := []) (cnr := []) (cuts := [(7, [2002, 16, 0, 5000], []), (100, [2002, 16, 0, 5000], []), (147, [2002, 16, 0, 0], []), (207, [2002, 16, 0, 5000], []), (230, [2002, 16, 0, 5000], []), (253, [2002, 16, 0, 5000], [])]) ki.1 (pk_X2_make ki hG) ok_X2_make (by decide) 32 true _ _ _ _ H
theorem r_X2_make_207 {K : JC} {l : Launch} {G : JG} {Q : Int → MH → Prop} {E : Nat → Int → MH → Prop} {h0 : MH} (ki : KI K l G yX2_make cX2_make 4 none [] 7 211 700 Q E h0) (hG : gO G = true) {v1 v2 : Int} {h : MH} (H :
    ((40 ≤ v2 →
      (∀ x2_1 : Int, x2_1 = 0 →
      JW K 230 [(2002, 3), (16, v1), (0, x2_1), (5000, 0)] [] h)) ∧
    (v2 < 40 →
      (0 ≤ v2) ∧
      (v2 < 40) ∧
      ((hv h 5 v2) ≠ 0) ∧
      S_X5_none l G [(2005, (hv h 5 v2))] h (fun _ h3 =>
      (∀ x2_4 : Int, x2_4 = w32 (v2 + 1) →
      JW K 207 [(2002, 3), (16, v1), (0, x2_4), (5000, 0)] [] h3)) E))) : JW K 207 [(2002, 3), (16, v1), (0, v2), (5000, 0)] [] h := by
  have e1 := ki.2.2.2.2.1
  have e2 := ki.2.2.2.2.2.1
  subst e1; subst e2
  exact run_ok (dia := []) (cnr := []) (cuts := [(7, [2002, 16, 0, 5000], []), (100, [2002, 16, 0, 5000], []), (147, [2002, 16, 0, 0], []), (207, [2002, 16, 0, 5000], []), (230, [2002, 16, 0, 5000], []), (253, [2002, 16, 0, 5000], [])]) ki.1 (pk_X2_make ki hG) ok_X2_make (by decide) 12 true _ _ _ _ H
theorem r_X2_make_230 {K : JC} {l : Launch} {G : JG} {Q : Int → MH → Prop} {E : Nat → Int → MH → Prop} {h0 : MH} (ki : KI K l G yX2_make cX2_make 4 none [] 7 211 700 Q E h0) (hG : gO G = true) {v1 v2 : Int} {h : MH} (H :
    ((8 ≤ v2 →
      (∀ x2_1 : Int, x2_1 = 0 →
      JW K 253 [(2002, 3), (16, v1), (0, x2_1), (5000, 0)] [] h)) ∧
    (v2 < 8 →
      (0 ≤ v2) ∧
      (v2 < 8) ∧
      ((hv h 72 v2) ≠ 0) ∧
      S_X4_none l G [(2004, (hv h 72 v2))] h (fun _ h3 =>
      (∀ x2_4 : Int, x2_4 = w32 (v2 + 1) →
      JW K 230 [(2002, 3), (16, v1), (0, x2_4), (5000, 0)] [] h3)) E))) : JW K 230 [(2002, 3), (16, v1), (0, v2), (5000, 0)] [] h := by
  have e1 := ki.2.2.2.2.1
  have e2 := ki.2.2.2.2.2.1
  subst e1; subst e2
  exact run_ok (dia := []) (cnr := []) (cuts := [(7, [2002, 16, 0, 5000], []), (100, [2002, 16, 0, 5000], []), (147, [2002, 16, 0, 0], []), (207, [2002, 16, 0, 5000], []), (230, [2002, 16, 0, 5000], []), (253, [2002, 16, 0, 5000], [])]) ki.1 (pk_X2_make ki hG) ok_X2_make (by decide) 12 true _ _ _ _ H
theorem r_X2_make_253 {K : JC} {l : Launch} {G : JG} {Q : Int → MH → Prop} {E : Nat → Int → MH → Prop} {h0 : MH} (ki : KI K l G yX2_make cX2_make 4 none [] 7 211 700 Q E h0) (hG : gO G = true) {v1 v2 : Int} {h : MH} (H :
    ((hv h 3 0) ≠ 0) ∧
    ((hv h (hv h 3 0) 5) ≠ 0) ∧
    (((hn h (hv h (hv h 3 0) 5)) ≤ v2 →
      (∀ h1, h1 = hset h 3 14 0 →
      (∀ h2, h2 = hset h1 3 15 0 →
      Q 0 h2))) ∧
    (v2 < (hn h (hv h (hv h 3 0) 5)) →
      (0 ≤ v2) ∧
      (v2 < 8) ∧
      ((hv h 71 v2) ≠ 0) ∧
      S_X6_none l G [(2006, (hv h 71 v2))] h (fun _ h4 =>
      (0 ≤ v2) ∧
      (v2 < 8) ∧
      ((hv h4 71 v2) ≠ 0) ∧
      ((hv h4 3 0) ≠ 0) ∧
      ((hv h4 (hv h4 3 0) 5) ≠ 0) ∧
      (0 ≤ v2) ∧
      (v2 < (hn h4 (hv h4 (hv h4 3 0) 5))) ∧
      ((hv h4 (hv h4 71 v2) 0) ≠ 0) ∧
      S_X4_first l G [(2004, (hv h4 (hv h4 71 v2) 0)), (0, (hv h4 (hv h4 (hv h4 3 0) 5) v2))] h4 (fun z5 h6 =>
      (∀ x2_7 : Int, x2_7 = w32 (v2 + 1) →
      JW K 253 [(2002, 3), (16, v1), (0, x2_7), (5000, 0)] [] h6)) E) E))) : JW K 253 [(2002, 3), (16, v1), (0, v2), (5000, 0)] [] h := by
  have e1 := ki.2.2.2.2.1
  have e2 := ki.2.2.2.2.2.1
  subst e1; subst e2
  exact run_ok (dia := []) (cnr := []) (cuts := [(7, [2002, 16, 0, 5000], []), (100, [2002, 16, 0, 5000], []), (147, [2002, 16, 0, 0], []), (207, [2002, 16, 0, 5000], []), (230, [2002, 16, 0, 5000], []), (253, [2002, 16, 0, 5000], [])]) ki.1 (pk_X2_make ki hG) ok_X2_make (by decide) 27 true _ _ _ _ H
abbrev k_X2_fieldsOf : List (Nat × List (Nat × Instr)) := [(37, [(0, .aload_n 0), (1, .getfield 100), (4, .getfield 138), (7, .iload_n 1), (8, .iaload), (9, .istore_n 2), (10, .iload_n 2), (11, .ifCond .ge 7), (14, .iconst 1), (15, .goto 13), (18, .aload_n 0), (19, .getfield 100), (22, .getfield 141), (25, .iload_n 2), (26, .aaload), (27, .arraylength), (28, .ireturn)])]
theorem ok_X2_fieldsOf : CodeOK cX2_fieldsOf k_X2_fieldsOf := okw 0 (by decide +kernel) (okn)
abbrev p_X2_fieldsOf (l : Launch) (G : JG) : JP := (true, [(100, 2, 0, 16, 0), (138, 12, 9, 104, 0), (141, 12, 4, 134, 0)], [], [], [], [], [], [], false, 0, [])
theorem pk_X2_fieldsOf {K : JC} {l : Launch} {G : JG} {Q : Int → MH → Prop} {E : Nat → Int → MH → Prop} {h0 : MH} (ki : KI K l G yX2_fieldsOf cX2_fieldsOf 3 (some .int) [] 4 150 0 Q E h0) (hG : gO G = true) : POK K RX2 (p_X2_fieldsOf l G) :=
  POKi (y := yX2_fieldsOf) ki hG (rfs rf_X2_ok (by decide +kernel)) fmz fmz fmz fmz fmz
  (pkE ki (by
    intro K e1 e2 e3 e4; subst e1; subst e2
    exact fmz)) (fun z => Bool.noConfusion z) rfl (pkP ki (by
    intro K e1 e2 e3 e4; subst e1; subst e2
    exact fmz))
theorem r_X2_fieldsOf_0 {K : JC} {l : Launch} {G : JG} {Q : Int → MH → Prop} {E : Nat → Int → MH → Prop} {h0 : MH} (ki : KI K l G yX2_fieldsOf cX2_fieldsOf 3 (some .int) [] 4 150 0 Q E h0) (hG : gO G = true) {v1 : Int} {h : MH} (H :
    ((hv h 3 0) ≠ 0) ∧
    ((hv h (hv h 3 0) 9) ≠ 0) ∧
    (0 ≤ v1) ∧
    (v1 < (hn h (hv h (hv h 3 0) 9))) ∧
    (∀ x2_1 : Int, x2_1 = (hv h (hv h (hv h 3 0) 9) v1) →
    ((0 ≤ x2_1 → ((hv h 3 0) ≠ 0) ∧ ((hv h (hv h 3 0) 4) ≠ 0) ∧ (0 ≤ x2_1) ∧ (x2_1 < (hn h (hv h (hv h 3 0) 4))) ∧ (hv h (hv h (hv h 3 0) 4) x2_1) ≠ 0)) ∧
    Q (if x2_1 < 0 then 1 else (hn h (hv h (hv h (hv h 3 0) 4) x2_1)) : Int) h)) : JW K 0 [(2002, 3), (0, v1), (5000, 0)] [] h := by
  have e1 := ki.2.2.2.2.1
  have e2 := ki.2.2.2.2.2.1
  subst e1; subst e2
  exact run_ok (dia := [(11, 28)]) (cnr := []) (cuts := []) ki.1 (pk_X2_fieldsOf ki hG) ok_X2_fieldsOf (by decide) 10 true _ _ _ _ H
abbrev k_X2_enterRoot : List (Nat × List (Nat × Instr)) := [(44, [(0, .aload_n 0), (1, .getfield 72), (4, .invokevirtual 110), (7, .iconst 0), (8, .istore_n 2), (9, .iload_n 2), (10, .aload_n 1), (11, .getfield 163), (14, .arraylength), (15, .if_icmp .ge 66), (18, .iload_n 2), (19, .aload_n 1), (20, .getfield 168), (23, .if_icmp .ge 33), (26, .aload_n 1), (27, .getfield 163), (30, .iload_n 2), (31, .iaload), (32, .ifCond .ne 24), (35, .aload_n 0), (36, .getfield 72), (39, .getfield 171), (42, .iload_n 2), (43, .aaload)]),
  (88, [(44, .ldc 176), (46, .ldc 177), (48, .iconst 0), (49, .invokevirtual 178), (52, .pop), (53, .goto 22), (56, .aload_n 0), (57, .getfield 72), (60, .getfield 171), (63, .iload_n 2), (64, .aaload), (65, .aload_n 1), (66, .getfield 163), (69, .iload_n 2), (70, .iaload), (71, .invokevirtual 128), (74, .pop), (75, .iinc 2 1), (78, .goto (-69)), (81, .aload_n 0), (82, .aload_n 1), (83, .iconst 0), (84, .aload_n 0), (85, .getfield 72)]),
  (100, [(88, .invokevirtual 182), (91, .return_)])]
theorem ok_X2_enterRoot : CodeOK cX2_enterRoot k_X2_enterRoot := okw 0 (by decide +kernel) (okw 44 (by decide +kernel) (okw 88 (by decide +kernel) (okn)))
abbrev p_X2_enterRoot (l : Launch) (G : JG) : JP := (true, [(72, 2, 20, 2003, 95), (163, 14, 5, 104, 0), (168, 14, 3, 0, 0), (171, 3, 1, 118, 0)], [(176, (-2147483648)), (177, 2147483647)], [], [], [], [], [(110, 1, [2003], 700, S_X3_none l G), (128, 1, [0, 2004], 8, S_X4_first l G), (178, 1, [0, 0, 0, 2004], 8, S_X4_number l G), (182, 1, [7, 0, 18, 2002], 700, S_X2_come l G)], false, 700, [])
theorem pk_X2_enterRoot {K : JC} {l : Launch} {G : JG} {Q : Int → MH → Prop} {E : Nat → Int → MH → Prop} {h0 : MH} (ki : KI K l G yX2_enterRoot cX2_enterRoot 3 none [] 8 241 700 Q E h0) (hG : gO G = true) : POK K RX2 (p_X2_enterRoot l G) :=
  POKi (y := yX2_enterRoot) ki hG (rfs rf_X2_ok (by decide +kernel)) (subs (by decide +kernel) rc_X2_ok) fmz fmz fmz fmz
  (pkE ki (by
    intro K e1 e2 e3 e4; subst e1; subst e2
    exact fmE (ceV 3 e3 e4 yl_X3_none ⟨by decide, ⟨_, _, rfl⟩, q1311, q1312, q1310⟩ rfl) (fmE (ceV 4 e3 e4 yl_X4_first ⟨by decide, ⟨_, _, rfl⟩, q1334, q1335, q1333⟩ rfl) (fmE (ceV 4 e3 e4 yl_X4_number ⟨by decide, ⟨_, _, rfl⟩, q1338, q1339, q1351⟩ rfl) (fmE (ceV 2 e3 e4 yl_X2_come ⟨by decide, ⟨_, _, rfl⟩, q1354, qs27, q1352⟩ rfl) (fmz)))))) (fun z => Bool.noConfusion z) rfl (pkP ki (by
    intro K e1 e2 e3 e4; subst e1; subst e2
    exact fmz))
theorem r_X2_enterRoot_0 {K : JC} {l : Launch} {G : JG} {Q : Int → MH → Prop} {E : Nat → Int → MH → Prop} {h0 : MH} (ki : KI K l G yX2_enterRoot cX2_enterRoot 3 none [] 8 241 700 Q E h0) (hG : gO G = true) {v1 : Int} {h : MH} (H :
    S_X3_none l G [(2003, 98)] h (fun _ h2 =>
    (∀ x2_3 : Int, x2_3 = 0 →
    JW K 9 [(2002, 3), (18, v1), (0, x2_3)] [] h2)) E) : JW K 0 [(2002, 3), (18, v1), (5000, 0)] [] h := by
  have e1 := ki.2.2.2.2.1
  have e2 := ki.2.2.2.2.2.1
  subst e1; subst e2
  exact run_ok (dia := []) (cnr := [(23, 35, 56)]) (cuts := [(9, [2002, 18, 0], [])]) ki.1 (pk_X2_enterRoot ki hG) ok_X2_enterRoot (by decide) 7 true _ _ _ _ H
theorem r_X2_enterRoot_9 {K : JC} {l : Launch} {G : JG} {Q : Int → MH → Prop} {E : Nat → Int → MH → Prop} {h0 : MH} (ki : KI K l G yX2_enterRoot cX2_enterRoot 3 none [] 8 241 700 Q E h0) (hG : gO G = true) {v1 v2 : Int} {h : MH} (H :
    (v1 ≠ 0) ∧
    ((hv h v1 5) ≠ 0) ∧
    (((hn h (hv h v1 5)) ≤ v2 →
      S_X2_come l G [(2002, 3), (18, v1), (0, 0), (7, 98)] h (fun _ h2 =>
      Q 0 h2) E) ∧
    (v2 < (hn h (hv h v1 5)) →
      (v1 ≠ 0) ∧
      ((v2 < (hv h v1 3) → (v1 ≠ 0) ∧ ((hv h v1 5) ≠ 0) ∧ (0 ≤ v2) ∧ v2 < (hn h (hv h v1 5)))) ∧
      (((v2 < (hv h v1 3) ∧ (hv h (hv h v1 5) v2) = 0) →
        ((hv h 98 1) ≠ 0) ∧
        (0 ≤ v2) ∧
        (v2 < (hn h (hv h 98 1))) ∧
        ((hv h (hv h 98 1) v2) ≠ 0) ∧
        S_X4_number l G [(2004, (hv h (hv h 98 1) v2)), (0, (-2147483648)), (0, 2147483647), (0, 0)] h (fun z3 h4 =>
        (∀ x2_5 : Int, x2_5 = w32 (v2 + 1) →
        JW K 9 [(2002, 3), (18, v1), (0, x2_5)] [] h4)) E) ∧
      (¬ (v2 < (hv h v1 3) ∧ (hv h (hv h v1 5) v2) = 0) →
        ((hv h 98 1) ≠ 0) ∧
        (0 ≤ v2) ∧
        (v2 < (hn h (hv h 98 1))) ∧
        (v1 ≠ 0) ∧
        ((hv h v1 5) ≠ 0) ∧
        (0 ≤ v2) ∧
        (v2 < (hn h (hv h v1 5))) ∧
        ((hv h (hv h 98 1) v2) ≠ 0) ∧
        S_X4_first l G [(2004, (hv h (hv h 98 1) v2)), (0, (hv h (hv h v1 5) v2))] h (fun z6 h7 =>
        (∀ x2_8 : Int, x2_8 = w32 (v2 + 1) →
        JW K 9 [(2002, 3), (18, v1), (0, x2_8)] [] h7)) E))))) : JW K 9 [(2002, 3), (18, v1), (0, v2)] [] h := by
  have e1 := ki.2.2.2.2.1
  have e2 := ki.2.2.2.2.2.1
  subst e1; subst e2
  exact run_ok (dia := []) (cnr := [(23, 35, 56)]) (cuts := [(9, [2002, 18, 0], [])]) ki.1 (pk_X2_enterRoot ki hG) ok_X2_enterRoot (by decide) 24 true _ _ _ _ H
abbrev k_X2_come : List (Nat × List (Nat × Instr)) := [(40, [(0, .aload_n 3), (1, .iconst 1), (2, .putfield 198), (5, .aload_n 0), (6, .getfield 11), (9, .aload_n 1), (10, .getfield 202), (13, .iload_n 2), (14, .iadd), (15, .aaload), (16, .aload_n 3), (17, .aload_n 1), (18, .getfield 163), (21, .arraylength), (22, .aload_n 1), (23, .getfield 204), (26, .iload_n 2), (27, .iaload), (28, .invokevirtual 207), (31, .ifCond .eq 13), (34, .aload_n 0), (35, .aload_n 1), (36, .getfield 202), (39, .iload_n 2)]),
  (53, [(40, .iadd), (41, .invokevirtual 192), (44, .return_)])]
theorem ok_X2_come : CodeOK cX2_come k_X2_come := okw 0 (by decide +kernel) (okw 40 (by decide +kernel) (okn))
abbrev p_X2_come (l : Launch) (G : JG) : JP := (true, [(11, 2, 1, 2500113, 1), (163, 14, 5, 104, 0), (202, 14, 14, 0, 0), (204, 14, 17, 104, 0)], [], [], [(198, 3, 0, 2)], [], [], [(192, 1, [0, 2002], 700, S_X2_wake l G), (207, 1, [0, 0, 7, 2003], 2, S_X3_join l G)], false, 700, [])
theorem pk_X2_come {K : JC} {l : Launch} {G : JG} {Q : Int → MH → Prop} {E : Nat → Int → MH → Prop} {h0 : MH} (ki : KI K l G yX2_come cX2_come 4 none [] 7 218 700 Q E h0) (hG : gO G = true) : POK K RX2 (p_X2_come l G) :=
  POKi (y := yX2_come) ki hG (rfs rf_X2_ok (by decide +kernel)) fmz fmz (rps rp_X2_ok (by decide +kernel)) fmz fmz
  (pkE ki (by
    intro K e1 e2 e3 e4; subst e1; subst e2
    exact fmE (ceV 2 e3 e4 yl_X2_wake ⟨by decide, ⟨_, _, rfl⟩, q1377, qs28, q1375⟩ rfl) (fmE (ceV 3 e3 e4 yl_X3_join ⟨by decide, ⟨_, _, rfl⟩, q1357, q1358, q1356⟩ rfl) (fmz)))) (fun z => Bool.noConfusion z) rfl (pkP ki (by
    intro K e1 e2 e3 e4; subst e1; subst e2
    exact fmz))
theorem r_X2_come_0 {K : JC} {l : Launch} {G : JG} {Q : Int → MH → Prop} {E : Nat → Int → MH → Prop} {h0 : MH} (ki : KI K l G yX2_come cX2_come 4 none [] 7 218 700 Q E h0) (hG : gO G = true) {v1 v2 v3 : Int} {h : MH} (H :
    (v3 ≠ 0) ∧
    ((1 : Int) = 0 ∨ (1 : Int) = 1) ∧
    (∀ h1, h1 = hset h v3 0 1 →
    (v1 ≠ 0) ∧
    (0 ≤ (w32 ((hv h1 v1 14) + v2))) ∧
    ((w32 ((hv h1 v1 14) + v2)) < 1500) ∧
    (v1 ≠ 0) ∧
    ((hv h1 v1 5) ≠ 0) ∧
    (v1 ≠ 0) ∧
    ((hv h1 v1 17) ≠ 0) ∧
    (0 ≤ v2) ∧
    (v2 < (hn h1 (hv h1 v1 17))) ∧
    ((hv h1 4 (w32 ((hv h1 v1 14) + v2))) ≠ 0) ∧
    S_X3_join l G [(2003, (hv h1 4 (w32 ((hv h1 v1 14) + v2)))), (7, v3), (0, (hn h1 (hv h1 v1 5))), (0, (hv h1 (hv h1 v1 17) v2))] h1 (fun z2 h3 =>
    ((z2 = 0 →
      Q 0 h3) ∧
    (¬ z2 = 0 →
      (v1 ≠ 0) ∧
      S_X2_wake l G [(2002, 3), (0, (w32 ((hv h3 v1 14) + v2)))] h3 (fun _ h5 =>
      Q 0 h5) E))) E)) : JW K 0 [(2002, 3), (18, v1), (0, v2), (7, v3)] [] h := by
  have e1 := ki.2.2.2.2.1
  have e2 := ki.2.2.2.2.2.1
  subst e1; subst e2
  exact run_ok (dia := []) (cnr := []) (cuts := []) ki.1 (pk_X2_come ki hG) ok_X2_come (by decide) 28 true _ _ _ _ H
abbrev k_X2_wake : List (Nat × List (Nat × Instr)) := [(38, [(0, .aload_n 0), (1, .getfield 64), (4, .iload_n 1), (5, .baload), (6, .ifCond .eq 4), (9, .return_), (10, .aload_n 0), (11, .getfield 64), (14, .iload_n 1), (15, .iconst 1), (16, .bastore), (17, .aload_n 0), (18, .getfield 60), (21, .aload_n 0), (22, .getfield 132), (25, .aload_n 0), (26, .getfield 135), (29, .iadd), (30, .sipush 1500), (33, .irem), (34, .iload_n 1), (35, .iastore), (36, .aload_n 0), (37, .dup)]),
  (55, [(38, .getfield 135), (41, .iconst 1), (42, .iadd), (43, .putfield 135), (46, .return_)])]
theorem ok_X2_wake : CodeOK cX2_wake k_X2_wake := okw 0 (by decide +kernel) (okw 38 (by decide +kernel) (okn))
abbrev p_X2_wake (l : Launch) (G : JG) : JP := (true, [(60, 2, 12, 2500100, 75), (64, 2, 13, 2500102, 76), (132, 2, 14, 0, 0), (135, 2, 15, 0, 0)], [], [], [(135, 2, 15, 0)], [], [], [], false, 700, [])
theorem pk_X2_wake {K : JC} {l : Launch} {G : JG} {Q : Int → MH → Prop} {E : Nat → Int → MH → Prop} {h0 : MH} (ki : KI K l G yX2_wake cX2_wake 2 none [] 4 150 700 Q E h0) (hG : gO G = true) : POK K RX2 (p_X2_wake l G) :=
  POKi (y := yX2_wake) ki hG (rfs rf_X2_ok (by decide +kernel)) fmz fmz (rps rp_X2_ok (by decide +kernel)) fmz fmz
  (pkE ki (by
    intro K e1 e2 e3 e4; subst e1; subst e2
    exact fmz)) (fun z => Bool.noConfusion z) rfl (pkP ki (by
    intro K e1 e2 e3 e4; subst e1; subst e2
    exact fmz))
theorem r_X2_wake_0 {K : JC} {l : Launch} {G : JG} {Q : Int → MH → Prop} {E : Nat → Int → MH → Prop} {h0 : MH} (ki : KI K l G yX2_wake cX2_wake 2 none [] 4 150 700 Q E h0) (hG : gO G = true) {v1 : Int} {h : MH} (H :
    (0 ≤ v1) ∧
    (v1 < 1500) ∧
    (((hv h 79 v1) = 0 →
      (0 ≤ v1) ∧
      (v1 < 1500) ∧
      ((1 : Int) = 0 ∨ (1 : Int) = 1) ∧
      (∀ h1, h1 = hset h 79 v1 1 →
      (¬ (1500 : Int) = 0) ∧
      (0 ≤ (i_rem (w32 ((hv h1 3 14) + (hv h1 3 15))) 1500)) ∧
      ((i_rem (w32 ((hv h1 3 14) + (hv h1 3 15))) 1500) < 1500) ∧
      (∀ h2, h2 = hset h1 78 (i_rem (w32 ((hv h1 3 14) + (hv h1 3 15))) 1500) v1 →
      (∀ h3, h3 = hset h2 3 15 (w32 ((hv h2 3 15) + 1)) →
      Q 0 h3)))) ∧
    (¬ (hv h 79 v1) = 0 →
      Q 0 h))) : JW K 0 [(2002, 3), (0, v1)] [] h := by
  have e1 := ki.2.2.2.2.1
  have e2 := ki.2.2.2.2.2.1
  subst e1; subst e2
  exact run_ok (dia := []) (cnr := []) (cuts := []) ki.1 (pk_X2_wake ki hG) ok_X2_wake (by decide) 29 true _ _ _ _ H
abbrev k_X2_work : List (Nat × List (Nat × Instr)) := [(44, [(0, .aload_n 0), (1, .aload_n 0), (2, .getfield 100), (5, .getfield 148), (8, .aload_n 0), (9, .getfield 100), (12, .getfield 308), (15, .iload_n 1), (16, .iaload), (17, .aaload), (18, .putfield 214), (21, .aload_n 0), (22, .iload_n 1), (23, .putfield 195), (26, .aload_n 0), (27, .iload_n 1), (28, .aload_n 0), (29, .getfield 214), (32, .getfield 202), (35, .isub), (36, .putfield 211), (39, .aload_n 0), (40, .getfield 68), (43, .aload_n 0)]),
  (92, [(44, .getfield 11), (47, .iload_n 1), (48, .aaload), (49, .invokevirtual 311), (52, .aload_n 0), (53, .getfield 75), (56, .aload_n 0), (57, .getfield 68), (60, .invokevirtual 311), (63, .aload_n 0), (64, .aload_n 0), (65, .getfield 214), (68, .getfield 204), (71, .aload_n 0), (72, .getfield 211), (75, .iaload), (76, .putfield 301), (79, .aload_n 0), (80, .getfield 214), (83, .getfield 314), (86, .aload_n 0), (87, .getfield 211), (90, .iaload), (91, .istore_n 2)]),
  (137, [(92, .aload_n 0), (93, .getfield 214), (96, .getfield 317), (99, .aload_n 0), (100, .getfield 211), (103, .iaload), (104, .istore_n 3), (105, .aload_n 0), (106, .getfield 214), (109, .getfield 320), (112, .aload_n 0), (113, .getfield 211), (116, .iaload), (117, .istore 4), (119, .iload_n 2), (120, .bipush 7), (122, .if_icmp .ge 14), (125, .aload_n 0), (126, .iload_n 2), (127, .iload_n 3), (128, .iload 4), (130, .invokevirtual 323), (133, .goto 77), (136, .iload_n 2)]),
  (181, [(137, .bipush 15), (139, .if_icmp .ge 14), (142, .aload_n 0), (143, .iload_n 2), (144, .iload_n 3), (145, .iload 4), (147, .invokevirtual 327), (150, .goto 60), (153, .iload_n 2), (154, .bipush 20), (156, .if_icmp .ge 14), (159, .aload_n 0), (160, .iload_n 2), (161, .iload_n 3), (162, .iload 4), (164, .invokevirtual 330), (167, .goto 43), (170, .iload_n 2), (171, .bipush 29), (173, .if_icmp .ge 14), (176, .aload_n 0), (177, .iload_n 2), (178, .iload_n 3), (179, .iload 4)]),
  (219, [(181, .invokevirtual 332), (184, .goto 26), (187, .iload_n 2), (188, .bipush 34), (190, .if_icmp .ge 14), (193, .aload_n 0), (194, .iload_n 2), (195, .iload_n 3), (196, .iload 4), (198, .invokevirtual 335), (201, .goto 9), (204, .aload_n 0), (205, .iload_n 2), (206, .iload_n 3), (207, .invokevirtual 338), (210, .return_)])]
theorem ok_X2_work : CodeOK cX2_work k_X2_work := okw 0 (by decide +kernel) (okw 44 (by decide +kernel) (okw 92 (by decide +kernel) (okw 137 (by decide +kernel) (okw 181 (by decide +kernel) (okn)))))
abbrev p_X2_work (l : Launch) (G : JG) : JP := (true, [(11, 2, 1, 2500113, 1), (68, 2, 19, 2003, 77), (75, 2, 21, 2003, 113), (100, 2, 0, 16, 0), (148, 12, 6, 128, 0), (202, 14, 14, 0, 0), (204, 14, 17, 104, 0), (211, 2, 17, 0, 0), (214, 2, 16, 18, 0), (308, 12, 11, 104, 0), (314, 14, 7, 104, 0), (317, 14, 8, 104, 0), (320, 14, 9, 104, 0)], [], [], [(195, 2, 18, 0), (211, 2, 17, 0), (214, 2, 16, 18), (301, 2, 25, 0)], [], [], [(311, 1, [7, 2003], 700, S_X3_become l G), (323, 1, [0, 0, 0, 2002], 700, S_X2_simple l G), (327, 1, [0, 0, 0, 2002], 700, S_X2_numbers l G), (330, 1, [0, 0, 0, 2002], 700, S_X2_jumps l G), (332, 1, [0, 0, 0, 2002], 700, S_X2_objects l G), (335, 1, [0, 0, 0, 2002], 700, S_X2_calls l G), (338, 1, [0, 0, 2002], 700, S_X2_threads l G)], false, 700, [])
theorem pk_X2_work {K : JC} {l : Launch} {G : JG} {Q : Int → MH → Prop} {E : Nat → Int → MH → Prop} {h0 : MH} (ki : KI K l G yX2_work cX2_work 5 none [] 13 378 700 Q E h0) (hG : gO G = true) : POK K RX2 (p_X2_work l G) :=
  POKi (y := yX2_work) ki hG (rfs rf_X2_ok (by decide +kernel)) fmz fmz (rps rp_X2_ok (by decide +kernel)) fmz fmz
  (pkE ki (by
    intro K e1 e2 e3 e4; subst e1; subst e2
    exact fmE (ceV 3 e3 e4 yl_X3_become ⟨by decide, ⟨_, _, rfl⟩, q1384, q1385, q1383⟩ rfl) (fmE (ceV 2 e3 e4 yl_X2_simple ⟨by decide, ⟨_, _, rfl⟩, q1390, qs30, q1388⟩ rfl) (fmE (ceV 2 e3 e4 yl_X2_numbers ⟨by decide, ⟨_, _, rfl⟩, q1408, qs34, q1406⟩ rfl) (fmE (ceV 2 e3 e4 yl_X2_jumps ⟨by decide, ⟨_, _, rfl⟩, q1498, qs43, q1496⟩ rfl) (fmE (ceV 2 e3 e4 yl_X2_objects ⟨by decide, ⟨_, _, rfl⟩, q1511, qs44, q1509⟩ rfl) (fmE (ceV 2 e3 e4 yl_X2_calls ⟨by decide, ⟨_, _, rfl⟩, q1564, qs54, q1562⟩ rfl) (fmE (ceV 2 e3 e4 yl_X2_threads ⟨by decide, ⟨_, _, rfl⟩, q1589, qs59, q1587⟩ rfl) (fmz))))))))) (fun z => Bool.noConfusion z) rfl (pkP ki (by
    intro K e1 e2 e3 e4; subst e1; subst e2
    exact fmz))
theorem r_X2_work_0 {K : JC} {l : Launch} {G : JG} {Q : Int → MH → Prop} {E : Nat → Int → MH → Prop} {h0 : MH} (ki : KI K l G yX2_work cX2_work 5 none [] 13 378 700 Q E h0) (hG : gO G = true) {v1 : Int} {h : MH} (H :
    ((hv h 3 0) ≠ 0) ∧
    ((hv h 3 0) ≠ 0) ∧
    ((hv h (hv h 3 0) 11) ≠ 0) ∧
    (0 ≤ v1) ∧
    (v1 < (hn h (hv h (hv h 3 0) 11))) ∧
    ((hv h (hv h 3 0) 6) ≠ 0) ∧
    (0 ≤ (hv h (hv h (hv h 3 0) 11) v1)) ∧
    ((hv h (hv h (hv h 3 0) 11) v1) < (hn h (hv h (hv h 3 0) 6))) ∧
    (∀ h1, h1 = hset h 3 16 (hv h (hv h (hv h 3 0) 6) (hv h (hv h (hv h 3 0) 11) v1)) →
    (∀ h2, h2 = hset h1 3 18 v1 →
    ((hv h2 3 16) ≠ 0) ∧
    (∀ h3, h3 = hset h2 3 17 (w32 (v1 - (hv h2 (hv h2 3 16) 14))) →
    (0 ≤ v1) ∧
    (v1 < 1500) ∧
    S_X3_become l G [(2003, 80), (7, (hv h3 4 v1))] h3 (fun _ h5 =>
    S_X3_become l G [(2003, 116), (7, 80)] h5 (fun _ h7 =>
    ((hv h7 3 16) ≠ 0) ∧
    ((hv h7 (hv h7 3 16) 17) ≠ 0) ∧
    (0 ≤ (hv h7 3 17)) ∧
    ((hv h7 3 17) < (hn h7 (hv h7 (hv h7 3 16) 17))) ∧
    (∀ h8, h8 = hset h7 3 25 (hv h7 (hv h7 (hv h7 3 16) 17) (hv h7 3 17)) →
    ((hv h8 3 16) ≠ 0) ∧
    ((hv h8 (hv h8 3 16) 7) ≠ 0) ∧
    (0 ≤ (hv h8 3 17)) ∧
    ((hv h8 3 17) < (hn h8 (hv h8 (hv h8 3 16) 7))) ∧
    (∀ x2_9 : Int, x2_9 = (hv h8 (hv h8 (hv h8 3 16) 7) (hv h8 3 17)) →
    ((hv h8 3 16) ≠ 0) ∧
    ((hv h8 (hv h8 3 16) 8) ≠ 0) ∧
    (0 ≤ (hv h8 3 17)) ∧
    ((hv h8 3 17) < (hn h8 (hv h8 (hv h8 3 16) 8))) ∧
    (∀ x3_10 : Int, x3_10 = (hv h8 (hv h8 (hv h8 3 16) 8) (hv h8 3 17)) →
    ((hv h8 3 16) ≠ 0) ∧
    ((hv h8 (hv h8 3 16) 9) ≠ 0) ∧
    (0 ≤ (hv h8 3 17)) ∧
    ((hv h8 3 17) < (hn h8 (hv h8 (hv h8 3 16) 9))) ∧
    (∀ x4_11 : Int, x4_11 = (hv h8 (hv h8 (hv h8 3 16) 9) (hv h8 3 17)) →
    ((7 ≤ x2_9 →
      ((15 ≤ x2_9 →
        ((20 ≤ x2_9 →
          ((29 ≤ x2_9 →
            ((34 ≤ x2_9 →
              S_X2_threads l G [(2002, 3), (0, x2_9), (0, x3_10)] h8 (fun _ h13 =>
              Q 0 h13) E) ∧
            (x2_9 < 34 →
              S_X2_calls l G [(2002, 3), (0, x2_9), (0, x3_10), (0, x4_11)] h8 (fun _ h15 =>
              Q 0 h15) E))) ∧
          (x2_9 < 29 →
            S_X2_objects l G [(2002, 3), (0, x2_9), (0, x3_10), (0, x4_11)] h8 (fun _ h17 =>
            Q 0 h17) E))) ∧
        (x2_9 < 20 →
          S_X2_jumps l G [(2002, 3), (0, x2_9), (0, x3_10), (0, x4_11)] h8 (fun _ h19 =>
          Q 0 h19) E))) ∧
      (x2_9 < 15 →
        S_X2_numbers l G [(2002, 3), (0, x2_9), (0, x3_10), (0, x4_11)] h8 (fun _ h21 =>
        Q 0 h21) E))) ∧
    (x2_9 < 7 →
      S_X2_simple l G [(2002, 3), (0, x2_9), (0, x3_10), (0, x4_11)] h8 (fun _ h23 =>
      Q 0 h23) E))))))) E) E)))) : JW K 0 [(2002, 3), (0, v1), (5000, 0), (5000, 0), (5000, 0)] [] h := by
  have e1 := ki.2.2.2.2.1
  have e2 := ki.2.2.2.2.2.1
  subst e1; subst e2
  exact run_ok (dia := []) (cnr := []) (cuts := []) ki.1 (pk_X2_work ki hG) ok_X2_work (by decide) 85 true _ _ _ _ H
abbrev k_X2_simple : List (Nat × List (Nat × Instr)) := [(1, [(0, .iload_n 1)]),
  (32, [(1, .tableswitch 103 0 3 #[31, 48, 63, 79])]),
  (80, [(32, .aload_n 0), (33, .aload_n 0), (34, .getfield 79), (37, .iload_n 3), (38, .iload_n 3), (39, .iconst 0), (40, .invokevirtual 178), (43, .invokevirtual 342), (46, .goto 121), (49, .aload_n 0), (50, .aload_n 0), (51, .getfield 79), (54, .lconst 1), (55, .invokevirtual 346), (58, .invokevirtual 342), (61, .goto 106), (64, .aload_n 0), (65, .aload_n 0), (66, .getfield 68), (69, .getfield 171), (72, .iload_n 2), (73, .aaload), (74, .invokevirtual 342), (77, .goto 90)]),
  (127, [(80, .aload_n 0), (81, .getfield 68), (84, .getfield 171), (87, .iload_n 2), (88, .aaload), (89, .aload_n 0), (90, .aload_n 0), (91, .getfield 79), (94, .invokevirtual 349), (97, .invokevirtual 304), (100, .pop), (101, .goto 66), (104, .aload_n 0), (105, .aload_n 0), (106, .getfield 79), (109, .invokevirtual 349), (112, .astore 4), (114, .iload_n 1), (115, .iconst 5), (116, .if_icmp .ne 19), (119, .aload_n 0), (120, .aload_n 0), (121, .getfield 79), (124, .invokevirtual 342)]),
  (173, [(127, .aload_n 0), (128, .aload_n 0), (129, .getfield 79), (132, .invokevirtual 342), (135, .iload_n 1), (136, .bipush 6), (138, .if_icmp .ne 29), (141, .aload_n 0), (142, .aload_n 0), (143, .getfield 83), (146, .invokevirtual 349), (149, .astore 5), (151, .aload_n 0), (152, .aload_n 0), (153, .getfield 79), (156, .invokevirtual 342), (159, .aload_n 0), (160, .aload_n 0), (161, .getfield 83), (164, .invokevirtual 342), (167, .aload_n 0), (168, .aload_n 0), (169, .getfield 211), (172, .iconst 1)]),
  (186, [(173, .iadd), (174, .invokevirtual 352), (177, .return_)])]
theorem ok_X2_simple : CodeOK cX2_simple k_X2_simple := okw 0 (by decide +kernel) (okc (by decide +kernel) (okw 32 (by decide +kernel) (okw 80 (by decide +kernel) (okw 127 (by decide +kernel) (okw 173 (by decide +kernel) (okn))))))
abbrev p_X2_simple (l : Launch) (G : JG) : JP := (true, [(68, 2, 19, 2003, 77), (79, 2, 22, 2004, 131), (83, 2, 23, 2004, 132), (171, 3, 1, 118, 0), (211, 2, 17, 0, 0)], [], [], [], [], [], [(178, 1, [0, 0, 0, 2004], 8, S_X4_number l G), (304, 1, [8, 2004], 8, S_X4_become l G), (342, 1, [8, 2002], 700, S_X2_put l G), (346, 1, [1, 2004], 8, S_X4_sites l G), (349, 1, [8, 2002], 8, S_X2_take l G), (352, 1, [0, 2002], 700, S_X2_goOn l G)], false, 700, [])
theorem pk_X2_simple {K : JC} {l : Launch} {G : JG} {Q : Int → MH → Prop} {E : Nat → Int → MH → Prop} {h0 : MH} (ki : KI K l G yX2_simple cX2_simple 6 none [] 9 262 700 Q E h0) (hG : gO G = true) : POK K RX2 (p_X2_simple l G) :=
  POKi (y := yX2_simple) ki hG (rfs rf_X2_ok (by decide +kernel)) fmz fmz fmz fmz fmz
  (pkE ki (by
    intro K e1 e2 e3 e4; subst e1; subst e2
    exact fmE (ceV 4 e3 e4 yl_X4_number ⟨by decide, ⟨_, _, rfl⟩, q1338, q1339, q1351⟩ rfl) (fmE (ceV 4 e3 e4 yl_X4_become ⟨by decide, ⟨_, _, rfl⟩, q1365, q1366, q1396⟩ rfl) (fmE (ceV 2 e3 e4 yl_X2_put ⟨by decide, ⟨_, _, rfl⟩, q1394, qs31, q1392⟩ rfl) (fmE (ceV 4 e3 e4 yl_X4_sites ⟨by decide, ⟨_, _, rfl⟩, q1342, q1343, q1397⟩ rfl) (fmE (ceV 2 e3 e4 yl_X2_take ⟨by decide, ⟨_, _, rfl⟩, q1400, qs32, q1398⟩ rfl) (fmE (ceV 2 e3 e4 yl_X2_goOn ⟨by decide, ⟨_, _, rfl⟩, q1404, qs33, q1402⟩ rfl) (fmz)))))))) (fun z => Bool.noConfusion z) rfl (pkP ki (by
    intro K e1 e2 e3 e4; subst e1; subst e2
    exact fmz))
theorem r_X2_simple_0 {K : JC} {l : Launch} {G : JG} {Q : Int → MH → Prop} {E : Nat → Int → MH → Prop} {h0 : MH} (ki : KI K l G yX2_simple cX2_simple 6 none [] 9 262 700 Q E h0) (hG : gO G = true) {v1 v2 v3 : Int} {h : MH} (H :
    (((v1 = 0 →
      S_X4_number l G [(2004, 134), (0, v3), (0, v3), (0, 0)] h (fun z1 h2 =>
      S_X2_put l G [(2002, 3), (8, z1)] h2 (fun _ h4 =>
      S_X2_goOn l G [(2002, 3), (0, (w32 ((hv h4 3 17) + 1)))] h4 (fun _ h6 =>
      Q 0 h6) E) E) E) ∧
    ((v1 = 0 + 1 →
      S_X4_sites l G [(2004, 134), (1, 1)] h (fun z7 h8 =>
      S_X2_put l G [(2002, 3), (8, z7)] h8 (fun _ h10 =>
      S_X2_goOn l G [(2002, 3), (0, (w32 ((hv h10 3 17) + 1)))] h10 (fun _ h12 =>
      Q 0 h12) E) E) E) ∧
    ((v1 = 0 + 1 + 1 →
      ((hv h 80 1) ≠ 0) ∧
      (0 ≤ v2) ∧
      (v2 < (hn h (hv h 80 1))) ∧
      S_X2_put l G [(2002, 3), (8, (hv h (hv h 80 1) v2))] h (fun _ h14 =>
      S_X2_goOn l G [(2002, 3), (0, (w32 ((hv h14 3 17) + 1)))] h14 (fun _ h16 =>
      Q 0 h16) E) E) ∧
    ((v1 = 0 + 1 + 1 + 1 →
      ((hv h 80 1) ≠ 0) ∧
      (0 ≤ v2) ∧
      (v2 < (hn h (hv h 80 1))) ∧
      S_X2_take l G [(2002, 3), (8, 134)] h (fun z17 h18 =>
      ((hv h (hv h 80 1) v2) ≠ 0) ∧
      S_X4_become l G [(2004, (hv h (hv h 80 1) v2)), (8, z17)] h18 (fun z19 h20 =>
      S_X2_goOn l G [(2002, 3), (0, (w32 ((hv h20 3 17) + 1)))] h20 (fun _ h22 =>
      Q 0 h22) E) E) E) ∧
    True)))) ∧ ((v1 < 0 ∨ 3 < v1) →
      S_X2_take l G [(2002, 3), (8, 134)] h (fun z23 h24 =>
      (∀ x4_25 : Int, x4_25 = z23 →
      ((¬ v1 = 5 →
        ((¬ v1 = 6 →
          S_X2_goOn l G [(2002, 3), (0, (w32 ((hv h24 3 17) + 1)))] h24 (fun _ h27 =>
          Q 0 h27) E) ∧
        (v1 = 6 →
          S_X2_take l G [(2002, 3), (8, 135)] h24 (fun z28 h29 =>
          (∀ x5_30 : Int, x5_30 = z28 →
          S_X2_put l G [(2002, 3), (8, 134)] h29 (fun _ h32 =>
          S_X2_put l G [(2002, 3), (8, 135)] h32 (fun _ h34 =>
          S_X2_goOn l G [(2002, 3), (0, (w32 ((hv h34 3 17) + 1)))] h34 (fun _ h36 =>
          Q 0 h36) E) E) E)) E))) ∧
      (v1 = 5 →
        S_X2_put l G [(2002, 3), (8, 134)] h24 (fun _ h38 =>
        S_X2_put l G [(2002, 3), (8, 134)] h38 (fun _ h40 =>
        ((¬ v1 = 6 →
          S_X2_goOn l G [(2002, 3), (0, (w32 ((hv h40 3 17) + 1)))] h40 (fun _ h42 =>
          Q 0 h42) E) ∧
        (v1 = 6 →
          S_X2_take l G [(2002, 3), (8, 135)] h40 (fun z43 h44 =>
          (∀ x5_45 : Int, x5_45 = z43 →
          S_X2_put l G [(2002, 3), (8, 134)] h44 (fun _ h47 =>
          S_X2_put l G [(2002, 3), (8, 135)] h47 (fun _ h49 =>
          S_X2_goOn l G [(2002, 3), (0, (w32 ((hv h49 3 17) + 1)))] h49 (fun _ h51 =>
          Q 0 h51) E) E) E)) E))) E) E)))) E))) : JW K 0 [(2002, 3), (0, v1), (0, v2), (0, v3), (5000, 0), (5000, 0)] [] h := by
  have e1 := ki.2.2.2.2.1
  have e2 := ki.2.2.2.2.2.1
  subst e1; subst e2
  exact run_ok (dia := []) (cnr := []) (cuts := []) ki.1 (pk_X2_simple ki hG) ok_X2_simple (by decide) 42 true _ _ _ _ H
abbrev k_X2_put : List (Nat × List (Nat × Instr)) := [(36, [(0, .aload_n 0), (1, .getfield 68), (4, .getfield 171), (7, .bipush 8), (9, .aload_n 0), (10, .dup), (11, .getfield 301), (14, .dup_x1), (15, .iconst 1), (16, .iadd), (17, .putfield 301), (20, .iadd), (21, .aaload), (22, .aload_n 1), (23, .invokevirtual 304), (26, .pop), (27, .return_)])]
theorem ok_X2_put : CodeOK cX2_put k_X2_put := okw 0 (by decide +kernel) (okn)
abbrev p_X2_put (l : Launch) (G : JG) : JP := (true, [(68, 2, 19, 2003, 77), (171, 3, 1, 118, 0), (301, 2, 25, 0, 0)], [], [], [(301, 2, 25, 0)], [], [], [(304, 1, [8, 2004], 8, S_X4_become l G)], false, 700, [])
theorem pk_X2_put {K : JC} {l : Launch} {G : JG} {Q : Int → MH → Prop} {E : Nat → Int → MH → Prop} {h0 : MH} (ki : KI K l G yX2_put cX2_put 2 none [] 5 171 700 Q E h0) (hG : gO G = true) : POK K RX2 (p_X2_put l G) :=
  POKi (y := yX2_put) ki hG (rfs rf_X2_ok (by decide +kernel)) fmz fmz (rps rp_X2_ok (by decide +kernel)) fmz fmz
  (pkE ki (by
    intro K e1 e2 e3 e4; subst e1; subst e2
    exact fmE (ceV 4 e3 e4 yl_X4_become ⟨by decide, ⟨_, _, rfl⟩, q1365, q1366, q1396⟩ rfl) (fmz))) (fun z => Bool.noConfusion z) rfl (pkP ki (by
    intro K e1 e2 e3 e4; subst e1; subst e2
    exact fmz))
theorem r_X2_put_0 {K : JC} {l : Launch} {G : JG} {Q : Int → MH → Prop} {E : Nat → Int → MH → Prop} {h0 : MH} (ki : KI K l G yX2_put cX2_put 2 none [] 5 171 700 Q E h0) (hG : gO G = true) {v1 : Int} {h : MH} (H :
    (∀ h1, h1 = hset h 3 25 (w32 ((hv h 3 25) + 1)) →
    ((hv h 80 1) ≠ 0) ∧
    (0 ≤ (w32 (8 + (hv h 3 25)))) ∧
    ((w32 (8 + (hv h 3 25))) < (hn h1 (hv h 80 1))) ∧
    ((hv h1 (hv h 80 1) (w32 (8 + (hv h 3 25)))) ≠ 0) ∧
    S_X4_become l G [(2004, (hv h1 (hv h 80 1) (w32 (8 + (hv h 3 25))))), (8, v1)] h1 (fun z2 h3 =>
    Q 0 h3) E)) : JW K 0 [(2002, 3), (8, v1)] [] h := by
  have e1 := ki.2.2.2.2.1
  have e2 := ki.2.2.2.2.2.1
  subst e1; subst e2
  exact run_ok (dia := []) (cnr := []) (cuts := []) ki.1 (pk_X2_put ki hG) ok_X2_put (by decide) 18 true _ _ _ _ H
abbrev k_X2_take : List (Nat × List (Nat × Instr)) := [(43, [(0, .aload_n 0), (1, .getfield 68), (4, .getfield 171), (7, .bipush 8), (9, .aload_n 0), (10, .dup), (11, .getfield 301), (14, .iconst 1), (15, .isub), (16, .dup_x1), (17, .putfield 301), (20, .iadd), (21, .aaload), (22, .astore_n 2), (23, .aload_n 1), (24, .aload_n 2), (25, .invokevirtual 304), (28, .pop), (29, .aload_n 2), (30, .invokevirtual 122), (33, .aload_n 1), (34, .areturn)])]
theorem ok_X2_take : CodeOK cX2_take k_X2_take := okw 0 (by decide +kernel) (okn)
abbrev p_X2_take (l : Launch) (G : JG) : JP := (true, [(68, 2, 19, 2003, 77), (171, 3, 1, 118, 0), (301, 2, 25, 0, 0)], [], [], [(301, 2, 25, 0)], [], [], [(122, 1, [2004], 700, S_X4_none l G), (304, 1, [8, 2004], 8, S_X4_become l G)], false, 8, [])
theorem pk_X2_take {K : JC} {l : Launch} {G : JG} {Q : Int → MH → Prop} {E : Nat → Int → MH → Prop} {h0 : MH} (ki : KI K l G yX2_take cX2_take 3 (some (.object "FactHouse$Fact")) [] 5 171 8 Q E h0) (hG : gO G = true) : POK K RX2 (p_X2_take l G) :=
  POKi (y := yX2_take) ki hG (rfs rf_X2_ok (by decide +kernel)) fmz fmz (rps rp_X2_ok (by decide +kernel)) fmz fmz
  (pkE ki (by
    intro K e1 e2 e3 e4; subst e1; subst e2
    exact fmE (ceV 4 e3 e4 yl_X4_none ⟨by decide, ⟨_, _, rfl⟩, q1315, q1316, q1332⟩ rfl) (fmE (ceV 4 e3 e4 yl_X4_become ⟨by decide, ⟨_, _, rfl⟩, q1365, q1366, q1396⟩ rfl) (fmz)))) (fun z => Bool.noConfusion z) rfl (pkP ki (by
    intro K e1 e2 e3 e4; subst e1; subst e2
    exact fmz))
theorem r_X2_take_0 {K : JC} {l : Launch} {G : JG} {Q : Int → MH → Prop} {E : Nat → Int → MH → Prop} {h0 : MH} (ki : KI K l G yX2_take cX2_take 3 (some (.object "FactHouse$Fact")) [] 5 171 8 Q E h0) (hG : gO G = true) {v1 : Int} {h : MH} (H :
    (∀ h1, h1 = hset h 3 25 (w32 ((hv h 3 25) - 1)) →
    ((hv h 80 1) ≠ 0) ∧
    (0 ≤ (w32 (8 + (w32 ((hv h 3 25) - 1))))) ∧
    ((w32 (8 + (w32 ((hv h 3 25) - 1)))) < (hn h1 (hv h 80 1))) ∧
    (∀ x2_2 : Int, x2_2 = (hv h1 (hv h 80 1) (w32 (8 + (w32 ((hv h 3 25) - 1))))) →
    (v1 ≠ 0) ∧
    S_X4_become l G [(2004, v1), (8, x2_2)] h1 (fun z3 h4 =>
    (x2_2 ≠ 0) ∧
    S_X4_none l G [(2004, x2_2)] h4 (fun _ h6 =>
    Q v1 h6) E) E))) : JW K 0 [(2002, 3), (8, v1), (5000, 0)] [] h := by
  have e1 := ki.2.2.2.2.1
  have e2 := ki.2.2.2.2.2.1
  subst e1; subst e2
  exact run_ok (dia := []) (cnr := []) (cuts := []) ki.1 (pk_X2_take ki hG) ok_X2_take (by decide) 23 true _ _ _ _ H
abbrev k_X2_goOn : List (Nat × List (Nat × Instr)) := [(40, [(0, .iload_n 1), (1, .aload_n 0), (2, .getfield 211), (5, .iconst 1), (6, .iadd), (7, .if_icmp .ne 16), (10, .aload_n 0), (11, .getfield 50), (14, .aload_n 0), (15, .getfield 195), (18, .iconst 1), (19, .bastore), (20, .goto 13), (23, .aload_n 0), (24, .getfield 54), (27, .aload_n 0), (28, .getfield 195), (31, .iconst 1), (32, .bastore), (33, .aload_n 0), (34, .aload_n 0), (35, .getfield 214), (38, .iload_n 1), (39, .aload_n 0)]),
  (55, [(40, .getfield 68), (43, .invokevirtual 182), (46, .return_)])]
theorem ok_X2_goOn : CodeOK cX2_goOn k_X2_goOn := okw 0 (by decide +kernel) (okw 40 (by decide +kernel) (okn))
abbrev p_X2_goOn (l : Launch) (G : JG) : JP := (true, [(50, 2, 9, 2500102, 72), (54, 2, 10, 2500102, 73), (68, 2, 19, 2003, 77), (195, 2, 18, 0, 0), (211, 2, 17, 0, 0), (214, 2, 16, 18, 0)], [], [], [], [], [], [(182, 1, [7, 0, 18, 2002], 700, S_X2_come l G)], false, 700, [])
theorem pk_X2_goOn {K : JC} {l : Launch} {G : JG} {Q : Int → MH → Prop} {E : Nat → Int → MH → Prop} {h0 : MH} (ki : KI K l G yX2_goOn cX2_goOn 2 none [] 8 241 700 Q E h0) (hG : gO G = true) : POK K RX2 (p_X2_goOn l G) :=
  POKi (y := yX2_goOn) ki hG (rfs rf_X2_ok (by decide +kernel)) fmz fmz fmz fmz fmz
  (pkE ki (by
    intro K e1 e2 e3 e4; subst e1; subst e2
    exact fmE (ceV 2 e3 e4 yl_X2_come ⟨by decide, ⟨_, _, rfl⟩, q1354, qs27, q1352⟩ rfl) (fmz))) (fun z => Bool.noConfusion z) rfl (pkP ki (by
    intro K e1 e2 e3 e4; subst e1; subst e2
    exact fmz))
theorem r_X2_goOn_0 {K : JC} {l : Launch} {G : JG} {Q : Int → MH → Prop} {E : Nat → Int → MH → Prop} {h0 : MH} (ki : KI K l G yX2_goOn cX2_goOn 2 none [] 8 241 700 Q E h0) (hG : gO G = true) {v1 : Int} {h : MH} (H :
    ((¬ v1 = (w32 ((hv h 3 17) + 1)) →
      (0 ≤ (hv h 3 18)) ∧
      ((hv h 3 18) < 1500) ∧
      ((1 : Int) = 0 ∨ (1 : Int) = 1) ∧
      (∀ h1, h1 = hset h 76 (hv h 3 18) 1 →
      S_X2_come l G [(2002, 3), (18, (hv h1 3 16)), (0, v1), (7, 80)] h1 (fun _ h3 =>
      Q 0 h3) E)) ∧
    (v1 = (w32 ((hv h 3 17) + 1)) →
      (0 ≤ (hv h 3 18)) ∧
      ((hv h 3 18) < 1500) ∧
      ((1 : Int) = 0 ∨ (1 : Int) = 1) ∧
      (∀ h4, h4 = hset h 75 (hv h 3 18) 1 →
      S_X2_come l G [(2002, 3), (18, (hv h4 3 16)), (0, v1), (7, 80)] h4 (fun _ h6 =>
      Q 0 h6) E)))) : JW K 0 [(2002, 3), (0, v1)] [] h := by
  have e1 := ki.2.2.2.2.1
  have e2 := ki.2.2.2.2.2.1
  subst e1; subst e2
  exact run_ok (dia := []) (cnr := []) (cuts := []) ki.1 (pk_X2_goOn ki hG) ok_X2_goOn (by decide) 22 true _ _ _ _ H
abbrev k_X2_numbers : List (Nat × List (Nat × Instr)) := [(46, [(0, .iload_n 1), (1, .bipush 13), (3, .if_icmp .ne 33), (6, .aload_n 0), (7, .aload_n 0), (8, .getfield 79), (11, .iload_n 3), (12, .aload_n 0), (13, .getfield 214), (16, .getfield 218), (19, .aload_n 0), (20, .getfield 211), (23, .iaload), (24, .iconst 1), (25, .iload_n 2), (26, .ishl), (27, .invokevirtual 178), (30, .invokevirtual 342), (33, .goto 151), (36, .iload_n 1), (37, .bipush 14), (39, .if_icmp .ne 25), (42, .aload_n 0), (43, .getfield 39)]),
  (93, [(46, .iload_n 2), (47, .aaload), (48, .aload_n 0), (49, .aload_n 0), (50, .getfield 79), (53, .invokevirtual 349), (56, .invokevirtual 221), (59, .istore 4), (61, .goto 123), (64, .iload_n 1), (65, .bipush 12), (67, .if_icmp .ne 47), (70, .aload_n 0), (71, .aload_n 0), (72, .getfield 79), (75, .invokevirtual 349), (78, .astore 4), (80, .aload_n 0), (81, .aload 4), (83, .getfield 267), (86, .i2l), (87, .lneg), (88, .aload 4), (90, .getfield 261)]),
  (142, [(93, .i2l), (94, .lneg), (95, .aload 4), (97, .getfield 279), (100, .invokevirtual 282), (103, .aload_n 0), (104, .aload_n 0), (105, .getfield 86), (108, .invokevirtual 342), (111, .goto 73), (114, .aload_n 0), (115, .aload_n 0), (116, .getfield 83), (119, .invokevirtual 349), (122, .astore 4), (124, .aload_n 0), (125, .aload_n 0), (126, .getfield 79), (129, .invokevirtual 349), (132, .astore 5), (134, .iload_n 1), (135, .bipush 10), (137, .if_icmp .lt 26), (140, .aload 4)]),
  (191, [(142, .getfield 261), (145, .ifCond .gt 18), (148, .aload 4), (150, .getfield 267), (153, .ifCond .lt 10), (156, .aload_n 0), (157, .ldc2_w 355), (160, .invokevirtual 357), (163, .aload_n 0), (164, .iload_n 1), (165, .aload 5), (167, .aload 4), (169, .invokevirtual 361), (172, .ifCond .ne 4), (175, .return_), (176, .aload_n 0), (177, .aload_n 0), (178, .getfield 86), (181, .invokevirtual 342), (184, .aload_n 0), (185, .aload_n 0), (186, .getfield 211), (189, .iconst 1), (190, .iadd)]),
  (203, [(191, .invokevirtual 352), (194, .return_)])]
theorem ok_X2_numbers : CodeOK cX2_numbers k_X2_numbers := okw 0 (by decide +kernel) (okw 46 (by decide +kernel) (okw 93 (by decide +kernel) (okw 142 (by decide +kernel) (okw 191 (by decide +kernel) (okn)))))
abbrev p_X2_numbers (l : Launch) (G : JG) : JP := (true, [(39, 2, 6, 1008114, 69), (79, 2, 22, 2004, 131), (83, 2, 23, 2004, 132), (86, 2, 24, 2004, 133), (211, 2, 17, 0, 0), (214, 2, 16, 18, 0), (218, 14, 10, 104, 0), (261, 4, 1, 0, 0), (267, 4, 2, 0, 0), (279, 4, 3, 0, 0)], [], [(355, 16)], [], [], [], [(178, 1, [0, 0, 0, 2004], 8, S_X4_number l G), (221, 1, [8, 2004], 2, S_X4_join l G), (282, 1, [0, 1, 1, 2002], 700, S_X2_span l G), (342, 1, [8, 2002], 700, S_X2_put l G), (349, 1, [8, 2002], 8, S_X2_take l G), (352, 1, [0, 2002], 700, S_X2_goOn l G), (357, 1, [1, 2002], 700, S_X2_hurl l G), (361, 1, [8, 8, 0, 2002], 2, S_X2_reckon l G)], false, 700, [])
theorem pk_X2_numbers {K : JC} {l : Launch} {G : JG} {Q : Int → MH → Prop} {E : Nat → Int → MH → Prop} {h0 : MH} (ki : KI K l G yX2_numbers cX2_numbers 6 none [] 10 298 700 Q E h0) (hG : gO G = true) : POK K RX2 (p_X2_numbers l G) :=
  POKi (y := yX2_numbers) ki hG (rfs rf_X2_ok (by decide +kernel)) fmz (subs (by decide +kernel) rl_X2_ok) fmz fmz fmz
  (pkE ki (by
    intro K e1 e2 e3 e4; subst e1; subst e2
    exact fmE (ceV 4 e3 e4 yl_X4_number ⟨by decide, ⟨_, _, rfl⟩, q1338, q1339, q1351⟩ rfl) (fmE (ceV 4 e3 e4 yl_X4_join ⟨by decide, ⟨_, _, rfl⟩, q1361, q1362, q1410⟩ rfl) (fmE (ceV 2 e3 e4 yl_X2_span ⟨by decide, ⟨_, _, rfl⟩, q1413, qs35, q1411⟩ rfl) (fmE (ceV 2 e3 e4 yl_X2_put ⟨by decide, ⟨_, _, rfl⟩, q1394, qs31, q1392⟩ rfl) (fmE (ceV 2 e3 e4 yl_X2_take ⟨by decide, ⟨_, _, rfl⟩, q1400, qs32, q1398⟩ rfl) (fmE (ceV 2 e3 e4 yl_X2_goOn ⟨by decide, ⟨_, _, rfl⟩, q1404, qs33, q1402⟩ rfl) (fmE (ceV 2 e3 e4 yl_X2_hurl ⟨by decide, ⟨_, _, rfl⟩, q1431, qs36, q1429⟩ rfl) (fmE (ceV 2 e3 e4 yl_X2_reckon ⟨by decide, ⟨_, _, rfl⟩, q1467, qs40, q1465⟩ rfl) (fmz)))))))))) (fun z => Bool.noConfusion z) rfl (pkP ki (by
    intro K e1 e2 e3 e4; subst e1; subst e2
    exact fmz))
theorem r_X2_numbers_0 {K : JC} {l : Launch} {G : JG} {Q : Int → MH → Prop} {E : Nat → Int → MH → Prop} {h0 : MH} (ki : KI K l G yX2_numbers cX2_numbers 6 none [] 10 298 700 Q E h0) (hG : gO G = true) {v1 v2 v3 : Int} {h : MH} (H :
    ((¬ v1 = 13 →
      ((¬ v1 = 14 →
        ((¬ v1 = 12 →
          S_X2_take l G [(2002, 3), (8, 135)] h (fun z1 h2 =>
          (∀ x4_3 : Int, x4_3 = z1 →
          S_X2_take l G [(2002, 3), (8, 134)] h2 (fun z4 h5 =>
          (∀ x5_6 : Int, x5_6 = z4 →
          ((10 ≤ v1 → (x4_3 ≠ 0) ∧ ((hv h5 x4_3 1) ≤ 0 → x4_3 ≠ 0))) ∧
          (((10 ≤ v1 ∧ ((hv h5 x4_3 1) ≤ 0 ∧ 0 ≤ (hv h5 x4_3 2))) →
            S_X2_hurl l G [(2002, 3), (1, 16)] h5 (fun _ h8 =>
            S_X2_reckon l G [(2002, 3), (0, v1), (8, x5_6), (8, x4_3)] h8 (fun z9 h10 =>
            ((¬ z9 = 0 →
              S_X2_put l G [(2002, 3), (8, 136)] h10 (fun _ h12 =>
              S_X2_goOn l G [(2002, 3), (0, (w32 ((hv h12 3 17) + 1)))] h12 (fun _ h14 =>
              Q 0 h14) E) E) ∧
            (z9 = 0 →
              Q 0 h10))) E) E) ∧
          (¬ (10 ≤ v1 ∧ ((hv h5 x4_3 1) ≤ 0 ∧ 0 ≤ (hv h5 x4_3 2))) →
            S_X2_reckon l G [(2002, 3), (0, v1), (8, x5_6), (8, x4_3)] h5 (fun z15 h16 =>
            ((¬ z15 = 0 →
              S_X2_put l G [(2002, 3), (8, 136)] h16 (fun _ h18 =>
              S_X2_goOn l G [(2002, 3), (0, (w32 ((hv h18 3 17) + 1)))] h18 (fun _ h20 =>
              Q 0 h20) E) E) ∧
            (z15 = 0 →
              Q 0 h16))) E)))) E)) E) ∧
        (v1 = 12 →
          S_X2_take l G [(2002, 3), (8, 134)] h (fun z21 h22 =>
          (∀ x4_23 : Int, x4_23 = z21 →
          (x4_23 ≠ 0) ∧
          (x4_23 ≠ 0) ∧
          (x4_23 ≠ 0) ∧
          S_X2_span l G [(2002, 3), (1, (w64 (-(hv h22 x4_23 2)))), (1, (w64 (-(hv h22 x4_23 1)))), (0, (hv h22 x4_23 3))] h22 (fun _ h25 =>
          S_X2_put l G [(2002, 3), (8, 136)] h25 (fun _ h27 =>
          S_X2_goOn l G [(2002, 3), (0, (w32 ((hv h27 3 17) + 1)))] h27 (fun _ h29 =>
          Q 0 h29) E) E) E)) E))) ∧
      (v1 = 14 →
        (0 ≤ v2) ∧
        (v2 < 8) ∧
        S_X2_take l G [(2002, 3), (8, 134)] h (fun z30 h31 =>
        ((hv h 72 v2) ≠ 0) ∧
        S_X4_join l G [(2004, (hv h 72 v2)), (8, z30)] h31 (fun z32 h33 =>
        (∀ x4_34 : Int, x4_34 = z32 →
        S_X2_goOn l G [(2002, 3), (0, (w32 ((hv h33 3 17) + 1)))] h33 (fun _ h36 =>
        Q 0 h36) E)) E) E))) ∧
    (v1 = 13 →
      ((hv h 3 16) ≠ 0) ∧
      ((hv h (hv h 3 16) 10) ≠ 0) ∧
      (0 ≤ (hv h 3 17)) ∧
      ((hv h 3 17) < (hn h (hv h (hv h 3 16) 10))) ∧
      S_X4_number l G [(2004, 134), (0, v3), (0, (hv h (hv h (hv h 3 16) 10) (hv h 3 17))), (0, (i_shl 1 v2))] h (fun z37 h38 =>
      S_X2_put l G [(2002, 3), (8, z37)] h38 (fun _ h40 =>
      S_X2_goOn l G [(2002, 3), (0, (w32 ((hv h40 3 17) + 1)))] h40 (fun _ h42 =>
      Q 0 h42) E) E) E))) : JW K 0 [(2002, 3), (0, v1), (0, v2), (0, v3), (5000, 0), (5000, 0)] [] h := by
  have e1 := ki.2.2.2.2.1
  have e2 := ki.2.2.2.2.2.1
  subst e1; subst e2
  exact run_ok (dia := []) (cnr := [(137, 156, 163)]) (cuts := []) ki.1 (pk_X2_numbers ki hG) ok_X2_numbers (by decide) 43 true _ _ _ _ H
abbrev k_X2_span : List (Nat × List (Nat × Instr)) := [(51, [(0, .lload_n 1), (1, .invokestatic 238), (4, .ifCond .eq 10), (7, .lload_n 3), (8, .invokestatic 238), (11, .ifCond .ne 20), (14, .aload_n 0), (15, .getfield 86), (18, .ldc 176), (20, .ldc 177), (22, .iload 5), (24, .invokevirtual 178), (27, .pop), (28, .goto 29), (31, .aload_n 0), (32, .getfield 86), (35, .aload_n 0), (36, .getfield 100), (39, .lload_n 1), (40, .invokevirtual 242), (43, .aload_n 0), (44, .getfield 100), (47, .lload_n 3), (48, .invokevirtual 245)]),
  (66, [(51, .iload 5), (53, .invokevirtual 178), (56, .pop), (57, .return_)])]
theorem ok_X2_span : CodeOK cX2_span k_X2_span := okw 0 (by decide +kernel) (okw 51 (by decide +kernel) (okn))
abbrev p_X2_span (l : Launch) (G : JG) : JP := (true, [(86, 2, 24, 2004, 133), (100, 2, 0, 16, 0)], [(176, (-2147483648)), (177, 2147483647)], [], [], [], [], [(178, 1, [0, 0, 0, 2004], 8, S_X4_number l G), (242, 1, [1, 2012], 0, S_X12_down l G), (245, 1, [1, 2012], 0, S_X12_up l G)], false, 700, [(238, e_X2_fits)])
theorem pk_X2_span {K : JC} {l : Launch} {G : JG} {Q : Int → MH → Prop} {E : Nat → Int → MH → Prop} {h0 : MH} (ki : KI K l G yX2_span cX2_span 6 none [] 5 175 700 Q E h0) (hG : gO G = true) : POK K RX2 (p_X2_span l G) :=
  POKi (y := yX2_span) ki hG (rfs rf_X2_ok (by decide +kernel)) (subs (by decide +kernel) rc_X2_ok) fmz fmz fmz fmz
  (pkE ki (by
    intro K e1 e2 e3 e4; subst e1; subst e2
    exact fmE (ceV 4 e3 e4 yl_X4_number ⟨by decide, ⟨_, _, rfl⟩, q1338, q1339, q1351⟩ rfl) (fmE (ceV 12 e3 e4 yl_X12_down ⟨by decide, ⟨_, _, rfl⟩, q1421, q1422, q1420⟩ rfl) (fmE (ceV 12 e3 e4 yl_X12_up ⟨by decide, ⟨_, _, rfl⟩, q1425, q1426, q1424⟩ rfl) (fmz))))) (fun z => Bool.noConfusion z) rfl (pkP ki (by
    intro K e1 e2 e3 e4; subst e1; subst e2
    exact fmP (pe_X2_fits hG e3 e4 ⟨q1416, Or.inl q1415⟩ rfl rfl) (fmz)))
theorem r_X2_span_0 {K : JC} {l : Launch} {G : JG} {Q : Int → MH → Prop} {E : Nat → Int → MH → Prop} {h0 : MH} (ki : KI K l G yX2_span cX2_span 6 none [] 5 175 700 Q E h0) (hG : gO G = true) {v1 v3 v5 : Int} {h : MH} (H :
    ((((isin v1 (-2147483648) 2147483647) = 0 ∨ (isin v3 (-2147483648) 2147483647) = 0) →
      S_X4_number l G [(2004, 136), (0, (-2147483648)), (0, 2147483647), (0, v5)] h (fun z1 h2 =>
      Q 0 h2) E) ∧
    (¬ ((isin v1 (-2147483648) 2147483647) = 0 ∨ (isin v3 (-2147483648) 2147483647) = 0) →
      ((hv h 3 0) ≠ 0) ∧
      S_X12_down l G [(2012, (hv h 3 0)), (1, v1)] h (fun z3 h4 =>
      ((hv h4 3 0) ≠ 0) ∧
      S_X12_up l G [(2012, (hv h4 3 0)), (1, v3)] h4 (fun z5 h6 =>
      S_X4_number l G [(2004, 136), (0, z3), (0, z5), (0, v5)] h6 (fun z7 h8 =>
      Q 0 h8) E) E) E))) : JW K 0 [(2002, 3), (1, v1), (5000, 0), (1, v3), (5000, 0), (0, v5)] [] h := by
  have e1 := ki.2.2.2.2.1
  have e2 := ki.2.2.2.2.2.1
  subst e1; subst e2
  exact run_ok (dia := []) (cnr := [(4, 14, 31)]) (cuts := []) ki.1 (pk_X2_span ki hG) ok_X2_span (by decide) 18 true _ _ _ _ H
abbrev k_X2_hurl : List (Nat × List (Nat × Instr)) := [(28, [(0, .aload_n 0), (1, .lload_n 1), (2, .aload_n 0), (3, .getfield 75), (6, .getfield 381), (9, .aload_n 0), (10, .getfield 75), (13, .getfield 384), (16, .invokevirtual 387), (19, .return_)])]
theorem ok_X2_hurl : CodeOK cX2_hurl k_X2_hurl := okw 0 (by decide +kernel) (okn)
abbrev p_X2_hurl (l : Launch) (G : JG) : JP := (true, [(75, 2, 21, 2003, 113), (381, 3, 2, 0, 0), (384, 3, 3, 0, 0)], [], [], [], [], [], [(387, 1, [0, 0, 1, 2002], 700, S_X2_hurl_2 l G)], false, 700, [])
theorem pk_X2_hurl {K : JC} {l : Launch} {G : JG} {Q : Int → MH → Prop} {E : Nat → Int → MH → Prop} {h0 : MH} (ki : KI K l G yX2_hurl cX2_hurl 3 none [] 9 276 700 Q E h0) (hG : gO G = true) : POK K RX2 (p_X2_hurl l G) :=
  POKi (y := yX2_hurl) ki hG (rfs rf_X2_ok (by decide +kernel)) fmz fmz fmz fmz fmz
  (pkE ki (by
    intro K e1 e2 e3 e4; subst e1; subst e2
    exact fmE (ceV 2 e3 e4 yl_X2_hurl_2 ⟨by decide, ⟨_, _, rfl⟩, q1435, qs37, q1433⟩ rfl) (fmz))) (fun z => Bool.noConfusion z) rfl (pkP ki (by
    intro K e1 e2 e3 e4; subst e1; subst e2
    exact fmz))
theorem r_X2_hurl_0 {K : JC} {l : Launch} {G : JG} {Q : Int → MH → Prop} {E : Nat → Int → MH → Prop} {h0 : MH} (ki : KI K l G yX2_hurl cX2_hurl 3 none [] 9 276 700 Q E h0) (hG : gO G = true) {v1 : Int} {h : MH} (H :
    S_X2_hurl_2 l G [(2002, 3), (1, v1), (0, (hv h 116 2)), (0, (hv h 116 3))] h (fun _ h2 =>
    Q 0 h2) E) : JW K 0 [(2002, 3), (1, v1), (5000, 0)] [] h := by
  have e1 := ki.2.2.2.2.1
  have e2 := ki.2.2.2.2.2.1
  subst e1; subst e2
  exact run_ok (dia := []) (cnr := []) (cuts := []) ki.1 (pk_X2_hurl ki hG) ok_X2_hurl (by decide) 11 true _ _ _ _ H
abbrev k_X2_hurl_2 : List (Nat × List (Nat × Instr)) := [(42, [(0, .aload_n 0), (1, .getfield 43), (4, .aload_n 0), (5, .getfield 195), (8, .dup2), (9, .laload), (10, .lload_n 1), (11, .lor), (12, .lastore), (13, .lload_n 1), (14, .lstore 5), (16, .aload_n 0), (17, .getfield 214), (20, .getfield 390), (23, .astore 7), (25, .aload 7), (27, .arraylength), (28, .istore 8), (30, .iconst 0), (31, .istore 9), (33, .iload 9), (35, .iload 8), (37, .if_icmp .ge 171), (40, .aload 7)]),
  (94, [(42, .iload 9), (44, .aaload), (45, .astore 10), (47, .aload_n 0), (48, .getfield 211), (51, .aload 10), (53, .getfield 394), (56, .if_icmp .lt 146), (59, .aload_n 0), (60, .getfield 211), (63, .aload 10), (65, .getfield 397), (68, .if_icmp .lt 6), (71, .goto 131), (74, .aload_n 0), (75, .getfield 100), (78, .lload 5), (80, .aload 10), (82, .getfield 398), (85, .invokevirtual 375), (88, .lstore 11), (90, .lload 11), (92, .lconst 0), (93, .lcmp)]),
  (146, [(94, .ifCond .ne 6), (97, .goto 105), (100, .lload 5), (102, .lload 11), (104, .ldc2_w 379), (107, .lxor), (108, .land), (109, .lstore 5), (111, .aload_n 0), (112, .getfield 72), (115, .aload_n 0), (116, .getfield 75), (119, .invokevirtual 311), (122, .bipush 8), (124, .istore 13), (126, .iload 13), (128, .bipush 16), (130, .if_icmp .ge 22), (133, .aload_n 0), (134, .getfield 72), (137, .getfield 171), (140, .iload 13), (142, .aaload), (143, .invokevirtual 122)]),
  (196, [(146, .iinc 13 1), (149, .goto (-23)), (152, .aload_n 0), (153, .getfield 72), (156, .getfield 171), (159, .bipush 8), (161, .aaload), (162, .lload 11), (164, .invokevirtual 346), (167, .pop), (168, .aload_n 0), (169, .getfield 72), (172, .iload_n 3), (173, .putfield 381), (176, .aload_n 0), (177, .getfield 72), (180, .iload 4), (182, .putfield 384), (185, .aload_n 0), (186, .aload_n 0), (187, .getfield 214), (190, .aload 10), (192, .getfield 401), (195, .aload_n 0)]),
  (233, [(196, .getfield 72), (199, .invokevirtual 182), (202, .iinc 9 1), (205, .goto (-172)), (208, .lload 5), (210, .lconst 0), (211, .lcmp), (212, .ifCond .eq 12), (215, .aload_n 0), (216, .lload 5), (218, .iload_n 3), (219, .iload 4), (221, .invokevirtual 404), (224, .return_)])]
theorem ok_X2_hurl_2 : CodeOK cX2_hurl_2 k_X2_hurl_2 := okw 0 (by decide +kernel) (okw 42 (by decide +kernel) (okw 94 (by decide +kernel) (okw 146 (by decide +kernel) (okw 196 (by decide +kernel) (okn)))))
abbrev p_X2_hurl_2 (l : Launch) (G : JG) : JP := (true, [(43, 2, 7, 2500101, 70), (72, 2, 20, 2003, 95), (75, 2, 21, 2003, 113), (100, 2, 0, 16, 0), (171, 3, 1, 118, 0), (195, 2, 18, 0, 0), (211, 2, 17, 0, 0), (214, 2, 16, 18, 0), (390, 14, 13, 129, 0), (394, 15, 0, 0, 0), (397, 15, 1, 0, 0), (398, 15, 3, 0, 0), (401, 15, 2, 0, 0)], [], [(379, (-1))], [(381, 3, 2, 0), (384, 3, 3, 0)], [], [], [(122, 1, [2004], 700, S_X4_none l G), (182, 1, [7, 0, 18, 2002], 700, S_X2_come l G), (311, 1, [7, 2003], 700, S_X3_become l G), (346, 1, [1, 2004], 8, S_X4_sites l G), (375, 1, [0, 1, 2012], 1, S_X12_ofClass l G), (404, 1, [0, 0, 1, 2002], 700, S_X2_escape l G)], false, 700, [])
theorem pk_X2_hurl_2 {K : JC} {l : Launch} {G : JG} {Q : Int → MH → Prop} {E : Nat → Int → MH → Prop} {h0 : MH} (ki : KI K l G yX2_hurl_2 cX2_hurl_2 14 none [] 8 243 700 Q E h0) (hG : gO G = true) : POK K RX2 (p_X2_hurl_2 l G) :=
  POKi (y := yX2_hurl_2) ki hG (rfs rf_X2_ok (by decide +kernel)) fmz (subs (by decide +kernel) rl_X2_ok) (rps rp_X2_ok (by decide +kernel)) fmz fmz
  (pkE ki (by
    intro K e1 e2 e3 e4; subst e1; subst e2
    exact fmE (ceV 4 e3 e4 yl_X4_none ⟨by decide, ⟨_, _, rfl⟩, q1315, q1316, q1332⟩ rfl) (fmE (ceV 2 e3 e4 yl_X2_come ⟨by decide, ⟨_, _, rfl⟩, q1354, qs27, q1352⟩ rfl) (fmE (ceV 3 e3 e4 yl_X3_become ⟨by decide, ⟨_, _, rfl⟩, q1384, q1385, q1383⟩ rfl) (fmE (ceV 4 e3 e4 yl_X4_sites ⟨by decide, ⟨_, _, rfl⟩, q1342, q1343, q1397⟩ rfl) (fmE (ceV 12 e3 e4 yl_X12_ofClass ⟨by decide, ⟨_, _, rfl⟩, q1438, q1439, q1437⟩ rfl) (fmE (ceV 2 e3 e4 yl_X2_escape ⟨by decide, ⟨_, _, rfl⟩, q1452, qs38, q1450⟩ rfl) (fmz)))))))) (fun z => Bool.noConfusion z) rfl (pkP ki (by
    intro K e1 e2 e3 e4; subst e1; subst e2
    exact fmz))
theorem r_X2_hurl_2_0 {K : JC} {l : Launch} {G : JG} {Q : Int → MH → Prop} {E : Nat → Int → MH → Prop} {h0 : MH} (ki : KI K l G yX2_hurl_2 cX2_hurl_2 14 none [] 8 243 700 Q E h0) (hG : gO G = true) {v1 v3 v4 : Int} {h : MH} (H :
    (0 ≤ (hv h 3 18)) ∧
    ((hv h 3 18) < 1500) ∧
    (0 ≤ (hv h 3 18)) ∧
    ((hv h 3 18) < 1500) ∧
    (∀ h1, h1 = hset h 73 (hv h 3 18) (l_or (hv h 73 (hv h 3 18)) v1) →
    (∀ x5_2 : Int, x5_2 = v1 →
    ((hv h1 3 16) ≠ 0) ∧
    (∀ x7_3 : Int, x7_3 = (hv h1 (hv h1 3 16) 13) →
    (x7_3 ≠ 0) ∧
    (∀ x8_4 : Int, x8_4 = (hn h1 x7_3) →
    (∀ x9_5 : Int, x9_5 = 0 →
    JW K 33 [(2002, 3), (1, v1), (5000, 0), (0, v3), (0, v4), (1, x5_2), (5000, 0), (129, x7_3), (0, x8_4), (0, x9_5), (5000, 0), (5000, 0), (5000, 0), (5000, 0)] [] h1)))))) : JW K 0 [(2002, 3), (1, v1), (5000, 0), (0, v3), (0, v4), (5000, 0), (5000, 0), (5000, 0), (5000, 0), (5000, 0), (5000, 0), (5000, 0), (5000, 0), (5000, 0)] [] h := by
  have e1 := ki.2.2.2.2.1
  have e2 := ki.2.2.2.2.2.1
  subst e1; subst e2
  exact run_ok (dia := []) (cnr := []) (cuts := [(33, [2002, 1, 5000, 0, 0, 1, 5000, 129, 0, 0, 5000, 5000, 5000, 5000], []), (126, [2002, 1, 5000, 0, 0, 1, 5000, 129, 0, 0, 19, 1, 5000, 0], [])]) ki.1 (pk_X2_hurl_2 ki hG) ok_X2_hurl_2 (by decide) 22 true _ _ _ _ H
theorem r_X2_hurl_2_33 {K : JC} {l : Launch} {G : JG} {Q : Int → MH → Prop} {E : Nat → Int → MH → Prop} {h0 : MH} (ki : KI K l G yX2_hurl_2 cX2_hurl_2 14 none [] 8 243 700 Q E h0) (hG : gO G = true) {v1 v3 v4 v5 v7 v8 v9 : Int} {h : MH} (H :
    ((v8 ≤ v9 →
      (((lc v5 0) = 0 →
        Q 0 h) ∧
      (¬ (lc v5 0) = 0 →
        S_X2_escape l G [(2002, 3), (1, v5), (0, v3), (0, v4)] h (fun _ h2 =>
        Q 0 h2) E))) ∧
    (v9 < v8 →
      (v7 ≠ 0) ∧
      (0 ≤ v9) ∧
      (v9 < (hn h v7)) ∧
      (∀ x10_3 : Int, x10_3 = (hv h v7 v9) →
      (x10_3 ≠ 0) ∧
      (((hv h 3 17) < (hv h x10_3 0) →
        (∀ x9_4 : Int, x9_4 = w32 (v9 + 1) →
        JW K 33 [(2002, 3), (1, v1), (5000, 0), (0, v3), (0, v4), (1, v5), (5000, 0), (129, v7), (0, v8), (0, x9_4), (5000, 0), (5000, 0), (5000, 0), (5000, 0)] [] h)) ∧
      ((hv h x10_3 0) ≤ (hv h 3 17) →
        (x10_3 ≠ 0) ∧
        (((hv h 3 17) < (hv h x10_3 1) →
          (x10_3 ≠ 0) ∧
          ((hv h 3 0) ≠ 0) ∧
          S_X12_ofClass l G [(2012, (hv h 3 0)), (1, v5), (0, (hv h x10_3 3))] h (fun z5 h6 =>
          (∀ x11_7 : Int, x11_7 = z5 →
          ((¬ (lc x11_7 0) = 0 →
            (∀ x5_8 : Int, x5_8 = (l_and v5 (l_xor x11_7 (-1))) →
            S_X3_become l G [(2003, 98), (7, 116)] h6 (fun _ h10 =>
            (∀ x13_11 : Int, x13_11 = 8 →
            JW K 126 [(2002, 3), (1, v1), (5000, 0), (0, v3), (0, v4), (1, x5_8), (5000, 0), (129, v7), (0, v8), (0, v9), (19, x10_3), (1, x11_7), (5000, 0), (0, x13_11)] [] h10)) E)) ∧
          ((lc x11_7 0) = 0 →
            (∀ x9_12 : Int, x9_12 = w32 (v9 + 1) →
            JW K 33 [(2002, 3), (1, v1), (5000, 0), (0, v3), (0, v4), (1, v5), (5000, 0), (129, v7), (0, v8), (0, x9_12), (5000, 0), (5000, 0), (5000, 0), (5000, 0)] [] h6))))) E) ∧
        ((hv h x10_3 1) ≤ (hv h 3 17) →
          (∀ x9_13 : Int, x9_13 = w32 (v9 + 1) →
          JW K 33 [(2002, 3), (1, v1), (5000, 0), (0, v3), (0, v4), (1, v5), (5000, 0), (129, v7), (0, v8), (0, x9_13), (5000, 0), (5000, 0), (5000, 0), (5000, 0)] [] h))))))))) : JW K 33 [(2002, 3), (1, v1), (5000, 0), (0, v3), (0, v4), (1, v5), (5000, 0), (129, v7), (0, v8), (0, v9), (5000, 0), (5000, 0), (5000, 0), (5000, 0)] [] h := by
  have e1 := ki.2.2.2.2.1
  have e2 := ki.2.2.2.2.2.1
  subst e1; subst e2
  exact run_ok (dia := []) (cnr := []) (cuts := [(33, [2002, 1, 5000, 0, 0, 1, 5000, 129, 0, 0, 5000, 5000, 5000, 5000], []), (126, [2002, 1, 5000, 0, 0, 1, 5000, 129, 0, 0, 19, 1, 5000, 0], [])]) ki.1 (pk_X2_hurl_2 ki hG) ok_X2_hurl_2 (by decide) 43 true _ _ _ _ H
theorem r_X2_hurl_2_126 {K : JC} {l : Launch} {G : JG} {Q : Int → MH → Prop} {E : Nat → Int → MH → Prop} {h0 : MH} (ki : KI K l G yX2_hurl_2 cX2_hurl_2 14 none [] 8 243 700 Q E h0) (hG : gO G = true) {v1 v3 v4 v5 v7 v8 v9 v10 v11 v13 : Int} {h : MH} (H :
    ((16 ≤ v13 →
      ((hv h 98 1) ≠ 0) ∧
      (0 ≤ (8 : Int)) ∧
      (8 < (hn h (hv h 98 1))) ∧
      ((hv h (hv h 98 1) 8) ≠ 0) ∧
      S_X4_sites l G [(2004, (hv h (hv h 98 1) 8)), (1, v11)] h (fun z1 h2 =>
      (∀ h3, h3 = hset h2 98 2 v3 →
      (∀ h4, h4 = hset h3 98 3 v4 →
      (v10 ≠ 0) ∧
      S_X2_come l G [(2002, 3), (18, (hv h4 3 16)), (0, (hv h4 v10 2)), (7, 98)] h4 (fun _ h6 =>
      (∀ x9_7 : Int, x9_7 = w32 (v9 + 1) →
      JW K 33 [(2002, 3), (1, v1), (5000, 0), (0, v3), (0, v4), (1, v5), (5000, 0), (129, v7), (0, v8), (0, x9_7), (5000, 0), (5000, 0), (5000, 0), (5000, 0)] [] h6)) E))) E) ∧
    (v13 < 16 →
      ((hv h 98 1) ≠ 0) ∧
      (0 ≤ v13) ∧
      (v13 < (hn h (hv h 98 1))) ∧
      ((hv h (hv h 98 1) v13) ≠ 0) ∧
      S_X4_none l G [(2004, (hv h (hv h 98 1) v13))] h (fun _ h9 =>
      (∀ x13_10 : Int, x13_10 = w32 (v13 + 1) →
      JW K 126 [(2002, 3), (1, v1), (5000, 0), (0, v3), (0, v4), (1, v5), (5000, 0), (129, v7), (0, v8), (0, v9), (19, v10), (1, v11), (5000, 0), (0, x13_10)] [] h9)) E))) : JW K 126 [(2002, 3), (1, v1), (5000, 0), (0, v3), (0, v4), (1, v5), (5000, 0), (129, v7), (0, v8), (0, v9), (19, v10), (1, v11), (5000, 0), (0, v13)] [] h := by
  have e1 := ki.2.2.2.2.1
  have e2 := ki.2.2.2.2.2.1
  subst e1; subst e2
  exact run_ok (dia := []) (cnr := []) (cuts := [(33, [2002, 1, 5000, 0, 0, 1, 5000, 129, 0, 0, 5000, 5000, 5000, 5000], []), (126, [2002, 1, 5000, 0, 0, 1, 5000, 129, 0, 0, 19, 1, 5000, 0], [])]) ki.1 (pk_X2_hurl_2 ki hG) ok_X2_hurl_2 (by decide) 31 true _ _ _ _ H
abbrev k_X2_escape : List (Nat × List (Nat × Instr)) := [(44, [(0, .aload_n 0), (1, .getfield 19), (4, .aload_n 0), (5, .getfield 214), (8, .getfield 407), (11, .aaload), (12, .astore 5), (14, .lload_n 1), (15, .aload 5), (17, .getfield 409), (20, .ldc2_w 379), (23, .lxor), (24, .land), (25, .lconst 0), (26, .lcmp), (27, .ifCond .eq 7), (30, .iconst 1), (31, .goto 4), (34, .iconst 0), (35, .istore 6), (37, .aload 5), (39, .getfield 409), (42, .lconst 0), (43, .lcmp)]),
  (91, [(44, .ifCond .ne 16), (47, .aload 5), (49, .iload_n 3), (50, .putfield 412), (53, .aload 5), (55, .iload 4), (57, .putfield 415), (60, .iload 6), (62, .aload 5), (64, .getfield 412), (67, .iload_n 3), (68, .iconst (-1)), (69, .ixor), (70, .iand), (71, .ifCond .ne 16), (74, .iload 4), (76, .aload 5), (78, .getfield 415), (81, .iconst (-1)), (82, .ixor), (83, .iand), (84, .ifCond .eq 7), (87, .iconst 1), (88, .goto 4)]),
  (135, [(91, .iconst 0), (92, .ior), (93, .istore 6), (95, .aload 5), (97, .dup), (98, .getfield 409), (101, .lload_n 1), (102, .lor), (103, .putfield 409), (106, .aload 5), (108, .dup), (109, .getfield 412), (112, .iload_n 3), (113, .iand), (114, .putfield 412), (117, .aload 5), (119, .dup), (120, .getfield 415), (123, .iload 4), (125, .ior), (126, .putfield 415), (129, .iload 6), (131, .ifCond .eq 12), (134, .aload_n 0)]),
  (152, [(135, .aload 5), (137, .getfield 418), (140, .invokevirtual 227), (143, .return_)])]
theorem ok_X2_escape : CodeOK cX2_escape k_X2_escape := okw 0 (by decide +kernel) (okw 44 (by decide +kernel) (okw 91 (by decide +kernel) (okw 135 (by decide +kernel) (okn))))
abbrev p_X2_escape (l : Launch) (G : JG) : JP := (true, [(19, 2, 2, 1040115, 2), (214, 2, 16, 18, 0), (407, 14, 0, 0, 0), (409, 5, 4, 1, 0), (412, 5, 5, 0, 0), (415, 5, 6, 0, 0), (418, 5, 8, 105, 0)], [], [(379, (-1))], [(409, 5, 4, 1), (412, 5, 5, 0), (415, 5, 6, 0)], [], [], [(227, 1, [105, 2002], 700, S_X2_wakeAll l G)], false, 700, [])
theorem pk_X2_escape {K : JC} {l : Launch} {G : JG} {Q : Int → MH → Prop} {E : Nat → Int → MH → Prop} {h0 : MH} (ki : KI K l G yX2_escape cX2_escape 7 none [] 7 217 700 Q E h0) (hG : gO G = true) : POK K RX2 (p_X2_escape l G) :=
  POKi (y := yX2_escape) ki hG (rfs rf_X2_ok (by decide +kernel)) fmz (subs (by decide +kernel) rl_X2_ok) (rps rp_X2_ok (by decide +kernel)) fmz fmz
  (pkE ki (by
    intro K e1 e2 e3 e4; subst e1; subst e2
    exact fmE (ceV 2 e3 e4 yl_X2_wakeAll ⟨by decide, ⟨_, _, rfl⟩, q1456, qs39, q1454⟩ rfl) (fmz))) (fun z => Bool.noConfusion z) rfl (pkP ki (by
    intro K e1 e2 e3 e4; subst e1; subst e2
    exact fmz))
theorem r_X2_escape_0 {K : JC} {l : Launch} {G : JG} {Q : Int → MH → Prop} {E : Nat → Int → MH → Prop} {h0 : MH} (ki : KI K l G yX2_escape cX2_escape 7 none [] 7 217 700 Q E h0) (hG : gO G = true) {v1 v3 v4 : Int} {h : MH} (H :
    ((hv h 3 16) ≠ 0) ∧
    (0 ≤ (hv h (hv h 3 16) 0)) ∧
    ((hv h (hv h 3 16) 0) < 40) ∧
    (∀ x5_1 : Int, x5_1 = (hv h 5 (hv h (hv h 3 16) 0)) →
    (x5_1 ≠ 0) ∧
    (∀ x6_2 : Int, x6_2 = (if (lc (l_and v1 (l_xor (hv h x5_1 4) (-1))) 0) = 0 then 0 else 1 : Int) →
    (x5_1 ≠ 0) ∧
    ((¬ (lc (hv h x5_1 4) 0) = 0 →
      (x5_1 ≠ 0) ∧
      (((i_and (hv h x5_1 5) (i_xor v3 (-1))) = 0 → x5_1 ≠ 0)) ∧
      (∀ x6_3 : Int, x6_3 = (i_or x6_2 (if (i_and (hv h x5_1 5) (i_xor v3 (-1))) = 0 then (if (i_and v4 (i_xor (hv h x5_1 6) (-1))) = 0 then 0 else 1 : Int) else 1 : Int)) →
      (x5_1 ≠ 0) ∧
      (x5_1 ≠ 0) ∧
      (∀ h4, h4 = hset h x5_1 4 (l_or (hv h x5_1 4) v1) →
      (x5_1 ≠ 0) ∧
      (x5_1 ≠ 0) ∧
      (∀ h5, h5 = hset h4 x5_1 5 (i_and (hv h4 x5_1 5) v3) →
      (x5_1 ≠ 0) ∧
      (x5_1 ≠ 0) ∧
      (∀ h6, h6 = hset h5 x5_1 6 (i_or (hv h5 x5_1 6) v4) →
      ((x6_3 = 0 →
        Q 0 h6) ∧
      (¬ x6_3 = 0 →
        (x5_1 ≠ 0) ∧
        S_X2_wakeAll l G [(2002, 3), (105, (hv h6 x5_1 8))] h6 (fun _ h8 =>
        Q 0 h8) E))))))) ∧
    ((lc (hv h x5_1 4) 0) = 0 →
      (x5_1 ≠ 0) ∧
      (∀ h9, h9 = hset h x5_1 5 v3 →
      (x5_1 ≠ 0) ∧
      (∀ h10, h10 = hset h9 x5_1 6 v4 →
      (x5_1 ≠ 0) ∧
      (((i_and (hv h10 x5_1 5) (i_xor v3 (-1))) = 0 → x5_1 ≠ 0)) ∧
      (∀ x6_11 : Int, x6_11 = (i_or x6_2 (if (i_and (hv h10 x5_1 5) (i_xor v3 (-1))) = 0 then (if (i_and v4 (i_xor (hv h10 x5_1 6) (-1))) = 0 then 0 else 1 : Int) else 1 : Int)) →
      (x5_1 ≠ 0) ∧
      (x5_1 ≠ 0) ∧
      (∀ h12, h12 = hset h10 x5_1 4 (l_or (hv h10 x5_1 4) v1) →
      (x5_1 ≠ 0) ∧
      (x5_1 ≠ 0) ∧
      (∀ h13, h13 = hset h12 x5_1 5 (i_and (hv h12 x5_1 5) v3) →
      (x5_1 ≠ 0) ∧
      (x5_1 ≠ 0) ∧
      (∀ h14, h14 = hset h13 x5_1 6 (i_or (hv h13 x5_1 6) v4) →
      ((x6_11 = 0 →
        Q 0 h14) ∧
      (¬ x6_11 = 0 →
        (x5_1 ≠ 0) ∧
        S_X2_wakeAll l G [(2002, 3), (105, (hv h14 x5_1 8))] h14 (fun _ h16 =>
        Q 0 h16) E))))))))))))) : JW K 0 [(2002, 3), (1, v1), (5000, 0), (0, v3), (0, v4), (5000, 0), (5000, 0)] [] h := by
  have e1 := ki.2.2.2.2.1
  have e2 := ki.2.2.2.2.2.1
  subst e1; subst e2
  exact run_ok (dia := [(27, 35), (71, 92)]) (cnr := []) (cuts := []) ki.1 (pk_X2_escape ki hG) ok_X2_escape (by decide) 64 true _ _ _ _ H
abbrev k_X2_wakeAll : List (Nat × List (Nat × Instr)) := [(33, [(0, .iconst 0), (1, .istore_n 2), (2, .iload_n 2), (3, .aload_n 1), (4, .arraylength), (5, .if_icmp .ge 41), (8, .aload_n 1), (9, .iload_n 2), (10, .laload), (11, .lstore_n 3), (12, .lload_n 3), (13, .lconst 0), (14, .lcmp), (15, .ifCond .eq 25), (18, .aload_n 0), (19, .bipush 64), (21, .iload_n 2), (22, .imul), (23, .lload_n 3), (24, .invokestatic 186), (27, .iadd), (28, .invokevirtual 192), (31, .lload_n 3), (32, .lload_n 3)]),
  (55, [(33, .lconst 1), (34, .lsub), (35, .land), (36, .lstore_n 3), (37, .goto (-25)), (40, .iinc 2 1), (43, .goto (-41)), (46, .return_)])]
theorem ok_X2_wakeAll : CodeOK cX2_wakeAll k_X2_wakeAll := okw 0 (by decide +kernel) (okw 33 (by decide +kernel) (okn))
abbrev p_X2_wakeAll (l : Launch) (G : JG) : JP := (true, [], [], [], [], [], [], [(186, 0, [1], 0, S_J9_numberOfTrailingZeros l G), (192, 1, [0, 2002], 700, S_X2_wake l G)], false, 700, [])
theorem pk_X2_wakeAll {K : JC} {l : Launch} {G : JG} {Q : Int → MH → Prop} {E : Nat → Int → MH → Prop} {h0 : MH} (ki : KI K l G yX2_wakeAll cX2_wakeAll 5 none [] 6 193 700 Q E h0) (hG : gO G = true) : POK K RX2 (p_X2_wakeAll l G) :=
  POKi (y := yX2_wakeAll) ki hG fmz fmz fmz fmz fmz fmz
  (pkE ki (by
    intro K e1 e2 e3 e4; subst e1; subst e2
    exact fmE (ceS e3 e4 yl_J9_numberOfTrailingZeros ⟨q1459, Or.inl q1458⟩ rfl) (fmE (ceV 2 e3 e4 yl_X2_wake ⟨by decide, ⟨_, _, rfl⟩, q1377, qs28, q1375⟩ rfl) (fmz)))) (fun z => Bool.noConfusion z) rfl (pkP ki (by
    intro K e1 e2 e3 e4; subst e1; subst e2
    exact fmz))
theorem r_X2_wakeAll_0 {K : JC} {l : Launch} {G : JG} {Q : Int → MH → Prop} {E : Nat → Int → MH → Prop} {h0 : MH} (ki : KI K l G yX2_wakeAll cX2_wakeAll 5 none [] 6 193 700 Q E h0) (hG : gO G = true) {v1 : Int} {h : MH} (H :
    (∀ x2_1 : Int, x2_1 = 0 →
    JW K 2 [(2002, 3), (105, v1), (0, x2_1), (5000, 0), (5000, 0)] [] h)) : JW K 0 [(2002, 3), (105, v1), (5000, 0), (5000, 0), (5000, 0)] [] h := by
  have e1 := ki.2.2.2.2.1
  have e2 := ki.2.2.2.2.2.1
  subst e1; subst e2
  exact run_ok (dia := []) (cnr := []) (cuts := [(2, [2002, 105, 0, 5000, 5000], []), (12, [2002, 105, 0, 1, 5000], [])]) ki.1 (pk_X2_wakeAll ki hG) ok_X2_wakeAll (by decide) 4 true _ _ _ _ H
theorem r_X2_wakeAll_2 {K : JC} {l : Launch} {G : JG} {Q : Int → MH → Prop} {E : Nat → Int → MH → Prop} {h0 : MH} (ki : KI K l G yX2_wakeAll cX2_wakeAll 5 none [] 6 193 700 Q E h0) (hG : gO G = true) {v1 v2 : Int} {h : MH} (H :
    (v1 ≠ 0) ∧
    (((hn h v1) ≤ v2 →
      Q 0 h) ∧
    (v2 < (hn h v1) →
      (v1 ≠ 0) ∧
      (0 ≤ v2) ∧
      (v2 < (hn h v1)) ∧
      (∀ x3_1 : Int, x3_1 = (hv h v1 v2) →
      JW K 12 [(2002, 3), (105, v1), (0, v2), (1, x3_1), (5000, 0)] [] h)))) : JW K 2 [(2002, 3), (105, v1), (0, v2), (5000, 0), (5000, 0)] [] h := by
  have e1 := ki.2.2.2.2.1
  have e2 := ki.2.2.2.2.2.1
  subst e1; subst e2
  exact run_ok (dia := []) (cnr := []) (cuts := [(2, [2002, 105, 0, 5000, 5000], []), (12, [2002, 105, 0, 1, 5000], [])]) ki.1 (pk_X2_wakeAll ki hG) ok_X2_wakeAll (by decide) 10 true _ _ _ _ H
theorem r_X2_wakeAll_12 {K : JC} {l : Launch} {G : JG} {Q : Int → MH → Prop} {E : Nat → Int → MH → Prop} {h0 : MH} (ki : KI K l G yX2_wakeAll cX2_wakeAll 5 none [] 6 193 700 Q E h0) (hG : gO G = true) {v1 v2 v3 : Int} {h : MH} (H :
    (((lc v3 0) = 0 →
      (∀ x2_1 : Int, x2_1 = w32 (v2 + 1) →
      JW K 2 [(2002, 3), (105, v1), (0, x2_1), (5000, 0), (5000, 0)] [] h)) ∧
    (¬ (lc v3 0) = 0 →
      S_J9_numberOfTrailingZeros l G [(1, v3)] h (fun z2 h3 =>
      S_X2_wake l G [(2002, 3), (0, (w32 ((w32 (64 * v2)) + z2)))] h3 (fun _ h5 =>
      (∀ x3_6 : Int, x3_6 = (l_and v3 (w64 (v3 - 1))) →
      JW K 12 [(2002, 3), (105, v1), (0, v2), (1, x3_6), (5000, 0)] [] h5)) E) E))) : JW K 12 [(2002, 3), (105, v1), (0, v2), (1, v3), (5000, 0)] [] h := by
  have e1 := ki.2.2.2.2.1
  have e2 := ki.2.2.2.2.2.1
  subst e1; subst e2
  exact run_ok (dia := []) (cnr := []) (cuts := [(2, [2002, 105, 0, 5000, 5000], []), (12, [2002, 105, 0, 1, 5000], [])]) ki.1 (pk_X2_wakeAll ki hG) ok_X2_wakeAll (by decide) 21 true _ _ _ _ H
abbrev k_X2_reckon : List (Nat × List (Nat × Instr)) := [(12, [(0, .aload_n 2), (1, .getfield 279), (4, .aload_n 3), (5, .getfield 279), (8, .ior), (9, .istore 4), (11, .iload_n 1)]),
  (44, [(12, .tableswitch 181 7 10 #[32, 62, 92, 174])]),
  (81, [(44, .aload_n 0), (45, .aload_n 2), (46, .getfield 261), (49, .i2l), (50, .aload_n 3), (51, .getfield 261), (54, .i2l), (55, .ladd), (56, .aload_n 2), (57, .getfield 267), (60, .i2l), (61, .aload_n 3), (62, .getfield 267), (65, .i2l), (66, .ladd), (67, .iload 4), (69, .invokevirtual 282), (72, .iconst 1), (73, .ireturn), (74, .aload_n 0), (75, .aload_n 2), (76, .getfield 261), (79, .i2l), (80, .aload_n 3)]),
  (121, [(81, .getfield 267), (84, .i2l), (85, .lsub), (86, .aload_n 2), (87, .getfield 267), (90, .i2l), (91, .aload_n 3), (92, .getfield 261), (95, .i2l), (96, .lsub), (97, .iload 4), (99, .invokevirtual 282), (102, .iconst 1), (103, .ireturn), (104, .aload_n 2), (105, .getfield 261), (108, .i2l), (109, .aload_n 3), (110, .getfield 261), (113, .i2l), (114, .lmul), (115, .lstore 5), (117, .aload_n 2), (118, .getfield 261)]),
  (159, [(121, .i2l), (122, .aload_n 3), (123, .getfield 267), (126, .i2l), (127, .lmul), (128, .lstore 7), (130, .aload_n 2), (131, .getfield 267), (134, .i2l), (135, .aload_n 3), (136, .getfield 261), (139, .i2l), (140, .lmul), (141, .lstore 9), (143, .aload_n 2), (144, .getfield 267), (147, .i2l), (148, .aload_n 3), (149, .getfield 267), (152, .i2l), (153, .lmul), (154, .lstore 11), (156, .aload_n 0), (157, .lload 5)]),
  (208, [(159, .lload 7), (161, .lload 9), (163, .lload 11), (165, .invokestatic 272), (168, .lload 5), (170, .lload 7), (172, .lload 9), (174, .lload 11), (176, .invokestatic 276), (179, .iload 4), (181, .invokevirtual 282), (184, .iconst 1), (185, .ireturn), (186, .aload_n 0), (187, .aload_n 2), (188, .aload_n 3), (189, .invokevirtual 290), (192, .ireturn), (193, .aload_n 0), (194, .aload_n 2), (195, .aload_n 3), (196, .invokevirtual 294), (199, .ireturn)])]
theorem ok_X2_reckon : CodeOK cX2_reckon k_X2_reckon := okw 0 (by decide +kernel) (okc (by decide +kernel) (okw 44 (by decide +kernel) (okw 81 (by decide +kernel) (okw 121 (by decide +kernel) (okw 159 (by decide +kernel) (okn))))))
abbrev p_X2_reckon (l : Launch) (G : JG) : JP := (true, [(261, 4, 1, 0, 0), (267, 4, 2, 0, 0), (279, 4, 3, 0, 0)], [], [], [], [], [], [(282, 1, [0, 1, 1, 2002], 700, S_X2_span l G), (290, 1, [8, 8, 2002], 2, S_X2_quotient l G), (294, 1, [8, 8, 2002], 2, S_X2_rest l G)], false, 2, [(272, e_X2_least), (276, e_X2_most)])
theorem pk_X2_reckon {K : JC} {l : Launch} {G : JG} {Q : Int → MH → Prop} {E : Nat → Int → MH → Prop} {h0 : MH} (ki : KI K l G yX2_reckon cX2_reckon 13 (some .boolean) [] 7 231 2 Q E h0) (hG : gO G = true) : POK K RX2 (p_X2_reckon l G) :=
  POKi (y := yX2_reckon) ki hG (rfs rf_X2_ok (by decide +kernel)) fmz fmz fmz fmz fmz
  (pkE ki (by
    intro K e1 e2 e3 e4; subst e1; subst e2
    exact fmE (ceV 2 e3 e4 yl_X2_span ⟨by decide, ⟨_, _, rfl⟩, q1413, qs35, q1411⟩ rfl) (fmE (ceV 2 e3 e4 yl_X2_quotient ⟨by decide, ⟨_, _, rfl⟩, q1483, qs41, q1481⟩ rfl) (fmE (ceV 2 e3 e4 yl_X2_rest ⟨by decide, ⟨_, _, rfl⟩, q1491, qs42, q1489⟩ rfl) (fmz))))) (fun z => Bool.noConfusion z) rfl (pkP ki (by
    intro K e1 e2 e3 e4; subst e1; subst e2
    exact fmP (pe_X2_least hG e3 e4 ⟨q1470, Or.inl q1469⟩ rfl rfl) (fmP (pe_X2_most hG e3 e4 ⟨q1476, Or.inl q1475⟩ rfl rfl) (fmz))))
theorem r_X2_reckon_0 {K : JC} {l : Launch} {G : JG} {Q : Int → MH → Prop} {E : Nat → Int → MH → Prop} {h0 : MH} (ki : KI K l G yX2_reckon cX2_reckon 13 (some .boolean) [] 7 231 2 Q E h0) (hG : gO G = true) {v1 v2 v3 : Int} {h : MH} (H :
    (v2 ≠ 0) ∧
    (v3 ≠ 0) ∧
    (∀ x4_1 : Int, x4_1 = (i_or (hv h v2 3) (hv h v3 3)) →
    (((v1 = 7 →
      (v2 ≠ 0) ∧
      (v3 ≠ 0) ∧
      (v2 ≠ 0) ∧
      (v3 ≠ 0) ∧
      S_X2_span l G [(2002, 3), (1, (w64 ((hv h v2 1) + (hv h v3 1)))), (1, (w64 ((hv h v2 2) + (hv h v3 2)))), (0, x4_1)] h (fun _ h3 =>
      (((1 : Int) = 0 ∨ (1 : Int) = 1) ∧ Q 1 h3)) E) ∧
    ((v1 = 7 + 1 →
      (v2 ≠ 0) ∧
      (v3 ≠ 0) ∧
      (v2 ≠ 0) ∧
      (v3 ≠ 0) ∧
      S_X2_span l G [(2002, 3), (1, (w64 ((hv h v2 1) - (hv h v3 2)))), (1, (w64 ((hv h v2 2) - (hv h v3 1)))), (0, x4_1)] h (fun _ h5 =>
      (((1 : Int) = 0 ∨ (1 : Int) = 1) ∧ Q 1 h5)) E) ∧
    ((v1 = 7 + 1 + 1 →
      (v2 ≠ 0) ∧
      (v3 ≠ 0) ∧
      (∀ x5_6 : Int, x5_6 = (w64 ((hv h v2 1) * (hv h v3 1))) →
      (v2 ≠ 0) ∧
      (v3 ≠ 0) ∧
      (∀ x7_7 : Int, x7_7 = (w64 ((hv h v2 1) * (hv h v3 2))) →
      (v2 ≠ 0) ∧
      (v3 ≠ 0) ∧
      (∀ x9_8 : Int, x9_8 = (w64 ((hv h v2 2) * (hv h v3 1))) →
      (v2 ≠ 0) ∧
      (v3 ≠ 0) ∧
      (∀ x11_9 : Int, x11_9 = (w64 ((hv h v2 2) * (hv h v3 2))) →
      S_X2_span l G [(2002, 3), (1, (min (min x5_6 x7_7) (min x9_8 x11_9))), (1, (max (max x5_6 x7_7) (max x9_8 x11_9))), (0, x4_1)] h (fun _ h11 =>
      (((1 : Int) = 0 ∨ (1 : Int) = 1) ∧ Q 1 h11)) E))))) ∧
    ((v1 = 7 + 1 + 1 + 1 →
      S_X2_quotient l G [(2002, 3), (8, v2), (8, v3)] h (fun z12 h13 =>
      ((z12 = 0 ∨ z12 = 1) ∧ Q z12 h13)) E) ∧
    True)))) ∧ ((v1 < 7 ∨ 10 < v1) →
      S_X2_rest l G [(2002, 3), (8, v2), (8, v3)] h (fun z14 h15 =>
      ((z14 = 0 ∨ z14 = 1) ∧ Q z14 h15)) E)))) : JW K 0 [(2002, 3), (0, v1), (8, v2), (8, v3), (5000, 0), (5000, 0), (5000, 0), (5000, 0), (5000, 0), (5000, 0), (5000, 0), (5000, 0), (5000, 0)] [] h := by
  have e1 := ki.2.2.2.2.1
  have e2 := ki.2.2.2.2.2.1
  subst e1; subst e2
  exact run_ok (dia := []) (cnr := []) (cuts := []) ki.1 (pk_X2_reckon ki hG) ok_X2_reckon (by decide) 56 true _ _ _ _ H
abbrev k_X2_quotient : List (Nat × List (Nat × Instr)) := [(48, [(0, .ldc2_w 257), (3, .lstore_n 3), (4, .ldc2_w 259), (7, .lstore 5), (9, .iconst 0), (10, .istore 7), (12, .iload 7), (14, .iconst 2), (15, .if_icmp .ge 150), (18, .iload 7), (20, .ifCond .ne 11), (23, .aload_n 2), (24, .getfield 261), (27, .i2l), (28, .goto 12), (31, .iconst 1), (32, .aload_n 2), (33, .getfield 261), (36, .invokestatic 264), (39, .i2l), (40, .lstore 8), (42, .iload 7), (44, .ifCond .ne 15), (47, .iconst (-1))]),
  (93, [(48, .aload_n 2), (49, .getfield 267), (52, .invokestatic 270), (55, .i2l), (56, .goto 8), (59, .aload_n 2), (60, .getfield 267), (63, .i2l), (64, .lstore 10), (66, .lload 8), (68, .lload 10), (70, .lcmp), (71, .ifCond .le 6), (74, .goto 85), (77, .lload_n 3), (78, .aload_n 1), (79, .getfield 261), (82, .i2l), (83, .lload 8), (85, .ldiv), (86, .aload_n 1), (87, .getfield 261), (90, .i2l), (91, .lload 10)]),
  (134, [(93, .ldiv), (94, .aload_n 1), (95, .getfield 267), (98, .i2l), (99, .lload 8), (101, .ldiv), (102, .aload_n 1), (103, .getfield 267), (106, .i2l), (107, .lload 10), (109, .ldiv), (110, .invokestatic 272), (113, .invokestatic 248), (116, .lstore_n 3), (117, .lload 5), (119, .aload_n 1), (120, .getfield 261), (123, .i2l), (124, .lload 8), (126, .ldiv), (127, .aload_n 1), (128, .getfield 261), (131, .i2l), (132, .lload 10)]),
  (176, [(134, .ldiv), (135, .aload_n 1), (136, .getfield 267), (139, .i2l), (140, .lload 8), (142, .ldiv), (143, .aload_n 1), (144, .getfield 267), (147, .i2l), (148, .lload 10), (150, .ldiv), (151, .invokestatic 276), (154, .invokestatic 254), (157, .lstore 5), (159, .iinc 7 1), (162, .goto (-150)), (165, .lload_n 3), (166, .lload 5), (168, .lcmp), (169, .ifCond .le 5), (172, .iconst 0), (173, .ireturn), (174, .aload_n 0), (175, .lload_n 3)]),
  (200, [(176, .lload 5), (178, .aload_n 1), (179, .getfield 279), (182, .aload_n 2), (183, .getfield 279), (186, .ior), (187, .invokevirtual 282), (190, .iconst 1), (191, .ireturn)])]
theorem ok_X2_quotient : CodeOK cX2_quotient k_X2_quotient := okw 0 (by decide +kernel) (okw 48 (by decide +kernel) (okw 93 (by decide +kernel) (okw 134 (by decide +kernel) (okw 176 (by decide +kernel) (okn)))))
abbrev p_X2_quotient (l : Launch) (G : JG) : JP := (true, [(261, 4, 1, 0, 0), (267, 4, 2, 0, 0), (279, 4, 3, 0, 0)], [], [(257, 9223372036854775807), (259, (-9223372036854775808))], [], [], [], [(282, 1, [0, 1, 1, 2002], 700, S_X2_span l G)], false, 2, [(248, e_J8_min_2), (254, e_J8_max_2), (264, e_J8_max), (270, e_J8_min), (272, e_X2_least), (276, e_X2_most)])
theorem pk_X2_quotient {K : JC} {l : Launch} {G : JG} {Q : Int → MH → Prop} {E : Nat → Int → MH → Prop} {h0 : MH} (ki : KI K l G yX2_quotient cX2_quotient 12 (some .boolean) [] 6 200 2 Q E h0) (hG : gO G = true) : POK K RX2 (p_X2_quotient l G) :=
  POKi (y := yX2_quotient) ki hG (rfs rf_X2_ok (by decide +kernel)) fmz (subs (by decide +kernel) rl_X2_ok) fmz fmz fmz
  (pkE ki (by
    intro K e1 e2 e3 e4; subst e1; subst e2
    exact fmE (ceV 2 e3 e4 yl_X2_span ⟨by decide, ⟨_, _, rfl⟩, q1413, qs35, q1411⟩ rfl) (fmz))) (fun z => Bool.noConfusion z) rfl (pkP ki (by
    intro K e1 e2 e3 e4; subst e1; subst e2
    exact fmP (pe_J8_min_2 hG e3 e4 ⟨q1473, Or.inl q1472⟩ rfl rfl) (fmP (pe_J8_max_2 hG e3 e4 ⟨q1479, Or.inl q1478⟩ rfl rfl) (fmP (pe_J8_max hG e3 e4 ⟨q1373, Or.inl q1487⟩ rfl rfl) (fmP (pe_J8_min hG e3 e4 ⟨q1370, Or.inl q1488⟩ rfl rfl) (fmP (pe_X2_least hG e3 e4 ⟨q1470, Or.inl q1469⟩ rfl rfl) (fmP (pe_X2_most hG e3 e4 ⟨q1476, Or.inl q1475⟩ rfl rfl) (fmz))))))))
theorem r_X2_quotient_0 {K : JC} {l : Launch} {G : JG} {Q : Int → MH → Prop} {E : Nat → Int → MH → Prop} {h0 : MH} (ki : KI K l G yX2_quotient cX2_quotient 12 (some .boolean) [] 6 200 2 Q E h0) (hG : gO G = true) {v1 v2 : Int} {h : MH} (H :
    (∀ x3_1 : Int, x3_1 = 9223372036854775807 →
    (∀ x5_2 : Int, x5_2 = (-9223372036854775808) →
    (∀ x7_3 : Int, x7_3 = 0 →
    JW K 12 [(2002, 3), (8, v1), (8, v2), (1, x3_1), (5000, 0), (1, x5_2), (5000, 0), (0, x7_3), (5000, 0), (5000, 0), (5000, 0), (5000, 0)] [] h)))) : JW K 0 [(2002, 3), (8, v1), (8, v2), (5000, 0), (5000, 0), (5000, 0), (5000, 0), (5000, 0), (5000, 0), (5000, 0), (5000, 0), (5000, 0)] [] h := by
  have e1 := ki.2.2.2.2.1
  have e2 := ki.2.2.2.2.2.1
  subst e1; subst e2
  exact run_ok (dia := [(20, 40), (44, 64)]) (cnr := []) (cuts := [(12, [2002, 8, 8, 1, 5000, 1, 5000, 0, 5000, 5000, 5000, 5000], [])]) ki.1 (pk_X2_quotient ki hG) ok_X2_quotient (by decide) 8 true _ _ _ _ H
theorem r_X2_quotient_12 {K : JC} {l : Launch} {G : JG} {Q : Int → MH → Prop} {E : Nat → Int → MH → Prop} {h0 : MH} (ki : KI K l G yX2_quotient cX2_quotient 12 (some .boolean) [] 6 200 2 Q E h0) (hG : gO G = true) {v1 v2 v3 v5 v7 : Int} {h : MH} (H :
    ((2 ≤ v7 →
      (((lc v3 v5) ≤ 0 →
        (v1 ≠ 0) ∧
        (v2 ≠ 0) ∧
        S_X2_span l G [(2002, 3), (1, v3), (1, v5), (0, (i_or (hv h v1 3) (hv h v2 3)))] h (fun _ h2 =>
        (((1 : Int) = 0 ∨ (1 : Int) = 1) ∧ Q 1 h2)) E) ∧
      (0 < (lc v3 v5) →
        (((0 : Int) = 0 ∨ (0 : Int) = 1) ∧ Q 0 h)))) ∧
    (v7 < 2 →
      ((¬ v7 = 0 → v2 ≠ 0)) ∧
      ((v7 = 0 → v2 ≠ 0)) ∧
      (∀ x8_3 : Int, x8_3 = (if v7 = 0 then (hv h v2 1) else (max 1 (hv h v2 1)) : Int) →
      ((¬ v7 = 0 → v2 ≠ 0)) ∧
      ((v7 = 0 → v2 ≠ 0)) ∧
      (∀ x10_4 : Int, x10_4 = (if v7 = 0 then (min (-1) (hv h v2 2)) else (hv h v2 2) : Int) →
      (((lc x8_3 x10_4) ≤ 0 →
        (v1 ≠ 0) ∧
        (¬ x8_3 = 0) ∧
        (v1 ≠ 0) ∧
        (¬ x10_4 = 0) ∧
        (v1 ≠ 0) ∧
        (¬ x8_3 = 0) ∧
        (v1 ≠ 0) ∧
        (¬ x10_4 = 0) ∧
        (∀ x3_5 : Int, x3_5 = (min v3 (min (min (l_div (hv h v1 1) x8_3) (l_div (hv h v1 1) x10_4)) (min (l_div (hv h v1 2) x8_3) (l_div (hv h v1 2) x10_4)))) →
        (v1 ≠ 0) ∧
        (¬ x8_3 = 0) ∧
        (v1 ≠ 0) ∧
        (¬ x10_4 = 0) ∧
        (v1 ≠ 0) ∧
        (¬ x8_3 = 0) ∧
        (v1 ≠ 0) ∧
        (¬ x10_4 = 0) ∧
        (∀ x5_6 : Int, x5_6 = (max v5 (max (max (l_div (hv h v1 1) x8_3) (l_div (hv h v1 1) x10_4)) (max (l_div (hv h v1 2) x8_3) (l_div (hv h v1 2) x10_4)))) →
        (∀ x7_7 : Int, x7_7 = w32 (v7 + 1) →
        JW K 12 [(2002, 3), (8, v1), (8, v2), (1, x3_5), (5000, 0), (1, x5_6), (5000, 0), (0, x7_7), (5000, 0), (5000, 0), (5000, 0), (5000, 0)] [] h)))) ∧
      (0 < (lc x8_3 x10_4) →
        (∀ x7_8 : Int, x7_8 = w32 (v7 + 1) →
        JW K 12 [(2002, 3), (8, v1), (8, v2), (1, v3), (5000, 0), (1, v5), (5000, 0), (0, x7_8), (5000, 0), (5000, 0), (5000, 0), (5000, 0)] [] h)))))))) : JW K 12 [(2002, 3), (8, v1), (8, v2), (1, v3), (5000, 0), (1, v5), (5000, 0), (0, v7), (5000, 0), (5000, 0), (5000, 0), (5000, 0)] [] h := by
  have e1 := ki.2.2.2.2.1
  have e2 := ki.2.2.2.2.2.1
  subst e1; subst e2
  exact run_ok (dia := [(20, 40), (44, 64)]) (cnr := []) (cuts := [(12, [2002, 8, 8, 1, 5000, 1, 5000, 0, 5000, 5000, 5000, 5000], [])]) ki.1 (pk_X2_quotient ki hG) ok_X2_quotient (by decide) 65 true _ _ _ _ H
abbrev k_X2_rest : List (Nat × List (Nat × Instr)) := [(42, [(0, .aload_n 2), (1, .getfield 261), (4, .i2l), (5, .invokestatic 286), (8, .aload_n 2), (9, .getfield 267), (12, .i2l), (13, .invokestatic 286), (16, .invokestatic 254), (19, .lstore_n 3), (20, .lload_n 3), (21, .lconst 0), (22, .lcmp), (23, .ifCond .ne 5), (26, .iconst 0), (27, .ireturn), (28, .aload_n 1), (29, .getfield 261), (32, .ifCond .ge 17), (35, .lconst 1), (36, .lload_n 3), (37, .lsub), (38, .aload_n 1), (39, .getfield 261)]),
  (86, [(42, .i2l), (43, .invokestatic 254), (46, .goto 4), (49, .lconst 0), (50, .lstore 5), (52, .aload_n 1), (53, .getfield 267), (56, .ifCond .le 17), (59, .lload_n 3), (60, .lconst 1), (61, .lsub), (62, .aload_n 1), (63, .getfield 267), (66, .i2l), (67, .invokestatic 248), (70, .goto 4), (73, .lconst 0), (74, .lstore 7), (76, .aload_n 0), (77, .lload 5), (79, .lload 7), (81, .aload_n 1), (82, .getfield 279), (85, .aload_n 2)]),
  (103, [(86, .getfield 279), (89, .ior), (90, .invokevirtual 282), (93, .iconst 1), (94, .ireturn)])]
theorem ok_X2_rest : CodeOK cX2_rest k_X2_rest := okw 0 (by decide +kernel) (okw 42 (by decide +kernel) (okw 86 (by decide +kernel) (okn)))
abbrev p_X2_rest (l : Launch) (G : JG) : JP := (true, [(261, 4, 1, 0, 0), (267, 4, 2, 0, 0), (279, 4, 3, 0, 0)], [], [], [], [], [], [(282, 1, [0, 1, 1, 2002], 700, S_X2_span l G)], false, 2, [(248, e_J8_min_2), (254, e_J8_max_2), (286, e_J8_abs)])
theorem pk_X2_rest {K : JC} {l : Launch} {G : JG} {Q : Int → MH → Prop} {E : Nat → Int → MH → Prop} {h0 : MH} (ki : KI K l G yX2_rest cX2_rest 9 (some .boolean) [] 6 200 2 Q E h0) (hG : gO G = true) : POK K RX2 (p_X2_rest l G) :=
  POKi (y := yX2_rest) ki hG (rfs rf_X2_ok (by decide +kernel)) fmz fmz fmz fmz fmz
  (pkE ki (by
    intro K e1 e2 e3 e4; subst e1; subst e2
    exact fmE (ceV 2 e3 e4 yl_X2_span ⟨by decide, ⟨_, _, rfl⟩, q1413, qs35, q1411⟩ rfl) (fmz))) (fun z => Bool.noConfusion z) rfl (pkP ki (by
    intro K e1 e2 e3 e4; subst e1; subst e2
    exact fmP (pe_J8_min_2 hG e3 e4 ⟨q1473, Or.inl q1472⟩ rfl rfl) (fmP (pe_J8_max_2 hG e3 e4 ⟨q1479, Or.inl q1478⟩ rfl rfl) (fmP (pe_J8_abs hG e3 e4 ⟨q1494, Or.inl q1493⟩ rfl rfl) (fmz)))))
theorem r_X2_rest_0 {K : JC} {l : Launch} {G : JG} {Q : Int → MH → Prop} {E : Nat → Int → MH → Prop} {h0 : MH} (ki : KI K l G yX2_rest cX2_rest 9 (some .boolean) [] 6 200 2 Q E h0) (hG : gO G = true) {v1 v2 : Int} {h : MH} (H :
    (v2 ≠ 0) ∧
    (v2 ≠ 0) ∧
    (∀ x3_1 : Int, x3_1 = (max (labs (hv h v2 1)) (labs (hv h v2 2))) →
    ((¬ (lc x3_1 0) = 0 →
      (v1 ≠ 0) ∧
      (((hv h v1 1) < 0 → v1 ≠ 0)) ∧
      (∀ x5_2 : Int, x5_2 = (if (hv h v1 1) < 0 then (max (w64 (1 - x3_1)) (hv h v1 1)) else 0 : Int) →
      (v1 ≠ 0) ∧
      ((0 < (hv h v1 2) → v1 ≠ 0)) ∧
      (∀ x7_3 : Int, x7_3 = (if 0 < (hv h v1 2) then (min (w64 (x3_1 - 1)) (hv h v1 2)) else 0 : Int) →
      (v1 ≠ 0) ∧
      (v2 ≠ 0) ∧
      S_X2_span l G [(2002, 3), (1, x5_2), (1, x7_3), (0, (i_or (hv h v1 3) (hv h v2 3)))] h (fun _ h5 =>
      (((1 : Int) = 0 ∨ (1 : Int) = 1) ∧ Q 1 h5)) E))) ∧
    ((lc x3_1 0) = 0 →
      (((0 : Int) = 0 ∨ (0 : Int) = 1) ∧ Q 0 h))))) : JW K 0 [(2002, 3), (8, v1), (8, v2), (5000, 0), (5000, 0), (5000, 0), (5000, 0), (5000, 0), (5000, 0)] [] h := by
  have e1 := ki.2.2.2.2.1
  have e2 := ki.2.2.2.2.2.1
  subst e1; subst e2
  exact run_ok (dia := [(32, 50), (56, 74)]) (cnr := []) (cuts := []) ki.1 (pk_X2_rest ki hG) ok_X2_rest (by decide) 34 true _ _ _ _ H
abbrev k_X2_jumps : List (Nat × List (Nat × Instr)) := [(47, [(0, .aload_n 0), (1, .getfield 214), (4, .getfield 218), (7, .aload_n 0), (8, .getfield 211), (11, .iaload), (12, .istore 4), (14, .iload_n 1), (15, .bipush 15), (17, .if_icmp .ne 12), (20, .aload_n 0), (21, .iload 4), (23, .invokevirtual 352), (26, .goto 290), (29, .iload_n 1), (30, .bipush 16), (32, .if_icmp .ne 99), (35, .aload_n 0), (36, .aload_n 0), (37, .getfield 83), (40, .invokevirtual 349), (43, .astore 5), (45, .aload_n 0), (46, .aload_n 0)]),
  (104, [(47, .getfield 79), (50, .invokevirtual 349), (53, .astore 6), (55, .iload_n 2), (56, .aload 6), (58, .getfield 261), (61, .aload 6), (63, .getfield 267), (66, .aload 5), (68, .getfield 261), (71, .aload 5), (73, .getfield 267), (76, .invokestatic 297), (79, .ifCond .eq 9), (82, .aload_n 0), (83, .iload 4), (85, .invokevirtual 352), (88, .iload_n 2), (89, .invokestatic 365), (92, .aload 6), (94, .getfield 261), (97, .aload 6), (99, .getfield 267), (102, .aload 5)]),
  (152, [(104, .getfield 261), (107, .aload 5), (109, .getfield 267), (112, .invokestatic 297), (115, .ifCond .eq 13), (118, .aload_n 0), (119, .aload_n 0), (120, .getfield 211), (123, .iconst 1), (124, .iadd), (125, .invokevirtual 352), (128, .goto 188), (131, .iload_n 1), (132, .bipush 17), (134, .if_icmp .ne 85), (137, .aload_n 0), (138, .getfield 68), (141, .getfield 171), (144, .iload_n 2), (145, .bipush 8), (147, .irem), (148, .aaload), (149, .astore 5), (151, .aload_n 0)]),
  (199, [(152, .getfield 79), (155, .aload 5), (157, .invokevirtual 304), (160, .pop), (161, .aload 5), (163, .iload_n 2), (164, .bipush 8), (166, .idiv), (167, .iload_n 3), (168, .invokestatic 368), (171, .ifCond .eq 9), (174, .aload_n 0), (175, .iload 4), (177, .invokevirtual 352), (180, .aload 5), (182, .aload_n 0), (183, .getfield 79), (186, .invokevirtual 304), (189, .pop), (190, .aload 5), (192, .iload_n 2), (193, .bipush 8), (195, .idiv), (196, .invokestatic 365)]),
  (246, [(199, .iload_n 3), (200, .invokestatic 368), (203, .ifCond .eq 13), (206, .aload_n 0), (207, .aload_n 0), (208, .getfield 211), (211, .iconst 1), (212, .iadd), (213, .invokevirtual 352), (216, .goto 100), (219, .aload_n 0), (220, .getfield 68), (223, .getfield 171), (226, .iload_n 2), (227, .aaload), (228, .astore 5), (230, .aload 5), (232, .getfield 372), (235, .lstore 6), (237, .iload_n 1), (238, .bipush 18), (240, .if_icmp .ne 10), (243, .lload 6), (245, .lconst 1)]),
  (293, [(246, .land), (247, .goto 13), (250, .aload_n 0), (251, .getfield 100), (254, .lload 6), (256, .iload_n 3), (257, .invokevirtual 375), (260, .lstore 8), (262, .aload 5), (264, .lload 8), (266, .putfield 372), (269, .lload 8), (271, .lconst 0), (272, .lcmp), (273, .ifCond .eq 9), (276, .aload_n 0), (277, .iload 4), (279, .invokevirtual 352), (282, .aload 5), (284, .lload 6), (286, .lload 8), (288, .ldc2_w 379), (291, .lxor), (292, .land)]),
  (325, [(293, .putfield 372), (296, .aload 5), (298, .getfield 372), (301, .lconst 0), (302, .lcmp), (303, .ifCond .eq 13), (306, .aload_n 0), (307, .aload_n 0), (308, .getfield 211), (311, .iconst 1), (312, .iadd), (313, .invokevirtual 352), (316, .return_)])]
theorem ok_X2_jumps : CodeOK cX2_jumps k_X2_jumps := okw 0 (by decide +kernel) (okw 47 (by decide +kernel) (okw 104 (by decide +kernel) (okw 152 (by decide +kernel) (okw 199 (by decide +kernel) (okw 246 (by decide +kernel) (okw 293 (by decide +kernel) (okn)))))))
abbrev p_X2_jumps (l : Launch) (G : JG) : JP := (true, [(68, 2, 19, 2003, 77), (79, 2, 22, 2004, 131), (83, 2, 23, 2004, 132), (100, 2, 0, 16, 0), (171, 3, 1, 118, 0), (211, 2, 17, 0, 0), (214, 2, 16, 18, 0), (218, 14, 10, 104, 0), (261, 4, 1, 0, 0), (267, 4, 2, 0, 0), (372, 4, 4, 1, 0)], [], [(379, (-1))], [(372, 4, 4, 1)], [], [], [(304, 1, [8, 2004], 8, S_X4_become l G), (349, 1, [8, 2002], 8, S_X2_take l G), (352, 1, [0, 2002], 700, S_X2_goOn l G), (368, 0, [0, 0, 8], 2, S_X2_cut l G), (375, 1, [0, 1, 2012], 1, S_X12_ofClass l G)], false, 700, [(297, e_X2_may), (365, e_X2_turned)])
theorem pk_X2_jumps {K : JC} {l : Launch} {G : JG} {Q : Int → MH → Prop} {E : Nat → Int → MH → Prop} {h0 : MH} (ki : KI K l G yX2_jumps cX2_jumps 10 none [] 9 262 700 Q E h0) (hG : gO G = true) : POK K RX2 (p_X2_jumps l G) :=
  POKi (y := yX2_jumps) ki hG (rfs rf_X2_ok (by decide +kernel)) fmz (subs (by decide +kernel) rl_X2_ok) (rps rp_X2_ok (by decide +kernel)) fmz fmz
  (pkE ki (by
    intro K e1 e2 e3 e4; subst e1; subst e2
    exact fmE (ceV 4 e3 e4 yl_X4_become ⟨by decide, ⟨_, _, rfl⟩, q1365, q1366, q1396⟩ rfl) (fmE (ceV 2 e3 e4 yl_X2_take ⟨by decide, ⟨_, _, rfl⟩, q1400, qs32, q1398⟩ rfl) (fmE (ceV 2 e3 e4 yl_X2_goOn ⟨by decide, ⟨_, _, rfl⟩, q1404, qs33, q1402⟩ rfl) (fmE (ceS e3 e4 yl_X2_cut ⟨q1507, Or.inl q1506⟩ rfl) (fmE (ceV 12 e3 e4 yl_X12_ofClass ⟨by decide, ⟨_, _, rfl⟩, q1438, q1439, q1437⟩ rfl) (fmz))))))) (fun z => Bool.noConfusion z) rfl (pkP ki (by
    intro K e1 e2 e3 e4; subst e1; subst e2
    exact fmP (pe_X2_may hG e3 e4 ⟨q1501, Or.inl q1500⟩ rfl rfl) (fmP (pe_X2_turned hG e3 e4 ⟨q1504, Or.inl q1503⟩ rfl rfl) (fmz))))
theorem r_X2_jumps_0 {K : JC} {l : Launch} {G : JG} {Q : Int → MH → Prop} {E : Nat → Int → MH → Prop} {h0 : MH} (ki : KI K l G yX2_jumps cX2_jumps 10 none [] 9 262 700 Q E h0) (hG : gO G = true) {v1 v2 v3 : Int} {h : MH} (H :
    ((hv h 3 16) ≠ 0) ∧
    ((hv h (hv h 3 16) 10) ≠ 0) ∧
    (0 ≤ (hv h 3 17)) ∧
    ((hv h 3 17) < (hn h (hv h (hv h 3 16) 10))) ∧
    (∀ x4_1 : Int, x4_1 = (hv h (hv h (hv h 3 16) 10) (hv h 3 17)) →
    ((¬ v1 = 15 →
      ((¬ v1 = 16 →
        ((¬ v1 = 17 →
          ((hv h 80 1) ≠ 0) ∧
          (0 ≤ v2) ∧
          (v2 < (hn h (hv h 80 1))) ∧
          (∀ x5_2 : Int, x5_2 = (hv h (hv h 80 1) v2) →
          (x5_2 ≠ 0) ∧
          (∀ x6_3 : Int, x6_3 = (hv h x5_2 4) →
          ((¬ v1 = 18 →
            ((hv h 3 0) ≠ 0) ∧
            S_X12_ofClass l G [(2012, (hv h 3 0)), (1, x6_3), (0, v3)] h (fun z4 h5 =>
            (∀ x8_6 : Int, x8_6 = z4 →
            (x5_2 ≠ 0) ∧
            (∀ h7, h7 = hset h5 x5_2 4 x8_6 →
            (((lc x8_6 0) = 0 →
              (x5_2 ≠ 0) ∧
              (∀ h8, h8 = hset h7 x5_2 4 (l_and x6_3 (l_xor x8_6 (-1))) →
              (x5_2 ≠ 0) ∧
              (((lc (hv h8 x5_2 4) 0) = 0 →
                Q 0 h8) ∧
              (¬ (lc (hv h8 x5_2 4) 0) = 0 →
                S_X2_goOn l G [(2002, 3), (0, (w32 ((hv h8 3 17) + 1)))] h8 (fun _ h10 =>
                Q 0 h10) E)))) ∧
            (¬ (lc x8_6 0) = 0 →
              S_X2_goOn l G [(2002, 3), (0, x4_1)] h7 (fun _ h12 =>
              (x5_2 ≠ 0) ∧
              (∀ h13, h13 = hset h12 x5_2 4 (l_and x6_3 (l_xor x8_6 (-1))) →
              (x5_2 ≠ 0) ∧
              (((lc (hv h13 x5_2 4) 0) = 0 →
                Q 0 h13) ∧
              (¬ (lc (hv h13 x5_2 4) 0) = 0 →
                S_X2_goOn l G [(2002, 3), (0, (w32 ((hv h13 3 17) + 1)))] h13 (fun _ h15 =>
                Q 0 h15) E)))) E))))) E) ∧
          (v1 = 18 →
            (∀ x8_16 : Int, x8_16 = (l_and x6_3 1) →
            (x5_2 ≠ 0) ∧
            (∀ h17, h17 = hset h x5_2 4 x8_16 →
            (((lc x8_16 0) = 0 →
              (x5_2 ≠ 0) ∧
              (∀ h18, h18 = hset h17 x5_2 4 (l_and x6_3 (l_xor x8_16 (-1))) →
              (x5_2 ≠ 0) ∧
              (((lc (hv h18 x5_2 4) 0) = 0 →
                Q 0 h18) ∧
              (¬ (lc (hv h18 x5_2 4) 0) = 0 →
                S_X2_goOn l G [(2002, 3), (0, (w32 ((hv h18 3 17) + 1)))] h18 (fun _ h20 =>
                Q 0 h20) E)))) ∧
            (¬ (lc x8_16 0) = 0 →
              S_X2_goOn l G [(2002, 3), (0, x4_1)] h17 (fun _ h22 =>
              (x5_2 ≠ 0) ∧
              (∀ h23, h23 = hset h22 x5_2 4 (l_and x6_3 (l_xor x8_16 (-1))) →
              (x5_2 ≠ 0) ∧
              (((lc (hv h23 x5_2 4) 0) = 0 →
                Q 0 h23) ∧
              (¬ (lc (hv h23 x5_2 4) 0) = 0 →
                S_X2_goOn l G [(2002, 3), (0, (w32 ((hv h23 3 17) + 1)))] h23 (fun _ h25 =>
                Q 0 h25) E)))) E))))))))) ∧
        (v1 = 17 →
          (¬ (8 : Int) = 0) ∧
          ((hv h 80 1) ≠ 0) ∧
          (0 ≤ (i_rem v2 8)) ∧
          ((i_rem v2 8) < (hn h (hv h 80 1))) ∧
          (∀ x5_26 : Int, x5_26 = (hv h (hv h 80 1) (i_rem v2 8)) →
          S_X4_become l G [(2004, 134), (8, x5_26)] h (fun z27 h28 =>
          (¬ (8 : Int) = 0) ∧
          S_X2_cut l G [(8, x5_26), (0, (i_div v2 8)), (0, v3)] h28 (fun z29 h30 =>
          ((z29 = 0 →
            (x5_26 ≠ 0) ∧
            S_X4_become l G [(2004, x5_26), (8, 134)] h30 (fun z31 h32 =>
            (¬ (8 : Int) = 0) ∧
            S_X2_cut l G [(8, x5_26), (0, (i_xor (i_div v2 8) 1)), (0, v3)] h32 (fun z33 h34 =>
            ((z33 = 0 →
              Q 0 h34) ∧
            (¬ z33 = 0 →
              S_X2_goOn l G [(2002, 3), (0, (w32 ((hv h34 3 17) + 1)))] h34 (fun _ h36 =>
              Q 0 h36) E))) E) E) ∧
          (¬ z29 = 0 →
            S_X2_goOn l G [(2002, 3), (0, x4_1)] h30 (fun _ h38 =>
            (x5_26 ≠ 0) ∧
            S_X4_become l G [(2004, x5_26), (8, 134)] h38 (fun z39 h40 =>
            (¬ (8 : Int) = 0) ∧
            S_X2_cut l G [(8, x5_26), (0, (i_xor (i_div v2 8) 1)), (0, v3)] h40 (fun z41 h42 =>
            ((z41 = 0 →
              Q 0 h42) ∧
            (¬ z41 = 0 →
              S_X2_goOn l G [(2002, 3), (0, (w32 ((hv h42 3 17) + 1)))] h42 (fun _ h44 =>
              Q 0 h44) E))) E) E) E))) E) E)))) ∧
      (v1 = 16 →
        S_X2_take l G [(2002, 3), (8, 135)] h (fun z45 h46 =>
        (∀ x5_47 : Int, x5_47 = z45 →
        S_X2_take l G [(2002, 3), (8, 134)] h46 (fun z48 h49 =>
        (∀ x6_50 : Int, x6_50 = z48 →
        (x6_50 ≠ 0) ∧
        (x6_50 ≠ 0) ∧
        (x5_47 ≠ 0) ∧
        (x5_47 ≠ 0) ∧
        (((mayf v2 (hv h49 x6_50 1) (hv h49 x6_50 2) (hv h49 x5_47 1) (hv h49 x5_47 2)) = 0 →
          (x6_50 ≠ 0) ∧
          (x6_50 ≠ 0) ∧
          (x5_47 ≠ 0) ∧
          (x5_47 ≠ 0) ∧
          (((mayf (i_xor v2 1) (hv h49 x6_50 1) (hv h49 x6_50 2) (hv h49 x5_47 1) (hv h49 x5_47 2)) = 0 →
            Q 0 h49) ∧
          (¬ (mayf (i_xor v2 1) (hv h49 x6_50 1) (hv h49 x6_50 2) (hv h49 x5_47 1) (hv h49 x5_47 2)) = 0 →
            S_X2_goOn l G [(2002, 3), (0, (w32 ((hv h49 3 17) + 1)))] h49 (fun _ h52 =>
            Q 0 h52) E))) ∧
        (¬ (mayf v2 (hv h49 x6_50 1) (hv h49 x6_50 2) (hv h49 x5_47 1) (hv h49 x5_47 2)) = 0 →
          S_X2_goOn l G [(2002, 3), (0, x4_1)] h49 (fun _ h54 =>
          (x6_50 ≠ 0) ∧
          (x6_50 ≠ 0) ∧
          (x5_47 ≠ 0) ∧
          (x5_47 ≠ 0) ∧
          (((mayf (i_xor v2 1) (hv h54 x6_50 1) (hv h54 x6_50 2) (hv h54 x5_47 1) (hv h54 x5_47 2)) = 0 →
            Q 0 h54) ∧
          (¬ (mayf (i_xor v2 1) (hv h54 x6_50 1) (hv h54 x6_50 2) (hv h54 x5_47 1) (hv h54 x5_47 2)) = 0 →
            S_X2_goOn l G [(2002, 3), (0, (w32 ((hv h54 3 17) + 1)))] h54 (fun _ h56 =>
            Q 0 h56) E))) E)))) E)) E))) ∧
    (v1 = 15 →
      S_X2_goOn l G [(2002, 3), (0, x4_1)] h (fun _ h58 =>
      Q 0 h58) E)))) : JW K 0 [(2002, 3), (0, v1), (0, v2), (0, v3), (5000, 0), (5000, 0), (5000, 0), (5000, 0), (5000, 0), (5000, 0)] [] h := by
  have e1 := ki.2.2.2.2.1
  have e2 := ki.2.2.2.2.2.1
  subst e1; subst e2
  exact run_ok (dia := []) (cnr := []) (cuts := []) ki.1 (pk_X2_jumps ki hG) ok_X2_jumps (by decide) 64 true _ _ _ _ H
abbrev k_X2_cut : List (Nat × List (Nat × Instr)) := [(20, [(0, .iload_n 1), (1, .aload_n 0), (2, .getfield 261), (5, .aload_n 0), (6, .getfield 267), (9, .iload_n 2), (10, .iload_n 2), (11, .invokestatic 297), (14, .ifCond .ne 5), (17, .iconst 0), (18, .ireturn), (19, .iload_n 1)]),
  (56, [(20, .tableswitch 140 0 4 #[36, 49, 91, 108, 123])]),
  (100, [(56, .aload_n 0), (57, .iload_n 2), (58, .putfield 261), (61, .aload_n 0), (62, .iload_n 2), (63, .putfield 267), (66, .goto 106), (69, .aload_n 0), (70, .getfield 261), (73, .iload_n 2), (74, .if_icmp .ne 16), (77, .aload_n 0), (78, .dup), (79, .getfield 261), (82, .iconst 1), (83, .iadd), (84, .putfield 261), (87, .goto 85), (90, .aload_n 0), (91, .getfield 267), (94, .iload_n 2), (95, .if_icmp .ne 77), (98, .aload_n 0), (99, .dup)]),
  (148, [(100, .getfield 267), (103, .iconst 1), (104, .isub), (105, .putfield 267), (108, .goto 64), (111, .aload_n 0), (112, .aload_n 0), (113, .getfield 267), (116, .iload_n 2), (117, .iconst 1), (118, .isub), (119, .invokestatic 270), (122, .putfield 267), (125, .goto 47), (128, .aload_n 0), (129, .aload_n 0), (130, .getfield 261), (133, .iload_n 2), (134, .invokestatic 264), (137, .putfield 261), (140, .goto 32), (143, .aload_n 0), (144, .aload_n 0), (145, .getfield 261)]),
  (182, [(148, .iload_n 2), (149, .iconst 1), (150, .iadd), (151, .invokestatic 264), (154, .putfield 261), (157, .goto 15), (160, .aload_n 0), (161, .aload_n 0), (162, .getfield 267), (165, .iload_n 2), (166, .invokestatic 270), (169, .putfield 267), (172, .iconst 1), (173, .ireturn)])]
theorem ok_X2_cut : CodeOK cX2_cut k_X2_cut := okw 0 (by decide +kernel) (okc (by decide +kernel) (okw 56 (by decide +kernel) (okw 100 (by decide +kernel) (okw 148 (by decide +kernel) (okn)))))
abbrev p_X2_cut (l : Launch) (G : JG) : JP := (true, [(261, 4, 1, 0, 0), (267, 4, 2, 0, 0)], [], [], [(261, 4, 1, 0), (267, 4, 2, 0)], [], [], [], false, 2, [(264, e_J8_max), (270, e_J8_min), (297, e_X2_may)])
theorem pk_X2_cut {K : JC} {l : Launch} {G : JG} {Q : Int → MH → Prop} {E : Nat → Int → MH → Prop} {h0 : MH} (ki : KI K l G yX2_cut cX2_cut 3 (some .boolean) [] 5 174 2 Q E h0) (hG : gO G = true) : POK K RX2 (p_X2_cut l G) :=
  POKi (y := yX2_cut) ki hG (rfs rf_X2_ok (by decide +kernel)) fmz fmz (rps rp_X2_ok (by decide +kernel)) fmz fmz
  (pkE ki (by
    intro K e1 e2 e3 e4; subst e1; subst e2
    exact fmz)) (fun z => Bool.noConfusion z) rfl (pkP ki (by
    intro K e1 e2 e3 e4; subst e1; subst e2
    exact fmP (pe_J8_max hG e3 e4 ⟨q1373, Or.inl q1487⟩ rfl rfl) (fmP (pe_J8_min hG e3 e4 ⟨q1370, Or.inl q1488⟩ rfl rfl) (fmP (pe_X2_may hG e3 e4 ⟨q1501, Or.inl q1500⟩ rfl rfl) (fmz)))))
theorem r_X2_cut_0 {K : JC} {l : Launch} {G : JG} {Q : Int → MH → Prop} {E : Nat → Int → MH → Prop} {h0 : MH} (ki : KI K l G yX2_cut cX2_cut 3 (some .boolean) [] 5 174 2 Q E h0) (hG : gO G = true) {v0 v1 v2 : Int} {h : MH} (H :
    (v0 ≠ 0) ∧
    (v0 ≠ 0) ∧
    ((¬ (mayf v1 (hv h v0 1) (hv h v0 2) v2 v2) = 0 →
      (((v1 = 0 →
        (v0 ≠ 0) ∧
        (∀ h1, h1 = hset h v0 1 v2 →
        (v0 ≠ 0) ∧
        (∀ h2, h2 = hset h1 v0 2 v2 →
        (((1 : Int) = 0 ∨ (1 : Int) = 1) ∧ Q 1 h2)))) ∧
      ((v1 = 0 + 1 →
        (v0 ≠ 0) ∧
        ((¬ (hv h v0 1) = v2 →
          (v0 ≠ 0) ∧
          ((¬ (hv h v0 2) = v2 →
            (((1 : Int) = 0 ∨ (1 : Int) = 1) ∧ Q 1 h)) ∧
          ((hv h v0 2) = v2 →
            (v0 ≠ 0) ∧
            (v0 ≠ 0) ∧
            (∀ h3, h3 = hset h v0 2 (w32 ((hv h v0 2) - 1)) →
            (((1 : Int) = 0 ∨ (1 : Int) = 1) ∧ Q 1 h3))))) ∧
        ((hv h v0 1) = v2 →
          (v0 ≠ 0) ∧
          (v0 ≠ 0) ∧
          (∀ h4, h4 = hset h v0 1 (w32 ((hv h v0 1) + 1)) →
          (((1 : Int) = 0 ∨ (1 : Int) = 1) ∧ Q 1 h4))))) ∧
      ((v1 = 0 + 1 + 1 →
        (v0 ≠ 0) ∧
        (v0 ≠ 0) ∧
        (∀ h5, h5 = hset h v0 2 (min (hv h v0 2) (w32 (v2 - 1))) →
        (((1 : Int) = 0 ∨ (1 : Int) = 1) ∧ Q 1 h5))) ∧
      ((v1 = 0 + 1 + 1 + 1 →
        (v0 ≠ 0) ∧
        (v0 ≠ 0) ∧
        (∀ h6, h6 = hset h v0 1 (max (hv h v0 1) v2) →
        (((1 : Int) = 0 ∨ (1 : Int) = 1) ∧ Q 1 h6))) ∧
      ((v1 = 0 + 1 + 1 + 1 + 1 →
        (v0 ≠ 0) ∧
        (v0 ≠ 0) ∧
        (∀ h7, h7 = hset h v0 1 (max (hv h v0 1) (w32 (v2 + 1))) →
        (((1 : Int) = 0 ∨ (1 : Int) = 1) ∧ Q 1 h7))) ∧
      True))))) ∧ ((v1 < 0 ∨ 4 < v1) →
        (v0 ≠ 0) ∧
        (v0 ≠ 0) ∧
        (∀ h8, h8 = hset h v0 2 (min (hv h v0 2) v2) →
        (((1 : Int) = 0 ∨ (1 : Int) = 1) ∧ Q 1 h8))))) ∧
    ((mayf v1 (hv h v0 1) (hv h v0 2) v2 v2) = 0 →
      (((0 : Int) = 0 ∨ (0 : Int) = 1) ∧ Q 0 h)))) : JW K 0 [(8, v0), (0, v1), (0, v2)] [] h := by
  have e1 := ki.2.2.2.2.1
  have e2 := ki.2.2.2.2.2.1
  subst e1; subst e2
  exact run_ok (dia := []) (cnr := []) (cuts := []) ki.1 (pk_X2_cut ki hG) ok_X2_cut (by decide) 29 true _ _ _ _ H
abbrev k_X2_objects : List (Nat × List (Nat × Instr)) := [(1, [(0, .iload_n 1)]),
  (48, [(1, .tableswitch 150 20 27 #[47, 66, 86, 93, 93, 102, 102, 112])]),
  (96, [(48, .aload_n 0), (49, .aload_n 0), (50, .getfield 100), (53, .getfield 421), (56, .aload_n 0), (57, .getfield 195), (60, .iaload), (61, .invokevirtual 424), (64, .goto 115), (67, .aload_n 0), (68, .aload_n 0), (69, .getfield 100), (72, .getfield 421), (75, .aload_n 0), (76, .getfield 195), (79, .iaload), (80, .iload_n 2), (81, .invokevirtual 427), (84, .goto 95), (87, .aload_n 0), (88, .invokevirtual 430), (91, .goto 88), (94, .aload_n 0), (95, .iload_n 1)]),
  (140, [(96, .iload_n 2), (97, .invokevirtual 433), (100, .goto 79), (103, .aload_n 0), (104, .iload_n 1), (105, .iload_n 2), (106, .iload_n 3), (107, .invokevirtual 436), (110, .goto 69), (113, .aload_n 0), (114, .getfield 86), (117, .invokevirtual 122), (120, .aload_n 0), (121, .aload_n 0), (122, .getfield 34), (125, .iload_n 2), (126, .aaload), (127, .invokevirtual 439), (130, .aload_n 0), (131, .aload_n 0), (132, .getfield 86), (135, .invokevirtual 342), (138, .aload_n 0), (139, .aload_n 0)]),
  (188, [(140, .getfield 211), (143, .iconst 1), (144, .iadd), (145, .invokevirtual 352), (148, .goto 31), (151, .aload_n 0), (152, .aload_n 0), (153, .getfield 34), (156, .iload_n 2), (157, .aaload), (158, .aload_n 0), (159, .aload_n 0), (160, .getfield 79), (163, .invokevirtual 349), (166, .invokevirtual 443), (169, .aload_n 0), (170, .aload_n 0), (171, .getfield 211), (174, .iconst 1), (175, .iadd), (176, .invokevirtual 352), (179, .return_)])]
theorem ok_X2_objects : CodeOK cX2_objects k_X2_objects := okw 0 (by decide +kernel) (okc (by decide +kernel) (okw 48 (by decide +kernel) (okw 96 (by decide +kernel) (okw 140 (by decide +kernel) (okn)))))
abbrev p_X2_objects (l : Launch) (G : JG) : JP := (true, [(34, 2, 5, 1008116, 68), (79, 2, 22, 2004, 131), (86, 2, 24, 2004, 133), (100, 2, 0, 16, 0), (195, 2, 18, 0, 0), (211, 2, 17, 0, 0), (421, 12, 10, 104, 0)], [], [], [], [], [], [(122, 1, [2004], 700, S_X4_none l G), (342, 1, [8, 2002], 700, S_X2_put l G), (349, 1, [8, 2002], 8, S_X2_take l G), (352, 1, [0, 2002], 700, S_X2_goOn l G), (424, 1, [0, 2002], 700, S_X2_makeNew l G), (427, 1, [0, 0, 2002], 700, S_X2_makeArray l G), (430, 1, [2002], 700, S_X2_lengthOf l G), (433, 1, [0, 0, 2002], 700, S_X2_element l G), (436, 1, [0, 0, 0, 2002], 700, S_X2_fieldAct l G), (439, 1, [10, 2002], 700, S_X2_gather l G), (443, 1, [8, 10, 2002], 700, S_X2_join l G)], false, 700, [])
theorem pk_X2_objects {K : JC} {l : Launch} {G : JG} {Q : Int → MH → Prop} {E : Nat → Int → MH → Prop} {h0 : MH} (ki : KI K l G yX2_objects cX2_objects 4 none [] 12 349 700 Q E h0) (hG : gO G = true) : POK K RX2 (p_X2_objects l G) :=
  POKi (y := yX2_objects) ki hG (rfs rf_X2_ok (by decide +kernel)) fmz fmz fmz fmz fmz
  (pkE ki (by
    intro K e1 e2 e3 e4; subst e1; subst e2
    exact fmE (ceV 4 e3 e4 yl_X4_none ⟨by decide, ⟨_, _, rfl⟩, q1315, q1316, q1332⟩ rfl) (fmE (ceV 2 e3 e4 yl_X2_put ⟨by decide, ⟨_, _, rfl⟩, q1394, qs31, q1392⟩ rfl) (fmE (ceV 2 e3 e4 yl_X2_take ⟨by decide, ⟨_, _, rfl⟩, q1400, qs32, q1398⟩ rfl) (fmE (ceV 2 e3 e4 yl_X2_goOn ⟨by decide, ⟨_, _, rfl⟩, q1404, qs33, q1402⟩ rfl) (fmE (ceV 2 e3 e4 yl_X2_makeNew ⟨by decide, ⟨_, _, rfl⟩, q1515, qs45, q1513⟩ rfl) (fmE (ceV 2 e3 e4 yl_X2_makeArray ⟨by decide, ⟨_, _, rfl⟩, q1527, qs47, q1525⟩ rfl) (fmE (ceV 2 e3 e4 yl_X2_lengthOf ⟨by decide, ⟨_, _, rfl⟩, q1532, qs48, q1530⟩ rfl) (fmE (ceV 2 e3 e4 yl_X2_element ⟨by decide, ⟨_, _, rfl⟩, q1555, qs52, q1553⟩ rfl) (fmE (ceV 2 e3 e4 yl_X2_fieldAct ⟨by decide, ⟨_, _, rfl⟩, q1560, qs53, q1558⟩ rfl) (fmE (ceV 2 e3 e4 yl_X2_gather ⟨by decide, ⟨_, _, rfl⟩, q1547, qs50, q1545⟩ rfl) (fmE (ceV 2 e3 e4 yl_X2_join ⟨by decide, ⟨_, _, rfl⟩, q1523, qs46, q1521⟩ rfl) (fmz))))))))))))) (fun z => Bool.noConfusion z) rfl (pkP ki (by
    intro K e1 e2 e3 e4; subst e1; subst e2
    exact fmz))
theorem r_X2_objects_0 {K : JC} {l : Launch} {G : JG} {Q : Int → MH → Prop} {E : Nat → Int → MH → Prop} {h0 : MH} (ki : KI K l G yX2_objects cX2_objects 4 none [] 12 349 700 Q E h0) (hG : gO G = true) {v1 v2 v3 : Int} {h : MH} (H :
    (((v1 = 20 →
      ((hv h 3 0) ≠ 0) ∧
      ((hv h (hv h 3 0) 10) ≠ 0) ∧
      (0 ≤ (hv h 3 18)) ∧
      ((hv h 3 18) < (hn h (hv h (hv h 3 0) 10))) ∧
      S_X2_makeNew l G [(2002, 3), (0, (hv h (hv h (hv h 3 0) 10) (hv h 3 18)))] h (fun _ h2 =>
      Q 0 h2) E) ∧
    ((v1 = 20 + 1 →
      ((hv h 3 0) ≠ 0) ∧
      ((hv h (hv h 3 0) 10) ≠ 0) ∧
      (0 ≤ (hv h 3 18)) ∧
      ((hv h 3 18) < (hn h (hv h (hv h 3 0) 10))) ∧
      S_X2_makeArray l G [(2002, 3), (0, (hv h (hv h (hv h 3 0) 10) (hv h 3 18))), (0, v2)] h (fun _ h4 =>
      Q 0 h4) E) ∧
    ((v1 = 20 + 1 + 1 →
      S_X2_lengthOf l G [(2002, 3)] h (fun _ h6 =>
      Q 0 h6) E) ∧
    ((v1 = 20 + 1 + 1 + 1 →
      S_X2_element l G [(2002, 3), (0, v1), (0, v2)] h (fun _ h8 =>
      Q 0 h8) E) ∧
    ((v1 = 20 + 1 + 1 + 1 + 1 →
      S_X2_element l G [(2002, 3), (0, v1), (0, v2)] h (fun _ h10 =>
      Q 0 h10) E) ∧
    ((v1 = 20 + 1 + 1 + 1 + 1 + 1 →
      S_X2_fieldAct l G [(2002, 3), (0, v1), (0, v2), (0, v3)] h (fun _ h12 =>
      Q 0 h12) E) ∧
    ((v1 = 20 + 1 + 1 + 1 + 1 + 1 + 1 →
      S_X2_fieldAct l G [(2002, 3), (0, v1), (0, v2), (0, v3)] h (fun _ h14 =>
      Q 0 h14) E) ∧
    ((v1 = 20 + 1 + 1 + 1 + 1 + 1 + 1 + 1 →
      S_X4_none l G [(2004, 136)] h (fun _ h16 =>
      (0 ≤ v2) ∧
      (v2 < 8) ∧
      S_X2_gather l G [(2002, 3), (10, (hv h16 71 v2))] h16 (fun _ h18 =>
      S_X2_put l G [(2002, 3), (8, 136)] h18 (fun _ h20 =>
      S_X2_goOn l G [(2002, 3), (0, (w32 ((hv h20 3 17) + 1)))] h20 (fun _ h22 =>
      Q 0 h22) E) E) E) E) ∧
    True)))))))) ∧ ((v1 < 20 ∨ 27 < v1) →
      (0 ≤ v2) ∧
      (v2 < 8) ∧
      S_X2_take l G [(2002, 3), (8, 134)] h (fun z23 h24 =>
      S_X2_join l G [(2002, 3), (10, (hv h 71 v2)), (8, z23)] h24 (fun _ h26 =>
      S_X2_goOn l G [(2002, 3), (0, (w32 ((hv h26 3 17) + 1)))] h26 (fun _ h28 =>
      Q 0 h28) E) E) E))) : JW K 0 [(2002, 3), (0, v1), (0, v2), (0, v3)] [] h := by
  have e1 := ki.2.2.2.2.1
  have e2 := ki.2.2.2.2.2.1
  subst e1; subst e2
  exact run_ok (dia := []) (cnr := []) (cuts := []) ki.1 (pk_X2_objects ki hG) ok_X2_objects (by decide) 24 true _ _ _ _ H
abbrev k_X2_makeNew : List (Nat × List (Nat × Instr)) := [(42, [(0, .iconst 0), (1, .istore_n 2), (2, .iload_n 2), (3, .aload_n 0), (4, .iload_n 1), (5, .invokevirtual 117), (8, .if_icmp .ge 34), (11, .aload_n 0), (12, .aload_n 0), (13, .getfield 25), (16, .iload_n 1), (17, .aaload), (18, .iload_n 2), (19, .aaload), (20, .aload_n 0), (21, .getfield 79), (24, .aload_n 0), (25, .iload_n 1), (26, .iload_n 2), (27, .invokevirtual 446), (30, .invokevirtual 128), (33, .invokevirtual 443), (36, .iinc 2 1), (39, .goto (-37))]),
  (75, [(42, .aload_n 0), (43, .aload_n 0), (44, .getfield 79), (47, .lconst 1), (48, .iload_n 1), (49, .lshl), (50, .invokevirtual 346), (53, .invokevirtual 342), (56, .aload_n 0), (57, .aload_n 0), (58, .getfield 211), (61, .iconst 1), (62, .iadd), (63, .invokevirtual 352), (66, .return_)])]
theorem ok_X2_makeNew : CodeOK cX2_makeNew k_X2_makeNew := okw 0 (by decide +kernel) (okw 42 (by decide +kernel) (okn))
abbrev p_X2_makeNew (l : Launch) (G : JG) : JP := (true, [(25, 2, 3, 1063132, 3), (79, 2, 22, 2004, 131), (211, 2, 17, 0, 0)], [], [], [], [], [], [(117, 1, [0, 2002], 0, S_X2_fieldsOf l G), (128, 1, [0, 2004], 8, S_X4_first l G), (342, 1, [8, 2002], 700, S_X2_put l G), (346, 1, [1, 2004], 8, S_X4_sites l G), (352, 1, [0, 2002], 700, S_X2_goOn l G), (443, 1, [8, 10, 2002], 700, S_X2_join l G), (446, 1, [0, 0, 2002], 0, S_X2_kindOf l G)], false, 700, [])
theorem pk_X2_makeNew {K : JC} {l : Launch} {G : JG} {Q : Int → MH → Prop} {E : Nat → Int → MH → Prop} {h0 : MH} (ki : KI K l G yX2_makeNew cX2_makeNew 3 none [] 9 262 700 Q E h0) (hG : gO G = true) : POK K RX2 (p_X2_makeNew l G) :=
  POKi (y := yX2_makeNew) ki hG (rfs rf_X2_ok (by decide +kernel)) fmz fmz fmz fmz fmz
  (pkE ki (by
    intro K e1 e2 e3 e4; subst e1; subst e2
    exact fmE (ceV 2 e3 e4 yl_X2_fieldsOf ⟨by decide, ⟨_, _, rfl⟩, q1324, q1325, q1323⟩ rfl) (fmE (ceV 4 e3 e4 yl_X4_first ⟨by decide, ⟨_, _, rfl⟩, q1334, q1335, q1333⟩ rfl) (fmE (ceV 2 e3 e4 yl_X2_put ⟨by decide, ⟨_, _, rfl⟩, q1394, qs31, q1392⟩ rfl) (fmE (ceV 4 e3 e4 yl_X4_sites ⟨by decide, ⟨_, _, rfl⟩, q1342, q1343, q1397⟩ rfl) (fmE (ceV 2 e3 e4 yl_X2_goOn ⟨by decide, ⟨_, _, rfl⟩, q1404, qs33, q1402⟩ rfl) (fmE (ceV 2 e3 e4 yl_X2_join ⟨by decide, ⟨_, _, rfl⟩, q1523, qs46, q1521⟩ rfl) (fmE (ceV 2 e3 e4 yl_X2_kindOf ⟨by decide, ⟨_, _, rfl⟩, q1518, q1519, q1517⟩ rfl) (fmz))))))))) (fun z => Bool.noConfusion z) rfl (pkP ki (by
    intro K e1 e2 e3 e4; subst e1; subst e2
    exact fmz))
theorem r_X2_makeNew_0 {K : JC} {l : Launch} {G : JG} {Q : Int → MH → Prop} {E : Nat → Int → MH → Prop} {h0 : MH} (ki : KI K l G yX2_makeNew cX2_makeNew 3 none [] 9 262 700 Q E h0) (hG : gO G = true) {v1 : Int} {h : MH} (H :
    (∀ x2_1 : Int, x2_1 = 0 →
    JW K 2 [(2002, 3), (0, v1), (0, x2_1)] [] h)) : JW K 0 [(2002, 3), (0, v1), (5000, 0)] [] h := by
  have e1 := ki.2.2.2.2.1
  have e2 := ki.2.2.2.2.2.1
  subst e1; subst e2
  exact run_ok (dia := []) (cnr := []) (cuts := [(2, [2002, 0, 0], [])]) ki.1 (pk_X2_makeNew ki hG) ok_X2_makeNew (by decide) 4 true _ _ _ _ H
theorem r_X2_makeNew_2 {K : JC} {l : Launch} {G : JG} {Q : Int → MH → Prop} {E : Nat → Int → MH → Prop} {h0 : MH} (ki : KI K l G yX2_makeNew cX2_makeNew 3 none [] 9 262 700 Q E h0) (hG : gO G = true) {v1 v2 : Int} {h : MH} (H :
    S_X2_fieldsOf l G [(2002, 3), (0, v1)] h (fun z1 h2 =>
    ((z1 ≤ v2 →
      S_X4_sites l G [(2004, 134), (1, (l_shl 1 v1))] h2 (fun z3 h4 =>
      S_X2_put l G [(2002, 3), (8, z3)] h4 (fun _ h6 =>
      S_X2_goOn l G [(2002, 3), (0, (w32 ((hv h6 3 17) + 1)))] h6 (fun _ h8 =>
      Q 0 h8) E) E) E) ∧
    (v2 < z1 →
      (0 ≤ v1) ∧
      (v1 < 63) ∧
      ((hv h2 6 v1) ≠ 0) ∧
      (0 ≤ v2) ∧
      (v2 < (hn h2 (hv h2 6 v1))) ∧
      S_X2_kindOf l G [(2002, 3), (0, v1), (0, v2)] h2 (fun z9 h10 =>
      S_X4_first l G [(2004, 134), (0, z9)] h10 (fun z11 h12 =>
      S_X2_join l G [(2002, 3), (10, (hv h2 (hv h2 6 v1) v2)), (8, z11)] h12 (fun _ h14 =>
      (∀ x2_15 : Int, x2_15 = w32 (v2 + 1) →
      JW K 2 [(2002, 3), (0, v1), (0, x2_15)] [] h14)) E) E) E))) E) : JW K 2 [(2002, 3), (0, v1), (0, v2)] [] h := by
  have e1 := ki.2.2.2.2.1
  have e2 := ki.2.2.2.2.2.1
  subst e1; subst e2
  exact run_ok (dia := []) (cnr := []) (cuts := [(2, [2002, 0, 0], [])]) ki.1 (pk_X2_makeNew ki hG) ok_X2_makeNew (by decide) 24 true _ _ _ _ H
abbrev k_X2_kindOf : List (Nat × List (Nat × Instr)) := [(49, [(0, .aload_n 0), (1, .getfield 100), (4, .getfield 138), (7, .iload_n 1), (8, .iaload), (9, .istore_n 3), (10, .iload_n 3), (11, .iconst (-1)), (12, .if_icmp .ne 7), (15, .iconst 0), (16, .goto 24), (19, .iload_n 3), (20, .bipush (-2)), (22, .if_icmp .ne 7), (25, .iconst 1), (26, .goto 14), (29, .aload_n 0), (30, .getfield 100), (33, .getfield 141), (36, .iload_n 3), (37, .aaload), (38, .iload_n 2), (39, .iaload), (40, .ireturn)])]
theorem ok_X2_kindOf : CodeOK cX2_kindOf k_X2_kindOf := okw 0 (by decide +kernel) (okn)
abbrev p_X2_kindOf (l : Launch) (G : JG) : JP := (true, [(100, 2, 0, 16, 0), (138, 12, 9, 104, 0), (141, 12, 4, 134, 0)], [], [], [], [], [], [], false, 0, [])
theorem pk_X2_kindOf {K : JC} {l : Launch} {G : JG} {Q : Int → MH → Prop} {E : Nat → Int → MH → Prop} {h0 : MH} (ki : KI K l G yX2_kindOf cX2_kindOf 4 (some .int) [] 4 150 0 Q E h0) (hG : gO G = true) : POK K RX2 (p_X2_kindOf l G) :=
  POKi (y := yX2_kindOf) ki hG (rfs rf_X2_ok (by decide +kernel)) fmz fmz fmz fmz fmz
  (pkE ki (by
    intro K e1 e2 e3 e4; subst e1; subst e2
    exact fmz)) (fun z => Bool.noConfusion z) rfl (pkP ki (by
    intro K e1 e2 e3 e4; subst e1; subst e2
    exact fmz))
theorem r_X2_kindOf_0 {K : JC} {l : Launch} {G : JG} {Q : Int → MH → Prop} {E : Nat → Int → MH → Prop} {h0 : MH} (ki : KI K l G yX2_kindOf cX2_kindOf 4 (some .int) [] 4 150 0 Q E h0) (hG : gO G = true) {v1 v2 : Int} {h : MH} (H :
    ((hv h 3 0) ≠ 0) ∧
    ((hv h (hv h 3 0) 9) ≠ 0) ∧
    (0 ≤ v1) ∧
    (v1 < (hn h (hv h (hv h 3 0) 9))) ∧
    (∀ x3_1 : Int, x3_1 = (hv h (hv h (hv h 3 0) 9) v1) →
    ((¬ x3_1 = (-1) → (¬ x3_1 = (-2) → ((hv h 3 0) ≠ 0) ∧ ((hv h (hv h 3 0) 4) ≠ 0) ∧ (0 ≤ x3_1) ∧ (x3_1 < (hn h (hv h (hv h 3 0) 4))) ∧ ((hv h (hv h (hv h 3 0) 4) x3_1) ≠ 0) ∧ (0 ≤ v2) ∧ v2 < (hn h (hv h (hv h (hv h 3 0) 4) x3_1))))) ∧
    Q (if x3_1 = (-1) then 0 else (if x3_1 = (-2) then 1 else (hv h (hv h (hv h (hv h 3 0) 4) x3_1) v2) : Int) : Int) h)) : JW K 0 [(2002, 3), (0, v1), (0, v2), (5000, 0)] [] h := by
  have e1 := ki.2.2.2.2.1
  have e2 := ki.2.2.2.2.2.1
  subst e1; subst e2
  exact run_ok (dia := [(12, 40)]) (cnr := []) (cuts := []) ki.1 (pk_X2_kindOf ki hG) ok_X2_kindOf (by decide) 11 true _ _ _ _ H
abbrev k_X2_join : List (Nat × List (Nat × Instr)) := [(28, [(0, .aload_n 1), (1, .getfield 125), (4, .aload_n 2), (5, .invokevirtual 221), (8, .ifCond .eq 11), (11, .aload_n 0), (12, .aload_n 1), (13, .getfield 224), (16, .invokevirtual 227), (19, .return_)])]
theorem ok_X2_join : CodeOK cX2_join k_X2_join := okw 0 (by decide +kernel) (okn)
abbrev p_X2_join (l : Launch) (G : JG) : JP := (true, [(125, 6, 0, 8, 0), (224, 6, 1, 105, 0)], [], [], [], [], [], [(221, 1, [8, 2004], 2, S_X4_join l G), (227, 1, [105, 2002], 700, S_X2_wakeAll l G)], false, 700, [])
theorem pk_X2_join {K : JC} {l : Launch} {G : JG} {Q : Int → MH → Prop} {E : Nat → Int → MH → Prop} {h0 : MH} (ki : KI K l G yX2_join cX2_join 3 none [] 7 217 700 Q E h0) (hG : gO G = true) : POK K RX2 (p_X2_join l G) :=
  POKi (y := yX2_join) ki hG (rfs rf_X2_ok (by decide +kernel)) fmz fmz fmz fmz fmz
  (pkE ki (by
    intro K e1 e2 e3 e4; subst e1; subst e2
    exact fmE (ceV 4 e3 e4 yl_X4_join ⟨by decide, ⟨_, _, rfl⟩, q1361, q1362, q1410⟩ rfl) (fmE (ceV 2 e3 e4 yl_X2_wakeAll ⟨by decide, ⟨_, _, rfl⟩, q1456, qs39, q1454⟩ rfl) (fmz)))) (fun z => Bool.noConfusion z) rfl (pkP ki (by
    intro K e1 e2 e3 e4; subst e1; subst e2
    exact fmz))
theorem r_X2_join_0 {K : JC} {l : Launch} {G : JG} {Q : Int → MH → Prop} {E : Nat → Int → MH → Prop} {h0 : MH} (ki : KI K l G yX2_join cX2_join 3 none [] 7 217 700 Q E h0) (hG : gO G = true) {v1 v2 : Int} {h : MH} (H :
    (v1 ≠ 0) ∧
    ((hv h v1 0) ≠ 0) ∧
    S_X4_join l G [(2004, (hv h v1 0)), (8, v2)] h (fun z1 h2 =>
    ((z1 = 0 →
      Q 0 h2) ∧
    (¬ z1 = 0 →
      (v1 ≠ 0) ∧
      S_X2_wakeAll l G [(2002, 3), (105, (hv h2 v1 1))] h2 (fun _ h4 =>
      Q 0 h4) E))) E) : JW K 0 [(2002, 3), (10, v1), (8, v2)] [] h := by
  have e1 := ki.2.2.2.2.1
  have e2 := ki.2.2.2.2.2.1
  subst e1; subst e2
  exact run_ok (dia := []) (cnr := []) (cuts := []) ki.1 (pk_X2_join ki hG) ok_X2_join (by decide) 11 true _ _ _ _ H
abbrev k_X2_makeArray : List (Nat × List (Nat × Instr)) := [(55, [(0, .aload_n 0), (1, .aload_n 0), (2, .getfield 83), (5, .invokevirtual 349), (8, .pop), (9, .aload_n 0), (10, .getfield 83), (13, .getfield 261), (16, .ifCond .lt 15), (19, .aload_n 0), (20, .getfield 83), (23, .getfield 267), (26, .bipush 100), (28, .if_icmp .le 10), (31, .aload_n 0), (32, .ldc2_w 449), (35, .invokevirtual 357), (38, .aload_n 0), (39, .getfield 83), (42, .getfield 267), (45, .ifCond .lt 15), (48, .aload_n 0), (49, .getfield 83), (52, .getfield 261)]),
  (103, [(55, .bipush 100), (57, .if_icmp .le 4), (60, .return_), (61, .aload_n 0), (62, .aload_n 0), (63, .getfield 30), (66, .iload_n 1), (67, .aaload), (68, .aload_n 0), (69, .getfield 79), (72, .iconst 0), (73, .aload_n 0), (74, .getfield 83), (77, .getfield 261), (80, .invokestatic 264), (83, .bipush 100), (85, .aload_n 0), (86, .getfield 83), (89, .getfield 267), (92, .invokestatic 270), (95, .iconst 0), (96, .invokevirtual 178), (99, .invokevirtual 443), (102, .aload_n 0)]),
  (143, [(103, .aload_n 0), (104, .getfield 25), (107, .iload_n 1), (108, .aaload), (109, .iconst 0), (110, .aaload), (111, .aload_n 0), (112, .getfield 79), (115, .iload_n 2), (116, .invokevirtual 128), (119, .invokevirtual 443), (122, .aload_n 0), (123, .aload_n 0), (124, .getfield 79), (127, .lconst 1), (128, .iload_n 1), (129, .lshl), (130, .invokevirtual 346), (133, .invokevirtual 342), (136, .aload_n 0), (137, .aload_n 0), (138, .getfield 211), (141, .iconst 1), (142, .iadd)]),
  (155, [(143, .invokevirtual 352), (146, .return_)])]
theorem ok_X2_makeArray : CodeOK cX2_makeArray k_X2_makeArray := okw 0 (by decide +kernel) (okw 55 (by decide +kernel) (okw 103 (by decide +kernel) (okw 143 (by decide +kernel) (okn))))
abbrev p_X2_makeArray (l : Launch) (G : JG) : JP := (true, [(25, 2, 3, 1063132, 3), (30, 2, 4, 1063116, 67), (79, 2, 22, 2004, 131), (83, 2, 23, 2004, 132), (211, 2, 17, 0, 0), (261, 4, 1, 0, 0), (267, 4, 2, 0, 0)], [], [(449, 8)], [], [], [], [(128, 1, [0, 2004], 8, S_X4_first l G), (178, 1, [0, 0, 0, 2004], 8, S_X4_number l G), (342, 1, [8, 2002], 700, S_X2_put l G), (346, 1, [1, 2004], 8, S_X4_sites l G), (349, 1, [8, 2002], 8, S_X2_take l G), (352, 1, [0, 2002], 700, S_X2_goOn l G), (357, 1, [1, 2002], 700, S_X2_hurl l G), (443, 1, [8, 10, 2002], 700, S_X2_join l G)], false, 700, [(264, e_J8_max), (270, e_J8_min)])
theorem pk_X2_makeArray {K : JC} {l : Launch} {G : JG} {Q : Int → MH → Prop} {E : Nat → Int → MH → Prop} {h0 : MH} (ki : KI K l G yX2_makeArray cX2_makeArray 3 none [] 10 298 700 Q E h0) (hG : gO G = true) : POK K RX2 (p_X2_makeArray l G) :=
  POKi (y := yX2_makeArray) ki hG (rfs rf_X2_ok (by decide +kernel)) fmz (subs (by decide +kernel) rl_X2_ok) fmz fmz fmz
  (pkE ki (by
    intro K e1 e2 e3 e4; subst e1; subst e2
    exact fmE (ceV 4 e3 e4 yl_X4_first ⟨by decide, ⟨_, _, rfl⟩, q1334, q1335, q1333⟩ rfl) (fmE (ceV 4 e3 e4 yl_X4_number ⟨by decide, ⟨_, _, rfl⟩, q1338, q1339, q1351⟩ rfl) (fmE (ceV 2 e3 e4 yl_X2_put ⟨by decide, ⟨_, _, rfl⟩, q1394, qs31, q1392⟩ rfl) (fmE (ceV 4 e3 e4 yl_X4_sites ⟨by decide, ⟨_, _, rfl⟩, q1342, q1343, q1397⟩ rfl) (fmE (ceV 2 e3 e4 yl_X2_take ⟨by decide, ⟨_, _, rfl⟩, q1400, qs32, q1398⟩ rfl) (fmE (ceV 2 e3 e4 yl_X2_goOn ⟨by decide, ⟨_, _, rfl⟩, q1404, qs33, q1402⟩ rfl) (fmE (ceV 2 e3 e4 yl_X2_hurl ⟨by decide, ⟨_, _, rfl⟩, q1431, qs36, q1429⟩ rfl) (fmE (ceV 2 e3 e4 yl_X2_join ⟨by decide, ⟨_, _, rfl⟩, q1523, qs46, q1521⟩ rfl) (fmz)))))))))) (fun z => Bool.noConfusion z) rfl (pkP ki (by
    intro K e1 e2 e3 e4; subst e1; subst e2
    exact fmP (pe_J8_max hG e3 e4 ⟨q1373, Or.inl q1487⟩ rfl rfl) (fmP (pe_J8_min hG e3 e4 ⟨q1370, Or.inl q1488⟩ rfl rfl) (fmz))))
theorem r_X2_makeArray_0 {K : JC} {l : Launch} {G : JG} {Q : Int → MH → Prop} {E : Nat → Int → MH → Prop} {h0 : MH} (ki : KI K l G yX2_makeArray cX2_makeArray 3 none [] 10 298 700 Q E h0) (hG : gO G = true) {v1 v2 : Int} {h : MH} (H :
    S_X2_take l G [(2002, 3), (8, 135)] h (fun z1 h2 =>
    ((((hv h2 135 1) < 0 ∨ 100 < (hv h2 135 2)) →
      S_X2_hurl l G [(2002, 3), (1, 8)] h2 (fun _ h4 =>
      ((((hv h4 135 2) < 0 ∨ 100 < (hv h4 135 1)) →
        Q 0 h4) ∧
      (¬ ((hv h4 135 2) < 0 ∨ 100 < (hv h4 135 1)) →
        (0 ≤ v1) ∧
        (v1 < 63) ∧
        S_X4_number l G [(2004, 134), (0, (max 0 (hv h4 135 1))), (0, (min 100 (hv h4 135 2))), (0, 0)] h4 (fun z5 h6 =>
        S_X2_join l G [(2002, 3), (10, (hv h4 70 v1)), (8, z5)] h6 (fun _ h8 =>
        (0 ≤ v1) ∧
        (v1 < 63) ∧
        ((hv h8 6 v1) ≠ 0) ∧
        (0 ≤ (0 : Int)) ∧
        (0 < (hn h8 (hv h8 6 v1))) ∧
        S_X4_first l G [(2004, 134), (0, v2)] h8 (fun z9 h10 =>
        S_X2_join l G [(2002, 3), (10, (hv h8 (hv h8 6 v1) 0)), (8, z9)] h10 (fun _ h12 =>
        S_X4_sites l G [(2004, 134), (1, (l_shl 1 v1))] h12 (fun z13 h14 =>
        S_X2_put l G [(2002, 3), (8, z13)] h14 (fun _ h16 =>
        S_X2_goOn l G [(2002, 3), (0, (w32 ((hv h16 3 17) + 1)))] h16 (fun _ h18 =>
        Q 0 h18) E) E) E) E) E) E) E))) E) ∧
    (¬ ((hv h2 135 1) < 0 ∨ 100 < (hv h2 135 2)) →
      ((((hv h2 135 2) < 0 ∨ 100 < (hv h2 135 1)) →
        Q 0 h2) ∧
      (¬ ((hv h2 135 2) < 0 ∨ 100 < (hv h2 135 1)) →
        (0 ≤ v1) ∧
        (v1 < 63) ∧
        S_X4_number l G [(2004, 134), (0, (max 0 (hv h2 135 1))), (0, (min 100 (hv h2 135 2))), (0, 0)] h2 (fun z19 h20 =>
        S_X2_join l G [(2002, 3), (10, (hv h2 70 v1)), (8, z19)] h20 (fun _ h22 =>
        (0 ≤ v1) ∧
        (v1 < 63) ∧
        ((hv h22 6 v1) ≠ 0) ∧
        (0 ≤ (0 : Int)) ∧
        (0 < (hn h22 (hv h22 6 v1))) ∧
        S_X4_first l G [(2004, 134), (0, v2)] h22 (fun z23 h24 =>
        S_X2_join l G [(2002, 3), (10, (hv h22 (hv h22 6 v1) 0)), (8, z23)] h24 (fun _ h26 =>
        S_X4_sites l G [(2004, 134), (1, (l_shl 1 v1))] h26 (fun z27 h28 =>
        S_X2_put l G [(2002, 3), (8, z27)] h28 (fun _ h30 =>
        S_X2_goOn l G [(2002, 3), (0, (w32 ((hv h30 3 17) + 1)))] h30 (fun _ h32 =>
        Q 0 h32) E) E) E) E) E) E) E))))) E) : JW K 0 [(2002, 3), (0, v1), (0, v2)] [] h := by
  have e1 := ki.2.2.2.2.1
  have e2 := ki.2.2.2.2.2.1
  subst e1; subst e2
  exact run_ok (dia := []) (cnr := [(16, 31, 38), (45, 60, 61)]) (cuts := []) ki.1 (pk_X2_makeArray ki hG) ok_X2_makeArray (by decide) 64 true _ _ _ _ H
abbrev k_X2_lengthOf : List (Nat × List (Nat × Instr)) := [(46, [(0, .aload_n 0), (1, .aload_n 0), (2, .getfield 79), (5, .invokevirtual 349), (8, .pop), (9, .aload_n 0), (10, .getfield 100), (13, .aload_n 0), (14, .getfield 79), (17, .getfield 372), (20, .iconst 0), (21, .invokevirtual 457), (24, .aload_n 0), (25, .getfield 100), (28, .aload_n 0), (29, .getfield 79), (32, .getfield 372), (35, .iconst 1), (36, .invokevirtual 457), (39, .lor), (40, .lstore_n 1), (41, .aload_n 0), (42, .aload_n 0), (43, .getfield 79)]),
  (86, [(46, .lload_n 1), (47, .invokevirtual 460), (50, .aload_n 0), (51, .getfield 86), (54, .invokevirtual 122), (57, .bipush 7), (59, .istore_n 3), (60, .iload_n 3), (61, .bipush 7), (63, .aload_n 0), (64, .getfield 100), (67, .getfield 113), (70, .iadd), (71, .if_icmp .ge 29), (74, .lload_n 1), (75, .iload_n 3), (76, .lshr), (77, .lconst 1), (78, .land), (79, .lconst 1), (80, .lcmp), (81, .ifCond .ne 13), (84, .aload_n 0), (85, .aload_n 0)]),
  (138, [(86, .getfield 30), (89, .iload_n 3), (90, .aaload), (91, .invokevirtual 439), (94, .iinc 3 1), (97, .goto (-37)), (100, .aload_n 0), (101, .getfield 86), (104, .getfield 464), (107, .ifCond .ne 4), (110, .return_), (111, .aload_n 0), (112, .aload_n 0), (113, .getfield 86), (116, .invokevirtual 342), (119, .aload_n 0), (120, .aload_n 0), (121, .getfield 211), (124, .iconst 1), (125, .iadd), (126, .invokevirtual 352), (129, .return_)])]
theorem ok_X2_lengthOf : CodeOK cX2_lengthOf k_X2_lengthOf := okw 0 (by decide +kernel) (okw 46 (by decide +kernel) (okw 86 (by decide +kernel) (okn)))
abbrev p_X2_lengthOf (l : Launch) (G : JG) : JP := (true, [(30, 2, 4, 1063116, 67), (79, 2, 22, 2004, 131), (86, 2, 24, 2004, 133), (100, 2, 0, 16, 0), (113, 12, 8, 0, 0), (211, 2, 17, 0, 0), (372, 4, 4, 1, 0), (464, 4, 0, 0, 0)], [], [], [], [], [], [(122, 1, [2004], 700, S_X4_none l G), (342, 1, [8, 2002], 700, S_X2_put l G), (349, 1, [8, 2002], 8, S_X2_take l G), (352, 1, [0, 2002], 700, S_X2_goOn l G), (439, 1, [10, 2002], 700, S_X2_gather l G), (457, 1, [0, 1, 2012], 1, S_X12_arrays l G), (460, 1, [1, 8, 2002], 700, S_X2_refuse l G)], false, 700, [])
theorem pk_X2_lengthOf {K : JC} {l : Launch} {G : JG} {Q : Int → MH → Prop} {E : Nat → Int → MH → Prop} {h0 : MH} (ki : KI K l G yX2_lengthOf cX2_lengthOf 4 none [] 11 321 700 Q E h0) (hG : gO G = true) : POK K RX2 (p_X2_lengthOf l G) :=
  POKi (y := yX2_lengthOf) ki hG (rfs rf_X2_ok (by decide +kernel)) fmz fmz fmz fmz fmz
  (pkE ki (by
    intro K e1 e2 e3 e4; subst e1; subst e2
    exact fmE (ceV 4 e3 e4 yl_X4_none ⟨by decide, ⟨_, _, rfl⟩, q1315, q1316, q1332⟩ rfl) (fmE (ceV 2 e3 e4 yl_X2_put ⟨by decide, ⟨_, _, rfl⟩, q1394, qs31, q1392⟩ rfl) (fmE (ceV 2 e3 e4 yl_X2_take ⟨by decide, ⟨_, _, rfl⟩, q1400, qs32, q1398⟩ rfl) (fmE (ceV 2 e3 e4 yl_X2_goOn ⟨by decide, ⟨_, _, rfl⟩, q1404, qs33, q1402⟩ rfl) (fmE (ceV 2 e3 e4 yl_X2_gather ⟨by decide, ⟨_, _, rfl⟩, q1547, qs50, q1545⟩ rfl) (fmE (ceV 12 e3 e4 yl_X12_arrays ⟨by decide, ⟨_, _, rfl⟩, q1535, q1536, q1534⟩ rfl) (fmE (ceV 2 e3 e4 yl_X2_refuse ⟨by decide, ⟨_, _, rfl⟩, q1540, qs49, q1538⟩ rfl) (fmz))))))))) (fun z => Bool.noConfusion z) rfl (pkP ki (by
    intro K e1 e2 e3 e4; subst e1; subst e2
    exact fmz))
theorem r_X2_lengthOf_0 {K : JC} {l : Launch} {G : JG} {Q : Int → MH → Prop} {E : Nat → Int → MH → Prop} {h0 : MH} (ki : KI K l G yX2_lengthOf cX2_lengthOf 4 none [] 11 321 700 Q E h0) (hG : gO G = true) {h : MH} (H :
    S_X2_take l G [(2002, 3), (8, 134)] h (fun z1 h2 =>
    ((hv h2 3 0) ≠ 0) ∧
    S_X12_arrays l G [(2012, (hv h2 3 0)), (1, (hv h2 134 4)), (0, 0)] h2 (fun z3 h4 =>
    ((hv h4 3 0) ≠ 0) ∧
    S_X12_arrays l G [(2012, (hv h4 3 0)), (1, (hv h4 134 4)), (0, 1)] h4 (fun z5 h6 =>
    (∀ x1_7 : Int, x1_7 = (l_or z3 z5) →
    S_X2_refuse l G [(2002, 3), (8, 134), (1, x1_7)] h6 (fun _ h9 =>
    S_X4_none l G [(2004, 136)] h9 (fun _ h11 =>
    (∀ x3_12 : Int, x3_12 = 7 →
    JW K 60 [(2002, 3), (1, x1_7), (5000, 0), (0, x3_12)] [] h11)) E) E)) E) E) E) : JW K 0 [(2002, 3), (5000, 0), (5000, 0), (5000, 0)] [] h := by
  have e1 := ki.2.2.2.2.1
  have e2 := ki.2.2.2.2.2.1
  subst e1; subst e2
  exact run_ok (dia := []) (cnr := []) (cuts := [(60, [2002, 1, 5000, 0], [])]) ki.1 (pk_X2_lengthOf ki hG) ok_X2_lengthOf (by decide) 33 true _ _ _ _ H
theorem r_X2_lengthOf_60 {K : JC} {l : Launch} {G : JG} {Q : Int → MH → Prop} {E : Nat → Int → MH → Prop} {h0 : MH} (ki : KI K l G yX2_lengthOf cX2_lengthOf 4 none [] 11 321 700 Q E h0) (hG : gO G = true) {v1 v3 : Int} {h : MH} (H :
    ((hv h 3 0) ≠ 0) ∧
    (((w32 (7 + (hv h (hv h 3 0) 8))) ≤ v3 →
      ((¬ (hv h 136 0) = 0 →
        S_X2_put l G [(2002, 3), (8, 136)] h (fun _ h2 =>
        S_X2_goOn l G [(2002, 3), (0, (w32 ((hv h2 3 17) + 1)))] h2 (fun _ h4 =>
        Q 0 h4) E) E) ∧
      ((hv h 136 0) = 0 →
        Q 0 h))) ∧
    (v3 < (w32 (7 + (hv h (hv h 3 0) 8))) →
      ((¬ (lc (l_and (l_shr v1 v3) 1) 1) = 0 →
        (∀ x3_5 : Int, x3_5 = w32 (v3 + 1) →
        JW K 60 [(2002, 3), (1, v1), (5000, 0), (0, x3_5)] [] h)) ∧
      ((lc (l_and (l_shr v1 v3) 1) 1) = 0 →
        (0 ≤ v3) ∧
        (v3 < 63) ∧
        S_X2_gather l G [(2002, 3), (10, (hv h 70 v3))] h (fun _ h7 =>
        (∀ x3_8 : Int, x3_8 = w32 (v3 + 1) →
        JW K 60 [(2002, 3), (1, v1), (5000, 0), (0, x3_8)] [] h7)) E))))) : JW K 60 [(2002, 3), (1, v1), (5000, 0), (0, v3)] [] h := by
  have e1 := ki.2.2.2.2.1
  have e2 := ki.2.2.2.2.2.1
  subst e1; subst e2
  exact run_ok (dia := []) (cnr := []) (cuts := [(60, [2002, 1, 5000, 0], [])]) ki.1 (pk_X2_lengthOf ki hG) ok_X2_lengthOf (by decide) 25 true _ _ _ _ H
abbrev k_X2_refuse : List (Nat × List (Nat × Instr)) := [(44, [(0, .aload_n 1), (1, .getfield 372), (4, .lconst 1), (5, .land), (6, .lconst 0), (7, .lcmp), (8, .ifCond .eq 10), (11, .aload_n 0), (12, .ldc2_w 451), (15, .invokevirtual 357), (18, .aload_n 1), (19, .getfield 372), (22, .lload_n 2), (23, .ldc2_w 379), (26, .lxor), (27, .land), (28, .ldc2_w 453), (31, .land), (32, .lconst 0), (33, .lcmp), (34, .ifCond .eq 10), (37, .aload_n 0), (38, .ldc2_w 455), (41, .invokevirtual 357)]),
  (53, [(44, .return_)])]
theorem ok_X2_refuse : CodeOK cX2_refuse k_X2_refuse := okw 0 (by decide +kernel) (okw 44 (by decide +kernel) (okn))
abbrev p_X2_refuse (l : Launch) (G : JG) : JP := (true, [(372, 4, 4, 1, 0)], [], [(379, (-1)), (451, 2), (453, (-2)), (455, 32)], [], [], [], [(357, 1, [1, 2002], 700, S_X2_hurl l G)], false, 700, [])
theorem pk_X2_refuse {K : JC} {l : Launch} {G : JG} {Q : Int → MH → Prop} {E : Nat → Int → MH → Prop} {h0 : MH} (ki : KI K l G yX2_refuse cX2_refuse 4 none [] 10 298 700 Q E h0) (hG : gO G = true) : POK K RX2 (p_X2_refuse l G) :=
  POKi (y := yX2_refuse) ki hG (rfs rf_X2_ok (by decide +kernel)) fmz (subs (by decide +kernel) rl_X2_ok) fmz fmz fmz
  (pkE ki (by
    intro K e1 e2 e3 e4; subst e1; subst e2
    exact fmE (ceV 2 e3 e4 yl_X2_hurl ⟨by decide, ⟨_, _, rfl⟩, q1431, qs36, q1429⟩ rfl) (fmz))) (fun z => Bool.noConfusion z) rfl (pkP ki (by
    intro K e1 e2 e3 e4; subst e1; subst e2
    exact fmz))
theorem r_X2_refuse_0 {K : JC} {l : Launch} {G : JG} {Q : Int → MH → Prop} {E : Nat → Int → MH → Prop} {h0 : MH} (ki : KI K l G yX2_refuse cX2_refuse 4 none [] 10 298 700 Q E h0) (hG : gO G = true) {v1 v2 : Int} {h : MH} (H :
    (v1 ≠ 0) ∧
    (((lc (l_and (hv h v1 4) 1) 0) = 0 →
      (v1 ≠ 0) ∧
      (((lc (l_and (l_and (hv h v1 4) (l_xor v2 (-1))) (-2)) 0) = 0 →
        Q 0 h) ∧
      (¬ (lc (l_and (l_and (hv h v1 4) (l_xor v2 (-1))) (-2)) 0) = 0 →
        S_X2_hurl l G [(2002, 3), (1, 32)] h (fun _ h2 =>
        Q 0 h2) E))) ∧
    (¬ (lc (l_and (hv h v1 4) 1) 0) = 0 →
      S_X2_hurl l G [(2002, 3), (1, 2)] h (fun _ h4 =>
      (v1 ≠ 0) ∧
      (((lc (l_and (l_and (hv h4 v1 4) (l_xor v2 (-1))) (-2)) 0) = 0 →
        Q 0 h4) ∧
      (¬ (lc (l_and (l_and (hv h4 v1 4) (l_xor v2 (-1))) (-2)) 0) = 0 →
        S_X2_hurl l G [(2002, 3), (1, 32)] h4 (fun _ h6 =>
        Q 0 h6) E))) E))) : JW K 0 [(2002, 3), (8, v1), (1, v2), (5000, 0)] [] h := by
  have e1 := ki.2.2.2.2.1
  have e2 := ki.2.2.2.2.2.1
  subst e1; subst e2
  exact run_ok (dia := []) (cnr := []) (cuts := []) ki.1 (pk_X2_refuse ki hG) ok_X2_refuse (by decide) 26 true _ _ _ _ H
abbrev k_X2_gather : List (Nat × List (Nat × Instr)) := [(29, [(0, .aload_n 0), (1, .aload_n 1), (2, .getfield 224), (5, .invokevirtual 231), (8, .aload_n 0), (9, .getfield 86), (12, .aload_n 1), (13, .getfield 125), (16, .invokevirtual 221), (19, .pop), (20, .return_)])]
theorem ok_X2_gather : CodeOK cX2_gather k_X2_gather := okw 0 (by decide +kernel) (okn)
abbrev p_X2_gather (l : Launch) (G : JG) : JP := (true, [(86, 2, 24, 2004, 133), (125, 6, 0, 8, 0), (224, 6, 1, 105, 0)], [], [], [], [], [], [(221, 1, [8, 2004], 2, S_X4_join l G), (231, 1, [105, 2002], 700, S_X2_use l G)], false, 700, [])
theorem pk_X2_gather {K : JC} {l : Launch} {G : JG} {Q : Int → MH → Prop} {E : Nat → Int → MH → Prop} {h0 : MH} (ki : KI K l G yX2_gather cX2_gather 2 none [] 6 193 700 Q E h0) (hG : gO G = true) : POK K RX2 (p_X2_gather l G) :=
  POKi (y := yX2_gather) ki hG (rfs rf_X2_ok (by decide +kernel)) fmz fmz fmz fmz fmz
  (pkE ki (by
    intro K e1 e2 e3 e4; subst e1; subst e2
    exact fmE (ceV 4 e3 e4 yl_X4_join ⟨by decide, ⟨_, _, rfl⟩, q1361, q1362, q1410⟩ rfl) (fmE (ceV 2 e3 e4 yl_X2_use ⟨by decide, ⟨_, _, rfl⟩, q1551, qs51, q1549⟩ rfl) (fmz)))) (fun z => Bool.noConfusion z) rfl (pkP ki (by
    intro K e1 e2 e3 e4; subst e1; subst e2
    exact fmz))
theorem r_X2_gather_0 {K : JC} {l : Launch} {G : JG} {Q : Int → MH → Prop} {E : Nat → Int → MH → Prop} {h0 : MH} (ki : KI K l G yX2_gather cX2_gather 2 none [] 6 193 700 Q E h0) (hG : gO G = true) {v1 : Int} {h : MH} (H :
    (v1 ≠ 0) ∧
    S_X2_use l G [(2002, 3), (105, (hv h v1 1))] h (fun _ h2 =>
    (v1 ≠ 0) ∧
    S_X4_join l G [(2004, 136), (8, (hv h2 v1 0))] h2 (fun z3 h4 =>
    Q 0 h4) E) E) : JW K 0 [(2002, 3), (10, v1)] [] h := by
  have e1 := ki.2.2.2.2.1
  have e2 := ki.2.2.2.2.2.1
  subst e1; subst e2
  exact run_ok (dia := []) (cnr := []) (cuts := []) ki.1 (pk_X2_gather ki hG) ok_X2_gather (by decide) 12 true _ _ _ _ H
abbrev k_X2_use : List (Nat × List (Nat × Instr)) := [(30, [(0, .aload_n 1), (1, .aload_n 0), (2, .getfield 195), (5, .bipush 6), (7, .ishr), (8, .dup2), (9, .laload), (10, .lconst 1), (11, .aload_n 0), (12, .getfield 195), (15, .bipush 63), (17, .iand), (18, .lshl), (19, .lor), (20, .lastore), (21, .return_)])]
theorem ok_X2_use : CodeOK cX2_use k_X2_use := okw 0 (by decide +kernel) (okn)
abbrev p_X2_use (l : Launch) (G : JG) : JP := (true, [(195, 2, 18, 0, 0)], [], [], [], [], [], [], false, 700, [])
theorem pk_X2_use {K : JC} {l : Launch} {G : JG} {Q : Int → MH → Prop} {E : Nat → Int → MH → Prop} {h0 : MH} (ki : KI K l G yX2_use cX2_use 2 none [] 4 150 700 Q E h0) (hG : gO G = true) : POK K RX2 (p_X2_use l G) :=
  POKi (y := yX2_use) ki hG (rfs rf_X2_ok (by decide +kernel)) fmz fmz fmz fmz fmz
  (pkE ki (by
    intro K e1 e2 e3 e4; subst e1; subst e2
    exact fmz)) (fun z => Bool.noConfusion z) rfl (pkP ki (by
    intro K e1 e2 e3 e4; subst e1; subst e2
    exact fmz))
theorem r_X2_use_0 {K : JC} {l : Launch} {G : JG} {Q : Int → MH → Prop} {E : Nat → Int → MH → Prop} {h0 : MH} (ki : KI K l G yX2_use cX2_use 2 none [] 4 150 700 Q E h0) (hG : gO G = true) {v1 : Int} {h : MH} (H :
    (v1 ≠ 0) ∧
    (0 ≤ (i_shr (hv h 3 18) 6)) ∧
    ((i_shr (hv h 3 18) 6) < (hn h v1)) ∧
    (v1 ≠ 0) ∧
    (0 ≤ (i_shr (hv h 3 18) 6)) ∧
    ((i_shr (hv h 3 18) 6) < (hn h v1)) ∧
    (∀ h1, h1 = hset h v1 (i_shr (hv h 3 18) 6) (l_or (hv h v1 (i_shr (hv h 3 18) 6)) (l_shl 1 (i_and (hv h 3 18) 63))) →
    Q 0 h1)) : JW K 0 [(2002, 3), (105, v1)] [] h := by
  have e1 := ki.2.2.2.2.1
  have e2 := ki.2.2.2.2.2.1
  subst e1; subst e2
  exact run_ok (dia := []) (cnr := []) (cuts := []) ki.1 (pk_X2_use ki hG) ok_X2_use (by decide) 17 true _ _ _ _ H
abbrev k_X2_element : List (Nat × List (Nat × Instr)) := [(45, [(0, .iload_n 1), (1, .bipush 24), (3, .if_icmp .ne 12), (6, .aload_n 0), (7, .aload_n 0), (8, .getfield 89), (11, .invokevirtual 349), (14, .pop), (15, .aload_n 0), (16, .aload_n 0), (17, .getfield 83), (20, .invokevirtual 349), (23, .pop), (24, .aload_n 0), (25, .aload_n 0), (26, .getfield 79), (29, .invokevirtual 349), (32, .pop), (33, .aload_n 0), (34, .getfield 100), (37, .aload_n 0), (38, .getfield 79), (41, .getfield 372), (44, .iload_n 2)]),
  (91, [(45, .invokevirtual 457), (48, .lstore_n 3), (49, .aload_n 0), (50, .aload_n 0), (51, .getfield 79), (54, .lload_n 3), (55, .invokevirtual 460), (58, .aload_n 0), (59, .getfield 86), (62, .invokevirtual 122), (65, .iconst 0), (66, .istore 5), (68, .iconst 0), (69, .istore 6), (71, .bipush 7), (73, .istore 7), (75, .iload 7), (77, .bipush 7), (79, .aload_n 0), (80, .getfield 100), (83, .getfield 113), (86, .iadd), (87, .if_icmp .ge 181), (90, .lload_n 3)]),
  (138, [(91, .iload 7), (93, .lshr), (94, .lconst 1), (95, .land), (96, .lconst 0), (97, .lcmp), (98, .ifCond .ne 6), (101, .goto 161), (104, .aload_n 0), (105, .aload_n 0), (106, .getfield 30), (109, .iload 7), (111, .aaload), (112, .getfield 224), (115, .invokevirtual 231), (118, .aload_n 0), (119, .getfield 30), (122, .iload 7), (124, .aaload), (125, .getfield 125), (128, .astore 8), (130, .aload 8), (132, .getfield 464), (135, .ifCond .ne 6)]),
  (193, [(138, .goto 124), (141, .iload 6), (143, .aload_n 0), (144, .getfield 83), (147, .getfield 261), (150, .ifCond .lt 18), (153, .aload_n 0), (154, .getfield 83), (157, .getfield 267), (160, .aload 8), (162, .getfield 261), (165, .if_icmp .lt 7), (168, .iconst 1), (169, .goto 4), (172, .iconst 0), (173, .ior), (174, .istore 6), (176, .aload_n 0), (177, .getfield 83), (180, .getfield 267), (183, .ifCond .lt 79), (186, .aload_n 0), (187, .getfield 83), (190, .getfield 261)]),
  (236, [(193, .aload 8), (195, .getfield 267), (198, .if_icmp .lt 6), (201, .goto 61), (204, .iconst 1), (205, .istore 5), (207, .aload_n 0), (208, .getfield 57), (211, .aload_n 0), (212, .getfield 195), (215, .dup2), (216, .laload), (217, .lconst 1), (218, .iload 7), (220, .lshl), (221, .lor), (222, .lastore), (223, .iload_n 1), (224, .bipush 23), (226, .if_icmp .ne 19), (229, .aload_n 0), (230, .aload_n 0), (231, .getfield 25), (234, .iload 7)]),
  (285, [(236, .aaload), (237, .iconst 0), (238, .aaload), (239, .invokevirtual 439), (242, .goto 20), (245, .aload_n 0), (246, .aload_n 0), (247, .getfield 25), (250, .iload 7), (252, .aaload), (253, .iconst 0), (254, .aaload), (255, .aload_n 0), (256, .getfield 89), (259, .invokevirtual 443), (262, .iinc 7 1), (265, .goto (-190)), (268, .iload 6), (270, .ifCond .eq 10), (273, .aload_n 0), (274, .ldc2_w 467), (277, .invokevirtual 357), (280, .iload 5), (282, .ifCond .ne 4)]),
  (319, [(285, .return_), (286, .iload_n 1), (287, .bipush 23), (289, .if_icmp .ne 11), (292, .aload_n 0), (293, .aload_n 0), (294, .getfield 86), (297, .invokevirtual 342), (300, .aload_n 0), (301, .aload_n 0), (302, .getfield 211), (305, .iconst 1), (306, .iadd), (307, .invokevirtual 352), (310, .return_)])]
theorem ok_X2_element : CodeOK cX2_element k_X2_element := okw 0 (by decide +kernel) (okw 45 (by decide +kernel) (okw 91 (by decide +kernel) (okw 138 (by decide +kernel) (okw 193 (by decide +kernel) (okw 236 (by decide +kernel) (okw 285 (by decide +kernel) (okn)))))))
abbrev p_X2_element (l : Launch) (G : JG) : JP := (true, [(25, 2, 3, 1063132, 3), (30, 2, 4, 1063116, 67), (57, 2, 11, 2500101, 74), (79, 2, 22, 2004, 131), (83, 2, 23, 2004, 132), (86, 2, 24, 2004, 133), (89, 2, 26, 2004, 134), (100, 2, 0, 16, 0), (113, 12, 8, 0, 0), (125, 6, 0, 8, 0), (195, 2, 18, 0, 0), (211, 2, 17, 0, 0), (224, 6, 1, 105, 0), (261, 4, 1, 0, 0), (267, 4, 2, 0, 0), (372, 4, 4, 1, 0), (464, 4, 0, 0, 0)], [], [(467, 4)], [], [], [], [(122, 1, [2004], 700, S_X4_none l G), (231, 1, [105, 2002], 700, S_X2_use l G), (342, 1, [8, 2002], 700, S_X2_put l G), (349, 1, [8, 2002], 8, S_X2_take l G), (352, 1, [0, 2002], 700, S_X2_goOn l G), (357, 1, [1, 2002], 700, S_X2_hurl l G), (439, 1, [10, 2002], 700, S_X2_gather l G), (443, 1, [8, 10, 2002], 700, S_X2_join l G), (457, 1, [0, 1, 2012], 1, S_X12_arrays l G), (460, 1, [1, 8, 2002], 700, S_X2_refuse l G)], false, 700, [])
theorem pk_X2_element {K : JC} {l : Launch} {G : JG} {Q : Int → MH → Prop} {E : Nat → Int → MH → Prop} {h0 : MH} (ki : KI K l G yX2_element cX2_element 9 none [] 11 321 700 Q E h0) (hG : gO G = true) : POK K RX2 (p_X2_element l G) :=
  POKi (y := yX2_element) ki hG (rfs rf_X2_ok (by decide +kernel)) fmz (subs (by decide +kernel) rl_X2_ok) fmz fmz fmz
  (pkE ki (by
    intro K e1 e2 e3 e4; subst e1; subst e2
    exact fmE (ceV 4 e3 e4 yl_X4_none ⟨by decide, ⟨_, _, rfl⟩, q1315, q1316, q1332⟩ rfl) (fmE (ceV 2 e3 e4 yl_X2_use ⟨by decide, ⟨_, _, rfl⟩, q1551, qs51, q1549⟩ rfl) (fmE (ceV 2 e3 e4 yl_X2_put ⟨by decide, ⟨_, _, rfl⟩, q1394, qs31, q1392⟩ rfl) (fmE (ceV 2 e3 e4 yl_X2_take ⟨by decide, ⟨_, _, rfl⟩, q1400, qs32, q1398⟩ rfl) (fmE (ceV 2 e3 e4 yl_X2_goOn ⟨by decide, ⟨_, _, rfl⟩, q1404, qs33, q1402⟩ rfl) (fmE (ceV 2 e3 e4 yl_X2_hurl ⟨by decide, ⟨_, _, rfl⟩, q1431, qs36, q1429⟩ rfl) (fmE (ceV 2 e3 e4 yl_X2_gather ⟨by decide, ⟨_, _, rfl⟩, q1547, qs50, q1545⟩ rfl) (fmE (ceV 2 e3 e4 yl_X2_join ⟨by decide, ⟨_, _, rfl⟩, q1523, qs46, q1521⟩ rfl) (fmE (ceV 12 e3 e4 yl_X12_arrays ⟨by decide, ⟨_, _, rfl⟩, q1535, q1536, q1534⟩ rfl) (fmE (ceV 2 e3 e4 yl_X2_refuse ⟨by decide, ⟨_, _, rfl⟩, q1540, qs49, q1538⟩ rfl) (fmz)))))))))))) (fun z => Bool.noConfusion z) rfl (pkP ki (by
    intro K e1 e2 e3 e4; subst e1; subst e2
    exact fmz))
theorem r_X2_element_0 {K : JC} {l : Launch} {G : JG} {Q : Int → MH → Prop} {E : Nat → Int → MH → Prop} {h0 : MH} (ki : KI K l G yX2_element cX2_element 9 none [] 11 321 700 Q E h0) (hG : gO G = true) {v1 v2 : Int} {h : MH} (H :
    ((¬ v1 = 24 →
      S_X2_take l G [(2002, 3), (8, 135)] h (fun z1 h2 =>
      S_X2_take l G [(2002, 3), (8, 134)] h2 (fun z3 h4 =>
      ((hv h4 3 0) ≠ 0) ∧
      S_X12_arrays l G [(2012, (hv h4 3 0)), (1, (hv h4 134 4)), (0, v2)] h4 (fun z5 h6 =>
      (∀ x3_7 : Int, x3_7 = z5 →
      S_X2_refuse l G [(2002, 3), (8, 134), (1, x3_7)] h6 (fun _ h9 =>
      S_X4_none l G [(2004, 136)] h9 (fun _ h11 =>
      (∀ x5_12 : Int, x5_12 = 0 →
      (∀ x6_13 : Int, x6_13 = 0 →
      (∀ x7_14 : Int, x7_14 = 7 →
      JW K 75 [(2002, 3), (0, v1), (0, v2), (1, x3_7), (5000, 0), (0, x5_12), (0, x6_13), (0, x7_14), (5000, 0)] [] h11)))) E) E)) E) E) E) ∧
    (v1 = 24 →
      S_X2_take l G [(2002, 3), (8, 137)] h (fun z15 h16 =>
      S_X2_take l G [(2002, 3), (8, 135)] h16 (fun z17 h18 =>
      S_X2_take l G [(2002, 3), (8, 134)] h18 (fun z19 h20 =>
      ((hv h20 3 0) ≠ 0) ∧
      S_X12_arrays l G [(2012, (hv h20 3 0)), (1, (hv h20 134 4)), (0, v2)] h20 (fun z21 h22 =>
      (∀ x3_23 : Int, x3_23 = z21 →
      S_X2_refuse l G [(2002, 3), (8, 134), (1, x3_23)] h22 (fun _ h25 =>
      S_X4_none l G [(2004, 136)] h25 (fun _ h27 =>
      (∀ x5_28 : Int, x5_28 = 0 →
      (∀ x6_29 : Int, x6_29 = 0 →
      (∀ x7_30 : Int, x7_30 = 7 →
      JW K 75 [(2002, 3), (0, v1), (0, v2), (1, x3_23), (5000, 0), (0, x5_28), (0, x6_29), (0, x7_30), (5000, 0)] [] h27)))) E) E)) E) E) E) E))) : JW K 0 [(2002, 3), (0, v1), (0, v2), (5000, 0), (5000, 0), (5000, 0), (5000, 0), (5000, 0), (5000, 0)] [] h := by
  have e1 := ki.2.2.2.2.1
  have e2 := ki.2.2.2.2.2.1
  subst e1; subst e2
  exact run_ok (dia := [(150, 173)]) (cnr := []) (cuts := [(75, [2002, 0, 0, 1, 5000, 0, 0, 0, 5000], [])]) ki.1 (pk_X2_element ki hG) ok_X2_element (by decide) 42 true _ _ _ _ H
theorem r_X2_element_75 {K : JC} {l : Launch} {G : JG} {Q : Int → MH → Prop} {E : Nat → Int → MH → Prop} {h0 : MH} (ki : KI K l G yX2_element cX2_element 9 none [] 11 321 700 Q E h0) (hG : gO G = true) {v1 v2 v3 v5 v6 v7 : Int} {h : MH} (H :
    ((hv h 3 0) ≠ 0) ∧
    (((w32 (7 + (hv h (hv h 3 0) 8))) ≤ v7 →
      ((v6 = 0 →
        ((¬ v5 = 0 →
          ((¬ v1 = 23 →
            S_X2_goOn l G [(2002, 3), (0, (w32 ((hv h 3 17) + 1)))] h (fun _ h2 =>
            Q 0 h2) E) ∧
          (v1 = 23 →
            S_X2_put l G [(2002, 3), (8, 136)] h (fun _ h4 =>
            S_X2_goOn l G [(2002, 3), (0, (w32 ((hv h4 3 17) + 1)))] h4 (fun _ h6 =>
            Q 0 h6) E) E))) ∧
        (v5 = 0 →
          Q 0 h))) ∧
      (¬ v6 = 0 →
        S_X2_hurl l G [(2002, 3), (1, 4)] h (fun _ h8 =>
        ((¬ v5 = 0 →
          ((¬ v1 = 23 →
            S_X2_goOn l G [(2002, 3), (0, (w32 ((hv h8 3 17) + 1)))] h8 (fun _ h10 =>
            Q 0 h10) E) ∧
          (v1 = 23 →
            S_X2_put l G [(2002, 3), (8, 136)] h8 (fun _ h12 =>
            S_X2_goOn l G [(2002, 3), (0, (w32 ((hv h12 3 17) + 1)))] h12 (fun _ h14 =>
            Q 0 h14) E) E))) ∧
        (v5 = 0 →
          Q 0 h8))) E))) ∧
    (v7 < (w32 (7 + (hv h (hv h 3 0) 8))) →
      ((¬ (lc (l_and (l_shr v3 v7) 1) 0) = 0 →
        (0 ≤ v7) ∧
        (v7 < 63) ∧
        ((hv h 70 v7) ≠ 0) ∧
        S_X2_use l G [(2002, 3), (105, (hv h (hv h 70 v7) 1))] h (fun _ h16 =>
        (0 ≤ v7) ∧
        (v7 < 63) ∧
        ((hv h16 70 v7) ≠ 0) ∧
        (∀ x8_17 : Int, x8_17 = (hv h16 (hv h16 70 v7) 0) →
        (x8_17 ≠ 0) ∧
        ((¬ (hv h16 x8_17 0) = 0 →
          ((0 ≤ (hv h16 135 1) → x8_17 ≠ 0)) ∧
          (∀ x6_18 : Int, x6_18 = (i_or v6 (if (hv h16 135 1) < 0 then 1 else (if (hv h16 135 2) < (hv h16 x8_17 1) then 0 else 1 : Int) : Int)) →
          (((hv h16 135 2) < 0 →
            (∀ x7_19 : Int, x7_19 = w32 (v7 + 1) →
            JW K 75 [(2002, 3), (0, v1), (0, v2), (1, v3), (5000, 0), (0, v5), (0, x6_18), (0, x7_19), (5000, 0)] [] h16)) ∧
          (0 ≤ (hv h16 135 2) →
            (x8_17 ≠ 0) ∧
            (((hv h16 135 1) < (hv h16 x8_17 2) →
              (∀ x5_20 : Int, x5_20 = 1 →
              (0 ≤ (hv h16 3 18)) ∧
              ((hv h16 3 18) < 1500) ∧
              (0 ≤ (hv h16 3 18)) ∧
              ((hv h16 3 18) < 1500) ∧
              (∀ h21, h21 = hset h16 77 (hv h16 3 18) (l_or (hv h16 77 (hv h16 3 18)) (l_shl 1 v7)) →
              ((¬ v1 = 23 →
                (0 ≤ v7) ∧
                (v7 < 63) ∧
                ((hv h21 6 v7) ≠ 0) ∧
                (0 ≤ (0 : Int)) ∧
                (0 < (hn h21 (hv h21 6 v7))) ∧
                S_X2_join l G [(2002, 3), (10, (hv h21 (hv h21 6 v7) 0)), (8, 137)] h21 (fun _ h23 =>
                (∀ x7_24 : Int, x7_24 = w32 (v7 + 1) →
                JW K 75 [(2002, 3), (0, v1), (0, v2), (1, v3), (5000, 0), (0, x5_20), (0, x6_18), (0, x7_24), (5000, 0)] [] h23)) E) ∧
              (v1 = 23 →
                (0 ≤ v7) ∧
                (v7 < 63) ∧
                ((hv h21 6 v7) ≠ 0) ∧
                (0 ≤ (0 : Int)) ∧
                (0 < (hn h21 (hv h21 6 v7))) ∧
                S_X2_gather l G [(2002, 3), (10, (hv h21 (hv h21 6 v7) 0))] h21 (fun _ h26 =>
                (∀ x7_27 : Int, x7_27 = w32 (v7 + 1) →
                JW K 75 [(2002, 3), (0, v1), (0, v2), (1, v3), (5000, 0), (0, x5_20), (0, x6_18), (0, x7_27), (5000, 0)] [] h26)) E))))) ∧
            ((hv h16 x8_17 2) ≤ (hv h16 135 1) →
              (∀ x7_28 : Int, x7_28 = w32 (v7 + 1) →
              JW K 75 [(2002, 3), (0, v1), (0, v2), (1, v3), (5000, 0), (0, v5), (0, x6_18), (0, x7_28), (5000, 0)] [] h16))))))) ∧
        ((hv h16 x8_17 0) = 0 →
          (∀ x7_29 : Int, x7_29 = w32 (v7 + 1) →
          JW K 75 [(2002, 3), (0, v1), (0, v2), (1, v3), (5000, 0), (0, v5), (0, v6), (0, x7_29), (5000, 0)] [] h16))))) E) ∧
      ((lc (l_and (l_shr v3 v7) 1) 0) = 0 →
        (∀ x7_30 : Int, x7_30 = w32 (v7 + 1) →
        JW K 75 [(2002, 3), (0, v1), (0, v2), (1, v3), (5000, 0), (0, v5), (0, v6), (0, x7_30), (5000, 0)] [] h)))))) : JW K 75 [(2002, 3), (0, v1), (0, v2), (1, v3), (5000, 0), (0, v5), (0, v6), (0, v7), (5000, 0)] [] h := by
  have e1 := ki.2.2.2.2.1
  have e2 := ki.2.2.2.2.2.1
  subst e1; subst e2
  exact run_ok (dia := [(150, 173)]) (cnr := []) (cuts := [(75, [2002, 0, 0, 1, 5000, 0, 0, 0, 5000], [])]) ki.1 (pk_X2_element ki hG) ok_X2_element (by decide) 78 true _ _ _ _ H
abbrev k_X2_fieldAct : List (Nat × List (Nat × Instr)) := [(46, [(0, .iload_n 1), (1, .bipush 26), (3, .if_icmp .ne 12), (6, .aload_n 0), (7, .aload_n 0), (8, .getfield 89), (11, .invokevirtual 349), (14, .pop), (15, .aload_n 0), (16, .aload_n 0), (17, .getfield 79), (20, .invokevirtual 349), (23, .pop), (24, .aload_n 0), (25, .getfield 100), (28, .aload_n 0), (29, .getfield 79), (32, .getfield 372), (35, .iload_n 2), (36, .invokevirtual 375), (39, .lstore 4), (41, .aload_n 0), (42, .aload_n 0), (43, .getfield 79)]),
  (93, [(46, .lload 4), (48, .invokevirtual 460), (51, .aload_n 0), (52, .getfield 86), (55, .invokevirtual 122), (58, .bipush 7), (60, .istore 6), (62, .iload 6), (64, .bipush 7), (66, .aload_n 0), (67, .getfield 100), (70, .getfield 113), (73, .iadd), (74, .if_icmp .ge 63), (77, .lload 4), (79, .iload 6), (81, .lshr), (82, .lconst 1), (83, .land), (84, .lconst 0), (85, .lcmp), (86, .ifCond .ne 6), (89, .goto 42), (92, .iload_n 1)]),
  (138, [(93, .bipush 25), (95, .if_icmp .ne 19), (98, .aload_n 0), (99, .aload_n 0), (100, .getfield 25), (103, .iload 6), (105, .aaload), (106, .iload_n 3), (107, .aaload), (108, .invokevirtual 439), (111, .goto 20), (114, .aload_n 0), (115, .aload_n 0), (116, .getfield 25), (119, .iload 6), (121, .aaload), (122, .iload_n 3), (123, .aaload), (124, .aload_n 0), (125, .getfield 89), (128, .invokevirtual 443), (131, .iinc 6 1), (134, .goto (-72)), (137, .aload_n 0)]),
  (182, [(138, .getfield 57), (141, .aload_n 0), (142, .getfield 195), (145, .dup2), (146, .laload), (147, .lload 4), (149, .lor), (150, .lastore), (151, .lload 4), (153, .lconst 0), (154, .lcmp), (155, .ifCond .eq 19), (158, .iload_n 1), (159, .bipush 25), (161, .if_icmp .ne 14), (164, .aload_n 0), (165, .getfield 86), (168, .getfield 464), (171, .ifCond .ne 4), (174, .return_), (175, .iload_n 1), (176, .bipush 25), (178, .if_icmp .ne 11), (181, .aload_n 0)]),
  (208, [(182, .aload_n 0), (183, .getfield 86), (186, .invokevirtual 342), (189, .aload_n 0), (190, .aload_n 0), (191, .getfield 211), (194, .iconst 1), (195, .iadd), (196, .invokevirtual 352), (199, .return_)])]
theorem ok_X2_fieldAct : CodeOK cX2_fieldAct k_X2_fieldAct := okw 0 (by decide +kernel) (okw 46 (by decide +kernel) (okw 93 (by decide +kernel) (okw 138 (by decide +kernel) (okw 182 (by decide +kernel) (okn)))))
abbrev p_X2_fieldAct (l : Launch) (G : JG) : JP := (true, [(25, 2, 3, 1063132, 3), (57, 2, 11, 2500101, 74), (79, 2, 22, 2004, 131), (86, 2, 24, 2004, 133), (89, 2, 26, 2004, 134), (100, 2, 0, 16, 0), (113, 12, 8, 0, 0), (195, 2, 18, 0, 0), (211, 2, 17, 0, 0), (372, 4, 4, 1, 0), (464, 4, 0, 0, 0)], [], [], [], [], [], [(122, 1, [2004], 700, S_X4_none l G), (342, 1, [8, 2002], 700, S_X2_put l G), (349, 1, [8, 2002], 8, S_X2_take l G), (352, 1, [0, 2002], 700, S_X2_goOn l G), (375, 1, [0, 1, 2012], 1, S_X12_ofClass l G), (439, 1, [10, 2002], 700, S_X2_gather l G), (443, 1, [8, 10, 2002], 700, S_X2_join l G), (460, 1, [1, 8, 2002], 700, S_X2_refuse l G)], false, 700, [])
theorem pk_X2_fieldAct {K : JC} {l : Launch} {G : JG} {Q : Int → MH → Prop} {E : Nat → Int → MH → Prop} {h0 : MH} (ki : KI K l G yX2_fieldAct cX2_fieldAct 7 none [] 11 321 700 Q E h0) (hG : gO G = true) : POK K RX2 (p_X2_fieldAct l G) :=
  POKi (y := yX2_fieldAct) ki hG (rfs rf_X2_ok (by decide +kernel)) fmz fmz fmz fmz fmz
  (pkE ki (by
    intro K e1 e2 e3 e4; subst e1; subst e2
    exact fmE (ceV 4 e3 e4 yl_X4_none ⟨by decide, ⟨_, _, rfl⟩, q1315, q1316, q1332⟩ rfl) (fmE (ceV 2 e3 e4 yl_X2_put ⟨by decide, ⟨_, _, rfl⟩, q1394, qs31, q1392⟩ rfl) (fmE (ceV 2 e3 e4 yl_X2_take ⟨by decide, ⟨_, _, rfl⟩, q1400, qs32, q1398⟩ rfl) (fmE (ceV 2 e3 e4 yl_X2_goOn ⟨by decide, ⟨_, _, rfl⟩, q1404, qs33, q1402⟩ rfl) (fmE (ceV 12 e3 e4 yl_X12_ofClass ⟨by decide, ⟨_, _, rfl⟩, q1438, q1439, q1437⟩ rfl) (fmE (ceV 2 e3 e4 yl_X2_gather ⟨by decide, ⟨_, _, rfl⟩, q1547, qs50, q1545⟩ rfl) (fmE (ceV 2 e3 e4 yl_X2_join ⟨by decide, ⟨_, _, rfl⟩, q1523, qs46, q1521⟩ rfl) (fmE (ceV 2 e3 e4 yl_X2_refuse ⟨by decide, ⟨_, _, rfl⟩, q1540, qs49, q1538⟩ rfl) (fmz)))))))))) (fun z => Bool.noConfusion z) rfl (pkP ki (by
    intro K e1 e2 e3 e4; subst e1; subst e2
    exact fmz))
theorem r_X2_fieldAct_0 {K : JC} {l : Launch} {G : JG} {Q : Int → MH → Prop} {E : Nat → Int → MH → Prop} {h0 : MH} (ki : KI K l G yX2_fieldAct cX2_fieldAct 7 none [] 11 321 700 Q E h0) (hG : gO G = true) {v1 v2 v3 : Int} {h : MH} (H :
    ((¬ v1 = 26 →
      S_X2_take l G [(2002, 3), (8, 134)] h (fun z1 h2 =>
      ((hv h2 3 0) ≠ 0) ∧
      S_X12_ofClass l G [(2012, (hv h2 3 0)), (1, (hv h2 134 4)), (0, v2)] h2 (fun z3 h4 =>
      (∀ x4_5 : Int, x4_5 = z3 →
      S_X2_refuse l G [(2002, 3), (8, 134), (1, x4_5)] h4 (fun _ h7 =>
      S_X4_none l G [(2004, 136)] h7 (fun _ h9 =>
      (∀ x6_10 : Int, x6_10 = 7 →
      JW K 62 [(2002, 3), (0, v1), (0, v2), (0, v3), (1, x4_5), (5000, 0), (0, x6_10)] [] h9)) E) E)) E) E) ∧
    (v1 = 26 →
      S_X2_take l G [(2002, 3), (8, 137)] h (fun z11 h12 =>
      S_X2_take l G [(2002, 3), (8, 134)] h12 (fun z13 h14 =>
      ((hv h14 3 0) ≠ 0) ∧
      S_X12_ofClass l G [(2012, (hv h14 3 0)), (1, (hv h14 134 4)), (0, v2)] h14 (fun z15 h16 =>
      (∀ x4_17 : Int, x4_17 = z15 →
      S_X2_refuse l G [(2002, 3), (8, 134), (1, x4_17)] h16 (fun _ h19 =>
      S_X4_none l G [(2004, 136)] h19 (fun _ h21 =>
      (∀ x6_22 : Int, x6_22 = 7 →
      JW K 62 [(2002, 3), (0, v1), (0, v2), (0, v3), (1, x4_17), (5000, 0), (0, x6_22)] [] h21)) E) E)) E) E) E))) : JW K 0 [(2002, 3), (0, v1), (0, v2), (0, v3), (5000, 0), (5000, 0), (5000, 0)] [] h := by
  have e1 := ki.2.2.2.2.1
  have e2 := ki.2.2.2.2.2.1
  subst e1; subst e2
  exact run_ok (dia := []) (cnr := [(161, 174, 175)]) (cuts := [(62, [2002, 0, 0, 0, 1, 5000, 0], [])]) ki.1 (pk_X2_fieldAct ki hG) ok_X2_fieldAct (by decide) 33 true _ _ _ _ H
theorem r_X2_fieldAct_62 {K : JC} {l : Launch} {G : JG} {Q : Int → MH → Prop} {E : Nat → Int → MH → Prop} {h0 : MH} (ki : KI K l G yX2_fieldAct cX2_fieldAct 7 none [] 11 321 700 Q E h0) (hG : gO G = true) {v1 v2 v3 v4 v6 : Int} {h : MH} (H :
    ((hv h 3 0) ≠ 0) ∧
    (((w32 (7 + (hv h (hv h 3 0) 8))) ≤ v6 →
      (0 ≤ (hv h 3 18)) ∧
      ((hv h 3 18) < 1500) ∧
      (0 ≤ (hv h 3 18)) ∧
      ((hv h 3 18) < 1500) ∧
      (∀ h1, h1 = hset h 77 (hv h 3 18) (l_or (hv h 77 (hv h 3 18)) v4) →
      (((lc v4 0) = 0 →
        Q 0 h1) ∧
      (¬ (lc v4 0) = 0 →
        (((v1 = 25 ∧ (hv h1 136 0) = 0) →
          Q 0 h1) ∧
        (¬ (v1 = 25 ∧ (hv h1 136 0) = 0) →
          ((¬ v1 = 25 →
            S_X2_goOn l G [(2002, 3), (0, (w32 ((hv h1 3 17) + 1)))] h1 (fun _ h3 =>
            Q 0 h3) E) ∧
          (v1 = 25 →
            S_X2_put l G [(2002, 3), (8, 136)] h1 (fun _ h5 =>
            S_X2_goOn l G [(2002, 3), (0, (w32 ((hv h5 3 17) + 1)))] h5 (fun _ h7 =>
            Q 0 h7) E) E)))))))) ∧
    (v6 < (w32 (7 + (hv h (hv h 3 0) 8))) →
      ((¬ (lc (l_and (l_shr v4 v6) 1) 0) = 0 →
        ((¬ v1 = 25 →
          (0 ≤ v6) ∧
          (v6 < 63) ∧
          ((hv h 6 v6) ≠ 0) ∧
          (0 ≤ v3) ∧
          (v3 < (hn h (hv h 6 v6))) ∧
          S_X2_join l G [(2002, 3), (10, (hv h (hv h 6 v6) v3)), (8, 137)] h (fun _ h9 =>
          (∀ x6_10 : Int, x6_10 = w32 (v6 + 1) →
          JW K 62 [(2002, 3), (0, v1), (0, v2), (0, v3), (1, v4), (5000, 0), (0, x6_10)] [] h9)) E) ∧
        (v1 = 25 →
          (0 ≤ v6) ∧
          (v6 < 63) ∧
          ((hv h 6 v6) ≠ 0) ∧
          (0 ≤ v3) ∧
          (v3 < (hn h (hv h 6 v6))) ∧
          S_X2_gather l G [(2002, 3), (10, (hv h (hv h 6 v6) v3))] h (fun _ h12 =>
          (∀ x6_13 : Int, x6_13 = w32 (v6 + 1) →
          JW K 62 [(2002, 3), (0, v1), (0, v2), (0, v3), (1, v4), (5000, 0), (0, x6_13)] [] h12)) E))) ∧
      ((lc (l_and (l_shr v4 v6) 1) 0) = 0 →
        (∀ x6_14 : Int, x6_14 = w32 (v6 + 1) →
        JW K 62 [(2002, 3), (0, v1), (0, v2), (0, v3), (1, v4), (5000, 0), (0, x6_14)] [] h)))))) : JW K 62 [(2002, 3), (0, v1), (0, v2), (0, v3), (1, v4), (5000, 0), (0, v6)] [] h := by
  have e1 := ki.2.2.2.2.1
  have e2 := ki.2.2.2.2.2.1
  subst e1; subst e2
  exact run_ok (dia := []) (cnr := [(161, 174, 175)]) (cuts := [(62, [2002, 0, 0, 0, 1, 5000, 0], [])]) ki.1 (pk_X2_fieldAct ki hG) ok_X2_fieldAct (by decide) 38 true _ _ _ _ H
abbrev k_X2_calls : List (Nat × List (Nat × Instr)) := [(15, [(0, .aload_n 0), (1, .getfield 19), (4, .aload_n 0), (5, .getfield 214), (8, .getfield 407), (11, .aaload), (12, .astore 4), (14, .iload_n 1)]),
  (44, [(15, .tableswitch 383 29 32 #[29, 84, 129, 331])]),
  (93, [(44, .iconst 0), (45, .istore 5), (47, .iload 5), (49, .bipush 40), (51, .if_icmp .ge 29), (54, .aload_n 0), (55, .getfield 95), (58, .iload 5), (60, .iload 5), (62, .iload_n 3), (63, .if_icmp .ne 9), (66, .ldc2_w 379), (69, .goto 4), (72, .lconst 0), (73, .lastore), (74, .iinc 5 1), (77, .goto (-30)), (80, .aload_n 0), (81, .aload_n 0), (82, .getfield 100), (85, .getfield 148), (88, .iload_n 3), (89, .aaload), (90, .ldc2_w 379)]),
  (141, [(93, .invokevirtual 469), (96, .goto 395), (99, .aload_n 0), (100, .getfield 100), (103, .iload_n 2), (104, .invokevirtual 473), (107, .astore 5), (109, .aload_n 0), (110, .aload 5), (112, .aload_n 0), (113, .aload_n 0), (114, .getfield 68), (117, .getfield 171), (120, .bipush 8), (122, .aload_n 0), (123, .getfield 301), (126, .iadd), (127, .aload 5), (129, .getfield 168), (132, .isub), (133, .aaload), (134, .iload_n 2), (135, .invokevirtual 477), (138, .invokevirtual 469)]),
  (196, [(141, .goto 350), (144, .aload_n 0), (145, .getfield 214), (148, .getfield 481), (151, .ifCond .le 14), (154, .aload_n 0), (155, .aload_n 0), (156, .getfield 79), (159, .invokevirtual 349), (162, .goto 7), (165, .aload_n 0), (166, .getfield 79), (169, .astore 6), (171, .aload 4), (173, .getfield 484), (176, .ifCond .ne 7), (179, .iconst 1), (180, .goto 4), (183, .iconst 0), (184, .istore 7), (186, .aload 4), (188, .getfield 484), (191, .ifCond .ne 33), (194, .aload 4)]),
  (248, [(196, .iconst 1), (197, .putfield 484), (200, .aload 4), (202, .aload_n 0), (203, .getfield 68), (206, .getfield 381), (209, .putfield 487), (212, .aload 4), (214, .aload_n 0), (215, .getfield 68), (218, .getfield 384), (221, .putfield 488), (224, .iload 7), (226, .aload 4), (228, .getfield 487), (231, .aload_n 0), (232, .getfield 68), (235, .getfield 381), (238, .iconst (-1)), (239, .ixor), (240, .iand), (241, .ifCond .ne 21), (244, .aload_n 0), (245, .getfield 68)]),
  (294, [(248, .getfield 384), (251, .aload 4), (253, .getfield 488), (256, .iconst (-1)), (257, .ixor), (258, .iand), (259, .ifCond .eq 7), (262, .iconst 1), (263, .goto 4), (266, .iconst 0), (267, .ior), (268, .istore 7), (270, .aload 4), (272, .dup), (273, .getfield 487), (276, .aload_n 0), (277, .getfield 68), (280, .getfield 381), (283, .iand), (284, .putfield 487), (287, .aload 4), (289, .dup), (290, .getfield 488), (293, .aload_n 0)]),
  (348, [(294, .getfield 68), (297, .getfield 384), (300, .ior), (301, .putfield 488), (304, .aload_n 0), (305, .getfield 214), (308, .getfield 481), (311, .ifCond .le 18), (314, .iload 7), (316, .aload 4), (318, .getfield 489), (321, .aload 6), (323, .invokevirtual 221), (326, .ior), (327, .istore 7), (329, .iload 7), (331, .ifCond .eq 160), (334, .aload_n 0), (335, .aload 4), (337, .getfield 418), (340, .invokevirtual 227), (343, .goto 148), (346, .aload_n 0), (347, .aload_n 0)]),
  (398, [(348, .getfield 79), (351, .invokevirtual 349), (354, .pop), (355, .aload_n 0), (356, .getfield 100), (359, .aload_n 0), (360, .getfield 79), (363, .getfield 372), (366, .iconst 1), (367, .invokevirtual 375), (370, .lstore 8), (372, .aload_n 0), (373, .aload_n 0), (374, .getfield 79), (377, .lload 8), (379, .invokevirtual 460), (382, .lload 8), (384, .lconst 0), (385, .lcmp), (386, .ifCond .eq 105), (389, .aload_n 0), (390, .lload 8), (392, .invokevirtual 357), (395, .goto 96)]),
  (446, [(398, .aload_n 0), (399, .aload_n 0), (400, .getfield 79), (403, .invokevirtual 349), (406, .pop), (407, .aload_n 0), (408, .getfield 100), (411, .aload_n 0), (412, .getfield 79), (415, .getfield 372), (418, .iload_n 2), (419, .invokevirtual 375), (422, .aload_n 0), (423, .getfield 79), (426, .getfield 372), (429, .lconst 1), (430, .land), (431, .lor), (432, .lstore 10), (434, .aload_n 0), (435, .getfield 79), (438, .getfield 372), (441, .lload 10), (443, .ldc2_w 379)]),
  (488, [(446, .lxor), (447, .land), (448, .lconst 0), (449, .lcmp), (450, .ifCond .eq 10), (453, .aload_n 0), (454, .ldc2_w 455), (457, .invokevirtual 357), (460, .lload 10), (462, .lconst 0), (463, .lcmp), (464, .ifCond .ne 4), (467, .return_), (468, .aload_n 0), (469, .aload_n 0), (470, .getfield 79), (473, .lload 10), (475, .invokevirtual 346), (478, .invokevirtual 342), (481, .aload_n 0), (482, .aload_n 0), (483, .getfield 211), (486, .iconst 1), (487, .iadd)]),
  (500, [(488, .invokevirtual 352), (491, .return_)])]
theorem ok_X2_calls : CodeOK cX2_calls k_X2_calls := okw 0 (by decide +kernel) (okc (by decide +kernel) (okw 44 (by decide +kernel) (okw 93 (by decide +kernel) (okw 141 (by decide +kernel) (okw 196 (by decide +kernel) (okw 248 (by decide +kernel) (okw 294 (by decide +kernel) (okw 348 (by decide +kernel) (okw 398 (by decide +kernel) (okw 446 (by decide +kernel) (okw 488 (by decide +kernel) (okn))))))))))))
abbrev p_X2_calls (l : Launch) (G : JG) : JP := (true, [(19, 2, 2, 1040115, 2), (68, 2, 19, 2003, 77), (79, 2, 22, 2004, 131), (95, 2, 28, 1040101, 140), (100, 2, 0, 16, 0), (148, 12, 6, 128, 0), (168, 14, 3, 0, 0), (171, 3, 1, 118, 0), (211, 2, 17, 0, 0), (214, 2, 16, 18, 0), (301, 2, 25, 0, 0), (372, 4, 4, 1, 0), (381, 3, 2, 0, 0), (384, 3, 3, 0, 0), (407, 14, 0, 0, 0), (418, 5, 8, 105, 0), (481, 14, 4, 0, 0), (484, 5, 0, 0, 0), (487, 5, 2, 0, 0), (488, 5, 3, 0, 0), (489, 5, 1, 8, 0)], [], [(379, (-1)), (455, 32)], [(484, 5, 0, 2), (487, 5, 2, 0), (488, 5, 3, 0)], [], [], [(221, 1, [8, 2004], 2, S_X4_join l G), (227, 1, [105, 2002], 700, S_X2_wakeAll l G), (342, 1, [8, 2002], 700, S_X2_put l G), (346, 1, [1, 2004], 8, S_X4_sites l G), (349, 1, [8, 2002], 8, S_X2_take l G), (352, 1, [0, 2002], 700, S_X2_goOn l G), (357, 1, [1, 2002], 700, S_X2_hurl l G), (375, 1, [0, 1, 2012], 1, S_X12_ofClass l G), (460, 1, [1, 8, 2002], 700, S_X2_refuse l G), (469, 1, [1, 18, 2002], 700, S_X2_call l G), (473, 1, [0, 2012], 18, S_X12_named l G), (477, 1, [0, 8, 2002], 1, S_X2_findReceivers l G)], false, 700, [])
theorem pk_X2_calls {K : JC} {l : Launch} {G : JG} {Q : Int → MH → Prop} {E : Nat → Int → MH → Prop} {h0 : MH} (ki : KI K l G yX2_calls cX2_calls 12 none [] 12 347 700 Q E h0) (hG : gO G = true) : POK K RX2 (p_X2_calls l G) :=
  POKi (y := yX2_calls) ki hG (rfs rf_X2_ok (by decide +kernel)) fmz (subs (by decide +kernel) rl_X2_ok) (rps rp_X2_ok (by decide +kernel)) fmz fmz
  (pkE ki (by
    intro K e1 e2 e3 e4; subst e1; subst e2
    exact fmE (ceV 4 e3 e4 yl_X4_join ⟨by decide, ⟨_, _, rfl⟩, q1361, q1362, q1410⟩ rfl) (fmE (ceV 2 e3 e4 yl_X2_wakeAll ⟨by decide, ⟨_, _, rfl⟩, q1456, qs39, q1454⟩ rfl) (fmE (ceV 2 e3 e4 yl_X2_put ⟨by decide, ⟨_, _, rfl⟩, q1394, qs31, q1392⟩ rfl) (fmE (ceV 4 e3 e4 yl_X4_sites ⟨by decide, ⟨_, _, rfl⟩, q1342, q1343, q1397⟩ rfl) (fmE (ceV 2 e3 e4 yl_X2_take ⟨by decide, ⟨_, _, rfl⟩, q1400, qs32, q1398⟩ rfl) (fmE (ceV 2 e3 e4 yl_X2_goOn ⟨by decide, ⟨_, _, rfl⟩, q1404, qs33, q1402⟩ rfl) (fmE (ceV 2 e3 e4 yl_X2_hurl ⟨by decide, ⟨_, _, rfl⟩, q1431, qs36, q1429⟩ rfl) (fmE (ceV 12 e3 e4 yl_X12_ofClass ⟨by decide, ⟨_, _, rfl⟩, q1438, q1439, q1437⟩ rfl) (fmE (ceV 2 e3 e4 yl_X2_refuse ⟨by decide, ⟨_, _, rfl⟩, q1540, qs49, q1538⟩ rfl) (fmE (ceV 2 e3 e4 yl_X2_call ⟨by decide, ⟨_, _, rfl⟩, q1568, qs55, q1566⟩ rfl) (fmE (ceV 12 e3 e4 yl_X12_named ⟨by decide, ⟨_, _, rfl⟩, q1148, q1149, q1578⟩ rfl) (fmE (ceV 2 e3 e4 yl_X2_findReceivers ⟨by decide, ⟨_, _, rfl⟩, q1581, qs58, q1579⟩ rfl) (fmz)))))))))))))) (fun z => Bool.noConfusion z) rfl (pkP ki (by
    intro K e1 e2 e3 e4; subst e1; subst e2
    exact fmz))
theorem r_X2_calls_0 {K : JC} {l : Launch} {G : JG} {Q : Int → MH → Prop} {E : Nat → Int → MH → Prop} {h0 : MH} (ki : KI K l G yX2_calls cX2_calls 12 none [] 12 347 700 Q E h0) (hG : gO G = true) {v1 v2 v3 : Int} {h : MH} (H :
    ((hv h 3 16) ≠ 0) ∧
    (0 ≤ (hv h (hv h 3 16) 0)) ∧
    ((hv h (hv h 3 16) 0) < 40) ∧
    (∀ x4_1 : Int, x4_1 = (hv h 5 (hv h (hv h 3 16) 0)) →
    (((v1 = 29 →
      (∀ x5_2 : Int, x5_2 = 0 →
      JW K 47 [(2002, 3), (0, v1), (0, v2), (0, v3), (9, x4_1), (0, x5_2), (5000, 0), (5000, 0), (5000, 0), (5000, 0), (5000, 0), (5000, 0)] [] h)) ∧
    ((v1 = 29 + 1 →
      ((hv h 3 0) ≠ 0) ∧
      S_X12_named l G [(2012, (hv h 3 0)), (0, v2)] h (fun z3 h4 =>
      (∀ x5_5 : Int, x5_5 = z3 →
      (x5_5 ≠ 0) ∧
      ((hv h4 80 1) ≠ 0) ∧
      (0 ≤ (w32 ((w32 (8 + (hv h4 3 25))) - (hv h4 x5_5 3)))) ∧
      ((w32 ((w32 (8 + (hv h4 3 25))) - (hv h4 x5_5 3))) < (hn h4 (hv h4 80 1))) ∧
      S_X2_findReceivers l G [(2002, 3), (8, (hv h4 (hv h4 80 1) (w32 ((w32 (8 + (hv h4 3 25))) - (hv h4 x5_5 3))))), (0, v2)] h4 (fun z6 h7 =>
      S_X2_call l G [(2002, 3), (18, x5_5), (1, z6)] h7 (fun _ h9 =>
      Q 0 h9) E) E)) E) ∧
    ((v1 = 29 + 1 + 1 →
      ((hv h 3 16) ≠ 0) ∧
      (((hv h (hv h 3 16) 4) ≤ 0 →
        (∀ x6_10 : Int, x6_10 = 134 →
        (x4_1 ≠ 0) ∧
        (∀ x7_11 : Int, x7_11 = (if (hv h x4_1 0) = 0 then 1 else 0 : Int) →
        (x4_1 ≠ 0) ∧
        ((¬ (hv h x4_1 0) = 0 →
          (x4_1 ≠ 0) ∧
          (((i_and (hv h x4_1 2) (i_xor (hv h 80 2) (-1))) = 0 → x4_1 ≠ 0)) ∧
          (∀ x7_12 : Int, x7_12 = (i_or x7_11 (if (i_and (hv h x4_1 2) (i_xor (hv h 80 2) (-1))) = 0 then (if (i_and (hv h 80 3) (i_xor (hv h x4_1 3) (-1))) = 0 then 0 else 1 : Int) else 1 : Int)) →
          (x4_1 ≠ 0) ∧
          (x4_1 ≠ 0) ∧
          (∀ h13, h13 = hset h x4_1 2 (i_and (hv h x4_1 2) (hv h 80 2)) →
          (x4_1 ≠ 0) ∧
          (x4_1 ≠ 0) ∧
          (∀ h14, h14 = hset h13 x4_1 3 (i_or (hv h13 x4_1 3) (hv h13 80 3)) →
          ((hv h14 3 16) ≠ 0) ∧
          (((hv h14 (hv h14 3 16) 4) ≤ 0 →
            ((x7_12 = 0 →
              Q 0 h14) ∧
            (¬ x7_12 = 0 →
              (x4_1 ≠ 0) ∧
              S_X2_wakeAll l G [(2002, 3), (105, (hv h14 x4_1 8))] h14 (fun _ h16 =>
              Q 0 h16) E))) ∧
          (0 < (hv h14 (hv h14 3 16) 4) →
            (x4_1 ≠ 0) ∧
            ((hv h14 x4_1 1) ≠ 0) ∧
            S_X4_join l G [(2004, (hv h14 x4_1 1)), (8, x6_10)] h14 (fun z17 h18 =>
            (∀ x7_19 : Int, x7_19 = (i_or x7_12 z17) →
            ((x7_19 = 0 →
              Q 0 h18) ∧
            (¬ x7_19 = 0 →
              (x4_1 ≠ 0) ∧
              S_X2_wakeAll l G [(2002, 3), (105, (hv h18 x4_1 8))] h18 (fun _ h21 =>
              Q 0 h21) E)))) E)))))) ∧
        ((hv h x4_1 0) = 0 →
          (x4_1 ≠ 0) ∧
          ((1 : Int) = 0 ∨ (1 : Int) = 1) ∧
          (∀ h22, h22 = hset h x4_1 0 1 →
          (x4_1 ≠ 0) ∧
          (∀ h23, h23 = hset h22 x4_1 2 (hv h22 80 2) →
          (x4_1 ≠ 0) ∧
          (∀ h24, h24 = hset h23 x4_1 3 (hv h23 80 3) →
          (x4_1 ≠ 0) ∧
          (((i_and (hv h24 x4_1 2) (i_xor (hv h24 80 2) (-1))) = 0 → x4_1 ≠ 0)) ∧
          (∀ x7_25 : Int, x7_25 = (i_or x7_11 (if (i_and (hv h24 x4_1 2) (i_xor (hv h24 80 2) (-1))) = 0 then (if (i_and (hv h24 80 3) (i_xor (hv h24 x4_1 3) (-1))) = 0 then 0 else 1 : Int) else 1 : Int)) →
          (x4_1 ≠ 0) ∧
          (x4_1 ≠ 0) ∧
          (∀ h26, h26 = hset h24 x4_1 2 (i_and (hv h24 x4_1 2) (hv h24 80 2)) →
          (x4_1 ≠ 0) ∧
          (x4_1 ≠ 0) ∧
          (∀ h27, h27 = hset h26 x4_1 3 (i_or (hv h26 x4_1 3) (hv h26 80 3)) →
          ((hv h27 3 16) ≠ 0) ∧
          (((hv h27 (hv h27 3 16) 4) ≤ 0 →
            ((x7_25 = 0 →
              Q 0 h27) ∧
            (¬ x7_25 = 0 →
              (x4_1 ≠ 0) ∧
              S_X2_wakeAll l G [(2002, 3), (105, (hv h27 x4_1 8))] h27 (fun _ h29 =>
              Q 0 h29) E))) ∧
          (0 < (hv h27 (hv h27 3 16) 4) →
            (x4_1 ≠ 0) ∧
            ((hv h27 x4_1 1) ≠ 0) ∧
            S_X4_join l G [(2004, (hv h27 x4_1 1)), (8, x6_10)] h27 (fun z30 h31 =>
            (∀ x7_32 : Int, x7_32 = (i_or x7_25 z30) →
            ((x7_32 = 0 →
              Q 0 h31) ∧
            (¬ x7_32 = 0 →
              (x4_1 ≠ 0) ∧
              S_X2_wakeAll l G [(2002, 3), (105, (hv h31 x4_1 8))] h31 (fun _ h34 =>
              Q 0 h34) E)))) E))))))))))))) ∧
      (0 < (hv h (hv h 3 16) 4) →
        S_X2_take l G [(2002, 3), (8, 134)] h (fun z35 h36 =>
        (∀ x6_37 : Int, x6_37 = z35 →
        (x4_1 ≠ 0) ∧
        (∀ x7_38 : Int, x7_38 = (if (hv h36 x4_1 0) = 0 then 1 else 0 : Int) →
        (x4_1 ≠ 0) ∧
        ((¬ (hv h36 x4_1 0) = 0 →
          (x4_1 ≠ 0) ∧
          (((i_and (hv h36 x4_1 2) (i_xor (hv h36 80 2) (-1))) = 0 → x4_1 ≠ 0)) ∧
          (∀ x7_39 : Int, x7_39 = (i_or x7_38 (if (i_and (hv h36 x4_1 2) (i_xor (hv h36 80 2) (-1))) = 0 then (if (i_and (hv h36 80 3) (i_xor (hv h36 x4_1 3) (-1))) = 0 then 0 else 1 : Int) else 1 : Int)) →
          (x4_1 ≠ 0) ∧
          (x4_1 ≠ 0) ∧
          (∀ h40, h40 = hset h36 x4_1 2 (i_and (hv h36 x4_1 2) (hv h36 80 2)) →
          (x4_1 ≠ 0) ∧
          (x4_1 ≠ 0) ∧
          (∀ h41, h41 = hset h40 x4_1 3 (i_or (hv h40 x4_1 3) (hv h40 80 3)) →
          ((hv h41 3 16) ≠ 0) ∧
          (((hv h41 (hv h41 3 16) 4) ≤ 0 →
            ((x7_39 = 0 →
              Q 0 h41) ∧
            (¬ x7_39 = 0 →
              (x4_1 ≠ 0) ∧
              S_X2_wakeAll l G [(2002, 3), (105, (hv h41 x4_1 8))] h41 (fun _ h43 =>
              Q 0 h43) E))) ∧
          (0 < (hv h41 (hv h41 3 16) 4) →
            (x4_1 ≠ 0) ∧
            ((hv h41 x4_1 1) ≠ 0) ∧
            S_X4_join l G [(2004, (hv h41 x4_1 1)), (8, x6_37)] h41 (fun z44 h45 =>
            (∀ x7_46 : Int, x7_46 = (i_or x7_39 z44) →
            ((x7_46 = 0 →
              Q 0 h45) ∧
            (¬ x7_46 = 0 →
              (x4_1 ≠ 0) ∧
              S_X2_wakeAll l G [(2002, 3), (105, (hv h45 x4_1 8))] h45 (fun _ h48 =>
              Q 0 h48) E)))) E)))))) ∧
        ((hv h36 x4_1 0) = 0 →
          (x4_1 ≠ 0) ∧
          ((1 : Int) = 0 ∨ (1 : Int) = 1) ∧
          (∀ h49, h49 = hset h36 x4_1 0 1 →
          (x4_1 ≠ 0) ∧
          (∀ h50, h50 = hset h49 x4_1 2 (hv h49 80 2) →
          (x4_1 ≠ 0) ∧
          (∀ h51, h51 = hset h50 x4_1 3 (hv h50 80 3) →
          (x4_1 ≠ 0) ∧
          (((i_and (hv h51 x4_1 2) (i_xor (hv h51 80 2) (-1))) = 0 → x4_1 ≠ 0)) ∧
          (∀ x7_52 : Int, x7_52 = (i_or x7_38 (if (i_and (hv h51 x4_1 2) (i_xor (hv h51 80 2) (-1))) = 0 then (if (i_and (hv h51 80 3) (i_xor (hv h51 x4_1 3) (-1))) = 0 then 0 else 1 : Int) else 1 : Int)) →
          (x4_1 ≠ 0) ∧
          (x4_1 ≠ 0) ∧
          (∀ h53, h53 = hset h51 x4_1 2 (i_and (hv h51 x4_1 2) (hv h51 80 2)) →
          (x4_1 ≠ 0) ∧
          (x4_1 ≠ 0) ∧
          (∀ h54, h54 = hset h53 x4_1 3 (i_or (hv h53 x4_1 3) (hv h53 80 3)) →
          ((hv h54 3 16) ≠ 0) ∧
          (((hv h54 (hv h54 3 16) 4) ≤ 0 →
            ((x7_52 = 0 →
              Q 0 h54) ∧
            (¬ x7_52 = 0 →
              (x4_1 ≠ 0) ∧
              S_X2_wakeAll l G [(2002, 3), (105, (hv h54 x4_1 8))] h54 (fun _ h56 =>
              Q 0 h56) E))) ∧
          (0 < (hv h54 (hv h54 3 16) 4) →
            (x4_1 ≠ 0) ∧
            ((hv h54 x4_1 1) ≠ 0) ∧
            S_X4_join l G [(2004, (hv h54 x4_1 1)), (8, x6_37)] h54 (fun z57 h58 =>
            (∀ x7_59 : Int, x7_59 = (i_or x7_52 z57) →
            ((x7_59 = 0 →
              Q 0 h58) ∧
            (¬ x7_59 = 0 →
              (x4_1 ≠ 0) ∧
              S_X2_wakeAll l G [(2002, 3), (105, (hv h58 x4_1 8))] h58 (fun _ h61 =>
              Q 0 h61) E)))) E))))))))))))) E))) ∧
    ((v1 = 29 + 1 + 1 + 1 →
      S_X2_take l G [(2002, 3), (8, 134)] h (fun z62 h63 =>
      ((hv h63 3 0) ≠ 0) ∧
      S_X12_ofClass l G [(2012, (hv h63 3 0)), (1, (hv h63 134 4)), (0, 1)] h63 (fun z64 h65 =>
      (∀ x8_66 : Int, x8_66 = z64 →
      S_X2_refuse l G [(2002, 3), (8, 134), (1, x8_66)] h65 (fun _ h68 =>
      (((lc x8_66 0) = 0 →
        Q 0 h68) ∧
      (¬ (lc x8_66 0) = 0 →
        S_X2_hurl l G [(2002, 3), (1, x8_66)] h68 (fun _ h70 =>
        Q 0 h70) E))) E)) E) E) ∧
    True)))) ∧ ((v1 < 29 ∨ 32 < v1) →
      S_X2_take l G [(2002, 3), (8, 134)] h (fun z71 h72 =>
      ((hv h72 3 0) ≠ 0) ∧
      S_X12_ofClass l G [(2012, (hv h72 3 0)), (1, (hv h72 134 4)), (0, v2)] h72 (fun z73 h74 =>
      (∀ x10_75 : Int, x10_75 = (l_or z73 (l_and (hv h74 134 4) 1)) →
      (((lc (l_and (hv h74 134 4) (l_xor x10_75 (-1))) 0) = 0 →
        ((¬ (lc x10_75 0) = 0 →
          S_X4_sites l G [(2004, 134), (1, x10_75)] h74 (fun z76 h77 =>
          S_X2_put l G [(2002, 3), (8, z76)] h77 (fun _ h79 =>
          S_X2_goOn l G [(2002, 3), (0, (w32 ((hv h79 3 17) + 1)))] h79 (fun _ h81 =>
          Q 0 h81) E) E) E) ∧
        ((lc x10_75 0) = 0 →
          Q 0 h74))) ∧
      (¬ (lc (l_and (hv h74 134 4) (l_xor x10_75 (-1))) 0) = 0 →
        S_X2_hurl l G [(2002, 3), (1, 32)] h74 (fun _ h83 =>
        ((¬ (lc x10_75 0) = 0 →
          S_X4_sites l G [(2004, 134), (1, x10_75)] h83 (fun z84 h85 =>
          S_X2_put l G [(2002, 3), (8, z84)] h85 (fun _ h87 =>
          S_X2_goOn l G [(2002, 3), (0, (w32 ((hv h87 3 17) + 1)))] h87 (fun _ h89 =>
          Q 0 h89) E) E) E) ∧
        ((lc x10_75 0) = 0 →
          Q 0 h83))) E)))) E) E)))) : JW K 0 [(2002, 3), (0, v1), (0, v2), (0, v3), (5000, 0), (5000, 0), (5000, 0), (5000, 0), (5000, 0), (5000, 0), (5000, 0), (5000, 0)] [] h := by
  have e1 := ki.2.2.2.2.1
  have e2 := ki.2.2.2.2.2.1
  subst e1; subst e2
  exact run_ok (dia := [(63, 73), (176, 184), (241, 267)]) (cnr := []) (cuts := [(47, [2002, 0, 0, 0, 9, 0, 5000, 5000, 5000, 5000, 5000, 5000], [])]) ki.1 (pk_X2_calls ki hG) ok_X2_calls (by decide) 87 true _ _ _ _ H
theorem r_X2_calls_47 {K : JC} {l : Launch} {G : JG} {Q : Int → MH → Prop} {E : Nat → Int → MH → Prop} {h0 : MH} (ki : KI K l G yX2_calls cX2_calls 12 none [] 12 347 700 Q E h0) (hG : gO G = true) {v1 v2 v3 v4 v5 : Int} {h : MH} (H :
    ((40 ≤ v5 →
      ((hv h 3 0) ≠ 0) ∧
      ((hv h (hv h 3 0) 6) ≠ 0) ∧
      (0 ≤ v3) ∧
      (v3 < (hn h (hv h (hv h 3 0) 6))) ∧
      S_X2_call l G [(2002, 3), (18, (hv h (hv h (hv h 3 0) 6) v3)), (1, (-1))] h (fun _ h2 =>
      Q 0 h2) E) ∧
    (v5 < 40 →
      (0 ≤ v5) ∧
      (v5 < 40) ∧
      (∀ h3, h3 = hset h 143 v5 (if v5 = v3 then (-1) else 0 : Int) →
      (∀ x5_4 : Int, x5_4 = w32 (v5 + 1) →
      JW K 47 [(2002, 3), (0, v1), (0, v2), (0, v3), (9, v4), (0, x5_4), (5000, 0), (5000, 0), (5000, 0), (5000, 0), (5000, 0), (5000, 0)] [] h3))))) : JW K 47 [(2002, 3), (0, v1), (0, v2), (0, v3), (9, v4), (0, v5), (5000, 0), (5000, 0), (5000, 0), (5000, 0), (5000, 0), (5000, 0)] [] h := by
  have e1 := ki.2.2.2.2.1
  have e2 := ki.2.2.2.2.2.1
  subst e1; subst e2
  exact run_ok (dia := [(63, 73), (176, 184), (241, 267)]) (cnr := []) (cuts := [(47, [2002, 0, 0, 0, 9, 0, 5000, 5000, 5000, 5000, 5000, 5000], [])]) ki.1 (pk_X2_calls ki hG) ok_X2_calls (by decide) 14 true _ _ _ _ H
abbrev k_X2_call : List (Nat × List (Nat × Instr)) := [(43, [(0, .aload_n 1), (1, .getfield 168), (4, .iconst 1), (5, .isub), (6, .istore 4), (8, .iload 4), (10, .ifCond .lt 21), (13, .aload_n 0), (14, .aload_n 0), (15, .getfield 92), (18, .iload 4), (20, .aaload), (21, .invokevirtual 349), (24, .pop), (25, .iinc 4 (-1)), (28, .goto (-20)), (31, .lload_n 2), (32, .lconst 0), (33, .lcmp), (34, .ifCond .ne 4), (37, .return_), (38, .aload_n 0), (39, .getfield 19), (42, .aload_n 0)]),
  (88, [(43, .getfield 214), (46, .getfield 407), (49, .aaload), (50, .astore 4), (52, .iconst 0), (53, .istore 5), (55, .iconst 0), (56, .istore 6), (58, .iconst (-1)), (59, .istore 7), (61, .iconst 0), (62, .istore 8), (64, .aload_n 0), (65, .getfield 86), (68, .invokevirtual 122), (71, .iconst 0), (72, .istore 9), (74, .iload 9), (76, .aload_n 0), (77, .getfield 100), (80, .getfield 148), (83, .arraylength), (84, .if_icmp .ge 186), (87, .aload_n 0)]),
  (134, [(88, .getfield 95), (91, .iload 9), (93, .laload), (94, .lconst 0), (95, .lcmp), (96, .ifCond .ne 6), (99, .goto 165), (102, .aload_n 0), (103, .aload_n 0), (104, .getfield 100), (107, .getfield 148), (110, .iload 9), (112, .aaload), (113, .lload_n 2), (114, .ldc2_w 379), (117, .lcmp), (118, .ifCond .eq 7), (121, .iconst 1), (122, .goto 4), (125, .iconst 0), (126, .aload_n 0), (127, .getfield 75), (130, .getfield 381), (133, .aload_n 0)]),
  (184, [(134, .getfield 75), (137, .getfield 384), (140, .invokevirtual 496), (143, .aload_n 0), (144, .getfield 19), (147, .iload 9), (149, .aaload), (150, .astore 10), (152, .aload_n 0), (153, .aload 10), (155, .getfield 418), (158, .invokevirtual 231), (161, .iload 6), (163, .aload 10), (165, .getfield 500), (168, .ior), (169, .istore 6), (171, .aload 10), (173, .getfield 409), (176, .lconst 0), (177, .lcmp), (178, .ifCond .eq 38), (181, .aload_n 0), (182, .aload 10)]),
  (237, [(184, .getfield 409), (187, .aload 10), (189, .getfield 412), (192, .aload_n 0), (193, .getfield 75), (196, .getfield 381), (199, .aload 10), (201, .getfield 500), (204, .iconst (-1)), (205, .ixor), (206, .iand), (207, .ior), (208, .aload 10), (210, .getfield 415), (213, .invokevirtual 387), (216, .aload 10), (218, .getfield 484), (221, .ifCond .ne 6), (224, .goto 40), (227, .iconst 1), (228, .istore 5), (230, .iload 7), (232, .aload 10), (234, .getfield 487)]),
  (288, [(237, .iand), (238, .istore 7), (240, .iload 8), (242, .aload 10), (244, .getfield 488), (247, .ior), (248, .istore 8), (250, .aload_n 0), (251, .getfield 86), (254, .aload 10), (256, .getfield 489), (259, .invokevirtual 221), (262, .istore 11), (264, .iinc 9 1), (267, .goto (-193)), (270, .aload_n 0), (271, .aload 4), (273, .iload 6), (275, .invokevirtual 503), (278, .iload 5), (280, .ifCond .ne 4), (283, .return_), (284, .aload_n 0), (285, .getfield 68)]),
  (335, [(288, .iload 7), (290, .aload_n 0), (291, .getfield 75), (294, .getfield 381), (297, .iload 6), (299, .iconst (-1)), (300, .ixor), (301, .iand), (302, .ior), (303, .putfield 381), (306, .aload_n 0), (307, .getfield 68), (310, .iload 8), (312, .putfield 384), (315, .aload_n 1), (316, .getfield 481), (319, .ifCond .le 11), (322, .aload_n 0), (323, .aload_n 0), (324, .getfield 86), (327, .invokevirtual 342), (330, .aload_n 0), (331, .aload_n 0), (332, .getfield 211)]),
  (349, [(335, .iconst 1), (336, .iadd), (337, .invokevirtual 352), (340, .return_)])]
theorem ok_X2_call : CodeOK cX2_call k_X2_call := okw 0 (by decide +kernel) (okw 43 (by decide +kernel) (okw 88 (by decide +kernel) (okw 134 (by decide +kernel) (okw 184 (by decide +kernel) (okw 237 (by decide +kernel) (okw 288 (by decide +kernel) (okw 335 (by decide +kernel) (okn))))))))
abbrev p_X2_call (l : Launch) (G : JG) : JP := (true, [(19, 2, 2, 1040115, 2), (68, 2, 19, 2003, 77), (75, 2, 21, 2003, 113), (86, 2, 24, 2004, 133), (92, 2, 27, 1004114, 135), (95, 2, 28, 1040101, 140), (100, 2, 0, 16, 0), (148, 12, 6, 128, 0), (168, 14, 3, 0, 0), (211, 2, 17, 0, 0), (214, 2, 16, 18, 0), (381, 3, 2, 0, 0), (384, 3, 3, 0, 0), (407, 14, 0, 0, 0), (409, 5, 4, 1, 0), (412, 5, 5, 0, 0), (415, 5, 6, 0, 0), (418, 5, 8, 105, 0), (481, 14, 4, 0, 0), (484, 5, 0, 0, 0), (487, 5, 2, 0, 0), (488, 5, 3, 0, 0), (489, 5, 1, 8, 0), (500, 5, 7, 0, 0)], [], [(379, (-1))], [(381, 3, 2, 0), (384, 3, 3, 0)], [], [], [(122, 1, [2004], 700, S_X4_none l G), (221, 1, [8, 2004], 2, S_X4_join l G), (231, 1, [105, 2002], 700, S_X2_use l G), (342, 1, [8, 2002], 700, S_X2_put l G), (349, 1, [8, 2002], 8, S_X2_take l G), (352, 1, [0, 2002], 700, S_X2_goOn l G), (387, 1, [0, 0, 1, 2002], 700, S_X2_hurl_2 l G), (496, 1, [0, 0, 0, 18, 2002], 700, S_X2_enter l G), (503, 1, [0, 9, 2002], 700, S_X2_unlock l G)], false, 700, [])
theorem pk_X2_call {K : JC} {l : Launch} {G : JG} {Q : Int → MH → Prop} {E : Nat → Int → MH → Prop} {h0 : MH} (ki : KI K l G yX2_call cX2_call 12 none [] 9 276 700 Q E h0) (hG : gO G = true) : POK K RX2 (p_X2_call l G) :=
  POKi (y := yX2_call) ki hG (rfs rf_X2_ok (by decide +kernel)) fmz (subs (by decide +kernel) rl_X2_ok) (rps rp_X2_ok (by decide +kernel)) fmz fmz
  (pkE ki (by
    intro K e1 e2 e3 e4; subst e1; subst e2
    exact fmE (ceV 4 e3 e4 yl_X4_none ⟨by decide, ⟨_, _, rfl⟩, q1315, q1316, q1332⟩ rfl) (fmE (ceV 4 e3 e4 yl_X4_join ⟨by decide, ⟨_, _, rfl⟩, q1361, q1362, q1410⟩ rfl) (fmE (ceV 2 e3 e4 yl_X2_use ⟨by decide, ⟨_, _, rfl⟩, q1551, qs51, q1549⟩ rfl) (fmE (ceV 2 e3 e4 yl_X2_put ⟨by decide, ⟨_, _, rfl⟩, q1394, qs31, q1392⟩ rfl) (fmE (ceV 2 e3 e4 yl_X2_take ⟨by decide, ⟨_, _, rfl⟩, q1400, qs32, q1398⟩ rfl) (fmE (ceV 2 e3 e4 yl_X2_goOn ⟨by decide, ⟨_, _, rfl⟩, q1404, qs33, q1402⟩ rfl) (fmE (ceV 2 e3 e4 yl_X2_hurl_2 ⟨by decide, ⟨_, _, rfl⟩, q1435, qs37, q1433⟩ rfl) (fmE (ceV 2 e3 e4 yl_X2_enter ⟨by decide, ⟨_, _, rfl⟩, q1572, qs56, q1570⟩ rfl) (fmE (ceV 2 e3 e4 yl_X2_unlock ⟨by decide, ⟨_, _, rfl⟩, q1576, qs57, q1574⟩ rfl) (fmz))))))))))) (fun z => Bool.noConfusion z) rfl (pkP ki (by
    intro K e1 e2 e3 e4; subst e1; subst e2
    exact fmz))
theorem r_X2_call_0 {K : JC} {l : Launch} {G : JG} {Q : Int → MH → Prop} {E : Nat → Int → MH → Prop} {h0 : MH} (ki : KI K l G yX2_call cX2_call 12 none [] 9 276 700 Q E h0) (hG : gO G = true) {v1 v2 : Int} {h : MH} (H :
    (v1 ≠ 0) ∧
    (∀ x4_1 : Int, x4_1 = (w32 ((hv h v1 3) - 1)) →
    JW K 8 [(2002, 3), (18, v1), (1, v2), (5000, 0), (0, x4_1), (5000, 0), (5000, 0), (5000, 0), (5000, 0), (5000, 0), (5000, 0), (5000, 0)] [] h)) : JW K 0 [(2002, 3), (18, v1), (1, v2), (5000, 0), (5000, 0), (5000, 0), (5000, 0), (5000, 0), (5000, 0), (5000, 0), (5000, 0), (5000, 0)] [] h := by
  have e1 := ki.2.2.2.2.1
  have e2 := ki.2.2.2.2.2.1
  subst e1; subst e2
  exact run_ok (dia := [(118, 126)]) (cnr := []) (cuts := [(8, [2002, 18, 1, 5000, 0, 5000, 5000, 5000, 5000, 5000, 5000, 5000], []), (74, [2002, 18, 1, 5000, 9, 0, 0, 0, 0, 0, 5000, 5000], [])]) ki.1 (pk_X2_call ki hG) ok_X2_call (by decide) 7 true _ _ _ _ H
theorem r_X2_call_8 {K : JC} {l : Launch} {G : JG} {Q : Int → MH → Prop} {E : Nat → Int → MH → Prop} {h0 : MH} (ki : KI K l G yX2_call cX2_call 12 none [] 9 276 700 Q E h0) (hG : gO G = true) {v1 v2 v4 : Int} {h : MH} (H :
    ((v4 < 0 →
      ((¬ (lc v2 0) = 0 →
        ((hv h 3 16) ≠ 0) ∧
        (0 ≤ (hv h (hv h 3 16) 0)) ∧
        ((hv h (hv h 3 16) 0) < 40) ∧
        (∀ x4_1 : Int, x4_1 = (hv h 5 (hv h (hv h 3 16) 0)) →
        (∀ x5_2 : Int, x5_2 = 0 →
        (∀ x6_3 : Int, x6_3 = 0 →
        (∀ x7_4 : Int, x7_4 = (-1) →
        (∀ x8_5 : Int, x8_5 = 0 →
        S_X4_none l G [(2004, 136)] h (fun _ h7 =>
        (∀ x9_8 : Int, x9_8 = 0 →
        JW K 74 [(2002, 3), (18, v1), (1, v2), (5000, 0), (9, x4_1), (0, x5_2), (0, x6_3), (0, x7_4), (0, x8_5), (0, x9_8), (5000, 0), (5000, 0)] [] h7)) E)))))) ∧
      ((lc v2 0) = 0 →
        Q 0 h))) ∧
    (0 ≤ v4 →
      (0 ≤ v4) ∧
      (v4 < 4) ∧
      S_X2_take l G [(2002, 3), (8, (hv h 138 v4))] h (fun z9 h10 =>
      (∀ x4_11 : Int, x4_11 = w32 (v4 + (-1)) →
      JW K 8 [(2002, 3), (18, v1), (1, v2), (5000, 0), (0, x4_11), (5000, 0), (5000, 0), (5000, 0), (5000, 0), (5000, 0), (5000, 0), (5000, 0)] [] h10)) E))) : JW K 8 [(2002, 3), (18, v1), (1, v2), (5000, 0), (0, v4), (5000, 0), (5000, 0), (5000, 0), (5000, 0), (5000, 0), (5000, 0), (5000, 0)] [] h := by
  have e1 := ki.2.2.2.2.1
  have e2 := ki.2.2.2.2.2.1
  subst e1; subst e2
  exact run_ok (dia := [(118, 126)]) (cnr := []) (cuts := [(8, [2002, 18, 1, 5000, 0, 5000, 5000, 5000, 5000, 5000, 5000, 5000], []), (74, [2002, 18, 1, 5000, 9, 0, 0, 0, 0, 0, 5000, 5000], [])]) ki.1 (pk_X2_call ki hG) ok_X2_call (by decide) 28 true _ _ _ _ H
theorem r_X2_call_74 {K : JC} {l : Launch} {G : JG} {Q : Int → MH → Prop} {E : Nat → Int → MH → Prop} {h0 : MH} (ki : KI K l G yX2_call cX2_call 12 none [] 9 276 700 Q E h0) (hG : gO G = true) {v1 v2 v4 v5 v6 v7 v8 v9 : Int} {h : MH} (H :
    ((hv h 3 0) ≠ 0) ∧
    ((hv h (hv h 3 0) 6) ≠ 0) ∧
    (((hn h (hv h (hv h 3 0) 6)) ≤ v9 →
      S_X2_unlock l G [(2002, 3), (9, v4), (0, v6)] h (fun _ h2 =>
      ((¬ v5 = 0 →
        (∀ h3, h3 = hset h2 80 2 (i_or v7 (i_and (hv h2 116 2) (i_xor v6 (-1)))) →
        (∀ h4, h4 = hset h3 80 3 v8 →
        (v1 ≠ 0) ∧
        (((hv h4 v1 4) ≤ 0 →
          S_X2_goOn l G [(2002, 3), (0, (w32 ((hv h4 3 17) + 1)))] h4 (fun _ h6 =>
          Q 0 h6) E) ∧
        (0 < (hv h4 v1 4) →
          S_X2_put l G [(2002, 3), (8, 136)] h4 (fun _ h8 =>
          S_X2_goOn l G [(2002, 3), (0, (w32 ((hv h8 3 17) + 1)))] h8 (fun _ h10 =>
          Q 0 h10) E) E))))) ∧
      (v5 = 0 →
        Q 0 h2))) E) ∧
    (v9 < (hn h (hv h (hv h 3 0) 6)) →
      (0 ≤ v9) ∧
      (v9 < 40) ∧
      ((¬ (lc (hv h 143 v9) 0) = 0 →
        ((hv h 3 0) ≠ 0) ∧
        ((hv h (hv h 3 0) 6) ≠ 0) ∧
        (0 ≤ v9) ∧
        (v9 < (hn h (hv h (hv h 3 0) 6))) ∧
        S_X2_enter l G [(2002, 3), (18, (hv h (hv h (hv h 3 0) 6) v9)), (0, (if (lc v2 (-1)) = 0 then 0 else 1 : Int)), (0, (hv h 116 2)), (0, (hv h 116 3))] h (fun _ h12 =>
        (0 ≤ v9) ∧
        (v9 < 40) ∧
        (∀ x10_13 : Int, x10_13 = (hv h12 5 v9) →
        (x10_13 ≠ 0) ∧
        S_X2_use l G [(2002, 3), (105, (hv h12 x10_13 8))] h12 (fun _ h15 =>
        (x10_13 ≠ 0) ∧
        (∀ x6_16 : Int, x6_16 = (i_or v6 (hv h15 x10_13 7)) →
        (x10_13 ≠ 0) ∧
        (((lc (hv h15 x10_13 4) 0) = 0 →
          (x10_13 ≠ 0) ∧
          ((¬ (hv h15 x10_13 0) = 0 →
            (∀ x5_17 : Int, x5_17 = 1 →
            (x10_13 ≠ 0) ∧
            (∀ x7_18 : Int, x7_18 = (i_and v7 (hv h15 x10_13 2)) →
            (x10_13 ≠ 0) ∧
            (∀ x8_19 : Int, x8_19 = (i_or v8 (hv h15 x10_13 3)) →
            (x10_13 ≠ 0) ∧
            S_X4_join l G [(2004, 136), (8, (hv h15 x10_13 1))] h15 (fun z20 h21 =>
            (∀ x11_22 : Int, x11_22 = z20 →
            (∀ x9_23 : Int, x9_23 = w32 (v9 + 1) →
            JW K 74 [(2002, 3), (18, v1), (1, v2), (5000, 0), (9, v4), (0, x5_17), (0, x6_16), (0, x7_18), (0, x8_19), (0, x9_23), (5000, 0), (5000, 0)] [] h21))) E)))) ∧
          ((hv h15 x10_13 0) = 0 →
            (∀ x9_24 : Int, x9_24 = w32 (v9 + 1) →
            JW K 74 [(2002, 3), (18, v1), (1, v2), (5000, 0), (9, v4), (0, v5), (0, x6_16), (0, v7), (0, v8), (0, x9_24), (5000, 0), (5000, 0)] [] h15)))) ∧
        (¬ (lc (hv h15 x10_13 4) 0) = 0 →
          (x10_13 ≠ 0) ∧
          (x10_13 ≠ 0) ∧
          (x10_13 ≠ 0) ∧
          (x10_13 ≠ 0) ∧
          S_X2_hurl_2 l G [(2002, 3), (1, (hv h15 x10_13 4)), (0, (i_or (hv h15 x10_13 5) (i_and (hv h15 116 2) (i_xor (hv h15 x10_13 7) (-1))))), (0, (hv h15 x10_13 6))] h15 (fun _ h26 =>
          (x10_13 ≠ 0) ∧
          ((¬ (hv h26 x10_13 0) = 0 →
            (∀ x5_27 : Int, x5_27 = 1 →
            (x10_13 ≠ 0) ∧
            (∀ x7_28 : Int, x7_28 = (i_and v7 (hv h26 x10_13 2)) →
            (x10_13 ≠ 0) ∧
            (∀ x8_29 : Int, x8_29 = (i_or v8 (hv h26 x10_13 3)) →
            (x10_13 ≠ 0) ∧
            S_X4_join l G [(2004, 136), (8, (hv h26 x10_13 1))] h26 (fun z30 h31 =>
            (∀ x11_32 : Int, x11_32 = z30 →
            (∀ x9_33 : Int, x9_33 = w32 (v9 + 1) →
            JW K 74 [(2002, 3), (18, v1), (1, v2), (5000, 0), (9, v4), (0, x5_27), (0, x6_16), (0, x7_28), (0, x8_29), (0, x9_33), (5000, 0), (5000, 0)] [] h31))) E)))) ∧
          ((hv h26 x10_13 0) = 0 →
            (∀ x9_34 : Int, x9_34 = w32 (v9 + 1) →
            JW K 74 [(2002, 3), (18, v1), (1, v2), (5000, 0), (9, v4), (0, v5), (0, x6_16), (0, v7), (0, v8), (0, x9_34), (5000, 0), (5000, 0)] [] h26)))) E)))) E)) E) ∧
      ((lc (hv h 143 v9) 0) = 0 →
        (∀ x9_35 : Int, x9_35 = w32 (v9 + 1) →
        JW K 74 [(2002, 3), (18, v1), (1, v2), (5000, 0), (9, v4), (0, v5), (0, v6), (0, v7), (0, v8), (0, x9_35), (5000, 0), (5000, 0)] [] h)))))) : JW K 74 [(2002, 3), (18, v1), (1, v2), (5000, 0), (9, v4), (0, v5), (0, v6), (0, v7), (0, v8), (0, v9), (5000, 0), (5000, 0)] [] h := by
  have e1 := ki.2.2.2.2.1
  have e2 := ki.2.2.2.2.2.1
  subst e1; subst e2
  exact run_ok (dia := [(118, 126)]) (cnr := []) (cuts := [(8, [2002, 18, 1, 5000, 0, 5000, 5000, 5000, 5000, 5000, 5000, 5000], []), (74, [2002, 18, 1, 5000, 9, 0, 0, 0, 0, 0, 5000, 5000], [])]) ki.1 (pk_X2_call ki hG) ok_X2_call (by decide) 91 true _ _ _ _ H
abbrev k_X2_enter : List (Nat × List (Nat × Instr)) := [(41, [(0, .aload_n 0), (1, .getfield 47), (4, .aload_n 0), (5, .getfield 195), (8, .dup2), (9, .laload), (10, .lconst 1), (11, .aload_n 1), (12, .getfield 407), (15, .lshl), (16, .lor), (17, .lastore), (18, .aload_n 0), (19, .getfield 72), (22, .invokevirtual 110), (25, .iconst 0), (26, .istore 5), (28, .iload 5), (30, .aload_n 1), (31, .getfield 163), (34, .arraylength), (35, .if_icmp .ge 63), (38, .iload 5), (40, .aload_n 1)]),
  (91, [(41, .getfield 168), (44, .if_icmp .ge 27), (47, .aload_n 0), (48, .getfield 72), (51, .getfield 171), (54, .iload 5), (56, .aaload), (57, .aload_n 0), (58, .getfield 92), (61, .iload 5), (63, .aaload), (64, .invokevirtual 304), (67, .pop), (68, .goto 24), (71, .aload_n 0), (72, .getfield 72), (75, .getfield 171), (78, .iload 5), (80, .aaload), (81, .aload_n 1), (82, .getfield 163), (85, .iload 5), (87, .iaload), (88, .invokevirtual 128)]),
  (135, [(91, .pop), (92, .iinc 5 1), (95, .goto (-67)), (98, .iload_n 2), (99, .ifCond .eq 35), (102, .aload_n 0), (103, .getfield 72), (106, .getfield 171), (109, .iconst 0), (110, .aaload), (111, .aload_n 0), (112, .getfield 92), (115, .iconst 0), (116, .aaload), (117, .getfield 372), (120, .aload_n 0), (121, .getfield 95), (124, .aload_n 1), (125, .getfield 407), (128, .laload), (129, .land), (130, .invokevirtual 346), (133, .pop), (134, .aload_n 0)]),
  (170, [(135, .getfield 72), (138, .iload_n 3), (139, .putfield 381), (142, .aload_n 0), (143, .getfield 72), (146, .iload 4), (148, .putfield 384), (151, .aload_n 0), (152, .aload_n 1), (153, .iconst 0), (154, .aload_n 0), (155, .getfield 72), (158, .invokevirtual 182), (161, .return_)])]
theorem ok_X2_enter : CodeOK cX2_enter k_X2_enter := okw 0 (by decide +kernel) (okw 41 (by decide +kernel) (okw 91 (by decide +kernel) (okw 135 (by decide +kernel) (okn))))
abbrev p_X2_enter (l : Launch) (G : JG) : JP := (true, [(47, 2, 8, 2500101, 71), (72, 2, 20, 2003, 95), (92, 2, 27, 1004114, 135), (95, 2, 28, 1040101, 140), (163, 14, 5, 104, 0), (168, 14, 3, 0, 0), (171, 3, 1, 118, 0), (195, 2, 18, 0, 0), (372, 4, 4, 1, 0), (407, 14, 0, 0, 0)], [], [], [(381, 3, 2, 0), (384, 3, 3, 0)], [], [], [(110, 1, [2003], 700, S_X3_none l G), (128, 1, [0, 2004], 8, S_X4_first l G), (182, 1, [7, 0, 18, 2002], 700, S_X2_come l G), (304, 1, [8, 2004], 8, S_X4_become l G), (346, 1, [1, 2004], 8, S_X4_sites l G)], false, 700, [])
theorem pk_X2_enter {K : JC} {l : Launch} {G : JG} {Q : Int → MH → Prop} {E : Nat → Int → MH → Prop} {h0 : MH} (ki : KI K l G yX2_enter cX2_enter 6 none [] 8 241 700 Q E h0) (hG : gO G = true) : POK K RX2 (p_X2_enter l G) :=
  POKi (y := yX2_enter) ki hG (rfs rf_X2_ok (by decide +kernel)) fmz fmz (rps rp_X2_ok (by decide +kernel)) fmz fmz
  (pkE ki (by
    intro K e1 e2 e3 e4; subst e1; subst e2
    exact fmE (ceV 3 e3 e4 yl_X3_none ⟨by decide, ⟨_, _, rfl⟩, q1311, q1312, q1310⟩ rfl) (fmE (ceV 4 e3 e4 yl_X4_first ⟨by decide, ⟨_, _, rfl⟩, q1334, q1335, q1333⟩ rfl) (fmE (ceV 2 e3 e4 yl_X2_come ⟨by decide, ⟨_, _, rfl⟩, q1354, qs27, q1352⟩ rfl) (fmE (ceV 4 e3 e4 yl_X4_become ⟨by decide, ⟨_, _, rfl⟩, q1365, q1366, q1396⟩ rfl) (fmE (ceV 4 e3 e4 yl_X4_sites ⟨by decide, ⟨_, _, rfl⟩, q1342, q1343, q1397⟩ rfl) (fmz))))))) (fun z => Bool.noConfusion z) rfl (pkP ki (by
    intro K e1 e2 e3 e4; subst e1; subst e2
    exact fmz))
theorem r_X2_enter_0 {K : JC} {l : Launch} {G : JG} {Q : Int → MH → Prop} {E : Nat → Int → MH → Prop} {h0 : MH} (ki : KI K l G yX2_enter cX2_enter 6 none [] 8 241 700 Q E h0) (hG : gO G = true) {v1 v2 v3 v4 : Int} {h : MH} (H :
    (0 ≤ (hv h 3 18)) ∧
    ((hv h 3 18) < 1500) ∧
    (v1 ≠ 0) ∧
    (0 ≤ (hv h 3 18)) ∧
    ((hv h 3 18) < 1500) ∧
    (∀ h1, h1 = hset h 74 (hv h 3 18) (l_or (hv h 74 (hv h 3 18)) (l_shl 1 (hv h v1 0))) →
    S_X3_none l G [(2003, 98)] h1 (fun _ h3 =>
    (∀ x5_4 : Int, x5_4 = 0 →
    JW K 28 [(2002, 3), (18, v1), (0, v2), (0, v3), (0, v4), (0, x5_4)] [] h3)) E)) : JW K 0 [(2002, 3), (18, v1), (0, v2), (0, v3), (0, v4), (5000, 0)] [] h := by
  have e1 := ki.2.2.2.2.1
  have e2 := ki.2.2.2.2.2.1
  subst e1; subst e2
  exact run_ok (dia := []) (cnr := []) (cuts := [(28, [2002, 18, 0, 0, 0, 0], [])]) ki.1 (pk_X2_enter ki hG) ok_X2_enter (by decide) 19 true _ _ _ _ H
theorem r_X2_enter_28 {K : JC} {l : Launch} {G : JG} {Q : Int → MH → Prop} {E : Nat → Int → MH → Prop} {h0 : MH} (ki : KI K l G yX2_enter cX2_enter 6 none [] 8 241 700 Q E h0) (hG : gO G = true) {v1 v2 v3 v4 v5 : Int} {h : MH} (H :
    (v1 ≠ 0) ∧
    ((hv h v1 5) ≠ 0) ∧
    (((hn h (hv h v1 5)) ≤ v5 →
      ((v2 = 0 →
        (∀ h1, h1 = hset h 98 2 v3 →
        (∀ h2, h2 = hset h1 98 3 v4 →
        S_X2_come l G [(2002, 3), (18, v1), (0, 0), (7, 98)] h2 (fun _ h4 =>
        Q 0 h4) E))) ∧
      (¬ v2 = 0 →
        ((hv h 98 1) ≠ 0) ∧
        (0 ≤ (0 : Int)) ∧
        (0 < (hn h (hv h 98 1))) ∧
        (0 ≤ (0 : Int)) ∧
        ((0 : Int) < 4) ∧
        ((hv h 138 0) ≠ 0) ∧
        (v1 ≠ 0) ∧
        (0 ≤ (hv h v1 0)) ∧
        ((hv h v1 0) < 40) ∧
        ((hv h (hv h 98 1) 0) ≠ 0) ∧
        S_X4_sites l G [(2004, (hv h (hv h 98 1) 0)), (1, (l_and (hv h (hv h 138 0) 4) (hv h 143 (hv h v1 0))))] h (fun z5 h6 =>
        (∀ h7, h7 = hset h6 98 2 v3 →
        (∀ h8, h8 = hset h7 98 3 v4 →
        S_X2_come l G [(2002, 3), (18, v1), (0, 0), (7, 98)] h8 (fun _ h10 =>
        Q 0 h10) E))) E))) ∧
    (v5 < (hn h (hv h v1 5)) →
      (v1 ≠ 0) ∧
      (((hv h v1 3) ≤ v5 →
        ((hv h 98 1) ≠ 0) ∧
        (0 ≤ v5) ∧
        (v5 < (hn h (hv h 98 1))) ∧
        (v1 ≠ 0) ∧
        ((hv h v1 5) ≠ 0) ∧
        (0 ≤ v5) ∧
        (v5 < (hn h (hv h v1 5))) ∧
        ((hv h (hv h 98 1) v5) ≠ 0) ∧
        S_X4_first l G [(2004, (hv h (hv h 98 1) v5)), (0, (hv h (hv h v1 5) v5))] h (fun z11 h12 =>
        (∀ x5_13 : Int, x5_13 = w32 (v5 + 1) →
        JW K 28 [(2002, 3), (18, v1), (0, v2), (0, v3), (0, v4), (0, x5_13)] [] h12)) E) ∧
      (v5 < (hv h v1 3) →
        ((hv h 98 1) ≠ 0) ∧
        (0 ≤ v5) ∧
        (v5 < (hn h (hv h 98 1))) ∧
        (0 ≤ v5) ∧
        (v5 < 4) ∧
        ((hv h (hv h 98 1) v5) ≠ 0) ∧
        S_X4_become l G [(2004, (hv h (hv h 98 1) v5)), (8, (hv h 138 v5))] h (fun z14 h15 =>
        (∀ x5_16 : Int, x5_16 = w32 (v5 + 1) →
        JW K 28 [(2002, 3), (18, v1), (0, v2), (0, v3), (0, v4), (0, x5_16)] [] h15)) E))))) : JW K 28 [(2002, 3), (18, v1), (0, v2), (0, v3), (0, v4), (0, v5)] [] h := by
  have e1 := ki.2.2.2.2.1
  have e2 := ki.2.2.2.2.2.1
  subst e1; subst e2
  exact run_ok (dia := []) (cnr := []) (cuts := [(28, [2002, 18, 0, 0, 0, 0], [])]) ki.1 (pk_X2_enter ki hG) ok_X2_enter (by decide) 41 true _ _ _ _ H
abbrev k_X2_unlock : List (Nat × List (Nat × Instr)) := [(39, [(0, .iload_n 2), (1, .aload_n 1), (2, .getfield 500), (5, .iconst (-1)), (6, .ixor), (7, .iand), (8, .ifCond .ne 4), (11, .return_), (12, .aload_n 1), (13, .dup), (14, .getfield 500), (17, .iload_n 2), (18, .ior), (19, .putfield 500), (22, .aload_n 0), (23, .aload_n 1), (24, .getfield 418), (27, .invokevirtual 227), (30, .return_)])]
theorem ok_X2_unlock : CodeOK cX2_unlock k_X2_unlock := okw 0 (by decide +kernel) (okn)
abbrev p_X2_unlock (l : Launch) (G : JG) : JP := (true, [(418, 5, 8, 105, 0), (500, 5, 7, 0, 0)], [], [], [(500, 5, 7, 0)], [], [], [(227, 1, [105, 2002], 700, S_X2_wakeAll l G)], false, 700, [])
theorem pk_X2_unlock {K : JC} {l : Launch} {G : JG} {Q : Int → MH → Prop} {E : Nat → Int → MH → Prop} {h0 : MH} (ki : KI K l G yX2_unlock cX2_unlock 3 none [] 7 217 700 Q E h0) (hG : gO G = true) : POK K RX2 (p_X2_unlock l G) :=
  POKi (y := yX2_unlock) ki hG (rfs rf_X2_ok (by decide +kernel)) fmz fmz (rps rp_X2_ok (by decide +kernel)) fmz fmz
  (pkE ki (by
    intro K e1 e2 e3 e4; subst e1; subst e2
    exact fmE (ceV 2 e3 e4 yl_X2_wakeAll ⟨by decide, ⟨_, _, rfl⟩, q1456, qs39, q1454⟩ rfl) (fmz))) (fun z => Bool.noConfusion z) rfl (pkP ki (by
    intro K e1 e2 e3 e4; subst e1; subst e2
    exact fmz))
theorem r_X2_unlock_0 {K : JC} {l : Launch} {G : JG} {Q : Int → MH → Prop} {E : Nat → Int → MH → Prop} {h0 : MH} (ki : KI K l G yX2_unlock cX2_unlock 3 none [] 7 217 700 Q E h0) (hG : gO G = true) {v1 v2 : Int} {h : MH} (H :
    (v1 ≠ 0) ∧
    ((¬ (i_and v2 (i_xor (hv h v1 7) (-1))) = 0 →
      (v1 ≠ 0) ∧
      (v1 ≠ 0) ∧
      (∀ h1, h1 = hset h v1 7 (i_or (hv h v1 7) v2) →
      (v1 ≠ 0) ∧
      S_X2_wakeAll l G [(2002, 3), (105, (hv h1 v1 8))] h1 (fun _ h3 =>
      Q 0 h3) E)) ∧
    ((i_and v2 (i_xor (hv h v1 7) (-1))) = 0 →
      Q 0 h))) : JW K 0 [(2002, 3), (9, v1), (0, v2)] [] h := by
  have e1 := ki.2.2.2.2.1
  have e2 := ki.2.2.2.2.2.1
  subst e1; subst e2
  exact run_ok (dia := []) (cnr := []) (cuts := []) ki.1 (pk_X2_unlock ki hG) ok_X2_unlock (by decide) 19 true _ _ _ _ H
abbrev k_X2_findReceivers : List (Nat × List (Nat × Instr)) := [(42, [(0, .iconst 0), (1, .istore_n 3), (2, .iload_n 3), (3, .bipush 40), (5, .if_icmp .ge 16), (8, .aload_n 0), (9, .getfield 95), (12, .iload_n 3), (13, .lconst 0), (14, .lastore), (15, .iinc 3 1), (18, .goto (-16)), (21, .lconst 0), (22, .lstore_n 3), (23, .iconst 1), (24, .istore 5), (26, .iload 5), (28, .bipush 7), (30, .aload_n 0), (31, .getfield 100), (34, .getfield 113), (37, .iadd), (38, .if_icmp .ge 70), (41, .aload_n 1)]),
  (85, [(42, .getfield 372), (45, .iload 5), (47, .lshr), (48, .lconst 1), (49, .land), (50, .lconst 0), (51, .lcmp), (52, .ifCond .ne 6), (55, .goto 47), (58, .aload_n 0), (59, .getfield 100), (62, .iload 5), (64, .iload_n 2), (65, .invokevirtual 492), (68, .astore 6), (70, .aload 6), (72, .ifnonnull 6), (75, .goto 27), (78, .lload_n 3), (79, .lconst 1), (80, .iload 5), (82, .lshl), (83, .lor), (84, .lstore_n 3)]),
  (124, [(85, .aload_n 0), (86, .getfield 95), (89, .aload 6), (91, .getfield 407), (94, .dup2), (95, .laload), (96, .lconst 1), (97, .iload 5), (99, .lshl), (100, .lor), (101, .lastore), (102, .iinc 5 1), (105, .goto (-79)), (108, .aload_n 0), (109, .aload_n 1), (110, .lload_n 3), (111, .invokevirtual 460), (114, .lload_n 3), (115, .lreturn)])]
theorem ok_X2_findReceivers : CodeOK cX2_findReceivers k_X2_findReceivers := okw 0 (by decide +kernel) (okw 42 (by decide +kernel) (okw 85 (by decide +kernel) (okn)))
abbrev p_X2_findReceivers (l : Launch) (G : JG) : JP := (true, [(95, 2, 28, 1040101, 140), (100, 2, 0, 16, 0), (113, 12, 8, 0, 0), (372, 4, 4, 1, 0), (407, 14, 0, 0, 0)], [], [], [], [], [], [(460, 1, [1, 8, 2002], 700, S_X2_refuse l G), (492, 1, [0, 0, 2012], 18, S_X12_find l G)], false, 1, [])
theorem pk_X2_findReceivers {K : JC} {l : Launch} {G : JG} {Q : Int → MH → Prop} {E : Nat → Int → MH → Prop} {h0 : MH} (ki : KI K l G yX2_findReceivers cX2_findReceivers 7 (some .long) [] 11 321 1 Q E h0) (hG : gO G = true) : POK K RX2 (p_X2_findReceivers l G) :=
  POKi (y := yX2_findReceivers) ki hG (rfs rf_X2_ok (by decide +kernel)) fmz fmz fmz fmz fmz
  (pkE ki (by
    intro K e1 e2 e3 e4; subst e1; subst e2
    exact fmE (ceV 2 e3 e4 yl_X2_refuse ⟨by decide, ⟨_, _, rfl⟩, q1540, qs49, q1538⟩ rfl) (fmE (ceV 12 e3 e4 yl_X12_find ⟨by decide, ⟨_, _, rfl⟩, q1584, q1585, q1583⟩ rfl) (fmz)))) (fun z => Bool.noConfusion z) rfl (pkP ki (by
    intro K e1 e2 e3 e4; subst e1; subst e2
    exact fmz))
theorem r_X2_findReceivers_0 {K : JC} {l : Launch} {G : JG} {Q : Int → MH → Prop} {E : Nat → Int → MH → Prop} {h0 : MH} (ki : KI K l G yX2_findReceivers cX2_findReceivers 7 (some .long) [] 11 321 1 Q E h0) (hG : gO G = true) {v1 v2 : Int} {h : MH} (H :
    (∀ x3_1 : Int, x3_1 = 0 →
    JW K 2 [(2002, 3), (8, v1), (0, v2), (0, x3_1), (5000, 0), (5000, 0), (5000, 0)] [] h)) : JW K 0 [(2002, 3), (8, v1), (0, v2), (5000, 0), (5000, 0), (5000, 0), (5000, 0)] [] h := by
  have e1 := ki.2.2.2.2.1
  have e2 := ki.2.2.2.2.2.1
  subst e1; subst e2
  exact run_ok (dia := []) (cnr := []) (cuts := [(2, [2002, 8, 0, 0, 5000, 5000, 5000], []), (26, [2002, 8, 0, 1, 5000, 0, 5000], [])]) ki.1 (pk_X2_findReceivers ki hG) ok_X2_findReceivers (by decide) 4 true _ _ _ _ H
theorem r_X2_findReceivers_2 {K : JC} {l : Launch} {G : JG} {Q : Int → MH → Prop} {E : Nat → Int → MH → Prop} {h0 : MH} (ki : KI K l G yX2_findReceivers cX2_findReceivers 7 (some .long) [] 11 321 1 Q E h0) (hG : gO G = true) {v1 v2 v3 : Int} {h : MH} (H :
    ((40 ≤ v3 →
      (∀ x3_1 : Int, x3_1 = 0 →
      (∀ x5_2 : Int, x5_2 = 1 →
      JW K 26 [(2002, 3), (8, v1), (0, v2), (1, x3_1), (5000, 0), (0, x5_2), (5000, 0)] [] h))) ∧
    (v3 < 40 →
      (0 ≤ v3) ∧
      (v3 < 40) ∧
      (∀ h3, h3 = hset h 143 v3 0 →
      (∀ x3_4 : Int, x3_4 = w32 (v3 + 1) →
      JW K 2 [(2002, 3), (8, v1), (0, v2), (0, x3_4), (5000, 0), (5000, 0), (5000, 0)] [] h3))))) : JW K 2 [(2002, 3), (8, v1), (0, v2), (0, v3), (5000, 0), (5000, 0), (5000, 0)] [] h := by
  have e1 := ki.2.2.2.2.1
  have e2 := ki.2.2.2.2.2.1
  subst e1; subst e2
  exact run_ok (dia := []) (cnr := []) (cuts := [(2, [2002, 8, 0, 0, 5000, 5000, 5000], []), (26, [2002, 8, 0, 1, 5000, 0, 5000], [])]) ki.1 (pk_X2_findReceivers ki hG) ok_X2_findReceivers (by decide) 12 true _ _ _ _ H
theorem r_X2_findReceivers_26 {K : JC} {l : Launch} {G : JG} {Q : Int → MH → Prop} {E : Nat → Int → MH → Prop} {h0 : MH} (ki : KI K l G yX2_findReceivers cX2_findReceivers 7 (some .long) [] 11 321 1 Q E h0) (hG : gO G = true) {v1 v2 v3 v5 : Int} {h : MH} (H :
    ((hv h 3 0) ≠ 0) ∧
    (((w32 (7 + (hv h (hv h 3 0) 8))) ≤ v5 →
      S_X2_refuse l G [(2002, 3), (8, v1), (1, v3)] h (fun _ h2 =>
      Q v3 h2) E) ∧
    (v5 < (w32 (7 + (hv h (hv h 3 0) 8))) →
      (v1 ≠ 0) ∧
      ((¬ (lc (l_and (l_shr (hv h v1 4) v5) 1) 0) = 0 →
        ((hv h 3 0) ≠ 0) ∧
        S_X12_find l G [(2012, (hv h 3 0)), (0, v5), (0, v2)] h (fun z3 h4 =>
        (∀ x6_5 : Int, x6_5 = z3 →
        ((¬ x6_5 = 0 →
          (∀ x3_6 : Int, x3_6 = (l_or v3 (l_shl 1 v5)) →
          (x6_5 ≠ 0) ∧
          (0 ≤ (hv h4 x6_5 0)) ∧
          ((hv h4 x6_5 0) < 40) ∧
          (0 ≤ (hv h4 x6_5 0)) ∧
          ((hv h4 x6_5 0) < 40) ∧
          (∀ h7, h7 = hset h4 143 (hv h4 x6_5 0) (l_or (hv h4 143 (hv h4 x6_5 0)) (l_shl 1 v5)) →
          (∀ x5_8 : Int, x5_8 = w32 (v5 + 1) →
          JW K 26 [(2002, 3), (8, v1), (0, v2), (1, x3_6), (5000, 0), (0, x5_8), (5000, 0)] [] h7)))) ∧
        (x6_5 = 0 →
          (∀ x5_9 : Int, x5_9 = w32 (v5 + 1) →
          JW K 26 [(2002, 3), (8, v1), (0, v2), (1, v3), (5000, 0), (0, x5_9), (5000, 0)] [] h4))))) E) ∧
      ((lc (l_and (l_shr (hv h v1 4) v5) 1) 0) = 0 →
        (∀ x5_10 : Int, x5_10 = w32 (v5 + 1) →
        JW K 26 [(2002, 3), (8, v1), (0, v2), (1, v3), (5000, 0), (0, x5_10), (5000, 0)] [] h)))))) : JW K 26 [(2002, 3), (8, v1), (0, v2), (1, v3), (5000, 0), (0, v5), (5000, 0)] [] h := by
  have e1 := ki.2.2.2.2.1
  have e2 := ki.2.2.2.2.2.1
  subst e1; subst e2
  exact run_ok (dia := []) (cnr := []) (cuts := [(2, [2002, 8, 0, 0, 5000, 5000, 5000], []), (26, [2002, 8, 0, 1, 5000, 0, 5000], [])]) ki.1 (pk_X2_findReceivers ki hG) ok_X2_findReceivers (by decide) 45 true _ _ _ _ H
abbrev k_X2_threads : List (Nat × List (Nat × Instr)) := [(43, [(0, .iconst 1), (1, .iload_n 2), (2, .ishl), (3, .istore_n 3), (4, .iload_n 1), (5, .bipush 34), (7, .if_icmp .ne 74), (10, .aload_n 0), (11, .getfield 68), (14, .getfield 384), (17, .iload_n 3), (18, .iand), (19, .ifCond .eq 10), (22, .aload_n 0), (23, .ldc2_w 507), (26, .invokevirtual 357), (29, .aload_n 0), (30, .getfield 68), (33, .getfield 381), (36, .iload_n 3), (37, .iand), (38, .ifCond .eq 4), (41, .return_), (42, .aload_n 0)]),
  (88, [(43, .getfield 68), (46, .dup), (47, .getfield 381), (50, .iload_n 3), (51, .ior), (52, .putfield 381), (55, .aload_n 0), (56, .getfield 68), (59, .dup), (60, .getfield 384), (63, .iload_n 3), (64, .ior), (65, .putfield 384), (68, .aload_n 0), (69, .aload_n 0), (70, .getfield 211), (73, .iconst 1), (74, .iadd), (75, .invokevirtual 352), (78, .goto 212), (81, .iload_n 1), (82, .bipush 35), (84, .if_icmp .ne 95), (87, .aload_n 0)]),
  (136, [(88, .aload_n 0), (89, .getfield 19), (92, .aload_n 0), (93, .getfield 214), (96, .getfield 407), (99, .aaload), (100, .iload_n 3), (101, .invokevirtual 503), (104, .aload_n 0), (105, .getfield 68), (108, .getfield 381), (111, .iload_n 3), (112, .iand), (113, .ifCond .ne 10), (116, .aload_n 0), (117, .ldc2_w 507), (120, .invokevirtual 357), (123, .aload_n 0), (124, .getfield 68), (127, .getfield 384), (130, .iload_n 3), (131, .iand), (132, .ifCond .ne 4), (135, .return_)]),
  (176, [(136, .aload_n 0), (137, .getfield 68), (140, .dup), (141, .getfield 381), (144, .iload_n 3), (145, .iconst (-1)), (146, .ixor), (147, .iand), (148, .putfield 381), (151, .aload_n 0), (152, .getfield 68), (155, .dup), (156, .getfield 384), (159, .iload_n 3), (160, .iconst (-1)), (161, .ixor), (162, .iand), (163, .putfield 384), (166, .aload_n 0), (167, .aload_n 0), (168, .getfield 211), (171, .iconst 1), (172, .iadd), (173, .invokevirtual 352)]),
  (217, [(176, .goto 114), (179, .aload_n 0), (180, .aload_n 0), (181, .getfield 68), (184, .getfield 171), (187, .bipush 8), (189, .aload_n 0), (190, .getfield 301), (193, .iadd), (194, .iconst 1), (195, .isub), (196, .aaload), (197, .iload_n 2), (198, .invokevirtual 477), (201, .lstore 4), (203, .aload_n 0), (204, .aload_n 0), (205, .getfield 92), (208, .iconst 0), (209, .aaload), (210, .invokevirtual 349), (213, .pop), (214, .lload 4), (216, .lconst 0)]),
  (261, [(217, .lcmp), (218, .ifCond .ne 4), (221, .return_), (222, .iconst 0), (223, .istore 6), (225, .iload 6), (227, .aload_n 0), (228, .getfield 100), (231, .getfield 148), (234, .arraylength), (235, .if_icmp .ge 38), (238, .aload_n 0), (239, .getfield 95), (242, .iload 6), (244, .laload), (245, .lconst 0), (246, .lcmp), (247, .ifCond .eq 20), (250, .aload_n 0), (251, .aload_n 0), (252, .getfield 100), (255, .getfield 148), (258, .iload 6), (260, .aaload)]),
  (299, [(261, .iconst 1), (262, .iconst 0), (263, .iconst 0), (264, .invokevirtual 496), (267, .iinc 6 1), (270, .goto (-45)), (273, .aload_n 0), (274, .ldc2_w 507), (277, .invokevirtual 357), (280, .aload_n 0), (281, .aload_n 0), (282, .getfield 211), (285, .iconst 1), (286, .iadd), (287, .invokevirtual 352), (290, .return_)])]
theorem ok_X2_threads : CodeOK cX2_threads k_X2_threads := okw 0 (by decide +kernel) (okw 43 (by decide +kernel) (okw 88 (by decide +kernel) (okw 136 (by decide +kernel) (okw 176 (by decide +kernel) (okw 217 (by decide +kernel) (okw 261 (by decide +kernel) (okn)))))))
abbrev p_X2_threads (l : Launch) (G : JG) : JP := (true, [(19, 2, 2, 1040115, 2), (68, 2, 19, 2003, 77), (92, 2, 27, 1004114, 135), (95, 2, 28, 1040101, 140), (100, 2, 0, 16, 0), (148, 12, 6, 128, 0), (171, 3, 1, 118, 0), (211, 2, 17, 0, 0), (214, 2, 16, 18, 0), (301, 2, 25, 0, 0), (381, 3, 2, 0, 0), (384, 3, 3, 0, 0), (407, 14, 0, 0, 0)], [], [(507, 64)], [(381, 3, 2, 0), (384, 3, 3, 0)], [], [], [(349, 1, [8, 2002], 8, S_X2_take l G), (352, 1, [0, 2002], 700, S_X2_goOn l G), (357, 1, [1, 2002], 700, S_X2_hurl l G), (477, 1, [0, 8, 2002], 1, S_X2_findReceivers l G), (496, 1, [0, 0, 0, 18, 2002], 700, S_X2_enter l G), (503, 1, [0, 9, 2002], 700, S_X2_unlock l G)], false, 700, [])
theorem pk_X2_threads {K : JC} {l : Launch} {G : JG} {Q : Int → MH → Prop} {E : Nat → Int → MH → Prop} {h0 : MH} (ki : KI K l G yX2_threads cX2_threads 7 none [] 12 347 700 Q E h0) (hG : gO G = true) : POK K RX2 (p_X2_threads l G) :=
  POKi (y := yX2_threads) ki hG (rfs rf_X2_ok (by decide +kernel)) fmz (subs (by decide +kernel) rl_X2_ok) (rps rp_X2_ok (by decide +kernel)) fmz fmz
  (pkE ki (by
    intro K e1 e2 e3 e4; subst e1; subst e2
    exact fmE (ceV 2 e3 e4 yl_X2_take ⟨by decide, ⟨_, _, rfl⟩, q1400, qs32, q1398⟩ rfl) (fmE (ceV 2 e3 e4 yl_X2_goOn ⟨by decide, ⟨_, _, rfl⟩, q1404, qs33, q1402⟩ rfl) (fmE (ceV 2 e3 e4 yl_X2_hurl ⟨by decide, ⟨_, _, rfl⟩, q1431, qs36, q1429⟩ rfl) (fmE (ceV 2 e3 e4 yl_X2_findReceivers ⟨by decide, ⟨_, _, rfl⟩, q1581, qs58, q1579⟩ rfl) (fmE (ceV 2 e3 e4 yl_X2_enter ⟨by decide, ⟨_, _, rfl⟩, q1572, qs56, q1570⟩ rfl) (fmE (ceV 2 e3 e4 yl_X2_unlock ⟨by decide, ⟨_, _, rfl⟩, q1576, qs57, q1574⟩ rfl) (fmz)))))))) (fun z => Bool.noConfusion z) rfl (pkP ki (by
    intro K e1 e2 e3 e4; subst e1; subst e2
    exact fmz))
theorem r_X2_threads_0 {K : JC} {l : Launch} {G : JG} {Q : Int → MH → Prop} {E : Nat → Int → MH → Prop} {h0 : MH} (ki : KI K l G yX2_threads cX2_threads 7 none [] 12 347 700 Q E h0) (hG : gO G = true) {v1 v2 : Int} {h : MH} (H :
    (∀ x3_1 : Int, x3_1 = (i_shl 1 v2) →
    ((¬ v1 = 34 →
      ((¬ v1 = 35 →
        ((hv h 80 1) ≠ 0) ∧
        (0 ≤ (w32 ((w32 (8 + (hv h 3 25))) - 1))) ∧
        ((w32 ((w32 (8 + (hv h 3 25))) - 1)) < (hn h (hv h 80 1))) ∧
        S_X2_findReceivers l G [(2002, 3), (8, (hv h (hv h 80 1) (w32 ((w32 (8 + (hv h 3 25))) - 1)))), (0, v2)] h (fun z2 h3 =>
        (∀ x4_4 : Int, x4_4 = z2 →
        (0 ≤ (0 : Int)) ∧
        ((0 : Int) < 4) ∧
        S_X2_take l G [(2002, 3), (8, (hv h3 138 0))] h3 (fun z5 h6 =>
        ((¬ (lc x4_4 0) = 0 →
          (∀ x6_7 : Int, x6_7 = 0 →
          JW K 225 [(2002, 3), (0, v1), (0, v2), (0, x3_1), (1, x4_4), (5000, 0), (0, x6_7)] [] h6)) ∧
        ((lc x4_4 0) = 0 →
          Q 0 h6))) E)) E) ∧
      (v1 = 35 →
        ((hv h 3 16) ≠ 0) ∧
        (0 ≤ (hv h (hv h 3 16) 0)) ∧
        ((hv h (hv h 3 16) 0) < 40) ∧
        S_X2_unlock l G [(2002, 3), (9, (hv h 5 (hv h (hv h 3 16) 0))), (0, x3_1)] h (fun _ h9 =>
        ((¬ (i_and (hv h9 80 2) x3_1) = 0 →
          ((¬ (i_and (hv h9 80 3) x3_1) = 0 →
            (∀ h10, h10 = hset h9 80 2 (i_and (hv h9 80 2) (i_xor x3_1 (-1))) →
            (∀ h11, h11 = hset h10 80 3 (i_and (hv h10 80 3) (i_xor x3_1 (-1))) →
            S_X2_goOn l G [(2002, 3), (0, (w32 ((hv h11 3 17) + 1)))] h11 (fun _ h13 =>
            Q 0 h13) E))) ∧
          ((i_and (hv h9 80 3) x3_1) = 0 →
            Q 0 h9))) ∧
        ((i_and (hv h9 80 2) x3_1) = 0 →
          S_X2_hurl l G [(2002, 3), (1, 64)] h9 (fun _ h15 =>
          ((¬ (i_and (hv h15 80 3) x3_1) = 0 →
            (∀ h16, h16 = hset h15 80 2 (i_and (hv h15 80 2) (i_xor x3_1 (-1))) →
            (∀ h17, h17 = hset h16 80 3 (i_and (hv h16 80 3) (i_xor x3_1 (-1))) →
            S_X2_goOn l G [(2002, 3), (0, (w32 ((hv h17 3 17) + 1)))] h17 (fun _ h19 =>
            Q 0 h19) E))) ∧
          ((i_and (hv h15 80 3) x3_1) = 0 →
            Q 0 h15))) E))) E))) ∧
    (v1 = 34 →
      (((i_and (hv h 80 3) x3_1) = 0 →
        (((i_and (hv h 80 2) x3_1) = 0 →
          (∀ h20, h20 = hset h 80 2 (i_or (hv h 80 2) x3_1) →
          (∀ h21, h21 = hset h20 80 3 (i_or (hv h20 80 3) x3_1) →
          S_X2_goOn l G [(2002, 3), (0, (w32 ((hv h21 3 17) + 1)))] h21 (fun _ h23 =>
          Q 0 h23) E))) ∧
        (¬ (i_and (hv h 80 2) x3_1) = 0 →
          Q 0 h))) ∧
      (¬ (i_and (hv h 80 3) x3_1) = 0 →
        S_X2_hurl l G [(2002, 3), (1, 64)] h (fun _ h25 =>
        (((i_and (hv h25 80 2) x3_1) = 0 →
          (∀ h26, h26 = hset h25 80 2 (i_or (hv h25 80 2) x3_1) →
          (∀ h27, h27 = hset h26 80 3 (i_or (hv h26 80 3) x3_1) →
          S_X2_goOn l G [(2002, 3), (0, (w32 ((hv h27 3 17) + 1)))] h27 (fun _ h29 =>
          Q 0 h29) E))) ∧
        (¬ (i_and (hv h25 80 2) x3_1) = 0 →
          Q 0 h25))) E)))))) : JW K 0 [(2002, 3), (0, v1), (0, v2), (5000, 0), (5000, 0), (5000, 0), (5000, 0)] [] h := by
  have e1 := ki.2.2.2.2.1
  have e2 := ki.2.2.2.2.2.1
  subst e1; subst e2
  exact run_ok (dia := []) (cnr := []) (cuts := [(225, [2002, 0, 0, 0, 1, 5000, 0], [])]) ki.1 (pk_X2_threads ki hG) ok_X2_threads (by decide) 61 true _ _ _ _ H
theorem r_X2_threads_225 {K : JC} {l : Launch} {G : JG} {Q : Int → MH → Prop} {E : Nat → Int → MH → Prop} {h0 : MH} (ki : KI K l G yX2_threads cX2_threads 7 none [] 12 347 700 Q E h0) (hG : gO G = true) {v1 v2 v3 v4 v6 : Int} {h : MH} (H :
    ((hv h 3 0) ≠ 0) ∧
    ((hv h (hv h 3 0) 6) ≠ 0) ∧
    (((hn h (hv h (hv h 3 0) 6)) ≤ v6 →
      S_X2_hurl l G [(2002, 3), (1, 64)] h (fun _ h2 =>
      S_X2_goOn l G [(2002, 3), (0, (w32 ((hv h2 3 17) + 1)))] h2 (fun _ h4 =>
      Q 0 h4) E) E) ∧
    (v6 < (hn h (hv h (hv h 3 0) 6)) →
      (0 ≤ v6) ∧
      (v6 < 40) ∧
      (((lc (hv h 143 v6) 0) = 0 →
        (∀ x6_5 : Int, x6_5 = w32 (v6 + 1) →
        JW K 225 [(2002, 3), (0, v1), (0, v2), (0, v3), (1, v4), (5000, 0), (0, x6_5)] [] h)) ∧
      (¬ (lc (hv h 143 v6) 0) = 0 →
        ((hv h 3 0) ≠ 0) ∧
        ((hv h (hv h 3 0) 6) ≠ 0) ∧
        (0 ≤ v6) ∧
        (v6 < (hn h (hv h (hv h 3 0) 6))) ∧
        S_X2_enter l G [(2002, 3), (18, (hv h (hv h (hv h 3 0) 6) v6)), (0, 1), (0, 0), (0, 0)] h (fun _ h7 =>
        (∀ x6_8 : Int, x6_8 = w32 (v6 + 1) →
        JW K 225 [(2002, 3), (0, v1), (0, v2), (0, v3), (1, v4), (5000, 0), (0, x6_8)] [] h7)) E))))) : JW K 225 [(2002, 3), (0, v1), (0, v2), (0, v3), (1, v4), (5000, 0), (0, v6)] [] h := by
  have e1 := ki.2.2.2.2.1
  have e2 := ki.2.2.2.2.2.1
  subst e1; subst e2
  exact run_ok (dia := []) (cnr := []) (cuts := [(225, [2002, 0, 0, 0, 1, 5000, 0], [])]) ki.1 (pk_X2_threads ki hG) ok_X2_threads (by decide) 27 true _ _ _ _ H
abbrev k_X2_goes : List (Nat × List (Nat × Instr)) := [(40, [(0, .aload_n 0), (1, .getfield 50), (4, .aload_n 1), (5, .getfield 202), (8, .iload_n 2), (9, .iadd), (10, .baload), (11, .ifCond .eq 10), (14, .iload_n 3), (15, .iload_n 2), (16, .iconst 1), (17, .iadd), (18, .if_icmp .eq 27), (21, .aload_n 0), (22, .getfield 54), (25, .aload_n 1), (26, .getfield 202), (29, .iload_n 2), (30, .iadd), (31, .baload), (32, .ifCond .eq 17), (35, .iload_n 3), (36, .aload_n 1), (37, .getfield 218)]),
  (59, [(40, .iload_n 2), (41, .iaload), (42, .if_icmp .ne 7), (45, .iconst 1), (46, .goto 4), (49, .iconst 0), (50, .ireturn)])]
theorem ok_X2_goes : CodeOK cX2_goes k_X2_goes := okw 0 (by decide +kernel) (okw 40 (by decide +kernel) (okn))
abbrev p_X2_goes (l : Launch) (G : JG) : JP := (true, [(50, 2, 9, 2500102, 72), (54, 2, 10, 2500102, 73), (202, 14, 14, 0, 0), (218, 14, 10, 104, 0)], [], [], [], [], [], [], false, 2, [])
theorem pk_X2_goes {K : JC} {l : Launch} {G : JG} {Q : Int → MH → Prop} {E : Nat → Int → MH → Prop} {h0 : MH} (ki : KI K l G yX2_goes cX2_goes 4 (some .boolean) [] 4 150 2 Q E h0) (hG : gO G = true) : POK K RX2 (p_X2_goes l G) :=
  POKi (y := yX2_goes) ki hG (rfs rf_X2_ok (by decide +kernel)) fmz fmz fmz fmz fmz
  (pkE ki (by
    intro K e1 e2 e3 e4; subst e1; subst e2
    exact fmz)) (fun z => Bool.noConfusion z) rfl (pkP ki (by
    intro K e1 e2 e3 e4; subst e1; subst e2
    exact fmz))
theorem r_X2_goes_0 {K : JC} {l : Launch} {G : JG} {Q : Int → MH → Prop} {E : Nat → Int → MH → Prop} {h0 : MH} (ki : KI K l G yX2_goes cX2_goes 4 (some .boolean) [] 4 150 2 Q E h0) (hG : gO G = true) {v1 v2 v3 : Int} {h : MH} (H :
    (v1 ≠ 0) ∧
    (0 ≤ (w32 ((hv h v1 14) + v2))) ∧
    ((w32 ((hv h v1 14) + v2)) < 1500) ∧
    (((hv h 75 (w32 ((hv h v1 14) + v2))) = 0 → (v1 ≠ 0) ∧ (0 ≤ (w32 ((hv h v1 14) + v2))) ∧ ((w32 ((hv h v1 14) + v2)) < 1500) ∧ (¬ (hv h 76 (w32 ((hv h v1 14) + v2))) = 0 → (v1 ≠ 0) ∧ ((hv h v1 10) ≠ 0) ∧ (0 ≤ v2) ∧ v2 < (hn h (hv h v1 10))))) ∧
    ((¬ (hv h 75 (w32 ((hv h v1 14) + v2))) = 0 → (¬ v3 = (w32 (v2 + 1)) → (v1 ≠ 0) ∧ (0 ≤ (w32 ((hv h v1 14) + v2))) ∧ ((w32 ((hv h v1 14) + v2)) < 1500) ∧ (¬ (hv h 76 (w32 ((hv h v1 14) + v2))) = 0 → (v1 ≠ 0) ∧ ((hv h v1 10) ≠ 0) ∧ (0 ≤ v2) ∧ v2 < (hn h (hv h v1 10)))))) ∧
    (((if (hv h 75 (w32 ((hv h v1 14) + v2))) = 0 then (if (hv h 76 (w32 ((hv h v1 14) + v2))) = 0 then 0 else (if v3 = (hv h (hv h v1 10) v2) then 1 else 0 : Int) : Int) else (if v3 = (w32 (v2 + 1)) then 1 else (if (hv h 76 (w32 ((hv h v1 14) + v2))) = 0 then 0 else (if v3 = (hv h (hv h v1 10) v2) then 1 else 0 : Int) : Int) : Int) : Int) = 0 ∨ (if (hv h 75 (w32 ((hv h v1 14) + v2))) = 0 then (if (hv h 76 (w32 ((hv h v1 14) + v2))) = 0 then 0 else (if v3 = (hv h (hv h v1 10) v2) then 1 else 0 : Int) : Int) else (if v3 = (w32 (v2 + 1)) then 1 else (if (hv h 76 (w32 ((hv h v1 14) + v2))) = 0 then 0 else (if v3 = (hv h (hv h v1 10) v2) then 1 else 0 : Int) : Int) : Int) : Int) = 1) ∧ Q (if (hv h 75 (w32 ((hv h v1 14) + v2))) = 0 then (if (hv h 76 (w32 ((hv h v1 14) + v2))) = 0 then 0 else (if v3 = (hv h (hv h v1 10) v2) then 1 else 0 : Int) : Int) else (if v3 = (w32 (v2 + 1)) then 1 else (if (hv h 76 (w32 ((hv h v1 14) + v2))) = 0 then 0 else (if v3 = (hv h (hv h v1 10) v2) then 1 else 0 : Int) : Int) : Int) : Int) h)) : JW K 0 [(2002, 3), (18, v1), (0, v2), (0, v3)] [] h := by
  have e1 := ki.2.2.2.2.1
  have e2 := ki.2.2.2.2.2.1
  subst e1; subst e2
  exact run_ok (dia := [(11, 50)]) (cnr := []) (cuts := []) ki.1 (pk_X2_goes ki hG) ok_X2_goes (by decide) 10 true _ _ _ _ H
abbrev k_X2_field : List (Nat × List (Nat × Instr)) := [(20, [(0, .aload_n 0), (1, .getfield 25), (4, .iload_n 1), (5, .aaload), (6, .iload_n 2), (7, .aaload), (8, .getfield 125), (11, .areturn)])]
theorem ok_X2_field : CodeOK cX2_field k_X2_field := okw 0 (by decide +kernel) (okn)
abbrev p_X2_field (l : Launch) (G : JG) : JP := (true, [(25, 2, 3, 1063132, 3), (125, 6, 0, 8, 0)], [], [], [], [], [], [], false, 8, [])
theorem pk_X2_field {K : JC} {l : Launch} {G : JG} {Q : Int → MH → Prop} {E : Nat → Int → MH → Prop} {h0 : MH} (ki : KI K l G yX2_field cX2_field 3 (some (.object "FactHouse$Fact")) [] 4 150 8 Q E h0) (hG : gO G = true) : POK K RX2 (p_X2_field l G) :=
  POKi (y := yX2_field) ki hG (rfs rf_X2_ok (by decide +kernel)) fmz fmz fmz fmz fmz
  (pkE ki (by
    intro K e1 e2 e3 e4; subst e1; subst e2
    exact fmz)) (fun z => Bool.noConfusion z) rfl (pkP ki (by
    intro K e1 e2 e3 e4; subst e1; subst e2
    exact fmz))
theorem r_X2_field_0 {K : JC} {l : Launch} {G : JG} {Q : Int → MH → Prop} {E : Nat → Int → MH → Prop} {h0 : MH} (ki : KI K l G yX2_field cX2_field 3 (some (.object "FactHouse$Fact")) [] 4 150 8 Q E h0) (hG : gO G = true) {v1 v2 : Int} {h : MH} (H :
    (0 ≤ v1) ∧
    (v1 < 63) ∧
    ((hv h 6 v1) ≠ 0) ∧
    (0 ≤ v2) ∧
    (v2 < (hn h (hv h 6 v1))) ∧
    ((hv h (hv h 6 v1) v2) ≠ 0) ∧
    Q (hv h (hv h (hv h 6 v1) v2) 0) h) : JW K 0 [(2002, 3), (0, v1), (0, v2)] [] h := by
  have e1 := ki.2.2.2.2.1
  have e2 := ki.2.2.2.2.2.1
  subst e1; subst e2
  exact run_ok (dia := []) (cnr := []) (cuts := []) ki.1 (pk_X2_field ki hG) ok_X2_field (by decide) 9 true _ _ _ _ H
abbrev k_X2_length : List (Nat × List (Nat × Instr)) := [(18, [(0, .aload_n 0), (1, .getfield 30), (4, .iload_n 1), (5, .aaload), (6, .getfield 125), (9, .areturn)])]
theorem ok_X2_length : CodeOK cX2_length k_X2_length := okw 0 (by decide +kernel) (okn)
abbrev p_X2_length (l : Launch) (G : JG) : JP := (true, [(30, 2, 4, 1063116, 67), (125, 6, 0, 8, 0)], [], [], [], [], [], [], false, 8, [])
theorem pk_X2_length {K : JC} {l : Launch} {G : JG} {Q : Int → MH → Prop} {E : Nat → Int → MH → Prop} {h0 : MH} (ki : KI K l G yX2_length cX2_length 2 (some (.object "FactHouse$Fact")) [] 4 150 8 Q E h0) (hG : gO G = true) : POK K RX2 (p_X2_length l G) :=
  POKi (y := yX2_length) ki hG (rfs rf_X2_ok (by decide +kernel)) fmz fmz fmz fmz fmz
  (pkE ki (by
    intro K e1 e2 e3 e4; subst e1; subst e2
    exact fmz)) (fun z => Bool.noConfusion z) rfl (pkP ki (by
    intro K e1 e2 e3 e4; subst e1; subst e2
    exact fmz))
theorem r_X2_length_0 {K : JC} {l : Launch} {G : JG} {Q : Int → MH → Prop} {E : Nat → Int → MH → Prop} {h0 : MH} (ki : KI K l G yX2_length cX2_length 2 (some (.object "FactHouse$Fact")) [] 4 150 8 Q E h0) (hG : gO G = true) {v1 : Int} {h : MH} (H :
    (0 ≤ v1) ∧
    (v1 < 63) ∧
    ((hv h 70 v1) ≠ 0) ∧
    Q (hv h (hv h 70 v1) 0) h) : JW K 0 [(2002, 3), (0, v1)] [] h := by
  have e1 := ki.2.2.2.2.1
  have e2 := ki.2.2.2.2.2.1
  subst e1; subst e2
  exact run_ok (dia := []) (cnr := []) (cuts := []) ki.1 (pk_X2_length ki hG) ok_X2_length (by decide) 7 true _ _ _ _ H
abbrev k_X2_statics : List (Nat × List (Nat × Instr)) := [(18, [(0, .aload_n 0), (1, .getfield 34), (4, .iload_n 1), (5, .aaload), (6, .getfield 125), (9, .areturn)])]
theorem ok_X2_statics : CodeOK cX2_statics k_X2_statics := okw 0 (by decide +kernel) (okn)
abbrev p_X2_statics (l : Launch) (G : JG) : JP := (true, [(34, 2, 5, 1008116, 68), (125, 6, 0, 8, 0)], [], [], [], [], [], [], false, 8, [])
theorem pk_X2_statics {K : JC} {l : Launch} {G : JG} {Q : Int → MH → Prop} {E : Nat → Int → MH → Prop} {h0 : MH} (ki : KI K l G yX2_statics cX2_statics 2 (some (.object "FactHouse$Fact")) [] 4 150 8 Q E h0) (hG : gO G = true) : POK K RX2 (p_X2_statics l G) :=
  POKi (y := yX2_statics) ki hG (rfs rf_X2_ok (by decide +kernel)) fmz fmz fmz fmz fmz
  (pkE ki (by
    intro K e1 e2 e3 e4; subst e1; subst e2
    exact fmz)) (fun z => Bool.noConfusion z) rfl (pkP ki (by
    intro K e1 e2 e3 e4; subst e1; subst e2
    exact fmz))
theorem r_X2_statics_0 {K : JC} {l : Launch} {G : JG} {Q : Int → MH → Prop} {E : Nat → Int → MH → Prop} {h0 : MH} (ki : KI K l G yX2_statics cX2_statics 2 (some (.object "FactHouse$Fact")) [] 4 150 8 Q E h0) (hG : gO G = true) {v1 : Int} {h : MH} (H :
    (0 ≤ v1) ∧
    (v1 < 8) ∧
    ((hv h 71 v1) ≠ 0) ∧
    Q (hv h (hv h 71 v1) 0) h) : JW K 0 [(2002, 3), (0, v1)] [] h := by
  have e1 := ki.2.2.2.2.1
  have e2 := ki.2.2.2.2.2.1
  subst e1; subst e2
  exact run_ok (dia := []) (cnr := []) (cuts := []) ki.1 (pk_X2_statics ki hG) ok_X2_statics (by decide) 7 true _ _ _ _ H
