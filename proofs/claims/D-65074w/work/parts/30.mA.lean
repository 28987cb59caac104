/-! by gen/mkall.py -/
set_option maxRecDepth 100000
abbrev k_X3_init : List (Nat × List (Nat × Instr)) := [(49, [(0, .aload_n 0), (1, .invokespecial 3), (4, .aload_n 0), (5, .bipush 16), (7, .anewarray 9), (10, .putfield 11), (13, .iconst 0), (14, .istore_n 1), (15, .iload_n 1), (16, .bipush 16), (18, .if_icmp .ge 22), (21, .aload_n 0), (22, .getfield 11), (25, .iload_n 1), (26, .new 9), (29, .dup), (30, .invokespecial 17), (33, .aastore), (34, .iinc 1 1), (37, .goto (-22)), (40, .return_)])]
theorem ok_X3_init : CodeOK cX3_init k_X3_init := okw 0 (by decide +kernel) (okn)
abbrev p_X3_init (l : Launch) (G : JG) : JP := (true, [(11, 3, 1, 118, 0)], [], [], [(11, 3, 1, 118)], [(9, 4, 5)], [(9, 114)], [(3, 3, [], 700, fun _ _ _ _ => True), (17, 2, [2004], 700, S_X4_init l G)], true, 700, [])
theorem pk_X3_init {K : JC} {l : Launch} {G : JG} {Q : Int → MH → Prop} {E : Nat → Int → MH → Prop} {h0 : MH} (ki : KI K l G yX3_init cX3_init 2 none [] 6 190 700 Q E h0) (hG : gO G = true) : POK K RX3 (p_X3_init l G) :=
  POKi (y := yX3_init) ki hG (rfs rf_X3_ok (by decide +kernel)) fmz fmz (rps rp_X3_ok (by decide +kernel)) (subs (by decide +kernel) rn_X3_ok) (subs (by decide +kernel) ra_X3_ok)
  (pkE ki (by
    intro K e1 e2 e3 e4; subst e1; subst e2
    exact fmE (ceO e3 e4 q247 rfl) (fmE (ceI e3 e4 yl_X4_init ⟨rfl, q251, Or.inr ⟨_, List.mem_of_getElem? (i := 5) rfl⟩, _, _, q252⟩ rfl) (fmz)))) (fun _ => rfl) rfl (pkP ki (by
    intro K e1 e2 e3 e4; subst e1; subst e2
    exact fmz))
theorem r_X3_init_0 {K : JC} {l : Launch} {G : JG} {Q : Int → MH → Prop} {E : Nat → Int → MH → Prop} {h0 : MH} (ki : KI K l G yX3_init cX3_init 2 none [] 6 190 700 Q E h0) (hG : gO G = true) {v0 : Int} {h : MH} (H :
    (0 ≤ (16 : Int)) ∧
    (hz h + 1 ≤ LIMC) ∧
    (hs h + 16 ≤ LIMS) ∧
    (∀ h1, h1 = hnew h 114 16 16 →
    (∀ h2, h2 = hset h1 v0 1 (hz h + 1) →
    (∀ x1_3 : Int, x1_3 = 0 →
    JW K 15 [(2003, v0), (0, x1_3)] [] h2)))) : JW K 0 [(2003, v0), (5000, 0)] [] h := by
  have e1 := ki.2.2.2.2.1
  have e2 := ki.2.2.2.2.2.1
  subst e1; subst e2
  exact run_ok (dia := []) (cnr := []) (cuts := [(15, [2003, 0], [])]) ki.1 (pk_X3_init ki hG) ok_X3_init (by decide) 10 true _ _ _ _ H
theorem r_X3_init_15 {K : JC} {l : Launch} {G : JG} {Q : Int → MH → Prop} {E : Nat → Int → MH → Prop} {h0 : MH} (ki : KI K l G yX3_init cX3_init 2 none [] 6 190 700 Q E h0) (hG : gO G = true) {v0 v1 : Int} {h : MH} (H :
    ((16 ≤ v1 →
      Q 0 h) ∧
    (v1 < 16 →
      (hz h + 1 ≤ LIMC) ∧
      (hs h + 5 ≤ LIMS) ∧
      (∀ h1, h1 = hnew h 4 0 5 →
      S_X4_init l G [(2004, (hz h + 1))] h1 (fun _ h3 =>
      ((hv h v0 1) ≠ 0) ∧
      (0 ≤ v1) ∧
      (v1 < (hn h3 (hv h v0 1))) ∧
      (∀ h4, h4 = hset h3 (hv h v0 1) v1 (hz h + 1) →
      (∀ x1_5 : Int, x1_5 = w32 (v1 + 1) →
      JW K 15 [(2003, v0), (0, x1_5)] [] h4))) E)))) : JW K 15 [(2003, v0), (0, v1)] [] h := by
  have e1 := ki.2.2.2.2.1
  have e2 := ki.2.2.2.2.2.1
  subst e1; subst e2
  exact run_ok (dia := []) (cnr := []) (cuts := [(15, [2003, 0], [])]) ki.1 (pk_X3_init ki hG) ok_X3_init (by decide) 14 true _ _ _ _ H
abbrev p_X3_initf (l : Launch) (G : JG) : JP := (false, [(11, 3, 1, 118, 0)], [], [], [(11, 3, 1, 118)], [(9, 4, 5)], [(9, 114)], [(3, 3, [], 700, fun _ _ _ _ => True), (17, 2, [2004], 700, S_X4_init l G)], true, 700, [])
theorem pk_X3_initf {K : JC} {l : Launch} {G : JG} {Q : Int → MH → Prop} {E : Nat → Int → MH → Prop} {h0 : MH} (ki : KI K l G yX3_init cX3_init 2 none [] 6 190 700 Q E h0) (hG : gO G = false) : POK K RX3 (p_X3_initf l G) :=
  POKi (y := yX3_init) ki hG (rfs rf_X3_ok (by decide +kernel)) fmz fmz (rps rp_X3_ok (by decide +kernel)) (subs (by decide +kernel) rn_X3_ok) (subs (by decide +kernel) ra_X3_ok)
  (pkE ki (by
    intro K e1 e2 e3 e4; subst e1; subst e2
    exact fmE (ceO e3 e4 q247 rfl) (fmE (ceI e3 e4 yl_X4_init ⟨rfl, q251, Or.inr ⟨_, List.mem_of_getElem? (i := 5) rfl⟩, _, _, q252⟩ rfl) (fmz)))) (fun _ => rfl) rfl (pkP ki (by
    intro K e1 e2 e3 e4; subst e1; subst e2
    exact fmz))
theorem r_X3_initf_0 {K : JC} {l : Launch} {G : JG} {Q : Int → MH → Prop} {E : Nat → Int → MH → Prop} {h0 : MH} (ki : KI K l G yX3_init cX3_init 2 none [] 6 190 700 Q E h0) (hG : gO G = false) {v0 : Int} {h : MH} (H :
    (0 ≤ (16 : Int)) ∧
    (hz h + 1 ≤ LIMC) ∧
    (hs h + 16 ≤ LIMS) ∧
    (∀ h1, h1 = hnew h 114 16 16 →
    (∀ h2, h2 = hset h1 v0 1 (hz h + 1) →
    (∀ x1_3 : Int, x1_3 = 0 →
    JW K 15 [(2003, v0), (0, x1_3)] [] h2)))) : JW K 0 [(2003, v0), (5000, 0)] [] h := by
  have e1 := ki.2.2.2.2.1
  have e2 := ki.2.2.2.2.2.1
  subst e1; subst e2
  exact run_ok (dia := []) (cnr := []) (cuts := [(15, [2003, 0], [])]) ki.1 (pk_X3_initf ki hG) ok_X3_init (by decide) 10 true _ _ _ _ H
theorem r_X3_initf_15 {K : JC} {l : Launch} {G : JG} {Q : Int → MH → Prop} {E : Nat → Int → MH → Prop} {h0 : MH} (ki : KI K l G yX3_init cX3_init 2 none [] 6 190 700 Q E h0) (hG : gO G = false) {v0 v1 : Int} {h : MH} (H :
    ((16 ≤ v1 →
      Q 0 h) ∧
    (v1 < 16 →
      (hz h + 1 ≤ LIMC) ∧
      (hs h + 5 ≤ LIMS) ∧
      (∀ h1, h1 = hnew h 4 0 5 →
      S_X4_init l G [(2004, (hz h + 1))] h1 (fun _ h3 =>
      ((hv h v0 1) ≠ 0) ∧
      (0 ≤ v1) ∧
      (v1 < (hn h3 (hv h v0 1))) ∧
      (∀ h4, h4 = hset h3 (hv h v0 1) v1 (hz h + 1) →
      (∀ x1_5 : Int, x1_5 = w32 (v1 + 1) →
      JW K 15 [(2003, v0), (0, x1_5)] [] h4))) E)))) : JW K 15 [(2003, v0), (0, v1)] [] h := by
  have e1 := ki.2.2.2.2.1
  have e2 := ki.2.2.2.2.2.1
  subst e1; subst e2
  exact run_ok (dia := []) (cnr := []) (cuts := [(15, [2003, 0], [])]) ki.1 (pk_X3_initf ki hG) ok_X3_init (by decide) 14 true _ _ _ _ H
abbrev k_X3_none : List (Nat × List (Nat × Instr)) := [(47, [(0, .aload_n 0), (1, .iconst 0), (2, .putfield 18), (5, .aload_n 0), (6, .iconst 0), (7, .putfield 22), (10, .aload_n 0), (11, .iconst 0), (12, .putfield 26), (15, .iconst 0), (16, .istore_n 1), (17, .iload_n 1), (18, .bipush 16), (20, .if_icmp .ge 18), (23, .aload_n 0), (24, .getfield 11), (27, .iload_n 1), (28, .aaload), (29, .invokevirtual 29), (32, .iinc 1 1), (35, .goto (-18)), (38, .return_)])]
theorem ok_X3_none : CodeOK cX3_none k_X3_none := okw 0 (by decide +kernel) (okn)
abbrev p_X3_none (l : Launch) (G : JG) : JP := (true, [(11, 3, 1, 118, 0)], [], [], [(18, 3, 0, 2), (22, 3, 2, 0), (26, 3, 3, 0)], [], [], [(29, 1, [2004], 700, S_X4_none l G)], false, 700, [])
theorem pk_X3_none {K : JC} {l : Launch} {G : JG} {Q : Int → MH → Prop} {E : Nat → Int → MH → Prop} {h0 : MH} (ki : KI K l G yX3_none cX3_none 2 none [] 5 170 700 Q E h0) (hG : gO G = true) : POK K RX3 (p_X3_none l G) :=
  POKi (y := yX3_none) ki hG (rfs rf_X3_ok (by decide +kernel)) fmz fmz (rps rp_X3_ok (by decide +kernel)) fmz fmz
  (pkE ki (by
    intro K e1 e2 e3 e4; subst e1; subst e2
    exact fmE (ceV 4 e3 e4 yl_X4_none ⟨by decide, ⟨_, _, rfl⟩, q1315, q1316, q1314⟩ rfl) (fmz))) (fun z => Bool.noConfusion z) rfl (pkP ki (by
    intro K e1 e2 e3 e4; subst e1; subst e2
    exact fmz))
theorem r_X3_none_0 {K : JC} {l : Launch} {G : JG} {Q : Int → MH → Prop} {E : Nat → Int → MH → Prop} {h0 : MH} (ki : KI K l G yX3_none cX3_none 2 none [] 5 170 700 Q E h0) (hG : gO G = true) {v0 : Int} {h : MH} (H :
    ((0 : Int) = 0 ∨ (0 : Int) = 1) ∧
    (∀ h1, h1 = hset h v0 0 0 →
    (∀ h2, h2 = hset h1 v0 2 0 →
    (∀ h3, h3 = hset h2 v0 3 0 →
    (∀ x1_4 : Int, x1_4 = 0 →
    JW K 17 [(2003, v0), (0, x1_4)] [] h3))))) : JW K 0 [(2003, v0), (5000, 0)] [] h := by
  have e1 := ki.2.2.2.2.1
  have e2 := ki.2.2.2.2.2.1
  subst e1; subst e2
  exact run_ok (dia := []) (cnr := []) (cuts := [(17, [2003, 0], [])]) ki.1 (pk_X3_none ki hG) ok_X3_none (by decide) 13 true _ _ _ _ H
theorem r_X3_none_17 {K : JC} {l : Launch} {G : JG} {Q : Int → MH → Prop} {E : Nat → Int → MH → Prop} {h0 : MH} (ki : KI K l G yX3_none cX3_none 2 none [] 5 170 700 Q E h0) (hG : gO G = true) {v0 v1 : Int} {h : MH} (H :
    ((16 ≤ v1 →
      Q 0 h) ∧
    (v1 < 16 →
      ((hv h v0 1) ≠ 0) ∧
      (0 ≤ v1) ∧
      (v1 < (hn h (hv h v0 1))) ∧
      ((hv h (hv h v0 1) v1) ≠ 0) ∧
      S_X4_none l G [(2004, (hv h (hv h v0 1) v1))] h (fun _ h2 =>
      (∀ x1_3 : Int, x1_3 = w32 (v1 + 1) →
      JW K 17 [(2003, v0), (0, x1_3)] [] h2)) E))) : JW K 17 [(2003, v0), (0, v1)] [] h := by
  have e1 := ki.2.2.2.2.1
  have e2 := ki.2.2.2.2.2.1
  subst e1; subst e2
  exact run_ok (dia := []) (cnr := []) (cuts := [(17, [2003, 0], [])]) ki.1 (pk_X3_none ki hG) ok_X3_none (by decide) 12 true _ _ _ _ H
abbrev k_X3_join : List (Nat × List (Nat × Instr)) := [(48, [(0, .aload_n 0), (1, .getfield 18), (4, .ifCond .ne 7), (7, .iconst 1), (8, .goto 4), (11, .iconst 0), (12, .istore 4), (14, .aload_n 0), (15, .getfield 18), (18, .ifCond .ne 24), (21, .aload_n 0), (22, .aload_n 1), (23, .getfield 22), (26, .putfield 22), (29, .aload_n 0), (30, .aload_n 1), (31, .getfield 26), (34, .putfield 26), (37, .aload_n 0), (38, .iconst 1), (39, .putfield 18), (42, .iload 4), (44, .aload_n 0), (45, .getfield 22)]),
  (89, [(48, .aload_n 1), (49, .getfield 22), (52, .iconst (-1)), (53, .ixor), (54, .iand), (55, .ifCond .ne 17), (58, .aload_n 1), (59, .getfield 26), (62, .aload_n 0), (63, .getfield 26), (66, .iconst (-1)), (67, .ixor), (68, .iand), (69, .ifCond .eq 7), (72, .iconst 1), (73, .goto 4), (76, .iconst 0), (77, .ior), (78, .istore 4), (80, .aload_n 0), (81, .dup), (82, .getfield 22), (85, .aload_n 1), (86, .getfield 22)]),
  (134, [(89, .iand), (90, .putfield 22), (93, .aload_n 0), (94, .dup), (95, .getfield 26), (98, .aload_n 1), (99, .getfield 26), (102, .ior), (103, .putfield 26), (106, .iconst 0), (107, .istore 5), (109, .iload 5), (111, .iload_n 2), (112, .if_icmp .ge 31), (115, .iload 4), (117, .aload_n 0), (118, .getfield 11), (121, .iload 5), (123, .aaload), (124, .aload_n 1), (125, .getfield 11), (128, .iload 5), (130, .aaload), (131, .invokevirtual 36)]),
  (181, [(134, .ior), (135, .istore 4), (137, .iinc 5 1), (140, .goto (-31)), (143, .bipush 8), (145, .istore 5), (147, .iload 5), (149, .bipush 8), (151, .iload_n 3), (152, .iadd), (153, .if_icmp .ge 31), (156, .iload 4), (158, .aload_n 0), (159, .getfield 11), (162, .iload 5), (164, .aaload), (165, .aload_n 1), (166, .getfield 11), (169, .iload 5), (171, .aaload), (172, .invokevirtual 36), (175, .ior), (176, .istore 4), (178, .iinc 5 1)]),
  (195, [(181, .goto (-34)), (184, .iload 4), (186, .ireturn)])]
theorem ok_X3_join : CodeOK cX3_join k_X3_join := okw 0 (by decide +kernel) (okw 48 (by decide +kernel) (okw 89 (by decide +kernel) (okw 134 (by decide +kernel) (okw 181 (by decide +kernel) (okn)))))
abbrev p_X3_join (l : Launch) (G : JG) : JP := (true, [(11, 3, 1, 118, 0), (18, 3, 0, 0, 0), (22, 3, 2, 0, 0), (26, 3, 3, 0, 0)], [], [], [(18, 3, 0, 2), (22, 3, 2, 0), (26, 3, 3, 0)], [], [], [(36, 1, [8, 2004], 2, S_X4_join l G)], false, 2, [])
theorem pk_X3_join {K : JC} {l : Launch} {G : JG} {Q : Int → MH → Prop} {E : Nat → Int → MH → Prop} {h0 : MH} (ki : KI K l G yX3_join cX3_join 6 (some .boolean) [] 6 193 2 Q E h0) (hG : gO G = true) : POK K RX3 (p_X3_join l G) :=
  POKi (y := yX3_join) ki hG (rfs rf_X3_ok (by decide +kernel)) fmz fmz (rps rp_X3_ok (by decide +kernel)) fmz fmz
  (pkE ki (by
    intro K e1 e2 e3 e4; subst e1; subst e2
    exact fmE (ceV 4 e3 e4 yl_X4_join ⟨by decide, ⟨_, _, rfl⟩, q1361, q1362, q1360⟩ rfl) (fmz))) (fun z => Bool.noConfusion z) rfl (pkP ki (by
    intro K e1 e2 e3 e4; subst e1; subst e2
    exact fmz))
theorem r_X3_join_0 {K : JC} {l : Launch} {G : JG} {Q : Int → MH → Prop} {E : Nat → Int → MH → Prop} {h0 : MH} (ki : KI K l G yX3_join cX3_join 6 (some .boolean) [] 6 193 2 Q E h0) (hG : gO G = true) {v0 v1 v2 v3 : Int} {h : MH} (H :
    (∀ x4_1 : Int, x4_1 = (if (hv h v0 0) = 0 then 1 else 0 : Int) →
    ((¬ (hv h v0 0) = 0 →
      (v1 ≠ 0) ∧
      (((i_and (hv h v0 2) (i_xor (hv h v1 2) (-1))) = 0 → v1 ≠ 0)) ∧
      (∀ x4_2 : Int, x4_2 = (i_or x4_1 (if (i_and (hv h v0 2) (i_xor (hv h v1 2) (-1))) = 0 then (if (i_and (hv h v1 3) (i_xor (hv h v0 3) (-1))) = 0 then 0 else 1 : Int) else 1 : Int)) →
      (v1 ≠ 0) ∧
      (∀ h3, h3 = hset h v0 2 (i_and (hv h v0 2) (hv h v1 2)) →
      (v1 ≠ 0) ∧
      (∀ h4, h4 = hset h3 v0 3 (i_or (hv h3 v0 3) (hv h3 v1 3)) →
      (∀ x5_5 : Int, x5_5 = 0 →
      JW K 109 [(2003, v0), (7, v1), (0, v2), (0, v3), (0, x4_2), (0, x5_5)] [] h4))))) ∧
    ((hv h v0 0) = 0 →
      (v1 ≠ 0) ∧
      (∀ h6, h6 = hset h v0 2 (hv h v1 2) →
      (v1 ≠ 0) ∧
      (∀ h7, h7 = hset h6 v0 3 (hv h6 v1 3) →
      ((1 : Int) = 0 ∨ (1 : Int) = 1) ∧
      (∀ h8, h8 = hset h7 v0 0 1 →
      (v1 ≠ 0) ∧
      (((i_and (hv h8 v0 2) (i_xor (hv h8 v1 2) (-1))) = 0 → v1 ≠ 0)) ∧
      (∀ x4_9 : Int, x4_9 = (i_or x4_1 (if (i_and (hv h8 v0 2) (i_xor (hv h8 v1 2) (-1))) = 0 then (if (i_and (hv h8 v1 3) (i_xor (hv h8 v0 3) (-1))) = 0 then 0 else 1 : Int) else 1 : Int)) →
      (v1 ≠ 0) ∧
      (∀ h10, h10 = hset h8 v0 2 (i_and (hv h8 v0 2) (hv h8 v1 2)) →
      (v1 ≠ 0) ∧
      (∀ h11, h11 = hset h10 v0 3 (i_or (hv h10 v0 3) (hv h10 v1 3)) →
      (∀ x5_12 : Int, x5_12 = 0 →
      JW K 109 [(2003, v0), (7, v1), (0, v2), (0, v3), (0, x4_9), (0, x5_12)] [] h11))))))))))) : JW K 0 [(2003, v0), (7, v1), (0, v2), (0, v3), (5000, 0), (5000, 0)] [] h := by
  have e1 := ki.2.2.2.2.1
  have e2 := ki.2.2.2.2.2.1
  subst e1; subst e2
  exact run_ok (dia := [(4, 12), (55, 77)]) (cnr := []) (cuts := [(109, [2003, 7, 0, 0, 0, 0], []), (147, [2003, 7, 0, 0, 0, 0], [])]) ki.1 (pk_X3_join ki hG) ok_X3_join (by decide) 47 true _ _ _ _ H
theorem r_X3_join_109 {K : JC} {l : Launch} {G : JG} {Q : Int → MH → Prop} {E : Nat → Int → MH → Prop} {h0 : MH} (ki : KI K l G yX3_join cX3_join 6 (some .boolean) [] 6 193 2 Q E h0) (hG : gO G = true) {v0 v1 v2 v3 v4 v5 : Int} {h : MH} (H :
    ((v2 ≤ v5 →
      (∀ x5_1 : Int, x5_1 = 8 →
      JW K 147 [(2003, v0), (7, v1), (0, v2), (0, v3), (0, v4), (0, x5_1)] [] h)) ∧
    (v5 < v2 →
      ((hv h v0 1) ≠ 0) ∧
      (0 ≤ v5) ∧
      (v5 < (hn h (hv h v0 1))) ∧
      (v1 ≠ 0) ∧
      ((hv h v1 1) ≠ 0) ∧
      (0 ≤ v5) ∧
      (v5 < (hn h (hv h v1 1))) ∧
      ((hv h (hv h v0 1) v5) ≠ 0) ∧
      S_X4_join l G [(2004, (hv h (hv h v0 1) v5)), (8, (hv h (hv h v1 1) v5))] h (fun z2 h3 =>
      (∀ x4_4 : Int, x4_4 = (i_or v4 z2) →
      (∀ x5_5 : Int, x5_5 = w32 (v5 + 1) →
      JW K 109 [(2003, v0), (7, v1), (0, v2), (0, v3), (0, x4_4), (0, x5_5)] [] h3))) E))) : JW K 109 [(2003, v0), (7, v1), (0, v2), (0, v3), (0, v4), (0, v5)] [] h := by
  have e1 := ki.2.2.2.2.1
  have e2 := ki.2.2.2.2.2.1
  subst e1; subst e2
  exact run_ok (dia := [(4, 12), (55, 77)]) (cnr := []) (cuts := [(109, [2003, 7, 0, 0, 0, 0], []), (147, [2003, 7, 0, 0, 0, 0], [])]) ki.1 (pk_X3_join ki hG) ok_X3_join (by decide) 19 true _ _ _ _ H
theorem r_X3_join_147 {K : JC} {l : Launch} {G : JG} {Q : Int → MH → Prop} {E : Nat → Int → MH → Prop} {h0 : MH} (ki : KI K l G yX3_join cX3_join 6 (some .boolean) [] 6 193 2 Q E h0) (hG : gO G = true) {v0 v1 v2 v3 v4 v5 : Int} {h : MH} (H :
    (((w32 (8 + v3)) ≤ v5 →
      ((v4 = 0 ∨ v4 = 1) ∧ Q v4 h)) ∧
    (v5 < (w32 (8 + v3)) →
      ((hv h v0 1) ≠ 0) ∧
      (0 ≤ v5) ∧
      (v5 < (hn h (hv h v0 1))) ∧
      (v1 ≠ 0) ∧
      ((hv h v1 1) ≠ 0) ∧
      (0 ≤ v5) ∧
      (v5 < (hn h (hv h v1 1))) ∧
      ((hv h (hv h v0 1) v5) ≠ 0) ∧
      S_X4_join l G [(2004, (hv h (hv h v0 1) v5)), (8, (hv h (hv h v1 1) v5))] h (fun z1 h2 =>
      (∀ x4_3 : Int, x4_3 = (i_or v4 z1) →
      (∀ x5_4 : Int, x5_4 = w32 (v5 + 1) →
      JW K 147 [(2003, v0), (7, v1), (0, v2), (0, v3), (0, x4_3), (0, x5_4)] [] h2))) E))) : JW K 147 [(2003, v0), (7, v1), (0, v2), (0, v3), (0, v4), (0, v5)] [] h := by
  have e1 := ki.2.2.2.2.1
  have e2 := ki.2.2.2.2.2.1
  subst e1; subst e2
  exact run_ok (dia := [(4, 12), (55, 77)]) (cnr := []) (cuts := [(109, [2003, 7, 0, 0, 0, 0], []), (147, [2003, 7, 0, 0, 0, 0], [])]) ki.1 (pk_X3_join ki hG) ok_X3_join (by decide) 21 true _ _ _ _ H
abbrev k_X3_become : List (Nat × List (Nat × Instr)) := [(43, [(0, .aload_n 0), (1, .aload_n 1), (2, .getfield 18), (5, .putfield 18), (8, .aload_n 0), (9, .aload_n 1), (10, .getfield 22), (13, .putfield 22), (16, .aload_n 0), (17, .aload_n 1), (18, .getfield 26), (21, .putfield 26), (24, .iconst 0), (25, .istore_n 2), (26, .iload_n 2), (27, .bipush 16), (29, .if_icmp .ge 25), (32, .aload_n 0), (33, .getfield 11), (36, .iload_n 2), (37, .aaload), (38, .aload_n 1), (39, .getfield 11), (42, .iload_n 2)]),
  (63, [(43, .aaload), (44, .invokevirtual 32), (47, .pop), (48, .iinc 2 1), (51, .goto (-25)), (54, .return_)])]
theorem ok_X3_become : CodeOK cX3_become k_X3_become := okw 0 (by decide +kernel) (okw 43 (by decide +kernel) (okn))
abbrev p_X3_become (l : Launch) (G : JG) : JP := (true, [(11, 3, 1, 118, 0), (18, 3, 0, 0, 0), (22, 3, 2, 0, 0), (26, 3, 3, 0, 0)], [], [], [(18, 3, 0, 2), (22, 3, 2, 0), (26, 3, 3, 0)], [], [], [(32, 1, [8, 2004], 8, S_X4_become l G)], false, 700, [])
theorem pk_X3_become {K : JC} {l : Launch} {G : JG} {Q : Int → MH → Prop} {E : Nat → Int → MH → Prop} {h0 : MH} (ki : KI K l G yX3_become cX3_become 3 none [] 5 171 700 Q E h0) (hG : gO G = true) : POK K RX3 (p_X3_become l G) :=
  POKi (y := yX3_become) ki hG (rfs rf_X3_ok (by decide +kernel)) fmz fmz (rps rp_X3_ok (by decide +kernel)) fmz fmz
  (pkE ki (by
    intro K e1 e2 e3 e4; subst e1; subst e2
    exact fmE (ceV 4 e3 e4 yl_X4_become ⟨by decide, ⟨_, _, rfl⟩, q1365, q1366, q1387⟩ rfl) (fmz))) (fun z => Bool.noConfusion z) rfl (pkP ki (by
    intro K e1 e2 e3 e4; subst e1; subst e2
    exact fmz))
theorem r_X3_become_0 {K : JC} {l : Launch} {G : JG} {Q : Int → MH → Prop} {E : Nat → Int → MH → Prop} {h0 : MH} (ki : KI K l G yX3_become cX3_become 3 none [] 5 171 700 Q E h0) (hG : gO G = true) {v0 v1 : Int} {h : MH} (H :
    (v1 ≠ 0) ∧
    ((hv h v1 0) = 0 ∨ (hv h v1 0) = 1) ∧
    (∀ h1, h1 = hset h v0 0 (hv h v1 0) →
    (v1 ≠ 0) ∧
    (∀ h2, h2 = hset h1 v0 2 (hv h1 v1 2) →
    (v1 ≠ 0) ∧
    (∀ h3, h3 = hset h2 v0 3 (hv h2 v1 3) →
    (∀ x2_4 : Int, x2_4 = 0 →
    JW K 26 [(2003, v0), (7, v1), (0, x2_4)] [] h3))))) : JW K 0 [(2003, v0), (7, v1), (5000, 0)] [] h := by
  have e1 := ki.2.2.2.2.1
  have e2 := ki.2.2.2.2.2.1
  subst e1; subst e2
  exact run_ok (dia := []) (cnr := []) (cuts := [(26, [2003, 7, 0], [])]) ki.1 (pk_X3_become ki hG) ok_X3_become (by decide) 16 true _ _ _ _ H
theorem r_X3_become_26 {K : JC} {l : Launch} {G : JG} {Q : Int → MH → Prop} {E : Nat → Int → MH → Prop} {h0 : MH} (ki : KI K l G yX3_become cX3_become 3 none [] 5 171 700 Q E h0) (hG : gO G = true) {v0 v1 v2 : Int} {h : MH} (H :
    ((16 ≤ v2 →
      Q 0 h) ∧
    (v2 < 16 →
      ((hv h v0 1) ≠ 0) ∧
      (0 ≤ v2) ∧
      (v2 < (hn h (hv h v0 1))) ∧
      (v1 ≠ 0) ∧
      ((hv h v1 1) ≠ 0) ∧
      (0 ≤ v2) ∧
      (v2 < (hn h (hv h v1 1))) ∧
      ((hv h (hv h v0 1) v2) ≠ 0) ∧
      S_X4_become l G [(2004, (hv h (hv h v0 1) v2)), (8, (hv h (hv h v1 1) v2))] h (fun z1 h2 =>
      (∀ x2_3 : Int, x2_3 = w32 (v2 + 1) →
      JW K 26 [(2003, v0), (7, v1), (0, x2_3)] [] h2)) E))) : JW K 26 [(2003, v0), (7, v1), (0, v2)] [] h := by
  have e1 := ki.2.2.2.2.1
  have e2 := ki.2.2.2.2.2.1
  subst e1; subst e2
  exact run_ok (dia := []) (cnr := []) (cuts := [(26, [2003, 7, 0], [])]) ki.1 (pk_X3_become ki hG) ok_X3_become (by decide) 17 true _ _ _ _ H
abbrev k_X4_init : List (Nat × List (Nat × Instr)) := [(13, [(0, .aload_n 0), (1, .invokespecial 3), (4, .return_)])]
theorem ok_X4_init : CodeOK cX4_init k_X4_init := okw 0 (by decide +kernel) (okn)
abbrev p_X4_init (l : Launch) (G : JG) : JP := (true, [], [], [], [], [], [], [(3, 3, [], 700, fun _ _ _ _ => True)], true, 700, [])
theorem pk_X4_init {K : JC} {l : Launch} {G : JG} {Q : Int → MH → Prop} {E : Nat → Int → MH → Prop} {h0 : MH} (ki : KI K l G yX4_init cX4_init 1 none [] 5 170 700 Q E h0) (hG : gO G = true) : POK K RX4 (p_X4_init l G) :=
  POKi (y := yX4_init) ki hG fmz fmz fmz fmz fmz fmz
  (pkE ki (by
    intro K e1 e2 e3 e4; subst e1; subst e2
    exact fmE (ceO e3 e4 q253 rfl) (fmz))) (fun _ => rfl) rfl (pkP ki (by
    intro K e1 e2 e3 e4; subst e1; subst e2
    exact fmz))
theorem r_X4_init_0 {K : JC} {l : Launch} {G : JG} {Q : Int → MH → Prop} {E : Nat → Int → MH → Prop} {h0 : MH} (ki : KI K l G yX4_init cX4_init 1 none [] 5 170 700 Q E h0) (hG : gO G = true) {v0 : Int} {h : MH} (H :
    Q 0 h) : JW K 0 [(2004, v0)] [] h := by
  have e1 := ki.2.2.2.2.1
  have e2 := ki.2.2.2.2.2.1
  subst e1; subst e2
  exact run_ok (dia := []) (cnr := []) (cuts := []) ki.1 (pk_X4_init ki hG) ok_X4_init (by decide) 4 true _ _ _ _ H
abbrev p_X4_initf (l : Launch) (G : JG) : JP := (false, [], [], [], [], [], [], [(3, 3, [], 700, fun _ _ _ _ => True)], true, 700, [])
theorem pk_X4_initf {K : JC} {l : Launch} {G : JG} {Q : Int → MH → Prop} {E : Nat → Int → MH → Prop} {h0 : MH} (ki : KI K l G yX4_init cX4_init 1 none [] 5 170 700 Q E h0) (hG : gO G = false) : POK K RX4 (p_X4_initf l G) :=
  POKi (y := yX4_init) ki hG fmz fmz fmz fmz fmz fmz
  (pkE ki (by
    intro K e1 e2 e3 e4; subst e1; subst e2
    exact fmE (ceO e3 e4 q253 rfl) (fmz))) (fun _ => rfl) rfl (pkP ki (by
    intro K e1 e2 e3 e4; subst e1; subst e2
    exact fmz))
theorem r_X4_initf_0 {K : JC} {l : Launch} {G : JG} {Q : Int → MH → Prop} {E : Nat → Int → MH → Prop} {h0 : MH} (ki : KI K l G yX4_init cX4_init 1 none [] 5 170 700 Q E h0) (hG : gO G = false) {v0 : Int} {h : MH} (H :
    Q 0 h) : JW K 0 [(2004, v0)] [] h := by
  have e1 := ki.2.2.2.2.1
  have e2 := ki.2.2.2.2.2.1
  subst e1; subst e2
  exact run_ok (dia := []) (cnr := []) (cuts := []) ki.1 (pk_X4_initf ki hG) ok_X4_init (by decide) 4 true _ _ _ _ H
abbrev k_X4_none : List (Nat × List (Nat × Instr)) := [(34, [(0, .aload_n 0), (1, .iconst 0), (2, .putfield 9), (5, .aload_n 0), (6, .iconst 0), (7, .putfield 15), (10, .aload_n 0), (11, .iconst 0), (12, .putfield 19), (15, .aload_n 0), (16, .iconst 0), (17, .putfield 22), (20, .aload_n 0), (21, .lconst 0), (22, .putfield 25), (25, .return_)])]
theorem ok_X4_none : CodeOK cX4_none k_X4_none := okw 0 (by decide +kernel) (okn)
abbrev p_X4_none (l : Launch) (G : JG) : JP := (true, [], [], [], [(9, 4, 0, 2), (15, 4, 1, 0), (19, 4, 2, 0), (22, 4, 3, 0), (25, 4, 4, 1)], [], [], [], false, 700, [])
theorem pk_X4_none {K : JC} {l : Launch} {G : JG} {Q : Int → MH → Prop} {E : Nat → Int → MH → Prop} {h0 : MH} (ki : KI K l G yX4_none cX4_none 1 none [] 4 150 700 Q E h0) (hG : gO G = true) : POK K RX4 (p_X4_none l G) :=
  POKi (y := yX4_none) ki hG fmz fmz fmz (rps rp_X4_ok (by decide +kernel)) fmz fmz
  (pkE ki (by
    intro K e1 e2 e3 e4; subst e1; subst e2
    exact fmz)) (fun z => Bool.noConfusion z) rfl (pkP ki (by
    intro K e1 e2 e3 e4; subst e1; subst e2
    exact fmz))
theorem r_X4_none_0 {K : JC} {l : Launch} {G : JG} {Q : Int → MH → Prop} {E : Nat → Int → MH → Prop} {h0 : MH} (ki : KI K l G yX4_none cX4_none 1 none [] 4 150 700 Q E h0) (hG : gO G = true) {v0 : Int} {h : MH} (H :
    ((0 : Int) = 0 ∨ (0 : Int) = 1) ∧
    (∀ h1, h1 = hset h v0 0 0 →
    (∀ h2, h2 = hset h1 v0 1 0 →
    (∀ h3, h3 = hset h2 v0 2 0 →
    (∀ h4, h4 = hset h3 v0 3 0 →
    (∀ h5, h5 = hset h4 v0 4 0 →
    Q 0 h5)))))) : JW K 0 [(2004, v0)] [] h := by
  have e1 := ki.2.2.2.2.1
  have e2 := ki.2.2.2.2.2.1
  subst e1; subst e2
  exact run_ok (dia := []) (cnr := []) (cuts := []) ki.1 (pk_X4_none ki hG) ok_X4_none (by decide) 17 true _ _ _ _ H
abbrev k_X4_first : List (Nat × List (Nat × Instr)) := [(28, [(0, .iload_n 1), (1, .ifCond .ne 13), (4, .aload_n 0), (5, .iconst 0), (6, .iconst 0), (7, .iconst 0), (8, .invokevirtual 29), (11, .goto 8), (14, .aload_n 0), (15, .lconst 1), (16, .invokevirtual 33), (19, .areturn)])]
theorem ok_X4_first : CodeOK cX4_first k_X4_first := okw 0 (by decide +kernel) (okn)
abbrev p_X4_first (l : Launch) (G : JG) : JP := (true, [], [], [], [], [], [], [(29, 1, [0, 0, 0, 2004], 8, S_X4_number l G), (33, 1, [1, 2004], 8, S_X4_sites l G)], false, 8, [])
theorem pk_X4_first {K : JC} {l : Launch} {G : JG} {Q : Int → MH → Prop} {E : Nat → Int → MH → Prop} {h0 : MH} (ki : KI K l G yX4_first cX4_first 2 (some (.object "FactHouse$Fact")) [] 5 173 8 Q E h0) (hG : gO G = true) : POK K RX4 (p_X4_first l G) :=
  POKi (y := yX4_first) ki hG fmz fmz fmz fmz fmz fmz
  (pkE ki (by
    intro K e1 e2 e3 e4; subst e1; subst e2
    exact fmE (ceV 4 e3 e4 yl_X4_number ⟨by decide, ⟨_, _, rfl⟩, q1338, q1339, q1337⟩ rfl) (fmE (ceV 4 e3 e4 yl_X4_sites ⟨by decide, ⟨_, _, rfl⟩, q1342, q1343, q1341⟩ rfl) (fmz)))) (fun z => Bool.noConfusion z) rfl (pkP ki (by
    intro K e1 e2 e3 e4; subst e1; subst e2
    exact fmz))
theorem r_X4_first_0 {K : JC} {l : Launch} {G : JG} {Q : Int → MH → Prop} {E : Nat → Int → MH → Prop} {h0 : MH} (ki : KI K l G yX4_first cX4_first 2 (some (.object "FactHouse$Fact")) [] 5 173 8 Q E h0) (hG : gO G = true) {v0 v1 : Int} {h : MH} (H :
    ((¬ v1 = 0 →
      S_X4_sites l G [(2004, v0), (1, 1)] h (fun z1 h2 =>
      Q z1 h2) E) ∧
    (v1 = 0 →
      S_X4_number l G [(2004, v0), (0, 0), (0, 0), (0, 0)] h (fun z3 h4 =>
      Q z3 h4) E))) : JW K 0 [(2004, v0), (0, v1)] [] h := by
  have e1 := ki.2.2.2.2.1
  have e2 := ki.2.2.2.2.2.1
  subst e1; subst e2
  exact run_ok (dia := []) (cnr := []) (cuts := []) ki.1 (pk_X4_first ki hG) ok_X4_first (by decide) 10 true _ _ _ _ H
abbrev k_X4_number : List (Nat × List (Nat × Instr)) := [(35, [(0, .aload_n 0), (1, .iconst 1), (2, .putfield 9), (5, .aload_n 0), (6, .iload_n 1), (7, .putfield 15), (10, .aload_n 0), (11, .iload_n 2), (12, .putfield 19), (15, .aload_n 0), (16, .iload_n 3), (17, .putfield 22), (20, .aload_n 0), (21, .lconst 0), (22, .putfield 25), (25, .aload_n 0), (26, .areturn)])]
theorem ok_X4_number : CodeOK cX4_number k_X4_number := okw 0 (by decide +kernel) (okn)
abbrev p_X4_number (l : Launch) (G : JG) : JP := (true, [], [], [], [(9, 4, 0, 2), (15, 4, 1, 0), (19, 4, 2, 0), (22, 4, 3, 0), (25, 4, 4, 1)], [], [], [], false, 8, [])
theorem pk_X4_number {K : JC} {l : Launch} {G : JG} {Q : Int → MH → Prop} {E : Nat → Int → MH → Prop} {h0 : MH} (ki : KI K l G yX4_number cX4_number 4 (some (.object "FactHouse$Fact")) [] 4 150 8 Q E h0) (hG : gO G = true) : POK K RX4 (p_X4_number l G) :=
  POKi (y := yX4_number) ki hG fmz fmz fmz (rps rp_X4_ok (by decide +kernel)) fmz fmz
  (pkE ki (by
    intro K e1 e2 e3 e4; subst e1; subst e2
    exact fmz)) (fun z => Bool.noConfusion z) rfl (pkP ki (by
    intro K e1 e2 e3 e4; subst e1; subst e2
    exact fmz))
theorem r_X4_number_0 {K : JC} {l : Launch} {G : JG} {Q : Int → MH → Prop} {E : Nat → Int → MH → Prop} {h0 : MH} (ki : KI K l G yX4_number cX4_number 4 (some (.object "FactHouse$Fact")) [] 4 150 8 Q E h0) (hG : gO G = true) {v0 v1 v2 v3 : Int} {h : MH} (H :
    ((1 : Int) = 0 ∨ (1 : Int) = 1) ∧
    (∀ h1, h1 = hset h v0 0 1 →
    (∀ h2, h2 = hset h1 v0 1 v1 →
    (∀ h3, h3 = hset h2 v0 2 v2 →
    (∀ h4, h4 = hset h3 v0 3 v3 →
    (∀ h5, h5 = hset h4 v0 4 0 →
    Q v0 h5)))))) : JW K 0 [(2004, v0), (0, v1), (0, v2), (0, v3)] [] h := by
  have e1 := ki.2.2.2.2.1
  have e2 := ki.2.2.2.2.2.1
  subst e1; subst e2
  exact run_ok (dia := []) (cnr := []) (cuts := []) ki.1 (pk_X4_number ki hG) ok_X4_number (by decide) 18 true _ _ _ _ H
abbrev k_X4_sites : List (Nat × List (Nat × Instr)) := [(35, [(0, .aload_n 0), (1, .iconst 1), (2, .putfield 9), (5, .aload_n 0), (6, .iconst 0), (7, .putfield 15), (10, .aload_n 0), (11, .iconst 0), (12, .putfield 19), (15, .aload_n 0), (16, .iconst 0), (17, .putfield 22), (20, .aload_n 0), (21, .lload_n 1), (22, .putfield 25), (25, .aload_n 0), (26, .areturn)])]
theorem ok_X4_sites : CodeOK cX4_sites k_X4_sites := okw 0 (by decide +kernel) (okn)
abbrev p_X4_sites (l : Launch) (G : JG) : JP := (true, [], [], [], [(9, 4, 0, 2), (15, 4, 1, 0), (19, 4, 2, 0), (22, 4, 3, 0), (25, 4, 4, 1)], [], [], [], false, 8, [])
theorem pk_X4_sites {K : JC} {l : Launch} {G : JG} {Q : Int → MH → Prop} {E : Nat → Int → MH → Prop} {h0 : MH} (ki : KI K l G yX4_sites cX4_sites 3 (some (.object "FactHouse$Fact")) [] 4 150 8 Q E h0) (hG : gO G = true) : POK K RX4 (p_X4_sites l G) :=
  POKi (y := yX4_sites) ki hG fmz fmz fmz (rps rp_X4_ok (by decide +kernel)) fmz fmz
  (pkE ki (by
    intro K e1 e2 e3 e4; subst e1; subst e2
    exact fmz)) (fun z => Bool.noConfusion z) rfl (pkP ki (by
    intro K e1 e2 e3 e4; subst e1; subst e2
    exact fmz))
theorem r_X4_sites_0 {K : JC} {l : Launch} {G : JG} {Q : Int → MH → Prop} {E : Nat → Int → MH → Prop} {h0 : MH} (ki : KI K l G yX4_sites cX4_sites 3 (some (.object "FactHouse$Fact")) [] 4 150 8 Q E h0) (hG : gO G = true) {v0 v1 : Int} {h : MH} (H :
    ((1 : Int) = 0 ∨ (1 : Int) = 1) ∧
    (∀ h1, h1 = hset h v0 0 1 →
    (∀ h2, h2 = hset h1 v0 1 0 →
    (∀ h3, h3 = hset h2 v0 2 0 →
    (∀ h4, h4 = hset h3 v0 3 0 →
    (∀ h5, h5 = hset h4 v0 4 v1 →
    Q v0 h5)))))) : JW K 0 [(2004, v0), (1, v1), (5000, 0)] [] h := by
  have e1 := ki.2.2.2.2.1
  have e2 := ki.2.2.2.2.2.1
  subst e1; subst e2
  exact run_ok (dia := []) (cnr := []) (cuts := []) ki.1 (pk_X4_sites ki hG) ok_X4_sites (by decide) 18 true _ _ _ _ H
abbrev k_X4_join : List (Nat × List (Nat × Instr)) := [(46, [(0, .aload_n 1), (1, .getfield 9), (4, .ifCond .ne 5), (7, .iconst 0), (8, .ireturn), (9, .aload_n 0), (10, .getfield 9), (13, .ifCond .ne 11), (16, .aload_n 0), (17, .aload_n 1), (18, .invokevirtual 36), (21, .pop), (22, .iconst 1), (23, .ireturn), (24, .aload_n 1), (25, .getfield 15), (28, .aload_n 0), (29, .getfield 15), (32, .if_icmp .lt 46), (35, .aload_n 1), (36, .getfield 19), (39, .aload_n 0), (40, .getfield 19), (43, .if_icmp .gt 35)]),
  (86, [(46, .aload_n 1), (47, .getfield 22), (50, .aload_n 0), (51, .getfield 22), (54, .iconst (-1)), (55, .ixor), (56, .iand), (57, .ifCond .ne 21), (60, .aload_n 1), (61, .getfield 25), (64, .aload_n 0), (65, .getfield 25), (68, .ldc2_w 40), (71, .lxor), (72, .land), (73, .lconst 0), (74, .lcmp), (75, .ifCond .eq 7), (78, .iconst 1), (79, .goto 4), (82, .iconst 0), (83, .istore_n 2), (84, .aload_n 0), (85, .aload_n 0)]),
  (136, [(86, .getfield 15), (89, .aload_n 1), (90, .getfield 15), (93, .invokestatic 42), (96, .putfield 15), (99, .aload_n 0), (100, .aload_n 0), (101, .getfield 19), (104, .aload_n 1), (105, .getfield 19), (108, .invokestatic 48), (111, .putfield 19), (114, .aload_n 0), (115, .dup), (116, .getfield 22), (119, .aload_n 1), (120, .getfield 22), (123, .ior), (124, .putfield 22), (127, .aload_n 0), (128, .dup), (129, .getfield 25), (132, .aload_n 1), (133, .getfield 25)]),
  (150, [(136, .lor), (137, .putfield 25), (140, .iload_n 2), (141, .ireturn)])]
theorem ok_X4_join : CodeOK cX4_join k_X4_join := okw 0 (by decide +kernel) (okw 46 (by decide +kernel) (okw 86 (by decide +kernel) (okw 136 (by decide +kernel) (okn))))
abbrev p_X4_join (l : Launch) (G : JG) : JP := (true, [(9, 4, 0, 0, 0), (15, 4, 1, 0, 0), (19, 4, 2, 0, 0), (22, 4, 3, 0, 0), (25, 4, 4, 1, 0)], [], [(40, (-1))], [(15, 4, 1, 0), (19, 4, 2, 0), (22, 4, 3, 0), (25, 4, 4, 1)], [], [], [(36, 1, [8, 2004], 8, S_X4_become l G)], false, 2, [(42, e_J8_min), (48, e_J8_max)])
theorem pk_X4_join {K : JC} {l : Launch} {G : JG} {Q : Int → MH → Prop} {E : Nat → Int → MH → Prop} {h0 : MH} (ki : KI K l G yX4_join cX4_join 3 (some .boolean) [] 5 171 2 Q E h0) (hG : gO G = true) : POK K RX4 (p_X4_join l G) :=
  POKi (y := yX4_join) ki hG (rfs rf_X4_ok (by decide +kernel)) fmz (subs (by decide +kernel) rl_X4_ok) (rps rp_X4_ok (by decide +kernel)) fmz fmz
  (pkE ki (by
    intro K e1 e2 e3 e4; subst e1; subst e2
    exact fmE (ceV 4 e3 e4 yl_X4_become ⟨by decide, ⟨_, _, rfl⟩, q1365, q1366, q1364⟩ rfl) (fmz))) (fun z => Bool.noConfusion z) rfl (pkP ki (by
    intro K e1 e2 e3 e4; subst e1; subst e2
    exact fmP (pe_J8_min hG e3 e4 ⟨q1370, Or.inl q1369⟩ rfl rfl) (fmP (pe_J8_max hG e3 e4 ⟨q1373, Or.inl q1372⟩ rfl rfl) (fmz))))
theorem r_X4_join_0 {K : JC} {l : Launch} {G : JG} {Q : Int → MH → Prop} {E : Nat → Int → MH → Prop} {h0 : MH} (ki : KI K l G yX4_join cX4_join 3 (some .boolean) [] 5 171 2 Q E h0) (hG : gO G = true) {v0 v1 : Int} {h : MH} (H :
    (v1 ≠ 0) ∧
    ((¬ (hv h v1 0) = 0 →
      ((¬ (hv h v0 0) = 0 →
        (v1 ≠ 0) ∧
        (((hv h v0 1) ≤ (hv h v1 1) → (v1 ≠ 0) ∧ ((hv h v1 2) ≤ (hv h v0 2) → (v1 ≠ 0) ∧ ((i_and (hv h v1 3) (i_xor (hv h v0 3) (-1))) = 0 → v1 ≠ 0)))) ∧
        (∀ x2_1 : Int, x2_1 = (if (hv h v1 1) < (hv h v0 1) then 1 else (if (hv h v0 2) < (hv h v1 2) then 1 else (if (i_and (hv h v1 3) (i_xor (hv h v0 3) (-1))) = 0 then (if (lc (l_and (hv h v1 4) (l_xor (hv h v0 4) (-1))) 0) = 0 then 0 else 1 : Int) else 1 : Int) : Int) : Int) →
        (v1 ≠ 0) ∧
        (∀ h2, h2 = hset h v0 1 (min (hv h v0 1) (hv h v1 1)) →
        (v1 ≠ 0) ∧
        (∀ h3, h3 = hset h2 v0 2 (max (hv h2 v0 2) (hv h2 v1 2)) →
        (v1 ≠ 0) ∧
        (∀ h4, h4 = hset h3 v0 3 (i_or (hv h3 v0 3) (hv h3 v1 3)) →
        (v1 ≠ 0) ∧
        (∀ h5, h5 = hset h4 v0 4 (l_or (hv h4 v0 4) (hv h4 v1 4)) →
        ((x2_1 = 0 ∨ x2_1 = 1) ∧ Q x2_1 h5))))))) ∧
      ((hv h v0 0) = 0 →
        S_X4_become l G [(2004, v0), (8, v1)] h (fun z6 h7 =>
        (((1 : Int) = 0 ∨ (1 : Int) = 1) ∧ Q 1 h7)) E))) ∧
    ((hv h v1 0) = 0 →
      (((0 : Int) = 0 ∨ (0 : Int) = 1) ∧ Q 0 h)))) : JW K 0 [(2004, v0), (8, v1), (5000, 0)] [] h := by
  have e1 := ki.2.2.2.2.1
  have e2 := ki.2.2.2.2.2.1
  subst e1; subst e2
  exact run_ok (dia := [(32, 83)]) (cnr := []) (cuts := []) ki.1 (pk_X4_join ki hG) ok_X4_join (by decide) 43 true _ _ _ _ H
abbrev k_X4_become : List (Nat × List (Nat × Instr)) := [(50, [(0, .aload_n 0), (1, .aload_n 1), (2, .getfield 9), (5, .putfield 9), (8, .aload_n 0), (9, .aload_n 1), (10, .getfield 15), (13, .putfield 15), (16, .aload_n 0), (17, .aload_n 1), (18, .getfield 19), (21, .putfield 19), (24, .aload_n 0), (25, .aload_n 1), (26, .getfield 22), (29, .putfield 22), (32, .aload_n 0), (33, .aload_n 1), (34, .getfield 25), (37, .putfield 25), (40, .aload_n 0), (41, .areturn)])]
theorem ok_X4_become : CodeOK cX4_become k_X4_become := okw 0 (by decide +kernel) (okn)
abbrev p_X4_become (l : Launch) (G : JG) : JP := (true, [(9, 4, 0, 0, 0), (15, 4, 1, 0, 0), (19, 4, 2, 0, 0), (22, 4, 3, 0, 0), (25, 4, 4, 1, 0)], [], [], [(9, 4, 0, 2), (15, 4, 1, 0), (19, 4, 2, 0), (22, 4, 3, 0), (25, 4, 4, 1)], [], [], [], false, 8, [])
theorem pk_X4_become {K : JC} {l : Launch} {G : JG} {Q : Int → MH → Prop} {E : Nat → Int → MH → Prop} {h0 : MH} (ki : KI K l G yX4_become cX4_become 2 (some (.object "FactHouse$Fact")) [] 4 150 8 Q E h0) (hG : gO G = true) : POK K RX4 (p_X4_become l G) :=
  POKi (y := yX4_become) ki hG (rfs rf_X4_ok (by decide +kernel)) fmz fmz (rps rp_X4_ok (by decide +kernel)) fmz fmz
  (pkE ki (by
    intro K e1 e2 e3 e4; subst e1; subst e2
    exact fmz)) (fun z => Bool.noConfusion z) rfl (pkP ki (by
    intro K e1 e2 e3 e4; subst e1; subst e2
    exact fmz))
theorem r_X4_become_0 {K : JC} {l : Launch} {G : JG} {Q : Int → MH → Prop} {E : Nat → Int → MH → Prop} {h0 : MH} (ki : KI K l G yX4_become cX4_become 2 (some (.object "FactHouse$Fact")) [] 4 150 8 Q E h0) (hG : gO G = true) {v0 v1 : Int} {h : MH} (H :
    (v1 ≠ 0) ∧
    ((hv h v1 0) = 0 ∨ (hv h v1 0) = 1) ∧
    (∀ h1, h1 = hset h v0 0 (hv h v1 0) →
    (v1 ≠ 0) ∧
    (∀ h2, h2 = hset h1 v0 1 (hv h1 v1 1) →
    (v1 ≠ 0) ∧
    (∀ h3, h3 = hset h2 v0 2 (hv h2 v1 2) →
    (v1 ≠ 0) ∧
    (∀ h4, h4 = hset h3 v0 3 (hv h3 v1 3) →
    (v1 ≠ 0) ∧
    (∀ h5, h5 = hset h4 v0 4 (hv h4 v1 4) →
    Q v0 h5)))))) : JW K 0 [(2004, v0), (8, v1)] [] h := by
  have e1 := ki.2.2.2.2.1
  have e2 := ki.2.2.2.2.2.1
  subst e1; subst e2
  exact run_ok (dia := []) (cnr := []) (cuts := []) ki.1 (pk_X4_become ki hG) ok_X4_become (by decide) 23 true _ _ _ _ H
abbrev k_X5_init : List (Nat × List (Nat × Instr)) := [(18, [(0, .aload_n 0), (1, .invokespecial 3), (4, .aload_n 0), (5, .new 9), (8, .dup), (9, .invokespecial 11), (12, .putfield 12), (15, .aload_n 0), (16, .bipush 24)]),
  (20, [(18, .newarray .long)]),
  (32, [(20, .putfield 18), (23, .return_)])]
theorem ok_X5_init : CodeOK cX5_init k_X5_init := okw 0 (by decide +kernel) (okc (by decide +kernel) (okw 20 (by decide +kernel) (okn)))
abbrev p_X5_init (l : Launch) (G : JG) : JP := (false, [], [], [], [(12, 5, 1, 8), (18, 5, 8, 105)], [(9, 4, 5)], [], [(3, 3, [], 700, fun _ _ _ _ => True), (11, 2, [2004], 700, S_X4_init l G)], true, 700, [])
theorem pk_X5_init {K : JC} {l : Launch} {G : JG} {Q : Int → MH → Prop} {E : Nat → Int → MH → Prop} {h0 : MH} (ki : KI K l G yX5_init cX5_init 1 none [] 6 190 700 Q E h0) (hG : gO G = false) : POK K RX5 (p_X5_init l G) :=
  POKi (y := yX5_init) ki hG fmz fmz fmz (rps rp_X5_ok (by decide +kernel)) (subs (by decide +kernel) rn_X5_ok) fmz
  (pkE ki (by
    intro K e1 e2 e3 e4; subst e1; subst e2
    exact fmE (ceO e3 e4 q313 rfl) (fmE (ceI e3 e4 yl_X4_init ⟨rfl, q251, Or.inr ⟨_, List.mem_of_getElem? (i := 6) rfl⟩, _, _, q252⟩ rfl) (fmz)))) (fun _ => rfl) rfl (pkP ki (by
    intro K e1 e2 e3 e4; subst e1; subst e2
    exact fmz))
theorem r_X5_init_0 {K : JC} {l : Launch} {G : JG} {Q : Int → MH → Prop} {E : Nat → Int → MH → Prop} {h0 : MH} (ki : KI K l G yX5_init cX5_init 1 none [] 6 190 700 Q E h0) (hG : gO G = false) {v0 : Int} {h : MH} (H :
    (hz h + 1 ≤ LIMC) ∧
    (hs h + 5 ≤ LIMS) ∧
    (∀ h1, h1 = hnew h 4 0 5 →
    S_X4_init l G [(2004, (hz h + 1))] h1 (fun _ h3 =>
    (∀ h4, h4 = hset h3 v0 1 (hz h + 1) →
    (0 ≤ (24 : Int)) ∧
    (hz h4 + 1 ≤ LIMC) ∧
    (hs h4 + 24 ≤ LIMS) ∧
    (∀ h5, h5 = hnew h4 101 24 24 →
    (∀ h6, h6 = hset h5 v0 8 (hz h4 + 1) →
    Q 0 h6)))) E)) : JW K 0 [(2005, v0)] [] h := by
  have e1 := ki.2.2.2.2.1
  have e2 := ki.2.2.2.2.2.1
  subst e1; subst e2
  exact run_ok (dia := []) (cnr := []) (cuts := []) ki.1 (pk_X5_init ki hG) ok_X5_init (by decide) 13 true _ _ _ _ H
abbrev k_X5_none : List (Nat × List (Nat × Instr)) := [(40, [(0, .aload_n 0), (1, .iconst 0), (2, .putfield 22), (5, .aload_n 0), (6, .getfield 12), (9, .invokevirtual 26), (12, .aload_n 0), (13, .lconst 0), (14, .putfield 29), (17, .aload_n 0), (18, .iconst 0), (19, .putfield 33), (22, .iconst 0), (23, .istore_n 1), (24, .iload_n 1), (25, .aload_n 0), (26, .getfield 18), (29, .arraylength), (30, .if_icmp .ge 16), (33, .aload_n 0), (34, .getfield 18), (37, .iload_n 1), (38, .lconst 0), (39, .lastore)]),
  (55, [(40, .iinc 1 1), (43, .goto (-19)), (46, .return_)])]
theorem ok_X5_none : CodeOK cX5_none k_X5_none := okw 0 (by decide +kernel) (okw 40 (by decide +kernel) (okn))
abbrev p_X5_none (l : Launch) (G : JG) : JP := (true, [(12, 5, 1, 8, 0), (18, 5, 8, 105, 0)], [], [], [(22, 5, 0, 2), (29, 5, 4, 1), (33, 5, 7, 0)], [], [], [(26, 1, [2004], 700, S_X4_none l G)], false, 700, [])
theorem pk_X5_none {K : JC} {l : Launch} {G : JG} {Q : Int → MH → Prop} {E : Nat → Int → MH → Prop} {h0 : MH} (ki : KI K l G yX5_none cX5_none 2 none [] 5 170 700 Q E h0) (hG : gO G = true) : POK K RX5 (p_X5_none l G) :=
  POKi (y := yX5_none) ki hG (rfs rf_X5_ok (by decide +kernel)) fmz fmz (rps rp_X5_ok (by decide +kernel)) fmz fmz
  (pkE ki (by
    intro K e1 e2 e3 e4; subst e1; subst e2
    exact fmE (ceV 4 e3 e4 yl_X4_none ⟨by decide, ⟨_, _, rfl⟩, q1315, q1316, q1331⟩ rfl) (fmz))) (fun z => Bool.noConfusion z) rfl (pkP ki (by
    intro K e1 e2 e3 e4; subst e1; subst e2
    exact fmz))
theorem r_X5_none_0 {K : JC} {l : Launch} {G : JG} {Q : Int → MH → Prop} {E : Nat → Int → MH → Prop} {h0 : MH} (ki : KI K l G yX5_none cX5_none 2 none [] 5 170 700 Q E h0) (hG : gO G = true) {v0 : Int} {h : MH} (H :
    ((0 : Int) = 0 ∨ (0 : Int) = 1) ∧
    (∀ h1, h1 = hset h v0 0 0 →
    ((hv h1 v0 1) ≠ 0) ∧
    S_X4_none l G [(2004, (hv h1 v0 1))] h1 (fun _ h3 =>
    (∀ h4, h4 = hset h3 v0 4 0 →
    (∀ h5, h5 = hset h4 v0 7 0 →
    (∀ x1_6 : Int, x1_6 = 0 →
    JW K 24 [(2005, v0), (0, x1_6)] [] h5)))) E)) : JW K 0 [(2005, v0), (5000, 0)] [] h := by
  have e1 := ki.2.2.2.2.1
  have e2 := ki.2.2.2.2.2.1
  subst e1; subst e2
  exact run_ok (dia := []) (cnr := []) (cuts := [(24, [2005, 0], [])]) ki.1 (pk_X5_none ki hG) ok_X5_none (by decide) 16 true _ _ _ _ H
theorem r_X5_none_24 {K : JC} {l : Launch} {G : JG} {Q : Int → MH → Prop} {E : Nat → Int → MH → Prop} {h0 : MH} (ki : KI K l G yX5_none cX5_none 2 none [] 5 170 700 Q E h0) (hG : gO G = true) {v0 v1 : Int} {h : MH} (H :
    ((hv h v0 8) ≠ 0) ∧
    (((hn h (hv h v0 8)) ≤ v1 →
      Q 0 h) ∧
    (v1 < (hn h (hv h v0 8)) →
      ((hv h v0 8) ≠ 0) ∧
      (0 ≤ v1) ∧
      (v1 < (hn h (hv h v0 8))) ∧
      (∀ h1, h1 = hset h (hv h v0 8) v1 0 →
      (∀ x1_2 : Int, x1_2 = w32 (v1 + 1) →
      JW K 24 [(2005, v0), (0, x1_2)] [] h1))))) : JW K 24 [(2005, v0), (0, v1)] [] h := by
  have e1 := ki.2.2.2.2.1
  have e2 := ki.2.2.2.2.2.1
  subst e1; subst e2
  exact run_ok (dia := []) (cnr := []) (cuts := [(24, [2005, 0], [])]) ki.1 (pk_X5_none ki hG) ok_X5_none (by decide) 14 true _ _ _ _ H
abbrev k_X6_init : List (Nat × List (Nat × Instr)) := [(18, [(0, .aload_n 0), (1, .invokespecial 3), (4, .aload_n 0), (5, .new 9), (8, .dup), (9, .invokespecial 11), (12, .putfield 12), (15, .aload_n 0), (16, .bipush 24)]),
  (20, [(18, .newarray .long)]),
  (32, [(20, .putfield 18), (23, .return_)])]
theorem ok_X6_init : CodeOK cX6_init k_X6_init := okw 0 (by decide +kernel) (okc (by decide +kernel) (okw 20 (by decide +kernel) (okn)))
abbrev p_X6_init (l : Launch) (G : JG) : JP := (true, [], [], [], [(12, 6, 0, 8), (18, 6, 1, 105)], [(9, 4, 5)], [], [(3, 3, [], 700, fun _ _ _ _ => True), (11, 2, [2004], 700, S_X4_init l G)], true, 700, [])
theorem pk_X6_init {K : JC} {l : Launch} {G : JG} {Q : Int → MH → Prop} {E : Nat → Int → MH → Prop} {h0 : MH} (ki : KI K l G yX6_init cX6_init 1 none [] 6 190 700 Q E h0) (hG : gO G = true) : POK K RX6 (p_X6_init l G) :=
  POKi (y := yX6_init) ki hG fmz fmz fmz (rps rp_X6_ok (by decide +kernel)) (subs (by decide +kernel) rn_X6_ok) fmz
  (pkE ki (by
    intro K e1 e2 e3 e4; subst e1; subst e2
    exact fmE (ceO e3 e4 q357 rfl) (fmE (ceI e3 e4 yl_X4_init ⟨rfl, q251, Or.inr ⟨_, List.mem_of_getElem? (i := 7) rfl⟩, _, _, q252⟩ rfl) (fmz)))) (fun _ => rfl) rfl (pkP ki (by
    intro K e1 e2 e3 e4; subst e1; subst e2
    exact fmz))
theorem r_X6_init_0 {K : JC} {l : Launch} {G : JG} {Q : Int → MH → Prop} {E : Nat → Int → MH → Prop} {h0 : MH} (ki : KI K l G yX6_init cX6_init 1 none [] 6 190 700 Q E h0) (hG : gO G = true) {v0 : Int} {h : MH} (H :
    (hz h + 1 ≤ LIMC) ∧
    (hs h + 5 ≤ LIMS) ∧
    (∀ h1, h1 = hnew h 4 0 5 →
    S_X4_init l G [(2004, (hz h + 1))] h1 (fun _ h3 =>
    (∀ h4, h4 = hset h3 v0 0 (hz h + 1) →
    (0 ≤ (24 : Int)) ∧
    (hz h4 + 1 ≤ LIMC) ∧
    (hs h4 + 24 ≤ LIMS) ∧
    (∀ h5, h5 = hnew h4 101 24 24 →
    (∀ h6, h6 = hset h5 v0 1 (hz h4 + 1) →
    Q 0 h6)))) E)) : JW K 0 [(2006, v0)] [] h := by
  have e1 := ki.2.2.2.2.1
  have e2 := ki.2.2.2.2.2.1
  subst e1; subst e2
  exact run_ok (dia := []) (cnr := []) (cuts := []) ki.1 (pk_X6_init ki hG) ok_X6_init (by decide) 13 true _ _ _ _ H
abbrev p_X6_initf (l : Launch) (G : JG) : JP := (false, [], [], [], [(12, 6, 0, 8), (18, 6, 1, 105)], [(9, 4, 5)], [], [(3, 3, [], 700, fun _ _ _ _ => True), (11, 2, [2004], 700, S_X4_init l G)], true, 700, [])
theorem pk_X6_initf {K : JC} {l : Launch} {G : JG} {Q : Int → MH → Prop} {E : Nat → Int → MH → Prop} {h0 : MH} (ki : KI K l G yX6_init cX6_init 1 none [] 6 190 700 Q E h0) (hG : gO G = false) : POK K RX6 (p_X6_initf l G) :=
  POKi (y := yX6_init) ki hG fmz fmz fmz (rps rp_X6_ok (by decide +kernel)) (subs (by decide +kernel) rn_X6_ok) fmz
  (pkE ki (by
    intro K e1 e2 e3 e4; subst e1; subst e2
    exact fmE (ceO e3 e4 q357 rfl) (fmE (ceI e3 e4 yl_X4_init ⟨rfl, q251, Or.inr ⟨_, List.mem_of_getElem? (i := 7) rfl⟩, _, _, q252⟩ rfl) (fmz)))) (fun _ => rfl) rfl (pkP ki (by
    intro K e1 e2 e3 e4; subst e1; subst e2
    exact fmz))
theorem r_X6_initf_0 {K : JC} {l : Launch} {G : JG} {Q : Int → MH → Prop} {E : Nat → Int → MH → Prop} {h0 : MH} (ki : KI K l G yX6_init cX6_init 1 none [] 6 190 700 Q E h0) (hG : gO G = false) {v0 : Int} {h : MH} (H :
    (hz h + 1 ≤ LIMC) ∧
    (hs h + 5 ≤ LIMS) ∧
    (∀ h1, h1 = hnew h 4 0 5 →
    S_X4_init l G [(2004, (hz h + 1))] h1 (fun _ h3 =>
    (∀ h4, h4 = hset h3 v0 0 (hz h + 1) →
    (0 ≤ (24 : Int)) ∧
    (hz h4 + 1 ≤ LIMC) ∧
    (hs h4 + 24 ≤ LIMS) ∧
    (∀ h5, h5 = hnew h4 101 24 24 →
    (∀ h6, h6 = hset h5 v0 1 (hz h4 + 1) →
    Q 0 h6)))) E)) : JW K 0 [(2006, v0)] [] h := by
  have e1 := ki.2.2.2.2.1
  have e2 := ki.2.2.2.2.2.1
  subst e1; subst e2
  exact run_ok (dia := []) (cnr := []) (cuts := []) ki.1 (pk_X6_initf ki hG) ok_X6_init (by decide) 13 true _ _ _ _ H
abbrev k_X6_none : List (Nat × List (Nat × Instr)) := [(40, [(0, .aload_n 0), (1, .getfield 12), (4, .invokevirtual 22), (7, .iconst 0), (8, .istore_n 1), (9, .iload_n 1), (10, .aload_n 0), (11, .getfield 18), (14, .arraylength), (15, .if_icmp .ge 16), (18, .aload_n 0), (19, .getfield 18), (22, .iload_n 1), (23, .lconst 0), (24, .lastore), (25, .iinc 1 1), (28, .goto (-19)), (31, .return_)])]
theorem ok_X6_none : CodeOK cX6_none k_X6_none := okw 0 (by decide +kernel) (okn)
abbrev p_X6_none (l : Launch) (G : JG) : JP := (true, [(12, 6, 0, 8, 0), (18, 6, 1, 105, 0)], [], [], [], [], [], [(22, 1, [2004], 700, S_X4_none l G)], false, 700, [])
theorem pk_X6_none {K : JC} {l : Launch} {G : JG} {Q : Int → MH → Prop} {E : Nat → Int → MH → Prop} {h0 : MH} (ki : KI K l G yX6_none cX6_none 2 none [] 5 170 700 Q E h0) (hG : gO G = true) : POK K RX6 (p_X6_none l G) :=
  POKi (y := yX6_none) ki hG (rfs rf_X6_ok (by decide +kernel)) fmz fmz fmz fmz fmz
  (pkE ki (by
    intro K e1 e2 e3 e4; subst e1; subst e2
    exact fmE (ceV 4 e3 e4 yl_X4_none ⟨by decide, ⟨_, _, rfl⟩, q1315, q1316, q1322⟩ rfl) (fmz))) (fun z => Bool.noConfusion z) rfl (pkP ki (by
    intro K e1 e2 e3 e4; subst e1; subst e2
    exact fmz))
theorem r_X6_none_0 {K : JC} {l : Launch} {G : JG} {Q : Int → MH → Prop} {E : Nat → Int → MH → Prop} {h0 : MH} (ki : KI K l G yX6_none cX6_none 2 none [] 5 170 700 Q E h0) (hG : gO G = true) {v0 : Int} {h : MH} (H :
    ((hv h v0 0) ≠ 0) ∧
    S_X4_none l G [(2004, (hv h v0 0))] h (fun _ h2 =>
    (∀ x1_3 : Int, x1_3 = 0 →
    JW K 9 [(2006, v0), (0, x1_3)] [] h2)) E) : JW K 0 [(2006, v0), (5000, 0)] [] h := by
  have e1 := ki.2.2.2.2.1
  have e2 := ki.2.2.2.2.2.1
  subst e1; subst e2
  exact run_ok (dia := []) (cnr := []) (cuts := [(9, [2006, 0], [])]) ki.1 (pk_X6_none ki hG) ok_X6_none (by decide) 7 true _ _ _ _ H
theorem r_X6_none_9 {K : JC} {l : Launch} {G : JG} {Q : Int → MH → Prop} {E : Nat → Int → MH → Prop} {h0 : MH} (ki : KI K l G yX6_none cX6_none 2 none [] 5 170 700 Q E h0) (hG : gO G = true) {v0 v1 : Int} {h : MH} (H :
    ((hv h v0 1) ≠ 0) ∧
    (((hn h (hv h v0 1)) ≤ v1 →
      Q 0 h) ∧
    (v1 < (hn h (hv h v0 1)) →
      ((hv h v0 1) ≠ 0) ∧
      (0 ≤ v1) ∧
      (v1 < (hn h (hv h v0 1))) ∧
      (∀ h1, h1 = hset h (hv h v0 1) v1 0 →
      (∀ x1_2 : Int, x1_2 = w32 (v1 + 1) →
      JW K 9 [(2006, v0), (0, x1_2)] [] h1))))) : JW K 9 [(2006, v0), (0, v1)] [] h := by
  have e1 := ki.2.2.2.2.1
  have e2 := ki.2.2.2.2.2.1
  subst e1; subst e2
  exact run_ok (dia := []) (cnr := []) (cuts := [(9, [2006, 0], [])]) ki.1 (pk_X6_none ki hG) ok_X6_none (by decide) 14 true _ _ _ _ H
abbrev k_X10_init : List (Nat × List (Nat × Instr)) := [(7, [(0, .aload_n 0), (1, .invokespecial 3), (4, .aload_n 0), (5, .bipush 8)]),
  (9, [(7, .newarray .int)]),
  (15, [(9, .putfield 9), (12, .aload_n 0), (13, .bipush 24)]),
  (17, [(15, .newarray .int)]),
  (23, [(17, .putfield 15), (20, .aload_n 0), (21, .bipush 24)]),
  (25, [(23, .newarray .int)]),
  (32, [(25, .putfield 18), (28, .aload_n 0), (29, .sipush 192)]),
  (34, [(32, .newarray .int)]),
  (40, [(34, .putfield 21), (37, .aload_n 0), (38, .bipush 40)]),
  (42, [(40, .newarray .int)]),
  (48, [(42, .putfield 24), (45, .aload_n 0), (46, .bipush 40)]),
  (50, [(48, .newarray .int)]),
  (56, [(50, .putfield 27), (53, .aload_n 0), (54, .bipush 40)]),
  (58, [(56, .newarray .int)]),
  (64, [(58, .putfield 30), (61, .aload_n 0), (62, .bipush 40)]),
  (66, [(64, .newarray .int)]),
  (72, [(66, .putfield 33), (69, .aload_n 0), (70, .bipush 40)]),
  (74, [(72, .newarray .int)]),
  (81, [(74, .putfield 36), (77, .aload_n 0), (78, .sipush 320)]),
  (83, [(81, .newarray .int)]),
  (89, [(83, .putfield 39), (86, .aload_n 0), (87, .bipush 40)]),
  (91, [(89, .newarray .int)]),
  (97, [(91, .putfield 42), (94, .aload_n 0), (95, .bipush 40)]),
  (99, [(97, .newarray .int)]),
  (106, [(99, .putfield 45), (102, .aload_n 0), (103, .sipush 640)]),
  (108, [(106, .newarray .int)]),
  (114, [(108, .putfield 48), (111, .aload_n 0), (112, .bipush 40)]),
  (116, [(114, .newarray .int)]),
  (122, [(116, .putfield 51), (119, .aload_n 0), (120, .bipush 40)]),
  (124, [(122, .newarray .int)]),
  (130, [(124, .putfield 54), (127, .aload_n 0), (128, .bipush 40)]),
  (132, [(130, .newarray .int)]),
  (138, [(132, .putfield 57), (135, .aload_n 0), (136, .bipush 40)]),
  (140, [(138, .newarray .int)]),
  (147, [(140, .putfield 60), (143, .aload_n 0), (144, .sipush 20000)]),
  (149, [(147, .newarray .byte)]),
  (156, [(149, .putfield 63), (152, .aload_n 0), (153, .sipush 1500)]),
  (158, [(156, .newarray .int)]),
  (165, [(158, .putfield 67), (161, .aload_n 0), (162, .sipush 1500)]),
  (167, [(165, .newarray .int)]),
  (174, [(167, .putfield 70), (170, .aload_n 0), (171, .sipush 1500)]),
  (176, [(174, .newarray .int)]),
  (183, [(176, .putfield 73), (179, .aload_n 0), (180, .sipush 1500)]),
  (185, [(183, .newarray .int)]),
  (192, [(185, .putfield 76), (188, .aload_n 0), (189, .sipush 1500)]),
  (194, [(192, .newarray .int)]),
  (201, [(194, .putfield 79), (197, .aload_n 0), (198, .sipush 1500)]),
  (203, [(201, .newarray .int)]),
  (210, [(203, .putfield 82), (206, .aload_n 0), (207, .sipush 1500)]),
  (212, [(210, .newarray .int)]),
  (218, [(212, .putfield 85), (215, .aload_n 0), (216, .bipush 63)]),
  (220, [(218, .newarray .int)]),
  (227, [(220, .putfield 88), (223, .aload_n 0), (224, .sipush 1500)]),
  (229, [(227, .newarray .int)]),
  (236, [(229, .putfield 91), (232, .aload_n 0), (233, .sipush 1500)]),
  (238, [(236, .newarray .int)]),
  (250, [(238, .putfield 94), (241, .return_)])]
theorem ok_X10_init : CodeOK cX10_init k_X10_init := okw 0 (by decide +kernel) (okc (by decide +kernel) (okw 9 (by decide +kernel) (okc (by decide +kernel) (okw 17 (by decide +kernel) (okc (by decide +kernel) (okw 25 (by decide +kernel) (okc (by decide +kernel) (okw 34 (by decide +kernel) (okc (by decide +kernel) (okw 42 (by decide +kernel) (okc (by decide +kernel) (okw 50 (by decide +kernel) (okc (by decide +kernel) (okw 58 (by decide +kernel) (okc (by decide +kernel) (okw 66 (by decide +kernel) (okc (by decide +kernel) (okw 74 (by decide +kernel) (okc (by decide +kernel) (okw 83 (by decide +kernel) (okc (by decide +kernel) (okw 91 (by decide +kernel) (okc (by decide +kernel) (okw 99 (by decide +kernel) (okc (by decide +kernel) (okw 108 (by decide +kernel) (okc (by decide +kernel) (okw 116 (by decide +kernel) (okc (by decide +kernel) (okw 124 (by decide +kernel) (okc (by decide +kernel) (okw 132 (by decide +kernel) (okc (by decide +kernel) (okw 140 (by decide +kernel) (okc (by decide +kernel) (okw 149 (by decide +kernel) (okc (by decide +kernel) (okw 158 (by decide +kernel) (okc (by decide +kernel) (okw 167 (by decide +kernel) (okc (by decide +kernel) (okw 176 (by decide +kernel) (okc (by decide +kernel) (okw 185 (by decide +kernel) (okc (by decide +kernel) (okw 194 (by decide +kernel) (okc (by decide +kernel) (okw 203 (by decide +kernel) (okc (by decide +kernel) (okw 212 (by decide +kernel) (okc (by decide +kernel) (okw 220 (by decide +kernel) (okc (by decide +kernel) (okw 229 (by decide +kernel) (okc (by decide +kernel) (okw 238 (by decide +kernel) (okn)))))))))))))))))))))))))))))))))))))))))))))))))))))))))
abbrev p_X10_init (l : Launch) (G : JG) : JP := (false, [], [], [], [(9, 10, 2, 104), (15, 10, 3, 104), (18, 10, 4, 104), (21, 10, 5, 104), (24, 10, 7, 104), (27, 10, 8, 104), (30, 10, 9, 104), (33, 10, 10, 104), (36, 10, 11, 104), (39, 10, 12, 104), (42, 10, 13, 104), (45, 10, 14, 104), (48, 10, 15, 104), (51, 10, 16, 104), (54, 10, 17, 104), (57, 10, 18, 104), (60, 10, 19, 104), (63, 10, 20, 107), (67, 10, 22, 104), (70, 10, 23, 104), (73, 10, 24, 104), (76, 10, 25, 104), (79, 10, 26, 104), (82, 10, 27, 104), (85, 10, 28, 104), (88, 10, 29, 104), (91, 10, 31, 104), (94, 10, 32, 104)], [], [], [(3, 3, [], 700, fun _ _ _ _ => True)], true, 700, [])
theorem pk_X10_init {K : JC} {l : Launch} {G : JG} {Q : Int → MH → Prop} {E : Nat → Int → MH → Prop} {h0 : MH} (ki : KI K l G yX10_init cX10_init 1 none [] 5 170 700 Q E h0) (hG : gO G = false) : POK K RX10 (p_X10_init l G) :=
  POKi (y := yX10_init) ki hG fmz fmz fmz (rps rp_X10_ok (by decide +kernel)) fmz fmz
  (pkE ki (by
    intro K e1 e2 e3 e4; subst e1; subst e2
    exact fmE (ceO e3 e4 q1995 rfl) (fmz))) (fun _ => rfl) rfl (pkP ki (by
    intro K e1 e2 e3 e4; subst e1; subst e2
    exact fmz))
theorem r_X10_init_0 {K : JC} {l : Launch} {G : JG} {Q : Int → MH → Prop} {E : Nat → Int → MH → Prop} {h0 : MH} (ki : KI K l G yX10_init cX10_init 1 none [] 5 170 700 Q E h0) (hG : gO G = false) {v0 : Int} {h : MH} (H :
    (0 ≤ (8 : Int)) ∧
    (hz h + 1 ≤ LIMC) ∧
    (hs h + 8 ≤ LIMS) ∧
    (∀ h1, h1 = hnew h 100 8 8 →
    (∀ h2, h2 = hset h1 v0 2 (hz h + 1) →
    (0 ≤ (24 : Int)) ∧
    (hz h2 + 1 ≤ LIMC) ∧
    (hs h2 + 24 ≤ LIMS) ∧
    (∀ h3, h3 = hnew h2 100 24 24 →
    (∀ h4, h4 = hset h3 v0 3 (hz h2 + 1) →
    (0 ≤ (24 : Int)) ∧
    (hz h4 + 1 ≤ LIMC) ∧
    (hs h4 + 24 ≤ LIMS) ∧
    (∀ h5, h5 = hnew h4 100 24 24 →
    (∀ h6, h6 = hset h5 v0 4 (hz h4 + 1) →
    (0 ≤ (192 : Int)) ∧
    (hz h6 + 1 ≤ LIMC) ∧
    (hs h6 + 192 ≤ LIMS) ∧
    (∀ h7, h7 = hnew h6 100 192 192 →
    (∀ h8, h8 = hset h7 v0 5 (hz h6 + 1) →
    (0 ≤ (40 : Int)) ∧
    (hz h8 + 1 ≤ LIMC) ∧
    (hs h8 + 40 ≤ LIMS) ∧
    (∀ h9, h9 = hnew h8 100 40 40 →
    (∀ h10, h10 = hset h9 v0 7 (hz h8 + 1) →
    (0 ≤ (40 : Int)) ∧
    (hz h10 + 1 ≤ LIMC) ∧
    (hs h10 + 40 ≤ LIMS) ∧
    (∀ h11, h11 = hnew h10 100 40 40 →
    (∀ h12, h12 = hset h11 v0 8 (hz h10 + 1) →
    (0 ≤ (40 : Int)) ∧
    (hz h12 + 1 ≤ LIMC) ∧
    (hs h12 + 40 ≤ LIMS) ∧
    (∀ h13, h13 = hnew h12 100 40 40 →
    (∀ h14, h14 = hset h13 v0 9 (hz h12 + 1) →
    (0 ≤ (40 : Int)) ∧
    (hz h14 + 1 ≤ LIMC) ∧
    (hs h14 + 40 ≤ LIMS) ∧
    (∀ h15, h15 = hnew h14 100 40 40 →
    (∀ h16, h16 = hset h15 v0 10 (hz h14 + 1) →
    (0 ≤ (40 : Int)) ∧
    (hz h16 + 1 ≤ LIMC) ∧
    (hs h16 + 40 ≤ LIMS) ∧
    (∀ h17, h17 = hnew h16 100 40 40 →
    (∀ h18, h18 = hset h17 v0 11 (hz h16 + 1) →
    (0 ≤ (320 : Int)) ∧
    (hz h18 + 1 ≤ LIMC) ∧
    (hs h18 + 320 ≤ LIMS) ∧
    (∀ h19, h19 = hnew h18 100 320 320 →
    (∀ h20, h20 = hset h19 v0 12 (hz h18 + 1) →
    (0 ≤ (40 : Int)) ∧
    (hz h20 + 1 ≤ LIMC) ∧
    (hs h20 + 40 ≤ LIMS) ∧
    (∀ h21, h21 = hnew h20 100 40 40 →
    (∀ h22, h22 = hset h21 v0 13 (hz h20 + 1) →
    (0 ≤ (40 : Int)) ∧
    (hz h22 + 1 ≤ LIMC) ∧
    (hs h22 + 40 ≤ LIMS) ∧
    (∀ h23, h23 = hnew h22 100 40 40 →
    (∀ h24, h24 = hset h23 v0 14 (hz h22 + 1) →
    (0 ≤ (640 : Int)) ∧
    (hz h24 + 1 ≤ LIMC) ∧
    (hs h24 + 640 ≤ LIMS) ∧
    (∀ h25, h25 = hnew h24 100 640 640 →
    (∀ h26, h26 = hset h25 v0 15 (hz h24 + 1) →
    (0 ≤ (40 : Int)) ∧
    (hz h26 + 1 ≤ LIMC) ∧
    (hs h26 + 40 ≤ LIMS) ∧
    (∀ h27, h27 = hnew h26 100 40 40 →
    (∀ h28, h28 = hset h27 v0 16 (hz h26 + 1) →
    (0 ≤ (40 : Int)) ∧
    (hz h28 + 1 ≤ LIMC) ∧
    (hs h28 + 40 ≤ LIMS) ∧
    (∀ h29, h29 = hnew h28 100 40 40 →
    (∀ h30, h30 = hset h29 v0 17 (hz h28 + 1) →
    (0 ≤ (40 : Int)) ∧
    (hz h30 + 1 ≤ LIMC) ∧
    (hs h30 + 40 ≤ LIMS) ∧
    (∀ h31, h31 = hnew h30 100 40 40 →
    (∀ h32, h32 = hset h31 v0 18 (hz h30 + 1) →
    (0 ≤ (40 : Int)) ∧
    (hz h32 + 1 ≤ LIMC) ∧
    (hs h32 + 40 ≤ LIMS) ∧
    (∀ h33, h33 = hnew h32 100 40 40 →
    (∀ h34, h34 = hset h33 v0 19 (hz h32 + 1) →
    (0 ≤ (20000 : Int)) ∧
    (hz h34 + 1 ≤ LIMC) ∧
    (hs h34 + 20000 ≤ LIMS) ∧
    (∀ h35, h35 = hnew h34 103 20000 20000 →
    (∀ h36, h36 = hset h35 v0 20 (hz h34 + 1) →
    (0 ≤ (1500 : Int)) ∧
    (hz h36 + 1 ≤ LIMC) ∧
    (hs h36 + 1500 ≤ LIMS) ∧
    (∀ h37, h37 = hnew h36 100 1500 1500 →
    (∀ h38, h38 = hset h37 v0 22 (hz h36 + 1) →
    (0 ≤ (1500 : Int)) ∧
    (hz h38 + 1 ≤ LIMC) ∧
    (hs h38 + 1500 ≤ LIMS) ∧
    (∀ h39, h39 = hnew h38 100 1500 1500 →
    (∀ h40, h40 = hset h39 v0 23 (hz h38 + 1) →
    (0 ≤ (1500 : Int)) ∧
    (hz h40 + 1 ≤ LIMC) ∧
    (hs h40 + 1500 ≤ LIMS) ∧
    (∀ h41, h41 = hnew h40 100 1500 1500 →
    (∀ h42, h42 = hset h41 v0 24 (hz h40 + 1) →
    (0 ≤ (1500 : Int)) ∧
    (hz h42 + 1 ≤ LIMC) ∧
    (hs h42 + 1500 ≤ LIMS) ∧
    (∀ h43, h43 = hnew h42 100 1500 1500 →
    (∀ h44, h44 = hset h43 v0 25 (hz h42 + 1) →
    (0 ≤ (1500 : Int)) ∧
    (hz h44 + 1 ≤ LIMC) ∧
    (hs h44 + 1500 ≤ LIMS) ∧
    (∀ h45, h45 = hnew h44 100 1500 1500 →
    (∀ h46, h46 = hset h45 v0 26 (hz h44 + 1) →
    (0 ≤ (1500 : Int)) ∧
    (hz h46 + 1 ≤ LIMC) ∧
    (hs h46 + 1500 ≤ LIMS) ∧
    (∀ h47, h47 = hnew h46 100 1500 1500 →
    (∀ h48, h48 = hset h47 v0 27 (hz h46 + 1) →
    (0 ≤ (1500 : Int)) ∧
    (hz h48 + 1 ≤ LIMC) ∧
    (hs h48 + 1500 ≤ LIMS) ∧
    (∀ h49, h49 = hnew h48 100 1500 1500 →
    (∀ h50, h50 = hset h49 v0 28 (hz h48 + 1) →
    (0 ≤ (63 : Int)) ∧
    (hz h50 + 1 ≤ LIMC) ∧
    (hs h50 + 63 ≤ LIMS) ∧
    (∀ h51, h51 = hnew h50 100 63 63 →
    (∀ h52, h52 = hset h51 v0 29 (hz h50 + 1) →
    (0 ≤ (1500 : Int)) ∧
    (hz h52 + 1 ≤ LIMC) ∧
    (hs h52 + 1500 ≤ LIMS) ∧
    (∀ h53, h53 = hnew h52 100 1500 1500 →
    (∀ h54, h54 = hset h53 v0 31 (hz h52 + 1) →
    (0 ≤ (1500 : Int)) ∧
    (hz h54 + 1 ≤ LIMC) ∧
    (hs h54 + 1500 ≤ LIMS) ∧
    (∀ h55, h55 = hnew h54 100 1500 1500 →
    (∀ h56, h56 = hset h55 v0 32 (hz h54 + 1) →
    Q 0 h56))))))))))))))))))))))))))))))))))))))))))))))))))))))))) : JW K 0 [(2010, v0)] [] h := by
  have e1 := ki.2.2.2.2.1
  have e2 := ki.2.2.2.2.2.1
  subst e1; subst e2
  exact run_ok (dia := []) (cnr := []) (cuts := []) ki.1 (pk_X10_init ki hG) ok_X10_init (by decide) 116 true _ _ _ _ H
abbrev k_X11_init : List (Nat × List (Nat × Instr)) := [(22, [(0, .aload_n 0), (1, .invokespecial 3), (4, .aload_n 0), (5, .new 9), (8, .dup), (9, .invokespecial 11), (12, .putfield 12), (15, .aload_n 0), (16, .aload_n 3), (17, .putfield 18), (20, .aload_n 0), (21, .iload_n 2)]),
  (24, [(22, .newarray .byte)]),
  (52, [(24, .putfield 22), (27, .aload_n 1), (28, .iconst 0), (29, .aload_n 0), (30, .getfield 22), (33, .iconst 0), (34, .iload_n 2), (35, .invokestatic 26), (38, .aload_n 0), (39, .iload_n 2), (40, .putfield 32), (43, .return_)])]
theorem ok_X11_init : CodeOK cX11_init k_X11_init := okw 0 (by decide +kernel) (okc (by decide +kernel) (okw 24 (by decide +kernel) (okn)))
abbrev p_X11_init (l : Launch) (G : JG) : JP := (true, [(22, 11, 1, 107, 0)], [], [], [(12, 11, 0, 16), (18, 11, 5, 106), (22, 11, 1, 107)], [(9, 12, 15)], [], [(3, 3, [], 700, fun _ _ _ _ => True), (11, 2, [2012], 700, S_X12_init l G)], true, 700, [])
theorem pk_X11_init {K : JC} {l : Launch} {G : JG} {Q : Int → MH → Prop} {E : Nat → Int → MH → Prop} {h0 : MH} (ki : KI K l G yX11_init cX11_init 4 none [] 7 239 700 Q E h0) (hG : gO G = true) : POK K RX11 (p_X11_init l G) :=
  POKi (y := yX11_init) ki hG (rfs rf_X11_ok (by decide +kernel)) fmz fmz (rps rp_X11_ok (by decide +kernel)) (subs (by decide +kernel) rn_X11_ok) fmz
  (pkE ki (by
    intro K e1 e2 e3 e4; subst e1; subst e2
    exact fmE (ceO e3 e4 q687 rfl) (fmE (ceI e3 e4 yl_X12_init ⟨rfl, q691, Or.inr ⟨_, List.mem_of_getElem? (i := 11) rfl⟩, _, _, q692⟩ rfl) (fmz)))) (fun _ => rfl) rfl (pkP ki (by
    intro K e1 e2 e3 e4; subst e1; subst e2
    exact fmz))
theorem r_X11_init_0 {K : JC} {l : Launch} {G : JG} {Q : Int → MH → Prop} {E : Nat → Int → MH → Prop} {h0 : MH} (ki : KI K l G yX11_init cX11_init 4 none [] 7 239 700 Q E h0) (hG : gO G = true) {v0 v1 v2 v3 : Int} {h : MH} (H :
    (hz h + 1 ≤ LIMC) ∧
    (hs h + 15 ≤ LIMS) ∧
    (∀ h1, h1 = hnew h 12 0 15 →
    S_X12_init l G [(2012, (hz h + 1))] h1 (fun _ h3 =>
    (∀ h4, h4 = hset h3 v0 0 (hz h + 1) →
    (∀ h5, h5 = hset h4 v0 5 v3 →
    (0 ≤ v2) ∧
    (hz h5 + 1 ≤ LIMC) ∧
    (hs h5 + v2 ≤ LIMS) ∧
    (∀ h6, h6 = hnew h5 103 v2 v2 →
    (∀ h7, h7 = hset h6 v0 1 (hz h5 + 1) →
    JW K 35 [(2011, v0), (107, v1), (0, v2), (106, v3)] [(0, v2), (0, 0), (107, (hv h7 v0 1)), (0, 0), (107, v1)] h7))))) E)) : JW K 0 [(2011, v0), (107, v1), (0, v2), (106, v3)] [] h := by
  have e1 := ki.2.2.2.2.1
  have e2 := ki.2.2.2.2.2.1
  subst e1; subst e2
  exact run_ok (dia := []) (cnr := []) (cuts := []) ki.1 (pk_X11_init ki hG) ok_X11_init (by decide) 22 true _ _ _ _ H
abbrev k_X11_read : List (Nat × List (Nat × Instr)) := [(36, [(0, .iconst 0), (1, .istore_n 1), (2, .iload_n 1), (3, .bipush 8), (5, .if_icmp .ge 40), (8, .aload_n 0), (9, .getfield 12), (12, .getfield 56), (15, .iload_n 1), (16, .iload_n 1), (17, .iconst 2), (18, .if_icmp .ge 7), (21, .iconst 0), (22, .goto 4), (25, .iconst 1), (26, .iastore), (27, .aload_n 0), (28, .getfield 12), (31, .getfield 60), (34, .iload_n 1), (35, .iconst 0)]),
  (38, [(36, .newarray .int)]),
  (81, [(38, .aastore), (39, .iinc 1 1), (42, .goto (-40)), (45, .iconst 1), (46, .istore_n 1), (47, .iload_n 1), (48, .bipush 7), (50, .if_icmp .ge 21), (53, .aload_n 0), (54, .getfield 12), (57, .getfield 64), (60, .iload_n 1), (61, .iload_n 1), (62, .iconst 1), (63, .iadd), (64, .iastore), (65, .iinc 1 1), (68, .goto (-21)), (71, .aload_n 0), (72, .bipush 70), (74, .bipush 70), (76, .invokevirtual 52), (79, .istore_n 1), (80, .aload_n 0)]),
  (129, [(81, .getfield 12), (84, .aload_n 0), (85, .iconst 0), (86, .bipush 16), (88, .invokevirtual 52), (91, .putfield 67), (94, .aload_n 0), (95, .getfield 12), (98, .aload_n 0), (99, .aload_n 0), (100, .iconst 0), (101, .bipush 8), (103, .invokevirtual 52), (106, .invokevirtual 70), (109, .putfield 74), (112, .bipush 8), (114, .istore_n 2), (115, .iload_n 2), (116, .bipush 8), (118, .aload_n 0), (119, .getfield 12), (122, .getfield 67), (125, .iadd), (126, .if_icmp .ge 14)]),
  (178, [(129, .aload_n 0), (130, .iload_n 2), (131, .invokevirtual 77), (134, .iinc 2 1), (137, .goto (-22)), (140, .aload_n 0), (141, .getfield 12), (144, .aload_n 0), (145, .iconst 1), (146, .bipush 40), (148, .invokevirtual 52), (151, .anewarray 80), (154, .putfield 82), (157, .iconst 0), (158, .istore_n 2), (159, .iload_n 2), (160, .aload_n 0), (161, .getfield 12), (164, .getfield 82), (167, .arraylength), (168, .if_icmp .ge 39), (171, .aload_n 0), (172, .getfield 12), (175, .getfield 82)]),
  (224, [(178, .iload_n 2), (179, .new 80), (182, .dup), (183, .iload_n 2), (184, .invokespecial 86), (187, .aastore), (188, .aload_n 0), (189, .aload_n 0), (190, .getfield 12), (193, .getfield 82), (196, .iload_n 2), (197, .aaload), (198, .invokevirtual 87), (201, .iinc 2 1), (204, .goto (-45)), (207, .aload_n 0), (208, .getfield 41), (211, .aload_n 0), (212, .getfield 32), (215, .if_icmp .ne 7), (218, .iconst 1), (219, .goto 4), (222, .iconst 0), (223, .aload_n 0)]),
  (264, [(224, .getfield 41), (227, .invokestatic 48), (230, .aload_n 0), (231, .getfield 12), (234, .aload_n 0), (235, .getfield 22), (238, .putfield 91), (241, .aload_n 0), (242, .getfield 12), (245, .aload_n 0), (246, .getfield 32), (249, .putfield 94), (252, .aload_n 0), (253, .getfield 12), (256, .aload_n 0), (257, .getfield 12), (260, .getfield 82), (263, .arraylength)]),
  (266, [(264, .newarray .boolean)]),
  (316, [(266, .putfield 95), (269, .iconst 0), (270, .istore_n 2), (271, .iload_n 2), (272, .aload_n 0), (273, .getfield 12), (276, .getfield 82), (279, .arraylength), (280, .if_icmp .ge 32), (283, .new 98), (286, .dup), (287, .aload_n 0), (288, .getfield 12), (291, .aload_n 0), (292, .getfield 12), (295, .getfield 82), (298, .iload_n 2), (299, .aaload), (300, .invokespecial 100), (303, .invokevirtual 103), (306, .iinc 2 1), (309, .goto (-38)), (312, .aload_n 0), (313, .invokevirtual 106)]),
  (333, [(316, .aload_n 0), (317, .invokevirtual 109), (320, .aload_n 0), (321, .getfield 12), (324, .areturn)])]
theorem ok_X11_read : CodeOK cX11_read k_X11_read := okw 0 (by decide +kernel) (okc (by decide +kernel) (okw 38 (by decide +kernel) (okw 81 (by decide +kernel) (okw 129 (by decide +kernel) (okw 178 (by decide +kernel) (okw 224 (by decide +kernel) (okc (by decide +kernel) (okw 266 (by decide +kernel) (okw 316 (by decide +kernel) (okn))))))))))
abbrev p_X11_read (l : Launch) (G : JG) : JP := (true, [(12, 11, 0, 16, 0), (22, 11, 1, 107, 0), (32, 11, 2, 0, 0), (41, 11, 3, 0, 0), (56, 12, 3, 104, 0), (60, 12, 4, 134, 0), (64, 12, 9, 104, 0), (67, 12, 2, 0, 0), (82, 12, 6, 128, 0)], [], [], [(67, 12, 2, 0), (74, 12, 5, 104), (82, 12, 6, 128), (91, 12, 0, 107), (94, 12, 1, 0), (95, 12, 13, 106)], [(80, 14, 19), (98, 16, 5)], [(80, 124)], [(48, 0, [0, 0], 700, S_X11_is l G), (52, 1, [0, 0, 2011], 0, S_X11_one l G), (70, 1, [0, 2011], 104, S_X11_kinds l G), (77, 1, [0, 2011], 700, S_X11_readClass l G), (86, 2, [0, 2014], 700, S_X14_init l G), (87, 1, [18, 2011], 700, S_X11_readMethod l G), (100, 2, [18, 16, 2016], 700, S_X16_init l G), (103, 1, [2016], 700, S_X16_judge l G), (106, 1, [2011], 700, S_X11_layPlaces l G), (109, 1, [2011], 700, S_X11_findMarks l G)], false, 16, [])
theorem pk_X11_read {K : JC} {l : Launch} {G : JG} {Q : Int → MH → Prop} {E : Nat → Int → MH → Prop} {h0 : MH} (ki : KI K l G yX11_read cX11_read 3 (some (.object "FactHouse$Program")) [] 18 489 16 Q E h0) (hG : gO G = true) : POK K RX11 (p_X11_read l G) :=
  POKi (y := yX11_read) ki hG (rfs rf_X11_ok (by decide +kernel)) fmz fmz (rps rp_X11_ok (by decide +kernel)) (subs (by decide +kernel) rn_X11_ok) (subs (by decide +kernel) ra_X11_ok)
  (pkE ki (by
    intro K e1 e2 e3 e4; subst e1; subst e2
    exact fmE (ceS e3 e4 yl_X11_is ⟨q812, Or.inl q811⟩ rfl) (fmE (ceV 11 e3 e4 yl_X11_one ⟨by decide, ⟨_, _, rfl⟩, q806, qs0, q804⟩ rfl) (fmE (ceV 11 e3 e4 yl_X11_kinds ⟨by decide, ⟨_, _, rfl⟩, q889, qs2, q887⟩ rfl) (fmE (ceV 11 e3 e4 yl_X11_readClass ⟨by decide, ⟨_, _, rfl⟩, q893, qs3, q891⟩ rfl) (fmE (ceI e3 e4 yl_X14_init ⟨rfl, q898, Or.inl q897, _, _, q899⟩ rfl) (fmE (ceV 11 e3 e4 yl_X11_readMethod ⟨by decide, ⟨_, _, rfl⟩, q1015, qs4, q1013⟩ rfl) (fmE (ceI e3 e4 yl_X16_init ⟨rfl, q1081, Or.inl q1080, _, _, q1082⟩ rfl) (fmE (ceV 16 e3 e4 yl_X16_judge ⟨by decide, ⟨_, _, rfl⟩, q1101, q1102, q1100⟩ rfl) (fmE (ceV 11 e3 e4 yl_X11_layPlaces ⟨by decide, ⟨_, _, rfl⟩, q1153, qs20, q1151⟩ rfl) (fmE (ceV 11 e3 e4 yl_X11_findMarks ⟨by decide, ⟨_, _, rfl⟩, q1157, qs21, q1155⟩ rfl) (fmz)))))))))))) (fun z => Bool.noConfusion z) rfl (pkP ki (by
    intro K e1 e2 e3 e4; subst e1; subst e2
    exact fmz))
theorem r_X11_read_0 {K : JC} {l : Launch} {G : JG} {Q : Int → MH → Prop} {E : Nat → Int → MH → Prop} {h0 : MH} (ki : KI K l G yX11_read cX11_read 3 (some (.object "FactHouse$Program")) [] 18 489 16 Q E h0) (hG : gO G = true) {v0 : Int} {h : MH} (H :
    (∀ x1_1 : Int, x1_1 = 0 →
    JW K 2 [(2011, v0), (0, x1_1), (5000, 0)] [] h)) : JW K 0 [(2011, v0), (5000, 0), (5000, 0)] [] h := by
  have e1 := ki.2.2.2.2.1
  have e2 := ki.2.2.2.2.2.1
  subst e1; subst e2
  exact run_ok (dia := [(18, 26), (215, 223)]) (cnr := []) (cuts := [(2, [2011, 0, 5000], []), (47, [2011, 0, 5000], []), (115, [2011, 0, 0], []), (159, [2011, 0, 0], []), (271, [2011, 0, 0], [])]) ki.1 (pk_X11_read ki hG) ok_X11_read (by decide) 4 true _ _ _ _ H
theorem r_X11_read_2 {K : JC} {l : Launch} {G : JG} {Q : Int → MH → Prop} {E : Nat → Int → MH → Prop} {h0 : MH} (ki : KI K l G yX11_read cX11_read 3 (some (.object "FactHouse$Program")) [] 18 489 16 Q E h0) (hG : gO G = true) {v0 v1 : Int} {h : MH} (H :
    ((8 ≤ v1 →
      (∀ x1_1 : Int, x1_1 = 1 →
      JW K 47 [(2011, v0), (0, x1_1), (5000, 0)] [] h)) ∧
    (v1 < 8 →
      ((hv h v0 0) ≠ 0) ∧
      ((hv h (hv h v0 0) 3) ≠ 0) ∧
      (0 ≤ v1) ∧
      (v1 < (hn h (hv h (hv h v0 0) 3))) ∧
      (∀ h2, h2 = hset h (hv h (hv h v0 0) 3) v1 (if v1 < 2 then 0 else 1 : Int) →
      ((hv h2 v0 0) ≠ 0) ∧
      (0 ≤ (0 : Int)) ∧
      (hz h2 + 1 ≤ LIMC) ∧
      (hs h2 + 0 ≤ LIMS) ∧
      (∀ h3, h3 = hnew h2 100 0 0 →
      ((hv h2 (hv h2 v0 0) 4) ≠ 0) ∧
      (0 ≤ v1) ∧
      (v1 < (hn h3 (hv h2 (hv h2 v0 0) 4))) ∧
      (∀ h4, h4 = hset h3 (hv h2 (hv h2 v0 0) 4) v1 (hz h2 + 1) →
      (∀ x1_5 : Int, x1_5 = w32 (v1 + 1) →
      JW K 2 [(2011, v0), (0, x1_5), (5000, 0)] [] h4))))))) : JW K 2 [(2011, v0), (0, v1), (5000, 0)] [] h := by
  have e1 := ki.2.2.2.2.1
  have e2 := ki.2.2.2.2.2.1
  subst e1; subst e2
  exact run_ok (dia := [(18, 26), (215, 223)]) (cnr := []) (cuts := [(2, [2011, 0, 5000], []), (47, [2011, 0, 5000], []), (115, [2011, 0, 0], []), (159, [2011, 0, 0], []), (271, [2011, 0, 0], [])]) ki.1 (pk_X11_read ki hG) ok_X11_read (by decide) 22 true _ _ _ _ H
theorem r_X11_read_47 {K : JC} {l : Launch} {G : JG} {Q : Int → MH → Prop} {E : Nat → Int → MH → Prop} {h0 : MH} (ki : KI K l G yX11_read cX11_read 3 (some (.object "FactHouse$Program")) [] 18 489 16 Q E h0) (hG : gO G = true) {v0 v1 : Int} {h : MH} (H :
    ((7 ≤ v1 →
      S_X11_one l G [(2011, v0), (0, 70), (0, 70)] h (fun z1 h2 =>
      (∀ x1_3 : Int, x1_3 = z1 →
      S_X11_one l G [(2011, v0), (0, 0), (0, 16)] h2 (fun z4 h5 =>
      ((hv h2 v0 0) ≠ 0) ∧
      (∀ h6, h6 = hset h5 (hv h2 v0 0) 2 z4 →
      S_X11_one l G [(2011, v0), (0, 0), (0, 8)] h6 (fun z7 h8 =>
      S_X11_kinds l G [(2011, v0), (0, z7)] h8 (fun z9 h10 =>
      ((hv h6 v0 0) ≠ 0) ∧
      (∀ h11, h11 = hset h10 (hv h6 v0 0) 5 z9 →
      (∀ x2_12 : Int, x2_12 = 8 →
      JW K 115 [(2011, v0), (0, x1_3), (0, x2_12)] [] h11))) E) E)) E)) E) ∧
    (v1 < 7 →
      ((hv h v0 0) ≠ 0) ∧
      ((hv h (hv h v0 0) 9) ≠ 0) ∧
      (0 ≤ v1) ∧
      (v1 < (hn h (hv h (hv h v0 0) 9))) ∧
      (∀ h13, h13 = hset h (hv h (hv h v0 0) 9) v1 (w32 (v1 + 1)) →
      (∀ x1_14 : Int, x1_14 = w32 (v1 + 1) →
      JW K 47 [(2011, v0), (0, x1_14), (5000, 0)] [] h13))))) : JW K 47 [(2011, v0), (0, v1), (5000, 0)] [] h := by
  have e1 := ki.2.2.2.2.1
  have e2 := ki.2.2.2.2.2.1
  subst e1; subst e2
  exact run_ok (dia := [(18, 26), (215, 223)]) (cnr := []) (cuts := [(2, [2011, 0, 5000], []), (47, [2011, 0, 5000], []), (115, [2011, 0, 0], []), (159, [2011, 0, 0], []), (271, [2011, 0, 0], [])]) ki.1 (pk_X11_read ki hG) ok_X11_read (by decide) 28 true _ _ _ _ H
theorem r_X11_read_115 {K : JC} {l : Launch} {G : JG} {Q : Int → MH → Prop} {E : Nat → Int → MH → Prop} {h0 : MH} (ki : KI K l G yX11_read cX11_read 3 (some (.object "FactHouse$Program")) [] 18 489 16 Q E h0) (hG : gO G = true) {v0 v1 v2 : Int} {h : MH} (H :
    ((hv h v0 0) ≠ 0) ∧
    (((w32 (8 + (hv h (hv h v0 0) 2))) ≤ v2 →
      S_X11_one l G [(2011, v0), (0, 1), (0, 40)] h (fun z1 h2 =>
      (0 ≤ z1) ∧
      (hz h2 + 1 ≤ LIMC) ∧
      (hs h2 + z1 ≤ LIMS) ∧
      (∀ h3, h3 = hnew h2 124 z1 z1 →
      ((hv h v0 0) ≠ 0) ∧
      (∀ h4, h4 = hset h3 (hv h v0 0) 6 (hz h2 + 1) →
      (∀ x2_5 : Int, x2_5 = 0 →
      JW K 159 [(2011, v0), (0, v1), (0, x2_5)] [] h4)))) E) ∧
    (v2 < (w32 (8 + (hv h (hv h v0 0) 2))) →
      S_X11_readClass l G [(2011, v0), (0, v2)] h (fun _ h7 =>
      (∀ x2_8 : Int, x2_8 = w32 (v2 + 1) →
      JW K 115 [(2011, v0), (0, v1), (0, x2_8)] [] h7)) E))) : JW K 115 [(2011, v0), (0, v1), (0, v2)] [] h := by
  have e1 := ki.2.2.2.2.1
  have e2 := ki.2.2.2.2.2.1
  subst e1; subst e2
  exact run_ok (dia := [(18, 26), (215, 223)]) (cnr := []) (cuts := [(2, [2011, 0, 5000], []), (47, [2011, 0, 5000], []), (115, [2011, 0, 0], []), (159, [2011, 0, 0], []), (271, [2011, 0, 0], [])]) ki.1 (pk_X11_read ki hG) ok_X11_read (by decide) 19 true _ _ _ _ H
theorem r_X11_read_159 {K : JC} {l : Launch} {G : JG} {Q : Int → MH → Prop} {E : Nat → Int → MH → Prop} {h0 : MH} (ki : KI K l G yX11_read cX11_read 3 (some (.object "FactHouse$Program")) [] 18 489 16 Q E h0) (hG : gO G = true) {v0 v1 v2 : Int} {h : MH} (H :
    ((hv h v0 0) ≠ 0) ∧
    ((hv h (hv h v0 0) 6) ≠ 0) ∧
    (((hn h (hv h (hv h v0 0) 6)) ≤ v2 →
      S_X11_is l G [(0, (if (hv h v0 3) = (hv h v0 2) then 1 else 0 : Int)), (0, (hv h v0 3))] h (fun _ h2 =>
      ((hv h2 v0 0) ≠ 0) ∧
      (∀ h3, h3 = hset h2 (hv h2 v0 0) 0 (hv h2 v0 1) →
      ((hv h3 v0 0) ≠ 0) ∧
      (∀ h4, h4 = hset h3 (hv h3 v0 0) 1 (hv h3 v0 2) →
      ((hv h4 v0 0) ≠ 0) ∧
      ((hv h4 (hv h4 v0 0) 6) ≠ 0) ∧
      (0 ≤ (hn h4 (hv h4 (hv h4 v0 0) 6))) ∧
      (hz h4 + 1 ≤ LIMC) ∧
      (hs h4 + (hn h4 (hv h4 (hv h4 v0 0) 6)) ≤ LIMS) ∧
      (∀ h5, h5 = hnew h4 102 (hn h4 (hv h4 (hv h4 v0 0) 6)) (hn h4 (hv h4 (hv h4 v0 0) 6)) →
      ((hv h4 v0 0) ≠ 0) ∧
      (∀ h6, h6 = hset h5 (hv h4 v0 0) 13 (hz h4 + 1) →
      (∀ x2_7 : Int, x2_7 = 0 →
      JW K 271 [(2011, v0), (0, v1), (0, x2_7)] [] h6)))))) E) ∧
    (v2 < (hn h (hv h (hv h v0 0) 6)) →
      ((hv h v0 0) ≠ 0) ∧
      (hz h + 1 ≤ LIMC) ∧
      (hs h + 19 ≤ LIMS) ∧
      (∀ h8, h8 = hnew h 14 0 19 →
      S_X14_init l G [(2014, (hz h + 1)), (0, v2)] h8 (fun _ h10 =>
      ((hv h (hv h v0 0) 6) ≠ 0) ∧
      (0 ≤ v2) ∧
      (v2 < (hn h10 (hv h (hv h v0 0) 6))) ∧
      (∀ h11, h11 = hset h10 (hv h (hv h v0 0) 6) v2 (hz h + 1) →
      ((hv h11 v0 0) ≠ 0) ∧
      ((hv h11 (hv h11 v0 0) 6) ≠ 0) ∧
      (0 ≤ v2) ∧
      (v2 < (hn h11 (hv h11 (hv h11 v0 0) 6))) ∧
      S_X11_readMethod l G [(2011, v0), (18, (hv h11 (hv h11 (hv h11 v0 0) 6) v2))] h11 (fun _ h13 =>
      (∀ x2_14 : Int, x2_14 = w32 (v2 + 1) →
      JW K 159 [(2011, v0), (0, v1), (0, x2_14)] [] h13)) E)) E)))) : JW K 159 [(2011, v0), (0, v1), (0, v2)] [] h := by
  have e1 := ki.2.2.2.2.1
  have e2 := ki.2.2.2.2.2.1
  subst e1; subst e2
  exact run_ok (dia := [(18, 26), (215, 223)]) (cnr := []) (cuts := [(2, [2011, 0, 5000], []), (47, [2011, 0, 5000], []), (115, [2011, 0, 0], []), (159, [2011, 0, 0], []), (271, [2011, 0, 0], [])]) ki.1 (pk_X11_read ki hG) ok_X11_read (by decide) 36 true _ _ _ _ H
theorem r_X11_read_271 {K : JC} {l : Launch} {G : JG} {Q : Int → MH → Prop} {E : Nat → Int → MH → Prop} {h0 : MH} (ki : KI K l G yX11_read cX11_read 3 (some (.object "FactHouse$Program")) [] 18 489 16 Q E h0) (hG : gO G = true) {v0 v1 v2 : Int} {h : MH} (H :
    ((hv h v0 0) ≠ 0) ∧
    ((hv h (hv h v0 0) 6) ≠ 0) ∧
    (((hn h (hv h (hv h v0 0) 6)) ≤ v2 →
      S_X11_layPlaces l G [(2011, v0)] h (fun _ h2 =>
      S_X11_findMarks l G [(2011, v0)] h2 (fun _ h4 =>
      Q (hv h4 v0 0) h4) E) E) ∧
    (v2 < (hn h (hv h (hv h v0 0) 6)) →
      (hz h + 1 ≤ LIMC) ∧
      (hs h + 5 ≤ LIMS) ∧
      (∀ h5, h5 = hnew h 16 0 5 →
      ((hv h5 v0 0) ≠ 0) ∧
      ((hv h5 (hv h5 v0 0) 6) ≠ 0) ∧
      (0 ≤ v2) ∧
      (v2 < (hn h5 (hv h5 (hv h5 v0 0) 6))) ∧
      S_X16_init l G [(2016, (hz h + 1)), (16, (hv h5 v0 0)), (18, (hv h5 (hv h5 (hv h5 v0 0) 6) v2))] h5 (fun _ h7 =>
      S_X16_judge l G [(2016, (hz h + 1))] h7 (fun _ h9 =>
      (∀ x2_10 : Int, x2_10 = w32 (v2 + 1) →
      JW K 271 [(2011, v0), (0, v1), (0, x2_10)] [] h9)) E) E)))) : JW K 271 [(2011, v0), (0, v1), (0, v2)] [] h := by
  have e1 := ki.2.2.2.2.1
  have e2 := ki.2.2.2.2.2.1
  subst e1; subst e2
  exact run_ok (dia := [(18, 26), (215, 223)]) (cnr := []) (cuts := [(2, [2011, 0, 5000], []), (47, [2011, 0, 5000], []), (115, [2011, 0, 0], []), (159, [2011, 0, 0], []), (271, [2011, 0, 0], [])]) ki.1 (pk_X11_read ki hG) ok_X11_read (by decide) 21 true _ _ _ _ H
abbrev k_X11_one : List (Nat × List (Nat × Instr)) := [(44, [(0, .aload_n 0), (1, .getfield 41), (4, .aload_n 0), (5, .getfield 32), (8, .if_icmp .ge 31), (11, .aload_n 0), (12, .getfield 22), (15, .aload_n 0), (16, .getfield 41), (19, .baload), (20, .sipush 255), (23, .iand), (24, .i2l), (25, .iload_n 1), (26, .i2l), (27, .iload_n 2), (28, .i2l), (29, .invokestatic 44), (32, .ifCond .eq 7), (35, .iconst 1), (36, .goto 4), (39, .iconst 0), (40, .aload_n 0), (41, .getfield 41)]),
  (76, [(44, .invokestatic 48), (47, .aload_n 0), (48, .getfield 22), (51, .aload_n 0), (52, .dup), (53, .getfield 41), (56, .dup_x1), (57, .iconst 1), (58, .iadd), (59, .putfield 41), (62, .baload), (63, .sipush 255), (66, .iand), (67, .ireturn)])]
theorem ok_X11_one : CodeOK cX11_one k_X11_one := okw 0 (by decide +kernel) (okw 44 (by decide +kernel) (okn))
abbrev p_X11_one (l : Launch) (G : JG) : JP := (true, [(22, 11, 1, 107, 0), (32, 11, 2, 0, 0), (41, 11, 3, 0, 0)], [], [], [(41, 11, 3, 0)], [], [], [(48, 0, [0, 0], 700, S_X11_is l G)], false, 0, [(44, e_X1_isIn)])
theorem pk_X11_one {K : JC} {l : Launch} {G : JG} {Q : Int → MH → Prop} {E : Nat → Int → MH → Prop} {h0 : MH} (ki : KI K l G yX11_one cX11_one 3 (some .int) [] 12 353 0 Q E h0) (hG : gO G = true) : POK K RX11 (p_X11_one l G) :=
  POKi (y := yX11_one) ki hG (rfs rf_X11_ok (by decide +kernel)) fmz fmz (rps rp_X11_ok (by decide +kernel)) fmz fmz
  (pkE ki (by
    intro K e1 e2 e3 e4; subst e1; subst e2
    exact fmE (ceS e3 e4 yl_X11_is ⟨q812, Or.inl q811⟩ rfl) (fmz))) (fun z => Bool.noConfusion z) rfl (pkP ki (by
    intro K e1 e2 e3 e4; subst e1; subst e2
    exact fmP (pe_X1_isIn hG e3 e4 ⟨q809, Or.inr ⟨_, List.mem_of_getElem? (i := 12) rfl⟩⟩ rfl rfl) (fmz)))
theorem r_X11_one_0 {K : JC} {l : Launch} {G : JG} {Q : Int → MH → Prop} {E : Nat → Int → MH → Prop} {h0 : MH} (ki : KI K l G yX11_one cX11_one 3 (some .int) [] 12 353 0 Q E h0) (hG : gO G = true) {v0 v1 v2 : Int} {h : MH} (H :
    (((hv h v0 3) < (hv h v0 2) → ((hv h v0 1) ≠ 0) ∧ (0 ≤ (hv h v0 3)) ∧ (hv h v0 3) < (hn h (hv h v0 1)))) ∧
    S_X11_is l G [(0, (if (hv h v0 3) < (hv h v0 2) then (if (isin (i_and (hv h (hv h v0 1) (hv h v0 3)) 255) v1 v2) = 0 then 0 else 1 : Int) else 0 : Int)), (0, (hv h v0 3))] h (fun _ h2 =>
    (∀ h3, h3 = hset h2 v0 3 (w32 ((hv h2 v0 3) + 1)) →
    ((hv h2 v0 1) ≠ 0) ∧
    (0 ≤ (hv h2 v0 3)) ∧
    ((hv h2 v0 3) < (hn h3 (hv h2 v0 1))) ∧
    Q (i_and (hv h3 (hv h2 v0 1) (hv h2 v0 3)) 255) h3)) E) : JW K 0 [(2011, v0), (0, v1), (0, v2)] [] h := by
  have e1 := ki.2.2.2.2.1
  have e2 := ki.2.2.2.2.2.1
  subst e1; subst e2
  exact run_ok (dia := [(8, 40)]) (cnr := []) (cuts := []) ki.1 (pk_X11_one ki hG) ok_X11_one (by decide) 22 true _ _ _ _ H
abbrev k_X11_is : List (Nat × List (Nat × Instr)) := [(22, [(0, .iload_n 0), (1, .ifCond .ne 12), (4, .new 36), (7, .dup), (8, .iload_n 1), (9, .invokespecial 38), (12, .athrow), (13, .return_)])]
theorem ok_X11_is : CodeOK cX11_is k_X11_is := okw 0 (by decide +kernel) (okn)
abbrev p_X11_is (l : Launch) (G : JG) : JP := (true, [], [], [], [], [(36, 13, 7)], [], [(38, 2, [0, 2013], 700, S_X13_init l G)], false, 700, [])
theorem pk_X11_is {K : JC} {l : Launch} {G : JG} {Q : Int → MH → Prop} {E : Nat → Int → MH → Prop} {h0 : MH} (ki : KI K l G yX11_is cX11_is 2 none [] 11 332 700 Q E h0) (hG : gO G = true) : POK K RX11 (p_X11_is l G) :=
  POKi (y := yX11_is) ki hG fmz fmz fmz fmz (subs (by decide +kernel) rn_X11_ok) fmz
  (pkE ki (by
    intro K e1 e2 e3 e4; subst e1; subst e2
    exact fmE (ceI e3 e4 yl_X13_init ⟨rfl, q859, Or.inl q858, _, _, q860⟩ rfl) (fmz))) (fun z => Bool.noConfusion z) rfl (pkP ki (by
    intro K e1 e2 e3 e4; subst e1; subst e2
    exact fmz))
theorem r_X11_is_0 {K : JC} {l : Launch} {G : JG} {Q : Int → MH → Prop} {E : Nat → Int → MH → Prop} {h0 : MH} (ki : KI K l G yX11_is cX11_is 2 none [] 11 332 700 Q E h0) (hG : gO G = true) {v0 v1 : Int} {h : MH} (H :
    ((¬ v0 = 0 →
      Q 0 h) ∧
    (v0 = 0 →
      (hz h + 1 ≤ LIMC) ∧
      (hs h + 7 ≤ LIMS) ∧
      (∀ h1, h1 = hnew h 13 0 7 →
      S_X13_init l G [(2013, (hz h + 1)), (0, v1)] h1 (fun _ h3 =>
      E 13 (hz h + 1) h3) E)))) : JW K 0 [(0, v0), (0, v1)] [] h := by
  have e1 := ki.2.2.2.2.1
  have e2 := ki.2.2.2.2.2.1
  subst e1; subst e2
  exact run_ok (dia := []) (cnr := []) (cuts := []) ki.1 (pk_X11_is ki hG) ok_X11_is (by decide) 8 true _ _ _ _ H
abbrev k_X11_kinds : List (Nat × List (Nat × Instr)) := [(1, [(0, .iload_n 1)]),
  (3, [(1, .newarray .int)]),
  (36, [(3, .astore_n 2), (4, .iconst 0), (5, .istore_n 3), (6, .iload_n 3), (7, .iload_n 1), (8, .if_icmp .ge 18), (11, .aload_n 2), (12, .iload_n 3), (13, .aload_n 0), (14, .iconst 0), (15, .iconst 1), (16, .invokevirtual 52), (19, .iastore), (20, .iinc 3 1), (23, .goto (-17)), (26, .aload_n 2), (27, .areturn)])]
theorem ok_X11_kinds : CodeOK cX11_kinds k_X11_kinds := okw 0 (by decide +kernel) (okc (by decide +kernel) (okw 3 (by decide +kernel) (okn)))
abbrev p_X11_kinds (l : Launch) (G : JG) : JP := (true, [], [], [], [], [], [], [(52, 1, [0, 0, 2011], 0, S_X11_one l G)], false, 104, [])
theorem pk_X11_kinds {K : JC} {l : Launch} {G : JG} {Q : Int → MH → Prop} {E : Nat → Int → MH → Prop} {h0 : MH} (ki : KI K l G yX11_kinds cX11_kinds 4 (some (.array .int)) [] 13 375 104 Q E h0) (hG : gO G = true) : POK K RX11 (p_X11_kinds l G) :=
  POKi (y := yX11_kinds) ki hG fmz fmz fmz fmz fmz fmz
  (pkE ki (by
    intro K e1 e2 e3 e4; subst e1; subst e2
    exact fmE (ceV 11 e3 e4 yl_X11_one ⟨by decide, ⟨_, _, rfl⟩, q806, qs0, q804⟩ rfl) (fmz))) (fun z => Bool.noConfusion z) rfl (pkP ki (by
    intro K e1 e2 e3 e4; subst e1; subst e2
    exact fmz))
theorem r_X11_kinds_0 {K : JC} {l : Launch} {G : JG} {Q : Int → MH → Prop} {E : Nat → Int → MH → Prop} {h0 : MH} (ki : KI K l G yX11_kinds cX11_kinds 4 (some (.array .int)) [] 13 375 104 Q E h0) (hG : gO G = true) {v0 v1 : Int} {h : MH} (H :
    (0 ≤ v1) ∧
    (hz h + 1 ≤ LIMC) ∧
    (hs h + v1 ≤ LIMS) ∧
    (∀ h1, h1 = hnew h 100 v1 v1 →
    (∀ x2_2 : Int, x2_2 = (hz h + 1) →
    (∀ x3_3 : Int, x3_3 = 0 →
    JW K 6 [(2011, v0), (0, v1), (2100, x2_2), (0, x3_3)] [] h1)))) : JW K 0 [(2011, v0), (0, v1), (5000, 0), (5000, 0)] [] h := by
  have e1 := ki.2.2.2.2.1
  have e2 := ki.2.2.2.2.2.1
  subst e1; subst e2
  exact run_ok (dia := []) (cnr := []) (cuts := [(6, [2011, 0, 2100, 0], [])]) ki.1 (pk_X11_kinds ki hG) ok_X11_kinds (by decide) 7 true _ _ _ _ H
theorem r_X11_kinds_6 {K : JC} {l : Launch} {G : JG} {Q : Int → MH → Prop} {E : Nat → Int → MH → Prop} {h0 : MH} (ki : KI K l G yX11_kinds cX11_kinds 4 (some (.array .int)) [] 13 375 104 Q E h0) (hG : gO G = true) {v0 v1 v2 v3 : Int} {h : MH} (H :
    ((v1 ≤ v3 →
      Q v2 h) ∧
    (v3 < v1 →
      S_X11_one l G [(2011, v0), (0, 0), (0, 1)] h (fun z1 h2 =>
      (0 ≤ v3) ∧
      (v3 < (hn h2 v2)) ∧
      (∀ h3, h3 = hset h2 v2 v3 z1 →
      (∀ x3_4 : Int, x3_4 = w32 (v3 + 1) →
      JW K 6 [(2011, v0), (0, v1), (2100, v2), (0, x3_4)] [] h3))) E))) : JW K 6 [(2011, v0), (0, v1), (2100, v2), (0, v3)] [] h := by
  have e1 := ki.2.2.2.2.1
  have e2 := ki.2.2.2.2.2.1
  subst e1; subst e2
  exact run_ok (dia := []) (cnr := []) (cuts := [(6, [2011, 0, 2100, 0], [])]) ki.1 (pk_X11_kinds ki hG) ok_X11_kinds (by decide) 14 true _ _ _ _ H
abbrev k_X11_readClass : List (Nat × List (Nat × Instr)) := [(40, [(0, .aload_n 0), (1, .getfield 12), (4, .getfield 56), (7, .iload_n 1), (8, .aload_n 0), (9, .iconst 0), (10, .iload_n 1), (11, .iconst 1), (12, .isub), (13, .invokevirtual 52), (16, .iastore), (17, .aload_n 0), (18, .getfield 12), (21, .getfield 60), (24, .aload_n 0), (25, .getfield 12), (28, .getfield 56), (31, .iload_n 1), (32, .iaload), (33, .aaload), (34, .astore_n 2), (35, .aload_n 0), (36, .getfield 41), (39, .istore_n 3)]),
  (72, [(40, .aload_n 0), (41, .iconst 0), (42, .iconst 4), (43, .invokevirtual 52), (46, .istore 4), (48, .aload_n 2), (49, .arraylength), (50, .iload 4), (52, .iadd), (53, .bipush 8), (55, .if_icmp .gt 7), (58, .iconst 1), (59, .goto 4), (62, .iconst 0), (63, .iload_n 3), (64, .invokestatic 48), (67, .aload_n 2), (68, .arraylength), (69, .iload 4), (71, .iadd)]),
  (74, [(72, .newarray .int)]),
  (113, [(74, .astore 5), (76, .aload_n 2), (77, .iconst 0), (78, .aload 5), (80, .iconst 0), (81, .aload_n 2), (82, .arraylength), (83, .invokestatic 26), (86, .iconst 0), (87, .istore 6), (89, .iload 6), (91, .iload 4), (93, .if_icmp .ge 23), (96, .aload 5), (98, .aload_n 2), (99, .arraylength), (100, .iload 6), (102, .iadd), (103, .aload_n 0), (104, .iconst 0), (105, .iconst 1), (106, .invokevirtual 52), (109, .iastore), (110, .iinc 6 1)]),
  (136, [(113, .goto (-24)), (116, .aload_n 0), (117, .getfield 12), (120, .getfield 60), (123, .iload_n 1), (124, .aload 5), (126, .aastore), (127, .return_)])]
theorem ok_X11_readClass : CodeOK cX11_readClass k_X11_readClass := okw 0 (by decide +kernel) (okw 40 (by decide +kernel) (okc (by decide +kernel) (okw 74 (by decide +kernel) (okw 113 (by decide +kernel) (okn)))))
abbrev p_X11_readClass (l : Launch) (G : JG) : JP := (true, [(12, 11, 0, 16, 0), (41, 11, 3, 0, 0), (56, 12, 3, 104, 0), (60, 12, 4, 134, 0)], [], [], [], [], [], [(48, 0, [0, 0], 700, S_X11_is l G), (52, 1, [0, 0, 2011], 0, S_X11_one l G)], false, 700, [])
theorem pk_X11_readClass {K : JC} {l : Launch} {G : JG} {Q : Int → MH → Prop} {E : Nat → Int → MH → Prop} {h0 : MH} (ki : KI K l G yX11_readClass cX11_readClass 7 none [] 13 375 700 Q E h0) (hG : gO G = true) : POK K RX11 (p_X11_readClass l G) :=
  POKi (y := yX11_readClass) ki hG (rfs rf_X11_ok (by decide +kernel)) fmz fmz fmz fmz fmz
  (pkE ki (by
    intro K e1 e2 e3 e4; subst e1; subst e2
    exact fmE (ceS e3 e4 yl_X11_is ⟨q812, Or.inl q811⟩ rfl) (fmE (ceV 11 e3 e4 yl_X11_one ⟨by decide, ⟨_, _, rfl⟩, q806, qs0, q804⟩ rfl) (fmz)))) (fun z => Bool.noConfusion z) rfl (pkP ki (by
    intro K e1 e2 e3 e4; subst e1; subst e2
    exact fmz))
theorem r_X11_readClass_0 {K : JC} {l : Launch} {G : JG} {Q : Int → MH → Prop} {E : Nat → Int → MH → Prop} {h0 : MH} (ki : KI K l G yX11_readClass cX11_readClass 7 none [] 13 375 700 Q E h0) (hG : gO G = true) {v0 v1 : Int} {h : MH} (H :
    ((hv h v0 0) ≠ 0) ∧
    S_X11_one l G [(2011, v0), (0, 0), (0, (w32 (v1 - 1)))] h (fun z1 h2 =>
    ((hv h (hv h v0 0) 3) ≠ 0) ∧
    (0 ≤ v1) ∧
    (v1 < (hn h2 (hv h (hv h v0 0) 3))) ∧
    (∀ h3, h3 = hset h2 (hv h (hv h v0 0) 3) v1 z1 →
    ((hv h3 v0 0) ≠ 0) ∧
    ((hv h3 v0 0) ≠ 0) ∧
    ((hv h3 (hv h3 v0 0) 3) ≠ 0) ∧
    (0 ≤ v1) ∧
    (v1 < (hn h3 (hv h3 (hv h3 v0 0) 3))) ∧
    ((hv h3 (hv h3 v0 0) 4) ≠ 0) ∧
    (0 ≤ (hv h3 (hv h3 (hv h3 v0 0) 3) v1)) ∧
    ((hv h3 (hv h3 (hv h3 v0 0) 3) v1) < (hn h3 (hv h3 (hv h3 v0 0) 4))) ∧
    (∀ x2_4 : Int, x2_4 = (hv h3 (hv h3 (hv h3 v0 0) 4) (hv h3 (hv h3 (hv h3 v0 0) 3) v1)) →
    (∀ x3_5 : Int, x3_5 = (hv h3 v0 3) →
    S_X11_one l G [(2011, v0), (0, 0), (0, 4)] h3 (fun z6 h7 =>
    (∀ x4_8 : Int, x4_8 = z6 →
    (x2_4 ≠ 0) ∧
    S_X11_is l G [(0, (if 8 < (w32 ((hn h7 x2_4) + x4_8)) then 0 else 1 : Int)), (0, x3_5)] h7 (fun _ h10 =>
    (x2_4 ≠ 0) ∧
    (0 ≤ (w32 ((hn h10 x2_4) + x4_8))) ∧
    (hz h10 + 1 ≤ LIMC) ∧
    (hs h10 + (w32 ((hn h10 x2_4) + x4_8)) ≤ LIMS) ∧
    (∀ h11, h11 = hnew h10 100 (w32 ((hn h10 x2_4) + x4_8)) (w32 ((hn h10 x2_4) + x4_8)) →
    (∀ x5_12 : Int, x5_12 = (hz h10 + 1) →
    (x2_4 ≠ 0) ∧
    JW K 83 [(2011, v0), (0, v1), (104, x2_4), (0, x3_5), (0, x4_8), (2100, x5_12), (5000, 0)] [(0, (hn h11 x2_4)), (0, 0), (2100, x5_12), (0, 0), (104, x2_4)] h11))) E)) E)))) E) : JW K 0 [(2011, v0), (0, v1), (5000, 0), (5000, 0), (5000, 0), (5000, 0), (5000, 0)] [] h := by
  have e1 := ki.2.2.2.2.1
  have e2 := ki.2.2.2.2.2.1
  subst e1; subst e2
  exact run_ok (dia := [(55, 63)]) (cnr := []) (cuts := [(89, [2011, 0, 104, 0, 0, 2100, 0], [])]) ki.1 (pk_X11_readClass ki hG) ok_X11_readClass (by decide) 51 true _ _ _ _ H
theorem r_X11_readClass_89 {K : JC} {l : Launch} {G : JG} {Q : Int → MH → Prop} {E : Nat → Int → MH → Prop} {h0 : MH} (ki : KI K l G yX11_readClass cX11_readClass 7 none [] 13 375 700 Q E h0) (hG : gO G = true) {v0 v1 v2 v3 v4 v5 v6 : Int} {h : MH} (H :
    ((v4 ≤ v6 →
      ((hv h v0 0) ≠ 0) ∧
      ((hv h (hv h v0 0) 4) ≠ 0) ∧
      (0 ≤ v1) ∧
      (v1 < (hn h (hv h (hv h v0 0) 4))) ∧
      (∀ h1, h1 = hset h (hv h (hv h v0 0) 4) v1 v5 →
      Q 0 h1)) ∧
    (v6 < v4 →
      (v2 ≠ 0) ∧
      S_X11_one l G [(2011, v0), (0, 0), (0, 1)] h (fun z2 h3 =>
      (0 ≤ (w32 ((hn h v2) + v6))) ∧
      ((w32 ((hn h v2) + v6)) < (hn h3 v5)) ∧
      (∀ h4, h4 = hset h3 v5 (w32 ((hn h v2) + v6)) z2 →
      (∀ x6_5 : Int, x6_5 = w32 (v6 + 1) →
      JW K 89 [(2011, v0), (0, v1), (104, v2), (0, v3), (0, v4), (2100, v5), (0, x6_5)] [] h4))) E))) : JW K 89 [(2011, v0), (0, v1), (104, v2), (0, v3), (0, v4), (2100, v5), (0, v6)] [] h := by
  have e1 := ki.2.2.2.2.1
  have e2 := ki.2.2.2.2.2.1
  subst e1; subst e2
  exact run_ok (dia := [(55, 63)]) (cnr := []) (cuts := [(89, [2011, 0, 104, 0, 0, 2100, 0], [])]) ki.1 (pk_X11_readClass ki hG) ok_X11_readClass (by decide) 17 true _ _ _ _ H
abbrev k_X11_readMethod : List (Nat × List (Nat × Instr)) := [(48, [(0, .aload_n 1), (1, .aload_n 0), (2, .getfield 41), (5, .putfield 133), (8, .aload_n 0), (9, .getfield 41), (12, .aload_n 0), (13, .getfield 32), (16, .if_icmp .ge 46), (19, .aload_n 0), (20, .getfield 22), (23, .aload_n 0), (24, .getfield 41), (27, .baload), (28, .sipush 255), (31, .iand), (32, .aload_n 0), (33, .invokevirtual 136), (36, .if_icmp .le 22), (39, .aload_n 0), (40, .getfield 22), (43, .aload_n 0), (44, .getfield 41), (47, .baload)]),
  (94, [(48, .sipush 255), (51, .iand), (52, .sipush 255), (55, .if_icmp .ne 7), (58, .iconst 1), (59, .goto 4), (62, .iconst 0), (63, .aload_n 0), (64, .getfield 41), (67, .invokestatic 48), (70, .aload_n 1), (71, .aload_n 0), (72, .getfield 22), (75, .aload_n 0), (76, .dup), (77, .getfield 41), (80, .dup_x1), (81, .iconst 1), (82, .iadd), (83, .putfield 41), (86, .baload), (87, .sipush 255), (90, .iand), (91, .putfield 139)]),
  (138, [(94, .aload_n 1), (95, .getfield 139), (98, .sipush 255), (101, .if_icmp .eq 7), (104, .iconst 1), (105, .goto 4), (108, .iconst 0), (109, .istore_n 2), (110, .aload_n 0), (111, .getfield 41), (114, .istore_n 3), (115, .aload_n 1), (116, .aload_n 0), (117, .iconst 0), (118, .bipush 15), (120, .invokevirtual 52), (123, .putfield 142), (126, .aconst_null), (127, .astore 4), (129, .iconst 0), (130, .istore 5), (132, .iload_n 2), (133, .ifCond .eq 81), (136, .iload 5)]),
  (195, [(138, .aload_n 1), (139, .getfield 130), (142, .if_icmp .ge 72), (145, .aload_n 0), (146, .getfield 12), (149, .getfield 82), (152, .iload 5), (154, .aaload), (155, .astore 6), (157, .aload 6), (159, .getfield 139), (162, .sipush 255), (165, .if_icmp .eq 43), (168, .aload 6), (170, .getfield 142), (173, .aload_n 1), (174, .getfield 142), (177, .if_icmp .eq 6), (180, .goto 28), (183, .aload 6), (185, .getfield 139), (188, .aload_n 1), (189, .getfield 139), (192, .if_icmp .eq 7)]),
  (241, [(195, .iconst 1), (196, .goto 4), (199, .iconst 0), (200, .iload_n 3), (201, .invokestatic 48), (204, .aload 6), (206, .astore 4), (208, .iinc 5 1), (211, .goto (-79)), (214, .aload_n 0), (215, .getfield 41), (218, .istore_n 3), (219, .aload_n 1), (220, .aload_n 0), (221, .iconst 0), (222, .iconst 4), (223, .invokevirtual 52), (226, .putfield 145), (229, .iload_n 2), (230, .ifCond .eq 10), (233, .aload_n 1), (234, .getfield 145), (237, .ifCond .le 7), (240, .iconst 1)]),
  (285, [(241, .goto 4), (244, .iconst 0), (245, .iload_n 3), (246, .invokestatic 48), (249, .aload_n 0), (250, .getfield 41), (253, .istore_n 3), (254, .aload_n 0), (255, .iconst 1), (256, .aload_n 1), (257, .getfield 145), (260, .if_icmp .le 7), (263, .iconst 0), (264, .goto 4), (267, .iconst 1), (268, .invokevirtual 70), (271, .astore 5), (273, .iload_n 2), (274, .ifCond .eq 11), (277, .aload 5), (279, .iconst 0), (280, .iaload), (281, .iconst 1), (282, .if_icmp .ne 7)]),
  (326, [(285, .iconst 1), (286, .goto 4), (289, .iconst 0), (290, .iload_n 3), (291, .invokestatic 48), (294, .aload_n 0), (295, .aload_n 1), (296, .getfield 145), (299, .iconst 1), (300, .if_icmp .le 12), (303, .aload_n 1), (304, .getfield 145), (307, .iconst 1), (308, .isub), (309, .goto 4), (312, .iconst 0), (313, .invokevirtual 70), (316, .astore 6), (318, .aload_n 0), (319, .getfield 41), (322, .istore_n 3), (323, .aload_n 1), (324, .aload_n 0), (325, .iconst 0)]),
  (337, [(326, .iconst 2), (327, .invokevirtual 52), (330, .putfield 148), (333, .aload_n 1), (334, .getfield 145)]),
  (339, [(337, .newarray .int)]),
  (384, [(339, .astore 7), (341, .iconst 0), (342, .istore 8), (344, .iload 8), (346, .aload_n 1), (347, .getfield 145), (350, .if_icmp .ge 33), (353, .aload 7), (355, .iload 8), (357, .iload 8), (359, .ifCond .ne 10), (362, .aload 5), (364, .iconst 0), (365, .iaload), (366, .goto 10), (369, .aload 6), (371, .iload 8), (373, .iconst 1), (374, .isub), (375, .iaload), (376, .iastore), (377, .iinc 8 1), (380, .goto (-36)), (383, .aload_n 1)]),
  (432, [(384, .aload 7), (386, .putfield 151), (389, .aload 4), (391, .ifnull 12), (394, .aload_n 1), (395, .aload 4), (397, .invokevirtual 153), (400, .ifCond .eq 7), (403, .iconst 1), (404, .goto 4), (407, .iconst 0), (408, .iload_n 3), (409, .invokestatic 48), (412, .aload_n 0), (413, .getfield 41), (416, .istore_n 3), (417, .aload_n 0), (418, .iconst 0), (419, .bipush 8), (421, .invokevirtual 52), (424, .istore 8), (426, .iload 8), (428, .aload_n 1), (429, .getfield 145)]),
  (447, [(432, .if_icmp .lt 7), (435, .iconst 1), (436, .goto 4), (439, .iconst 0), (440, .iload_n 3), (441, .invokestatic 48), (444, .aload_n 1), (445, .iload 8)]),
  (449, [(447, .newarray .int)]),
  (495, [(449, .putfield 151), (452, .iconst 0), (453, .istore 9), (455, .iload 9), (457, .iload 8), (459, .if_icmp .ge 60), (462, .aload_n 0), (463, .getfield 41), (466, .istore_n 3), (467, .aload_n 1), (468, .getfield 151), (471, .iload 9), (473, .aload_n 0), (474, .iconst 0), (475, .iconst 1), (476, .invokevirtual 52), (479, .iastore), (480, .iload 9), (482, .aload_n 1), (483, .getfield 145), (486, .if_icmp .ge 18), (489, .aload_n 1), (490, .getfield 151), (493, .iload 9)]),
  (540, [(495, .iaload), (496, .aload 7), (498, .iload 9), (500, .iaload), (501, .if_icmp .ne 7), (504, .iconst 1), (505, .goto 4), (508, .iconst 0), (509, .iload_n 3), (510, .invokestatic 48), (513, .iinc 9 1), (516, .goto (-61)), (519, .aload_n 1), (520, .aload_n 0), (521, .iconst 0), (522, .bipush 8), (524, .invokevirtual 52), (527, .putfield 157), (530, .aload_n 1), (531, .aload_n 0), (532, .iconst 0), (533, .iconst 4), (534, .invokevirtual 52), (537, .anewarray 160)]),
  (587, [(540, .putfield 162), (543, .aload_n 0), (544, .getfield 41), (547, .istore_n 3), (548, .aload_n 0), (549, .iconst 1), (550, .bipush 120), (552, .invokevirtual 52), (555, .istore 9), (557, .aload_n 0), (558, .getfield 166), (561, .iload 9), (563, .iadd), (564, .sipush 1500), (567, .if_icmp .gt 7), (570, .iconst 1), (571, .goto 4), (574, .iconst 0), (575, .iload_n 3), (576, .invokestatic 48), (579, .aload_n 1), (580, .aload_n 0), (581, .getfield 166), (584, .putfield 124)]),
  (612, [(587, .aload_n 0), (588, .dup), (589, .getfield 166), (592, .iload 9), (594, .iadd), (595, .putfield 166), (598, .aload_n 0), (599, .getfield 12), (602, .aload_n 0), (603, .getfield 166), (606, .putfield 112), (609, .aload_n 1), (610, .iload 9)]),
  (614, [(612, .newarray .int)]),
  (620, [(614, .putfield 169), (617, .aload_n 1), (618, .iload 9)]),
  (622, [(620, .newarray .int)]),
  (628, [(622, .putfield 172), (625, .aload_n 1), (626, .iload 9)]),
  (630, [(628, .newarray .int)]),
  (636, [(630, .putfield 175), (633, .aload_n 1), (634, .iload 9)]),
  (638, [(636, .newarray .int)]),
  (644, [(638, .putfield 178), (641, .aload_n 1), (642, .iload 9)]),
  (646, [(644, .newarray .int)]),
  (652, [(646, .putfield 181), (649, .aload_n 1), (650, .iload 9)]),
  (654, [(652, .newarray .int)]),
  (703, [(654, .putfield 127), (657, .iconst 0), (658, .istore 10), (660, .iload 10), (662, .iload 9), (664, .if_icmp .ge 16), (667, .aload_n 0), (668, .aload_n 1), (669, .iload 10), (671, .invokevirtual 183), (674, .iinc 10 1), (677, .goto (-17)), (680, .iconst 0), (681, .istore 10), (683, .iload 10), (685, .aload_n 1), (686, .getfield 162), (689, .arraylength), (690, .if_icmp .ge 16), (693, .aload_n 0), (694, .aload_n 1), (695, .iload 10), (697, .invokevirtual 187), (700, .iinc 10 1)]),
  (723, [(703, .goto (-20)), (706, .aload_n 1), (707, .aload_n 0), (708, .getfield 41), (711, .putfield 190), (714, .return_)])]
theorem ok_X11_readMethod : CodeOK cX11_readMethod k_X11_readMethod := okw 0 (by decide +kernel) (okw 48 (by decide +kernel) (okw 94 (by decide +kernel) (okw 138 (by decide +kernel) (okw 195 (by decide +kernel) (okw 241 (by decide +kernel) (okw 285 (by decide +kernel) (okw 326 (by decide +kernel) (okc (by decide +kernel) (okw 339 (by decide +kernel) (okw 384 (by decide +kernel) (okw 432 (by decide +kernel) (okc (by decide +kernel) (okw 449 (by decide +kernel) (okw 495 (by decide +kernel) (okw 540 (by decide +kernel) (okw 587 (by decide +kernel) (okc (by decide +kernel) (okw 614 (by decide +kernel) (okc (by decide +kernel) (okw 622 (by decide +kernel) (okc (by decide +kernel) (okw 630 (by decide +kernel) (okc (by decide +kernel) (okw 638 (by decide +kernel) (okc (by decide +kernel) (okw 646 (by decide +kernel) (okc (by decide +kernel) (okw 654 (by decide +kernel) (okw 703 (by decide +kernel) (okn))))))))))))))))))))))))))))))
abbrev p_X11_readMethod (l : Launch) (G : JG) : JP := (true, [(12, 11, 0, 16, 0), (22, 11, 1, 107, 0), (32, 11, 2, 0, 0), (41, 11, 3, 0, 0), (82, 12, 6, 128, 0), (130, 14, 0, 0, 0), (139, 14, 1, 0, 0), (142, 14, 2, 0, 0), (145, 14, 3, 0, 0), (151, 14, 5, 104, 0), (162, 14, 13, 129, 0), (166, 11, 4, 0, 0)], [], [], [(41, 11, 3, 0), (112, 12, 7, 0), (124, 14, 14, 0), (127, 14, 12, 104), (133, 14, 15, 0), (139, 14, 1, 0), (142, 14, 2, 0), (145, 14, 3, 0), (148, 14, 4, 0), (151, 14, 5, 104), (157, 14, 6, 0), (162, 14, 13, 129), (166, 11, 4, 0), (169, 14, 7, 104), (172, 14, 8, 104), (175, 14, 9, 104), (178, 14, 10, 104), (181, 14, 11, 104), (190, 14, 16, 0)], [], [(160, 125)], [(48, 0, [0, 0], 700, S_X11_is l G), (52, 1, [0, 0, 2011], 0, S_X11_one l G), (70, 1, [0, 2011], 104, S_X11_kinds l G), (136, 1, [2011], 0, S_X11_lastClass l G), (153, 1, [18, 2014], 2, S_X14_isLike l G), (183, 1, [0, 18, 2011], 700, S_X11_readInstruction l G), (187, 1, [0, 18, 2011], 700, S_X11_readHandler l G)], false, 700, [])
theorem pk_X11_readMethod {K : JC} {l : Launch} {G : JG} {Q : Int → MH → Prop} {E : Nat → Int → MH → Prop} {h0 : MH} (ki : KI K l G yX11_readMethod cX11_readMethod 11 none [] 14 405 700 Q E h0) (hG : gO G = true) : POK K RX11 (p_X11_readMethod l G) :=
  POKi (y := yX11_readMethod) ki hG (rfs rf_X11_ok (by decide +kernel)) fmz fmz (rps rp_X11_ok (by decide +kernel)) fmz (subs (by decide +kernel) ra_X11_ok)
  (pkE ki (by
    intro K e1 e2 e3 e4; subst e1; subst e2
    exact fmE (ceS e3 e4 yl_X11_is ⟨q812, Or.inl q811⟩ rfl) (fmE (ceV 11 e3 e4 yl_X11_one ⟨by decide, ⟨_, _, rfl⟩, q806, qs0, q804⟩ rfl) (fmE (ceV 11 e3 e4 yl_X11_kinds ⟨by decide, ⟨_, _, rfl⟩, q889, qs2, q887⟩ rfl) (fmE (ceV 11 e3 e4 yl_X11_lastClass ⟨by decide, ⟨_, _, rfl⟩, q1019, qs5, q1017⟩ rfl) (fmE (ceV 14 e3 e4 yl_X14_isLike ⟨by decide, ⟨_, _, rfl⟩, q1022, q1023, q1021⟩ rfl) (fmE (ceV 11 e3 e4 yl_X11_readInstruction ⟨by decide, ⟨_, _, rfl⟩, q1029, qs6, q1027⟩ rfl) (fmE (ceV 11 e3 e4 yl_X11_readHandler ⟨by decide, ⟨_, _, rfl⟩, q1045, qs9, q1043⟩ rfl) (fmz))))))))) (fun z => Bool.noConfusion z) rfl (pkP ki (by
    intro K e1 e2 e3 e4; subst e1; subst e2
    exact fmz))
theorem r_X11_readMethod_0 {K : JC} {l : Launch} {G : JG} {Q : Int → MH → Prop} {E : Nat → Int → MH → Prop} {h0 : MH} (ki : KI K l G yX11_readMethod cX11_readMethod 11 none [] 14 405 700 Q E h0) (hG : gO G = true) {v0 v1 : Int} {h : MH} (H :
    (v1 ≠ 0) ∧
    (∀ h1, h1 = hset h v1 15 (hv h v0 3) →
    (((hv h1 v0 2) ≤ (hv h1 v0 3) →
      S_X11_is l G [(0, 0), (0, (hv h1 v0 3))] h1 (fun _ h3 =>
      (∀ h4, h4 = hset h3 v0 3 (w32 ((hv h3 v0 3) + 1)) →
      ((hv h3 v0 1) ≠ 0) ∧
      (0 ≤ (hv h3 v0 3)) ∧
      ((hv h3 v0 3) < (hn h4 (hv h3 v0 1))) ∧
      (v1 ≠ 0) ∧
      (∀ h5, h5 = hset h4 v1 1 (i_and (hv h4 (hv h3 v0 1) (hv h3 v0 3)) 255) →
      (v1 ≠ 0) ∧
      (∀ x2_6 : Int, x2_6 = (if (hv h5 v1 1) = 255 then 0 else 1 : Int) →
      (∀ x3_7 : Int, x3_7 = (hv h5 v0 3) →
      S_X11_one l G [(2011, v0), (0, 0), (0, 15)] h5 (fun z8 h9 =>
      (v1 ≠ 0) ∧
      (∀ h10, h10 = hset h9 v1 2 z8 →
      (∀ x4_11 : Int, x4_11 = 0 →
      (∀ x5_12 : Int, x5_12 = 0 →
      JW K 132 [(2011, v0), (18, v1), (0, x2_6), (0, x3_7), (18, x4_11), (0, x5_12), (5000, 0), (5000, 0), (5000, 0), (5000, 0), (5000, 0)] [] h10)))) E))))) E) ∧
    ((hv h1 v0 3) < (hv h1 v0 2) →
      ((hv h1 v0 1) ≠ 0) ∧
      (0 ≤ (hv h1 v0 3)) ∧
      ((hv h1 v0 3) < (hn h1 (hv h1 v0 1))) ∧
      S_X11_lastClass l G [(2011, v0)] h1 (fun z13 h14 =>
      ((z13 < (i_and (hv h1 (hv h1 v0 1) (hv h1 v0 3)) 255) → ((hv h14 v0 1) ≠ 0) ∧ (0 ≤ (hv h14 v0 3)) ∧ (hv h14 v0 3) < (hn h14 (hv h14 v0 1)))) ∧
      S_X11_is l G [(0, (if z13 < (i_and (hv h1 (hv h1 v0 1) (hv h1 v0 3)) 255) then (if (i_and (hv h14 (hv h14 v0 1) (hv h14 v0 3)) 255) = 255 then 1 else 0 : Int) else 1 : Int)), (0, (hv h14 v0 3))] h14 (fun _ h16 =>
      (∀ h17, h17 = hset h16 v0 3 (w32 ((hv h16 v0 3) + 1)) →
      ((hv h16 v0 1) ≠ 0) ∧
      (0 ≤ (hv h16 v0 3)) ∧
      ((hv h16 v0 3) < (hn h17 (hv h16 v0 1))) ∧
      (v1 ≠ 0) ∧
      (∀ h18, h18 = hset h17 v1 1 (i_and (hv h17 (hv h16 v0 1) (hv h16 v0 3)) 255) →
      (v1 ≠ 0) ∧
      (∀ x2_19 : Int, x2_19 = (if (hv h18 v1 1) = 255 then 0 else 1 : Int) →
      (∀ x3_20 : Int, x3_20 = (hv h18 v0 3) →
      S_X11_one l G [(2011, v0), (0, 0), (0, 15)] h18 (fun z21 h22 =>
      (v1 ≠ 0) ∧
      (∀ h23, h23 = hset h22 v1 2 z21 →
      (∀ x4_24 : Int, x4_24 = 0 →
      (∀ x5_25 : Int, x5_25 = 0 →
      JW K 132 [(2011, v0), (18, v1), (0, x2_19), (0, x3_20), (18, x4_24), (0, x5_25), (5000, 0), (5000, 0), (5000, 0), (5000, 0), (5000, 0)] [] h23)))) E))))) E) E)))) : JW K 0 [(2011, v0), (18, v1), (5000, 0), (5000, 0), (5000, 0), (5000, 0), (5000, 0), (5000, 0), (5000, 0), (5000, 0), (5000, 0)] [] h := by
  have e1 := ki.2.2.2.2.1
  have e2 := ki.2.2.2.2.2.1
  subst e1; subst e2
  exact run_ok (dia := [(36, 63), (101, 109), (192, 200), (230, 245), (260, 268), (274, 290), (300, 313), (359, 376), (400, 408), (432, 440), (486, 509), (567, 575)]) (cnr := [(133, 145, 214)]) (cuts := [(132, [2011, 18, 0, 0, 18, 0, 5000, 5000, 5000, 5000, 5000], []), (344, [2011, 18, 0, 0, 18, 104, 104, 2100, 0, 5000, 5000], []), (455, [2011, 18, 0, 0, 18, 104, 104, 2100, 0, 0, 5000], []), (660, [2011, 18, 0, 0, 18, 104, 104, 2100, 0, 0, 0], []), (683, [2011, 18, 0, 0, 18, 104, 104, 2100, 0, 0, 0], [])]) ki.1 (pk_X11_readMethod ki hG) ok_X11_readMethod (by decide) 56 true _ _ _ _ H
theorem r_X11_readMethod_132 {K : JC} {l : Launch} {G : JG} {Q : Int → MH → Prop} {E : Nat → Int → MH → Prop} {h0 : MH} (ki : KI K l G yX11_readMethod cX11_readMethod 11 none [] 14 405 700 Q E h0) (hG : gO G = true) {v0 v1 v2 v3 v4 v5 : Int} {h : MH} (H :
    ((¬ v2 = 0 → v1 ≠ 0)) ∧
    (((¬ v2 = 0 ∧ v5 < (hv h v1 0)) →
      ((hv h v0 0) ≠ 0) ∧
      ((hv h (hv h v0 0) 6) ≠ 0) ∧
      (0 ≤ v5) ∧
      (v5 < (hn h (hv h (hv h v0 0) 6))) ∧
      (∀ x6_1 : Int, x6_1 = (hv h (hv h (hv h v0 0) 6) v5) →
      (x6_1 ≠ 0) ∧
      (((hv h x6_1 1) = 255 →
        (∀ x5_2 : Int, x5_2 = w32 (v5 + 1) →
        JW K 132 [(2011, v0), (18, v1), (0, v2), (0, v3), (18, v4), (0, x5_2), (5000, 0), (5000, 0), (5000, 0), (5000, 0), (5000, 0)] [] h)) ∧
      (¬ (hv h x6_1 1) = 255 →
        (x6_1 ≠ 0) ∧
        (v1 ≠ 0) ∧
        (((hv h x6_1 2) = (hv h v1 2) →
          (x6_1 ≠ 0) ∧
          (v1 ≠ 0) ∧
          S_X11_is l G [(0, (if (hv h x6_1 1) = (hv h v1 1) then 0 else 1 : Int)), (0, v3)] h (fun _ h4 =>
          (∀ x4_5 : Int, x4_5 = x6_1 →
          (∀ x5_6 : Int, x5_6 = w32 (v5 + 1) →
          JW K 132 [(2011, v0), (18, v1), (0, v2), (0, v3), (18, x4_5), (0, x5_6), (5000, 0), (5000, 0), (5000, 0), (5000, 0), (5000, 0)] [] h4))) E) ∧
        (¬ (hv h x6_1 2) = (hv h v1 2) →
          (∀ x5_7 : Int, x5_7 = w32 (v5 + 1) →
          JW K 132 [(2011, v0), (18, v1), (0, v2), (0, v3), (18, v4), (0, x5_7), (5000, 0), (5000, 0), (5000, 0), (5000, 0), (5000, 0)] [] h))))))) ∧
    (¬ (¬ v2 = 0 ∧ v5 < (hv h v1 0)) →
      (∀ x3_8 : Int, x3_8 = (hv h v0 3) →
      S_X11_one l G [(2011, v0), (0, 0), (0, 4)] h (fun z9 h10 =>
      (v1 ≠ 0) ∧
      (∀ h11, h11 = hset h10 v1 3 z9 →
      ((¬ v2 = 0 → v1 ≠ 0)) ∧
      S_X11_is l G [(0, (if v2 = 0 then 1 else (if 0 < (hv h11 v1 3) then 1 else 0 : Int) : Int)), (0, x3_8)] h11 (fun _ h13 =>
      (∀ x3_14 : Int, x3_14 = (hv h13 v0 3) →
      (v1 ≠ 0) ∧
      S_X11_kinds l G [(2011, v0), (0, (if (hv h13 v1 3) < 1 then 0 else 1 : Int))] h13 (fun z15 h16 =>
      (∀ x5_17 : Int, x5_17 = z15 →
      ((¬ v2 = 0 → (x5_17 ≠ 0) ∧ (0 ≤ (0 : Int)) ∧ 0 < (hn h16 x5_17))) ∧
      S_X11_is l G [(0, (if v2 = 0 then 1 else (if (hv h16 x5_17 0) = 1 then 1 else 0 : Int) : Int)), (0, x3_14)] h16 (fun _ h19 =>
      (v1 ≠ 0) ∧
      ((1 < (hv h19 v1 3) → v1 ≠ 0)) ∧
      S_X11_kinds l G [(2011, v0), (0, (if 1 < (hv h19 v1 3) then (w32 ((hv h19 v1 3) - 1)) else 0 : Int))] h19 (fun z20 h21 =>
      (∀ x6_22 : Int, x6_22 = z20 →
      (∀ x3_23 : Int, x3_23 = (hv h21 v0 3) →
      S_X11_one l G [(2011, v0), (0, 0), (0, 2)] h21 (fun z24 h25 =>
      (v1 ≠ 0) ∧
      (∀ h26, h26 = hset h25 v1 4 z24 →
      (v1 ≠ 0) ∧
      (0 ≤ (hv h26 v1 3)) ∧
      (hz h26 + 1 ≤ LIMC) ∧
      (hs h26 + (hv h26 v1 3) ≤ LIMS) ∧
      (∀ h27, h27 = hnew h26 100 (hv h26 v1 3) (hv h26 v1 3) →
      (∀ x7_28 : Int, x7_28 = (hz h26 + 1) →
      (∀ x8_29 : Int, x8_29 = 0 →
      JW K 344 [(2011, v0), (18, v1), (0, v2), (0, x3_23), (18, v4), (104, x5_17), (104, x6_22), (2100, x7_28), (0, x8_29), (5000, 0), (5000, 0)] [] h27))))) E))) E) E)) E)) E)) E)))) : JW K 132 [(2011, v0), (18, v1), (0, v2), (0, v3), (18, v4), (0, v5), (5000, 0), (5000, 0), (5000, 0), (5000, 0), (5000, 0)] [] h := by
  have e1 := ki.2.2.2.2.1
  have e2 := ki.2.2.2.2.2.1
  subst e1; subst e2
  exact run_ok (dia := [(36, 63), (101, 109), (192, 200), (230, 245), (260, 268), (274, 290), (300, 313), (359, 376), (400, 408), (432, 440), (486, 509), (567, 575)]) (cnr := [(133, 145, 214)]) (cuts := [(132, [2011, 18, 0, 0, 18, 0, 5000, 5000, 5000, 5000, 5000], []), (344, [2011, 18, 0, 0, 18, 104, 104, 2100, 0, 5000, 5000], []), (455, [2011, 18, 0, 0, 18, 104, 104, 2100, 0, 0, 5000], []), (660, [2011, 18, 0, 0, 18, 104, 104, 2100, 0, 0, 0], []), (683, [2011, 18, 0, 0, 18, 104, 104, 2100, 0, 0, 0], [])]) ki.1 (pk_X11_readMethod ki hG) ok_X11_readMethod (by decide) 53 true _ _ _ _ H
theorem r_X11_readMethod_344 {K : JC} {l : Launch} {G : JG} {Q : Int → MH → Prop} {E : Nat → Int → MH → Prop} {h0 : MH} (ki : KI K l G yX11_readMethod cX11_readMethod 11 none [] 14 405 700 Q E h0) (hG : gO G = true) {v0 v1 v2 v3 v4 v5 v6 v7 v8 : Int} {h : MH} (H :
    (v1 ≠ 0) ∧
    (((hv h v1 3) ≤ v8 →
      (v1 ≠ 0) ∧
      (∀ h1, h1 = hset h v1 5 v7 →
      ((v4 = 0 →
        S_X11_is l G [(0, 1), (0, v3)] h1 (fun _ h3 =>
        (∀ x3_4 : Int, x3_4 = (hv h3 v0 3) →
        S_X11_one l G [(2011, v0), (0, 0), (0, 8)] h3 (fun z5 h6 =>
        (∀ x8_7 : Int, x8_7 = z5 →
        (v1 ≠ 0) ∧
        S_X11_is l G [(0, (if x8_7 < (hv h6 v1 3) then 0 else 1 : Int)), (0, x3_4)] h6 (fun _ h9 =>
        (0 ≤ x8_7) ∧
        (hz h9 + 1 ≤ LIMC) ∧
        (hs h9 + x8_7 ≤ LIMS) ∧
        (∀ h10, h10 = hnew h9 100 x8_7 x8_7 →
        (v1 ≠ 0) ∧
        (∀ h11, h11 = hset h10 v1 5 (hz h9 + 1) →
        (∀ x9_12 : Int, x9_12 = 0 →
        JW K 455 [(2011, v0), (18, v1), (0, v2), (0, x3_4), (18, v4), (104, v5), (104, v6), (2100, v7), (0, x8_7), (0, x9_12), (5000, 0)] [] h11)))) E)) E)) E) ∧
      (¬ v4 = 0 →
        (v1 ≠ 0) ∧
        S_X14_isLike l G [(2014, v1), (18, v4)] h1 (fun z13 h14 =>
        S_X11_is l G [(0, (if z13 = 0 then 0 else 1 : Int)), (0, v3)] h14 (fun _ h16 =>
        (∀ x3_17 : Int, x3_17 = (hv h16 v0 3) →
        S_X11_one l G [(2011, v0), (0, 0), (0, 8)] h16 (fun z18 h19 =>
        (∀ x8_20 : Int, x8_20 = z18 →
        (v1 ≠ 0) ∧
        S_X11_is l G [(0, (if x8_20 < (hv h19 v1 3) then 0 else 1 : Int)), (0, x3_17)] h19 (fun _ h22 =>
        (0 ≤ x8_20) ∧
        (hz h22 + 1 ≤ LIMC) ∧
        (hs h22 + x8_20 ≤ LIMS) ∧
        (∀ h23, h23 = hnew h22 100 x8_20 x8_20 →
        (v1 ≠ 0) ∧
        (∀ h24, h24 = hset h23 v1 5 (hz h22 + 1) →
        (∀ x9_25 : Int, x9_25 = 0 →
        JW K 455 [(2011, v0), (18, v1), (0, v2), (0, x3_17), (18, v4), (104, v5), (104, v6), (2100, v7), (0, x8_20), (0, x9_25), (5000, 0)] [] h24)))) E)) E)) E) E)))) ∧
    (v8 < (hv h v1 3) →
      ((¬ v8 = 0 → (v6 ≠ 0) ∧ (0 ≤ (w32 (v8 - 1))) ∧ (w32 (v8 - 1)) < (hn h v6))) ∧
      ((v8 = 0 → (v5 ≠ 0) ∧ (0 ≤ (0 : Int)) ∧ 0 < (hn h v5))) ∧
      (0 ≤ v8) ∧
      (v8 < (hn h v7)) ∧
      (∀ h26, h26 = hset h v7 v8 (if v8 = 0 then (hv h v5 0) else (hv h v6 (w32 (v8 - 1))) : Int) →
      (∀ x8_27 : Int, x8_27 = w32 (v8 + 1) →
      JW K 344 [(2011, v0), (18, v1), (0, v2), (0, v3), (18, v4), (104, v5), (104, v6), (2100, v7), (0, x8_27), (5000, 0), (5000, 0)] [] h26))))) : JW K 344 [(2011, v0), (18, v1), (0, v2), (0, v3), (18, v4), (104, v5), (104, v6), (2100, v7), (0, v8), (5000, 0), (5000, 0)] [] h := by
  have e1 := ki.2.2.2.2.1
  have e2 := ki.2.2.2.2.2.1
  subst e1; subst e2
  exact run_ok (dia := [(36, 63), (101, 109), (192, 200), (230, 245), (260, 268), (274, 290), (300, 313), (359, 376), (400, 408), (432, 440), (486, 509), (567, 575)]) (cnr := [(133, 145, 214)]) (cuts := [(132, [2011, 18, 0, 0, 18, 0, 5000, 5000, 5000, 5000, 5000], []), (344, [2011, 18, 0, 0, 18, 104, 104, 2100, 0, 5000, 5000], []), (455, [2011, 18, 0, 0, 18, 104, 104, 2100, 0, 0, 5000], []), (660, [2011, 18, 0, 0, 18, 104, 104, 2100, 0, 0, 0], []), (683, [2011, 18, 0, 0, 18, 104, 104, 2100, 0, 0, 0], [])]) ki.1 (pk_X11_readMethod ki hG) ok_X11_readMethod (by decide) 37 true _ _ _ _ H
theorem r_X11_readMethod_455 {K : JC} {l : Launch} {G : JG} {Q : Int → MH → Prop} {E : Nat → Int → MH → Prop} {h0 : MH} (ki : KI K l G yX11_readMethod cX11_readMethod 11 none [] 14 405 700 Q E h0) (hG : gO G = true) {v0 v1 v2 v3 v4 v5 v6 v7 v8 v9 : Int} {h : MH} (H :
    ((v8 ≤ v9 →
      S_X11_one l G [(2011, v0), (0, 0), (0, 8)] h (fun z1 h2 =>
      (v1 ≠ 0) ∧
      (∀ h3, h3 = hset h2 v1 6 z1 →
      S_X11_one l G [(2011, v0), (0, 0), (0, 4)] h3 (fun z4 h5 =>
      (0 ≤ z4) ∧
      (hz h5 + 1 ≤ LIMC) ∧
      (hs h5 + z4 ≤ LIMS) ∧
      (∀ h6, h6 = hnew h5 125 z4 z4 →
      (v1 ≠ 0) ∧
      (∀ h7, h7 = hset h6 v1 13 (hz h5 + 1) →
      (∀ x3_8 : Int, x3_8 = (hv h7 v0 3) →
      S_X11_one l G [(2011, v0), (0, 1), (0, 120)] h7 (fun z9 h10 =>
      (∀ x9_11 : Int, x9_11 = z9 →
      S_X11_is l G [(0, (if 1500 < (w32 ((hv h10 v0 4) + x9_11)) then 0 else 1 : Int)), (0, x3_8)] h10 (fun _ h13 =>
      (v1 ≠ 0) ∧
      (∀ h14, h14 = hset h13 v1 14 (hv h13 v0 4) →
      (∀ h15, h15 = hset h14 v0 4 (w32 ((hv h14 v0 4) + x9_11)) →
      ((hv h15 v0 0) ≠ 0) ∧
      (∀ h16, h16 = hset h15 (hv h15 v0 0) 7 (hv h15 v0 4) →
      (0 ≤ x9_11) ∧
      (hz h16 + 1 ≤ LIMC) ∧
      (hs h16 + x9_11 ≤ LIMS) ∧
      (∀ h17, h17 = hnew h16 100 x9_11 x9_11 →
      (v1 ≠ 0) ∧
      (∀ h18, h18 = hset h17 v1 7 (hz h16 + 1) →
      (0 ≤ x9_11) ∧
      (hz h18 + 1 ≤ LIMC) ∧
      (hs h18 + x9_11 ≤ LIMS) ∧
      (∀ h19, h19 = hnew h18 100 x9_11 x9_11 →
      (v1 ≠ 0) ∧
      (∀ h20, h20 = hset h19 v1 8 (hz h18 + 1) →
      (0 ≤ x9_11) ∧
      (hz h20 + 1 ≤ LIMC) ∧
      (hs h20 + x9_11 ≤ LIMS) ∧
      (∀ h21, h21 = hnew h20 100 x9_11 x9_11 →
      (v1 ≠ 0) ∧
      (∀ h22, h22 = hset h21 v1 9 (hz h20 + 1) →
      (0 ≤ x9_11) ∧
      (hz h22 + 1 ≤ LIMC) ∧
      (hs h22 + x9_11 ≤ LIMS) ∧
      (∀ h23, h23 = hnew h22 100 x9_11 x9_11 →
      (v1 ≠ 0) ∧
      (∀ h24, h24 = hset h23 v1 10 (hz h22 + 1) →
      (0 ≤ x9_11) ∧
      (hz h24 + 1 ≤ LIMC) ∧
      (hs h24 + x9_11 ≤ LIMS) ∧
      (∀ h25, h25 = hnew h24 100 x9_11 x9_11 →
      (v1 ≠ 0) ∧
      (∀ h26, h26 = hset h25 v1 11 (hz h24 + 1) →
      (0 ≤ x9_11) ∧
      (hz h26 + 1 ≤ LIMC) ∧
      (hs h26 + x9_11 ≤ LIMS) ∧
      (∀ h27, h27 = hnew h26 100 x9_11 x9_11 →
      (v1 ≠ 0) ∧
      (∀ h28, h28 = hset h27 v1 12 (hz h26 + 1) →
      (∀ x10_29 : Int, x10_29 = 0 →
      JW K 660 [(2011, v0), (18, v1), (0, v2), (0, x3_8), (18, v4), (104, v5), (104, v6), (2100, v7), (0, v8), (0, x9_11), (0, x10_29)] [] h28))))))))))))))))) E)) E)))) E)) E) ∧
    (v9 < v8 →
      (∀ x3_30 : Int, x3_30 = (hv h v0 3) →
      (v1 ≠ 0) ∧
      S_X11_one l G [(2011, v0), (0, 0), (0, 1)] h (fun z31 h32 =>
      ((hv h v1 5) ≠ 0) ∧
      (0 ≤ v9) ∧
      (v9 < (hn h32 (hv h v1 5))) ∧
      (∀ h33, h33 = hset h32 (hv h v1 5) v9 z31 →
      (v1 ≠ 0) ∧
      ((v9 < (hv h33 v1 3) → (v1 ≠ 0) ∧ ((hv h33 v1 5) ≠ 0) ∧ (0 ≤ v9) ∧ (v9 < (hn h33 (hv h33 v1 5))) ∧ (0 ≤ v9) ∧ v9 < (hn h33 v7))) ∧
      S_X11_is l G [(0, (if v9 < (hv h33 v1 3) then (if (hv h33 (hv h33 v1 5) v9) = (hv h33 v7 v9) then 1 else 0 : Int) else 1 : Int)), (0, x3_30)] h33 (fun _ h35 =>
      (∀ x9_36 : Int, x9_36 = w32 (v9 + 1) →
      JW K 455 [(2011, v0), (18, v1), (0, v2), (0, x3_30), (18, v4), (104, v5), (104, v6), (2100, v7), (0, v8), (0, x9_36), (5000, 0)] [] h35)) E)) E)))) : JW K 455 [(2011, v0), (18, v1), (0, v2), (0, v3), (18, v4), (104, v5), (104, v6), (2100, v7), (0, v8), (0, v9), (5000, 0)] [] h := by
  have e1 := ki.2.2.2.2.1
  have e2 := ki.2.2.2.2.2.1
  subst e1; subst e2
  exact run_ok (dia := [(36, 63), (101, 109), (192, 200), (230, 245), (260, 268), (274, 290), (300, 313), (359, 376), (400, 408), (432, 440), (486, 509), (567, 575)]) (cnr := [(133, 145, 214)]) (cuts := [(132, [2011, 18, 0, 0, 18, 0, 5000, 5000, 5000, 5000, 5000], []), (344, [2011, 18, 0, 0, 18, 104, 104, 2100, 0, 5000, 5000], []), (455, [2011, 18, 0, 0, 18, 104, 104, 2100, 0, 0, 5000], []), (660, [2011, 18, 0, 0, 18, 104, 104, 2100, 0, 0, 0], []), (683, [2011, 18, 0, 0, 18, 104, 104, 2100, 0, 0, 0], [])]) ki.1 (pk_X11_readMethod ki hG) ok_X11_readMethod (by decide) 75 true _ _ _ _ H
theorem r_X11_readMethod_660 {K : JC} {l : Launch} {G : JG} {Q : Int → MH → Prop} {E : Nat → Int → MH → Prop} {h0 : MH} (ki : KI K l G yX11_readMethod cX11_readMethod 11 none [] 14 405 700 Q E h0) (hG : gO G = true) {v0 v1 v2 v3 v4 v5 v6 v7 v8 v9 v10 : Int} {h : MH} (H :
    ((v9 ≤ v10 →
      (∀ x10_1 : Int, x10_1 = 0 →
      JW K 683 [(2011, v0), (18, v1), (0, v2), (0, v3), (18, v4), (104, v5), (104, v6), (2100, v7), (0, v8), (0, v9), (0, x10_1)] [] h)) ∧
    (v10 < v9 →
      S_X11_readInstruction l G [(2011, v0), (18, v1), (0, v10)] h (fun _ h3 =>
      (∀ x10_4 : Int, x10_4 = w32 (v10 + 1) →
      JW K 660 [(2011, v0), (18, v1), (0, v2), (0, v3), (18, v4), (104, v5), (104, v6), (2100, v7), (0, v8), (0, v9), (0, x10_4)] [] h3)) E))) : JW K 660 [(2011, v0), (18, v1), (0, v2), (0, v3), (18, v4), (104, v5), (104, v6), (2100, v7), (0, v8), (0, v9), (0, v10)] [] h := by
  have e1 := ki.2.2.2.2.1
  have e2 := ki.2.2.2.2.2.1
  subst e1; subst e2
  exact run_ok (dia := [(36, 63), (101, 109), (192, 200), (230, 245), (260, 268), (274, 290), (300, 313), (359, 376), (400, 408), (432, 440), (486, 509), (567, 575)]) (cnr := [(133, 145, 214)]) (cuts := [(132, [2011, 18, 0, 0, 18, 0, 5000, 5000, 5000, 5000, 5000], []), (344, [2011, 18, 0, 0, 18, 104, 104, 2100, 0, 5000, 5000], []), (455, [2011, 18, 0, 0, 18, 104, 104, 2100, 0, 0, 5000], []), (660, [2011, 18, 0, 0, 18, 104, 104, 2100, 0, 0, 0], []), (683, [2011, 18, 0, 0, 18, 104, 104, 2100, 0, 0, 0], [])]) ki.1 (pk_X11_readMethod ki hG) ok_X11_readMethod (by decide) 11 true _ _ _ _ H
theorem r_X11_readMethod_683 {K : JC} {l : Launch} {G : JG} {Q : Int → MH → Prop} {E : Nat → Int → MH → Prop} {h0 : MH} (ki : KI K l G yX11_readMethod cX11_readMethod 11 none [] 14 405 700 Q E h0) (hG : gO G = true) {v0 v1 v2 v3 v4 v5 v6 v7 v8 v9 v10 : Int} {h : MH} (H :
    (v1 ≠ 0) ∧
    ((hv h v1 13) ≠ 0) ∧
    (((hn h (hv h v1 13)) ≤ v10 →
      (v1 ≠ 0) ∧
      (∀ h1, h1 = hset h v1 16 (hv h v0 3) →
      Q 0 h1)) ∧
    (v10 < (hn h (hv h v1 13)) →
      S_X11_readHandler l G [(2011, v0), (18, v1), (0, v10)] h (fun _ h3 =>
      (∀ x10_4 : Int, x10_4 = w32 (v10 + 1) →
      JW K 683 [(2011, v0), (18, v1), (0, v2), (0, v3), (18, v4), (104, v5), (104, v6), (2100, v7), (0, v8), (0, v9), (0, x10_4)] [] h3)) E))) : JW K 683 [(2011, v0), (18, v1), (0, v2), (0, v3), (18, v4), (104, v5), (104, v6), (2100, v7), (0, v8), (0, v9), (0, v10)] [] h := by
  have e1 := ki.2.2.2.2.1
  have e2 := ki.2.2.2.2.2.1
  subst e1; subst e2
  exact run_ok (dia := [(36, 63), (101, 109), (192, 200), (230, 245), (260, 268), (274, 290), (300, 313), (359, 376), (400, 408), (432, 440), (486, 509), (567, 575)]) (cnr := [(133, 145, 214)]) (cuts := [(132, [2011, 18, 0, 0, 18, 0, 5000, 5000, 5000, 5000, 5000], []), (344, [2011, 18, 0, 0, 18, 104, 104, 2100, 0, 5000, 5000], []), (455, [2011, 18, 0, 0, 18, 104, 104, 2100, 0, 0, 5000], []), (660, [2011, 18, 0, 0, 18, 104, 104, 2100, 0, 0, 0], []), (683, [2011, 18, 0, 0, 18, 104, 104, 2100, 0, 0, 0], [])]) ki.1 (pk_X11_readMethod ki hG) ok_X11_readMethod (by decide) 13 true _ _ _ _ H
abbrev k_X11_lastClass : List (Nat × List (Nat × Instr)) := [(21, [(0, .bipush 8), (2, .aload_n 0), (3, .getfield 12), (6, .getfield 67), (9, .iadd), (10, .iconst 1), (11, .isub), (12, .ireturn)])]
theorem ok_X11_lastClass : CodeOK cX11_lastClass k_X11_lastClass := okw 0 (by decide +kernel) (okn)
abbrev p_X11_lastClass (l : Launch) (G : JG) : JP := (true, [(12, 11, 0, 16, 0), (67, 12, 2, 0, 0)], [], [], [], [], [], [], false, 0, [])
theorem pk_X11_lastClass {K : JC} {l : Launch} {G : JG} {Q : Int → MH → Prop} {E : Nat → Int → MH → Prop} {h0 : MH} (ki : KI K l G yX11_lastClass cX11_lastClass 1 (some .int) [] 4 150 0 Q E h0) (hG : gO G = true) : POK K RX11 (p_X11_lastClass l G) :=
  POKi (y := yX11_lastClass) ki hG (rfs rf_X11_ok (by decide +kernel)) fmz fmz fmz fmz fmz
  (pkE ki (by
    intro K e1 e2 e3 e4; subst e1; subst e2
    exact fmz)) (fun z => Bool.noConfusion z) rfl (pkP ki (by
    intro K e1 e2 e3 e4; subst e1; subst e2
    exact fmz))
theorem r_X11_lastClass_0 {K : JC} {l : Launch} {G : JG} {Q : Int → MH → Prop} {E : Nat → Int → MH → Prop} {h0 : MH} (ki : KI K l G yX11_lastClass cX11_lastClass 1 (some .int) [] 4 150 0 Q E h0) (hG : gO G = true) {v0 : Int} {h : MH} (H :
    ((hv h v0 0) ≠ 0) ∧
    Q (w32 ((w32 (8 + (hv h (hv h v0 0) 2))) - 1)) h) : JW K 0 [(2011, v0)] [] h := by
  have e1 := ki.2.2.2.2.1
  have e2 := ki.2.2.2.2.2.1
  subst e1; subst e2
  exact run_ok (dia := []) (cnr := []) (cuts := []) ki.1 (pk_X11_lastClass ki hG) ok_X11_lastClass (by decide) 9 true _ _ _ _ H
abbrev k_X11_readInstruction : List (Nat × List (Nat × Instr)) := [(49, [(0, .aload_n 0), (1, .getfield 41), (4, .istore_n 3), (5, .aload_n 0), (6, .iconst 0), (7, .bipush 36), (9, .invokevirtual 52), (12, .istore 4), (14, .iload 4), (16, .bipush 20), (18, .if_icmp .eq 10), (21, .iload 4), (23, .bipush 21), (25, .if_icmp .ne 7), (28, .iconst 1), (29, .goto 4), (32, .iconst 0), (33, .istore 5), (35, .iload 5), (37, .ifCond .eq 15), (40, .aload_n 0), (41, .getfield 12), (44, .getfield 198), (47, .bipush 56)]),
  (91, [(49, .if_icmp .ge 7), (52, .iconst 1), (53, .goto 4), (56, .iconst 0), (57, .iload_n 3), (58, .invokestatic 48), (61, .aload_n 1), (62, .getfield 169), (65, .iload_n 2), (66, .iload 4), (68, .iastore), (69, .aload_n 1), (70, .getfield 181), (73, .iload_n 2), (74, .iload_n 3), (75, .iastore), (76, .aload_n 0), (77, .getfield 41), (80, .istore_n 3), (81, .aload_n 0), (82, .iconst 0), (83, .sipush 255), (86, .invokevirtual 52), (89, .istore 6)]),
  (137, [(91, .iload 6), (93, .aload_n 0), (94, .aload_n 1), (95, .iload 4), (97, .invokevirtual 201), (100, .if_icmp .gt 27), (103, .iload 4), (105, .bipush 17), (107, .if_icmp .ne 16), (110, .iload 6), (112, .bipush 8), (114, .irem), (115, .aload_n 1), (116, .getfield 151), (119, .arraylength), (120, .if_icmp .ge 7), (123, .iconst 1), (124, .goto 4), (127, .iconst 0), (128, .iload_n 3), (129, .invokestatic 48), (132, .aload_n 1), (133, .getfield 172), (136, .iload_n 2)]),
  (182, [(137, .iload 6), (139, .iastore), (140, .aload_n 0), (141, .getfield 41), (144, .istore_n 3), (145, .aload_n 0), (146, .invokevirtual 205), (149, .istore 7), (151, .iconst 1), (152, .istore 8), (154, .iload 4), (156, .bipush 19), (158, .if_icmp .ne 17), (161, .iload 7), (163, .i2l), (164, .lconst 0), (165, .aload_n 0), (166, .invokevirtual 136), (169, .i2l), (170, .invokestatic 44), (173, .istore 8), (175, .iload 4), (177, .bipush 25), (179, .if_icmp .eq 10)]),
  (224, [(182, .iload 4), (184, .bipush 26), (186, .if_icmp .ne 26), (189, .iload 7), (191, .i2l), (192, .lconst 0), (193, .aload_n 0), (194, .getfield 12), (197, .getfield 60), (200, .iload 6), (202, .aaload), (203, .arraylength), (204, .iconst 1), (205, .isub), (206, .i2l), (207, .invokestatic 44), (210, .istore 8), (212, .iload 4), (214, .bipush 29), (216, .if_icmp .ne 23), (219, .iload 7), (221, .i2l), (222, .lconst 0), (223, .aload_n 0)]),
  (268, [(224, .getfield 12), (227, .getfield 82), (230, .arraylength), (231, .iconst 1), (232, .isub), (233, .i2l), (234, .invokestatic 44), (237, .istore 8), (239, .iload 8), (241, .iload_n 3), (242, .invokestatic 48), (245, .aload_n 1), (246, .getfield 175), (249, .iload_n 2), (250, .iload 7), (252, .iastore), (253, .aload_n 0), (254, .getfield 41), (257, .istore_n 3), (258, .aload_n 0), (259, .invokevirtual 205), (262, .istore 9), (264, .iload 4), (266, .bipush 15)]),
  (315, [(268, .if_icmp .lt 27), (271, .iload 4), (273, .bipush 19), (275, .if_icmp .gt 20), (278, .iload 9), (280, .i2l), (281, .lconst 0), (282, .aload_n 1), (283, .invokevirtual 121), (286, .iconst 1), (287, .isub), (288, .i2l), (289, .invokestatic 44), (292, .ifCond .eq 21), (295, .iload 4), (297, .bipush 13), (299, .if_icmp .ne 10), (302, .iload 7), (304, .iload 9), (306, .if_icmp .gt 7), (309, .iconst 1), (310, .goto 4), (313, .iconst 0), (314, .iload_n 3)]),
  (358, [(315, .invokestatic 48), (318, .aload_n 1), (319, .getfield 178), (322, .iload_n 2), (323, .iload 9), (325, .iastore), (326, .iload 5), (328, .ifCond .ne 4), (331, .return_), (332, .bipush 7), (334, .aload_n 0), (335, .getfield 12), (338, .dup), (339, .getfield 198), (342, .dup_x1), (343, .iconst 1), (344, .iadd), (345, .putfield 198), (348, .iadd), (349, .istore 10), (351, .aload_n 1), (352, .getfield 127), (355, .iload_n 2), (356, .iload 10)]),
  (401, [(358, .iastore), (359, .aload_n 0), (360, .getfield 12), (363, .getfield 64), (366, .iload 10), (368, .iload 4), (370, .bipush 20), (372, .if_icmp .ne 8), (375, .iload 6), (377, .goto 14), (380, .iload 6), (382, .ifCond .ne 7), (385, .iconst (-1)), (386, .goto 5), (389, .bipush (-2)), (391, .iastore), (392, .return_)])]
theorem ok_X11_readInstruction : CodeOK cX11_readInstruction k_X11_readInstruction := okw 0 (by decide +kernel) (okw 49 (by decide +kernel) (okw 91 (by decide +kernel) (okw 137 (by decide +kernel) (okw 182 (by decide +kernel) (okw 224 (by decide +kernel) (okw 268 (by decide +kernel) (okw 315 (by decide +kernel) (okw 358 (by decide +kernel) (okn)))))))))
abbrev p_X11_readInstruction (l : Launch) (G : JG) : JP := (true, [(12, 11, 0, 16, 0), (41, 11, 3, 0, 0), (60, 12, 4, 134, 0), (64, 12, 9, 104, 0), (82, 12, 6, 128, 0), (127, 14, 12, 104, 0), (151, 14, 5, 104, 0), (169, 14, 7, 104, 0), (172, 14, 8, 104, 0), (175, 14, 9, 104, 0), (178, 14, 10, 104, 0), (181, 14, 11, 104, 0), (198, 12, 8, 0, 0)], [], [], [(198, 12, 8, 0)], [], [], [(48, 0, [0, 0], 700, S_X11_is l G), (52, 1, [0, 0, 2011], 0, S_X11_one l G), (121, 1, [2014], 0, S_X14_size l G), (136, 1, [2011], 0, S_X11_lastClass l G), (201, 1, [0, 18, 2011], 0, S_X11_mostX l G), (205, 1, [2011], 0, S_X11_two l G)], false, 700, [(44, e_X1_isIn)])
theorem pk_X11_readInstruction {K : JC} {l : Launch} {G : JG} {Q : Int → MH → Prop} {E : Nat → Int → MH → Prop} {h0 : MH} (ki : KI K l G yX11_readInstruction cX11_readInstruction 11 none [] 13 375 700 Q E h0) (hG : gO G = true) : POK K RX11 (p_X11_readInstruction l G) :=
  POKi (y := yX11_readInstruction) ki hG (rfs rf_X11_ok (by decide +kernel)) fmz fmz (rps rp_X11_ok (by decide +kernel)) fmz fmz
  (pkE ki (by
    intro K e1 e2 e3 e4; subst e1; subst e2
    exact fmE (ceS e3 e4 yl_X11_is ⟨q812, Or.inl q811⟩ rfl) (fmE (ceV 11 e3 e4 yl_X11_one ⟨by decide, ⟨_, _, rfl⟩, q806, qs0, q804⟩ rfl) (fmE (ceV 14 e3 e4 yl_X14_size ⟨by decide, ⟨_, _, rfl⟩, q1040, q1041, q1039⟩ rfl) (fmE (ceV 11 e3 e4 yl_X11_lastClass ⟨by decide, ⟨_, _, rfl⟩, q1019, qs5, q1017⟩ rfl) (fmE (ceV 11 e3 e4 yl_X11_mostX ⟨by decide, ⟨_, _, rfl⟩, q1033, qs7, q1031⟩ rfl) (fmE (ceV 11 e3 e4 yl_X11_two ⟨by decide, ⟨_, _, rfl⟩, q1037, qs8, q1035⟩ rfl) (fmz)))))))) (fun z => Bool.noConfusion z) rfl (pkP ki (by
    intro K e1 e2 e3 e4; subst e1; subst e2
    exact fmP (pe_X1_isIn hG e3 e4 ⟨q809, Or.inr ⟨_, List.mem_of_getElem? (i := 12) rfl⟩⟩ rfl rfl) (fmz)))
theorem r_X11_readInstruction_0 {K : JC} {l : Launch} {G : JG} {Q : Int → MH → Prop} {E : Nat → Int → MH → Prop} {h0 : MH} (ki : KI K l G yX11_readInstruction cX11_readInstruction 11 none [] 13 375 700 Q E h0) (hG : gO G = true) {v0 v1 v2 : Int} {h : MH} (H :
    (∀ x3_1 : Int, x3_1 = (hv h v0 3) →
    S_X11_one l G [(2011, v0), (0, 0), (0, 36)] h (fun z2 h3 =>
    (∀ x4_4 : Int, x4_4 = z2 →
    (∀ x5_5 : Int, x5_5 = (if x4_4 = 20 then 1 else (if x4_4 = 21 then 1 else 0 : Int) : Int) →
    ((¬ x5_5 = 0 → (hv h3 v0 0) ≠ 0)) ∧
    S_X11_is l G [(0, (if x5_5 = 0 then 1 else (if (hv h3 (hv h3 v0 0) 8) < 56 then 1 else 0 : Int) : Int)), (0, x3_1)] h3 (fun _ h7 =>
    (v1 ≠ 0) ∧
    ((hv h7 v1 7) ≠ 0) ∧
    (0 ≤ v2) ∧
    (v2 < (hn h7 (hv h7 v1 7))) ∧
    (∀ h8, h8 = hset h7 (hv h7 v1 7) v2 x4_4 →
    (v1 ≠ 0) ∧
    ((hv h8 v1 11) ≠ 0) ∧
    (0 ≤ v2) ∧
    (v2 < (hn h8 (hv h8 v1 11))) ∧
    (∀ h9, h9 = hset h8 (hv h8 v1 11) v2 x3_1 →
    (∀ x3_10 : Int, x3_10 = (hv h9 v0 3) →
    S_X11_one l G [(2011, v0), (0, 0), (0, 255)] h9 (fun z11 h12 =>
    (∀ x6_13 : Int, x6_13 = z11 →
    S_X11_mostX l G [(2011, v0), (18, v1), (0, x4_4)] h12 (fun z14 h15 =>
    ((x6_13 ≤ z14 → (x4_4 = 17 → (¬ (8 : Int) = 0) ∧ (v1 ≠ 0) ∧ (hv h15 v1 5) ≠ 0))) ∧
    S_X11_is l G [(0, (if z14 < x6_13 then 0 else (if x4_4 = 17 then (if (i_rem x6_13 8) < (hn h15 (hv h15 v1 5)) then 1 else 0 : Int) else 1 : Int) : Int)), (0, x3_10)] h15 (fun _ h17 =>
    (v1 ≠ 0) ∧
    ((hv h17 v1 8) ≠ 0) ∧
    (0 ≤ v2) ∧
    (v2 < (hn h17 (hv h17 v1 8))) ∧
    (∀ h18, h18 = hset h17 (hv h17 v1 8) v2 x6_13 →
    (∀ x3_19 : Int, x3_19 = (hv h18 v0 3) →
    S_X11_two l G [(2011, v0)] h18 (fun z20 h21 =>
    (∀ x7_22 : Int, x7_22 = z20 →
    (∀ x8_23 : Int, x8_23 = 1 →
    ((¬ x4_4 = 19 →
      (((x4_4 = 25 ∨ x4_4 = 26) →
        ((hv h21 v0 0) ≠ 0) ∧
        ((hv h21 (hv h21 v0 0) 4) ≠ 0) ∧
        (0 ≤ x6_13) ∧
        (x6_13 < (hn h21 (hv h21 (hv h21 v0 0) 4))) ∧
        ((hv h21 (hv h21 (hv h21 v0 0) 4) x6_13) ≠ 0) ∧
        (∀ x8_24 : Int, x8_24 = (isin x7_22 0 (w32 ((hn h21 (hv h21 (hv h21 (hv h21 v0 0) 4) x6_13)) - 1))) →
        ((¬ x4_4 = 29 →
          S_X11_is l G [(0, x8_24), (0, x3_19)] h21 (fun _ h26 =>
          (v1 ≠ 0) ∧
          ((hv h26 v1 9) ≠ 0) ∧
          (0 ≤ v2) ∧
          (v2 < (hn h26 (hv h26 v1 9))) ∧
          (∀ h27, h27 = hset h26 (hv h26 v1 9) v2 x7_22 →
          (∀ x3_28 : Int, x3_28 = (hv h27 v0 3) →
          S_X11_two l G [(2011, v0)] h27 (fun z29 h30 =>
          (∀ x9_31 : Int, x9_31 = z29 →
          (((15 ≤ x4_4 ∧ x4_4 ≤ 19) →
            (v1 ≠ 0) ∧
            S_X14_size l G [(2014, v1)] h30 (fun z32 h33 =>
            S_X11_is l G [(0, (if (isin x9_31 0 (w32 (z32 - 1))) = 0 then 0 else (if x4_4 = 13 then (if x9_31 < x7_22 then 0 else 1 : Int) else 1 : Int) : Int)), (0, x3_28)] h33 (fun _ h35 =>
            (v1 ≠ 0) ∧
            ((hv h35 v1 10) ≠ 0) ∧
            (0 ≤ v2) ∧
            (v2 < (hn h35 (hv h35 v1 10))) ∧
            (∀ h36, h36 = hset h35 (hv h35 v1 10) v2 x9_31 →
            ((¬ x5_5 = 0 →
              ((hv h36 v0 0) ≠ 0) ∧
              ((hv h36 v0 0) ≠ 0) ∧
              (∀ h37, h37 = hset h36 (hv h36 v0 0) 8 (w32 ((hv h36 (hv h36 v0 0) 8) + 1)) →
              (∀ x10_38 : Int, x10_38 = (w32 (7 + (hv h36 (hv h36 v0 0) 8))) →
              (v1 ≠ 0) ∧
              ((hv h37 v1 12) ≠ 0) ∧
              (0 ≤ v2) ∧
              (v2 < (hn h37 (hv h37 v1 12))) ∧
              (∀ h39, h39 = hset h37 (hv h37 v1 12) v2 x10_38 →
              ((hv h39 v0 0) ≠ 0) ∧
              ((hv h39 (hv h39 v0 0) 9) ≠ 0) ∧
              (0 ≤ x10_38) ∧
              (x10_38 < (hn h39 (hv h39 (hv h39 v0 0) 9))) ∧
              (∀ h40, h40 = hset h39 (hv h39 (hv h39 v0 0) 9) x10_38 (if x4_4 = 20 then x6_13 else (if x6_13 = 0 then (-1) else (-2) : Int) : Int) →
              Q 0 h40))))) ∧
            (x5_5 = 0 →
              Q 0 h36)))) E) E) ∧
          (¬ (15 ≤ x4_4 ∧ x4_4 ≤ 19) →
            S_X11_is l G [(0, (if x4_4 = 13 then (if x9_31 < x7_22 then 0 else 1 : Int) else 1 : Int)), (0, x3_28)] h30 (fun _ h42 =>
            (v1 ≠ 0) ∧
            ((hv h42 v1 10) ≠ 0) ∧
            (0 ≤ v2) ∧
            (v2 < (hn h42 (hv h42 v1 10))) ∧
            (∀ h43, h43 = hset h42 (hv h42 v1 10) v2 x9_31 →
            ((¬ x5_5 = 0 →
              ((hv h43 v0 0) ≠ 0) ∧
              ((hv h43 v0 0) ≠ 0) ∧
              (∀ h44, h44 = hset h43 (hv h43 v0 0) 8 (w32 ((hv h43 (hv h43 v0 0) 8) + 1)) →
              (∀ x10_45 : Int, x10_45 = (w32 (7 + (hv h43 (hv h43 v0 0) 8))) →
              (v1 ≠ 0) ∧
              ((hv h44 v1 12) ≠ 0) ∧
              (0 ≤ v2) ∧
              (v2 < (hn h44 (hv h44 v1 12))) ∧
              (∀ h46, h46 = hset h44 (hv h44 v1 12) v2 x10_45 →
              ((hv h46 v0 0) ≠ 0) ∧
              ((hv h46 (hv h46 v0 0) 9) ≠ 0) ∧
              (0 ≤ x10_45) ∧
              (x10_45 < (hn h46 (hv h46 (hv h46 v0 0) 9))) ∧
              (∀ h47, h47 = hset h46 (hv h46 (hv h46 v0 0) 9) x10_45 (if x4_4 = 20 then x6_13 else (if x6_13 = 0 then (-1) else (-2) : Int) : Int) →
              Q 0 h47))))) ∧
            (x5_5 = 0 →
              Q 0 h43)))) E)))) E))) E) ∧
        (x4_4 = 29 →
          ((hv h21 v0 0) ≠ 0) ∧
          ((hv h21 (hv h21 v0 0) 6) ≠ 0) ∧
          (∀ x8_48 : Int, x8_48 = (isin x7_22 0 (w32 ((hn h21 (hv h21 (hv h21 v0 0) 6)) - 1))) →
          S_X11_is l G [(0, x8_48), (0, x3_19)] h21 (fun _ h50 =>
          (v1 ≠ 0) ∧
          ((hv h50 v1 9) ≠ 0) ∧
          (0 ≤ v2) ∧
          (v2 < (hn h50 (hv h50 v1 9))) ∧
          (∀ h51, h51 = hset h50 (hv h50 v1 9) v2 x7_22 →
          (∀ x3_52 : Int, x3_52 = (hv h51 v0 3) →
          S_X11_two l G [(2011, v0)] h51 (fun z53 h54 =>
          (∀ x9_55 : Int, x9_55 = z53 →
          (((15 ≤ x4_4 ∧ x4_4 ≤ 19) →
            (v1 ≠ 0) ∧
            S_X14_size l G [(2014, v1)] h54 (fun z56 h57 =>
            S_X11_is l G [(0, (if (isin x9_55 0 (w32 (z56 - 1))) = 0 then 0 else (if x4_4 = 13 then (if x9_55 < x7_22 then 0 else 1 : Int) else 1 : Int) : Int)), (0, x3_52)] h57 (fun _ h59 =>
            (v1 ≠ 0) ∧
            ((hv h59 v1 10) ≠ 0) ∧
            (0 ≤ v2) ∧
            (v2 < (hn h59 (hv h59 v1 10))) ∧
            (∀ h60, h60 = hset h59 (hv h59 v1 10) v2 x9_55 →
            ((¬ x5_5 = 0 →
              ((hv h60 v0 0) ≠ 0) ∧
              ((hv h60 v0 0) ≠ 0) ∧
              (∀ h61, h61 = hset h60 (hv h60 v0 0) 8 (w32 ((hv h60 (hv h60 v0 0) 8) + 1)) →
              (∀ x10_62 : Int, x10_62 = (w32 (7 + (hv h60 (hv h60 v0 0) 8))) →
              (v1 ≠ 0) ∧
              ((hv h61 v1 12) ≠ 0) ∧
              (0 ≤ v2) ∧
              (v2 < (hn h61 (hv h61 v1 12))) ∧
              (∀ h63, h63 = hset h61 (hv h61 v1 12) v2 x10_62 →
              ((hv h63 v0 0) ≠ 0) ∧
              ((hv h63 (hv h63 v0 0) 9) ≠ 0) ∧
              (0 ≤ x10_62) ∧
              (x10_62 < (hn h63 (hv h63 (hv h63 v0 0) 9))) ∧
              (∀ h64, h64 = hset h63 (hv h63 (hv h63 v0 0) 9) x10_62 (if x4_4 = 20 then x6_13 else (if x6_13 = 0 then (-1) else (-2) : Int) : Int) →
              Q 0 h64))))) ∧
            (x5_5 = 0 →
              Q 0 h60)))) E) E) ∧
          (¬ (15 ≤ x4_4 ∧ x4_4 ≤ 19) →
            S_X11_is l G [(0, (if x4_4 = 13 then (if x9_55 < x7_22 then 0 else 1 : Int) else 1 : Int)), (0, x3_52)] h54 (fun _ h66 =>
            (v1 ≠ 0) ∧
            ((hv h66 v1 10) ≠ 0) ∧
            (0 ≤ v2) ∧
            (v2 < (hn h66 (hv h66 v1 10))) ∧
            (∀ h67, h67 = hset h66 (hv h66 v1 10) v2 x9_55 →
            ((¬ x5_5 = 0 →
              ((hv h67 v0 0) ≠ 0) ∧
              ((hv h67 v0 0) ≠ 0) ∧
              (∀ h68, h68 = hset h67 (hv h67 v0 0) 8 (w32 ((hv h67 (hv h67 v0 0) 8) + 1)) →
              (∀ x10_69 : Int, x10_69 = (w32 (7 + (hv h67 (hv h67 v0 0) 8))) →
              (v1 ≠ 0) ∧
              ((hv h68 v1 12) ≠ 0) ∧
              (0 ≤ v2) ∧
              (v2 < (hn h68 (hv h68 v1 12))) ∧
              (∀ h70, h70 = hset h68 (hv h68 v1 12) v2 x10_69 →
              ((hv h70 v0 0) ≠ 0) ∧
              ((hv h70 (hv h70 v0 0) 9) ≠ 0) ∧
              (0 ≤ x10_69) ∧
              (x10_69 < (hn h70 (hv h70 (hv h70 v0 0) 9))) ∧
              (∀ h71, h71 = hset h70 (hv h70 (hv h70 v0 0) 9) x10_69 (if x4_4 = 20 then x6_13 else (if x6_13 = 0 then (-1) else (-2) : Int) : Int) →
              Q 0 h71))))) ∧
            (x5_5 = 0 →
              Q 0 h67)))) E)))) E))) E))))) ∧
      (¬ (x4_4 = 25 ∨ x4_4 = 26) →
        ((¬ x4_4 = 29 →
          S_X11_is l G [(0, x8_23), (0, x3_19)] h21 (fun _ h73 =>
          (v1 ≠ 0) ∧
          ((hv h73 v1 9) ≠ 0) ∧
          (0 ≤ v2) ∧
          (v2 < (hn h73 (hv h73 v1 9))) ∧
          (∀ h74, h74 = hset h73 (hv h73 v1 9) v2 x7_22 →
          (∀ x3_75 : Int, x3_75 = (hv h74 v0 3) →
          S_X11_two l G [(2011, v0)] h74 (fun z76 h77 =>
          (∀ x9_78 : Int, x9_78 = z76 →
          (((15 ≤ x4_4 ∧ x4_4 ≤ 19) →
            (v1 ≠ 0) ∧
            S_X14_size l G [(2014, v1)] h77 (fun z79 h80 =>
            S_X11_is l G [(0, (if (isin x9_78 0 (w32 (z79 - 1))) = 0 then 0 else (if x4_4 = 13 then (if x9_78 < x7_22 then 0 else 1 : Int) else 1 : Int) : Int)), (0, x3_75)] h80 (fun _ h82 =>
            (v1 ≠ 0) ∧
            ((hv h82 v1 10) ≠ 0) ∧
            (0 ≤ v2) ∧
            (v2 < (hn h82 (hv h82 v1 10))) ∧
            (∀ h83, h83 = hset h82 (hv h82 v1 10) v2 x9_78 →
            ((¬ x5_5 = 0 →
              ((hv h83 v0 0) ≠ 0) ∧
              ((hv h83 v0 0) ≠ 0) ∧
              (∀ h84, h84 = hset h83 (hv h83 v0 0) 8 (w32 ((hv h83 (hv h83 v0 0) 8) + 1)) →
              (∀ x10_85 : Int, x10_85 = (w32 (7 + (hv h83 (hv h83 v0 0) 8))) →
              (v1 ≠ 0) ∧
              ((hv h84 v1 12) ≠ 0) ∧
              (0 ≤ v2) ∧
              (v2 < (hn h84 (hv h84 v1 12))) ∧
              (∀ h86, h86 = hset h84 (hv h84 v1 12) v2 x10_85 →
              ((hv h86 v0 0) ≠ 0) ∧
              ((hv h86 (hv h86 v0 0) 9) ≠ 0) ∧
              (0 ≤ x10_85) ∧
              (x10_85 < (hn h86 (hv h86 (hv h86 v0 0) 9))) ∧
              (∀ h87, h87 = hset h86 (hv h86 (hv h86 v0 0) 9) x10_85 (if x4_4 = 20 then x6_13 else (if x6_13 = 0 then (-1) else (-2) : Int) : Int) →
              Q 0 h87))))) ∧
            (x5_5 = 0 →
              Q 0 h83)))) E) E) ∧
          (¬ (15 ≤ x4_4 ∧ x4_4 ≤ 19) →
            S_X11_is l G [(0, (if x4_4 = 13 then (if x9_78 < x7_22 then 0 else 1 : Int) else 1 : Int)), (0, x3_75)] h77 (fun _ h89 =>
            (v1 ≠ 0) ∧
            ((hv h89 v1 10) ≠ 0) ∧
            (0 ≤ v2) ∧
            (v2 < (hn h89 (hv h89 v1 10))) ∧
            (∀ h90, h90 = hset h89 (hv h89 v1 10) v2 x9_78 →
            ((¬ x5_5 = 0 →
              ((hv h90 v0 0) ≠ 0) ∧
              ((hv h90 v0 0) ≠ 0) ∧
              (∀ h91, h91 = hset h90 (hv h90 v0 0) 8 (w32 ((hv h90 (hv h90 v0 0) 8) + 1)) →
              (∀ x10_92 : Int, x10_92 = (w32 (7 + (hv h90 (hv h90 v0 0) 8))) →
              (v1 ≠ 0) ∧
              ((hv h91 v1 12) ≠ 0) ∧
              (0 ≤ v2) ∧
              (v2 < (hn h91 (hv h91 v1 12))) ∧
              (∀ h93, h93 = hset h91 (hv h91 v1 12) v2 x10_92 →
              ((hv h93 v0 0) ≠ 0) ∧
              ((hv h93 (hv h93 v0 0) 9) ≠ 0) ∧
              (0 ≤ x10_92) ∧
              (x10_92 < (hn h93 (hv h93 (hv h93 v0 0) 9))) ∧
              (∀ h94, h94 = hset h93 (hv h93 (hv h93 v0 0) 9) x10_92 (if x4_4 = 20 then x6_13 else (if x6_13 = 0 then (-1) else (-2) : Int) : Int) →
              Q 0 h94))))) ∧
            (x5_5 = 0 →
              Q 0 h90)))) E)))) E))) E) ∧
        (x4_4 = 29 →
          ((hv h21 v0 0) ≠ 0) ∧
          ((hv h21 (hv h21 v0 0) 6) ≠ 0) ∧
          (∀ x8_95 : Int, x8_95 = (isin x7_22 0 (w32 ((hn h21 (hv h21 (hv h21 v0 0) 6)) - 1))) →
          S_X11_is l G [(0, x8_95), (0, x3_19)] h21 (fun _ h97 =>
          (v1 ≠ 0) ∧
          ((hv h97 v1 9) ≠ 0) ∧
          (0 ≤ v2) ∧
          (v2 < (hn h97 (hv h97 v1 9))) ∧
          (∀ h98, h98 = hset h97 (hv h97 v1 9) v2 x7_22 →
          (∀ x3_99 : Int, x3_99 = (hv h98 v0 3) →
          S_X11_two l G [(2011, v0)] h98 (fun z100 h101 =>
          (∀ x9_102 : Int, x9_102 = z100 →
          (((15 ≤ x4_4 ∧ x4_4 ≤ 19) →
            (v1 ≠ 0) ∧
            S_X14_size l G [(2014, v1)] h101 (fun z103 h104 =>
            S_X11_is l G [(0, (if (isin x9_102 0 (w32 (z103 - 1))) = 0 then 0 else (if x4_4 = 13 then (if x9_102 < x7_22 then 0 else 1 : Int) else 1 : Int) : Int)), (0, x3_99)] h104 (fun _ h106 =>
            (v1 ≠ 0) ∧
            ((hv h106 v1 10) ≠ 0) ∧
            (0 ≤ v2) ∧
            (v2 < (hn h106 (hv h106 v1 10))) ∧
            (∀ h107, h107 = hset h106 (hv h106 v1 10) v2 x9_102 →
            ((¬ x5_5 = 0 →
              ((hv h107 v0 0) ≠ 0) ∧
              ((hv h107 v0 0) ≠ 0) ∧
              (∀ h108, h108 = hset h107 (hv h107 v0 0) 8 (w32 ((hv h107 (hv h107 v0 0) 8) + 1)) →
              (∀ x10_109 : Int, x10_109 = (w32 (7 + (hv h107 (hv h107 v0 0) 8))) →
              (v1 ≠ 0) ∧
              ((hv h108 v1 12) ≠ 0) ∧
              (0 ≤ v2) ∧
              (v2 < (hn h108 (hv h108 v1 12))) ∧
              (∀ h110, h110 = hset h108 (hv h108 v1 12) v2 x10_109 →
              ((hv h110 v0 0) ≠ 0) ∧
              ((hv h110 (hv h110 v0 0) 9) ≠ 0) ∧
              (0 ≤ x10_109) ∧
              (x10_109 < (hn h110 (hv h110 (hv h110 v0 0) 9))) ∧
              (∀ h111, h111 = hset h110 (hv h110 (hv h110 v0 0) 9) x10_109 (if x4_4 = 20 then x6_13 else (if x6_13 = 0 then (-1) else (-2) : Int) : Int) →
              Q 0 h111))))) ∧
            (x5_5 = 0 →
              Q 0 h107)))) E) E) ∧
          (¬ (15 ≤ x4_4 ∧ x4_4 ≤ 19) →
            S_X11_is l G [(0, (if x4_4 = 13 then (if x9_102 < x7_22 then 0 else 1 : Int) else 1 : Int)), (0, x3_99)] h101 (fun _ h113 =>
            (v1 ≠ 0) ∧
            ((hv h113 v1 10) ≠ 0) ∧
            (0 ≤ v2) ∧
            (v2 < (hn h113 (hv h113 v1 10))) ∧
            (∀ h114, h114 = hset h113 (hv h113 v1 10) v2 x9_102 →
            ((¬ x5_5 = 0 →
              ((hv h114 v0 0) ≠ 0) ∧
              ((hv h114 v0 0) ≠ 0) ∧
              (∀ h115, h115 = hset h114 (hv h114 v0 0) 8 (w32 ((hv h114 (hv h114 v0 0) 8) + 1)) →
              (∀ x10_116 : Int, x10_116 = (w32 (7 + (hv h114 (hv h114 v0 0) 8))) →
              (v1 ≠ 0) ∧
              ((hv h115 v1 12) ≠ 0) ∧
              (0 ≤ v2) ∧
              (v2 < (hn h115 (hv h115 v1 12))) ∧
              (∀ h117, h117 = hset h115 (hv h115 v1 12) v2 x10_116 →
              ((hv h117 v0 0) ≠ 0) ∧
              ((hv h117 (hv h117 v0 0) 9) ≠ 0) ∧
              (0 ≤ x10_116) ∧
              (x10_116 < (hn h117 (hv h117 (hv h117 v0 0) 9))) ∧
              (∀ h118, h118 = hset h117 (hv h117 (hv h117 v0 0) 9) x10_116 (if x4_4 = 20 then x6_13 else (if x6_13 = 0 then (-1) else (-2) : Int) : Int) →
              Q 0 h118))))) ∧
            (x5_5 = 0 →
              Q 0 h114)))) E)))) E))) E)))))) ∧
    (x4_4 = 19 →
      S_X11_lastClass l G [(2011, v0)] h21 (fun z119 h120 =>
      (∀ x8_121 : Int, x8_121 = (isin x7_22 0 z119) →
      (((x4_4 = 25 ∨ x4_4 = 26) →
        ((hv h120 v0 0) ≠ 0) ∧
        ((hv h120 (hv h120 v0 0) 4) ≠ 0) ∧
        (0 ≤ x6_13) ∧
        (x6_13 < (hn h120 (hv h120 (hv h120 v0 0) 4))) ∧
        ((hv h120 (hv h120 (hv h120 v0 0) 4) x6_13) ≠ 0) ∧
        (∀ x8_122 : Int, x8_122 = (isin x7_22 0 (w32 ((hn h120 (hv h120 (hv h120 (hv h120 v0 0) 4) x6_13)) - 1))) →
        ((¬ x4_4 = 29 →
          S_X11_is l G [(0, x8_122), (0, x3_19)] h120 (fun _ h124 =>
          (v1 ≠ 0) ∧
          ((hv h124 v1 9) ≠ 0) ∧
          (0 ≤ v2) ∧
          (v2 < (hn h124 (hv h124 v1 9))) ∧
          (∀ h125, h125 = hset h124 (hv h124 v1 9) v2 x7_22 →
          (∀ x3_126 : Int, x3_126 = (hv h125 v0 3) →
          S_X11_two l G [(2011, v0)] h125 (fun z127 h128 =>
          (∀ x9_129 : Int, x9_129 = z127 →
          (((15 ≤ x4_4 ∧ x4_4 ≤ 19) →
            (v1 ≠ 0) ∧
            S_X14_size l G [(2014, v1)] h128 (fun z130 h131 =>
            S_X11_is l G [(0, (if (isin x9_129 0 (w32 (z130 - 1))) = 0 then 0 else (if x4_4 = 13 then (if x9_129 < x7_22 then 0 else 1 : Int) else 1 : Int) : Int)), (0, x3_126)] h131 (fun _ h133 =>
            (v1 ≠ 0) ∧
            ((hv h133 v1 10) ≠ 0) ∧
            (0 ≤ v2) ∧
            (v2 < (hn h133 (hv h133 v1 10))) ∧
            (∀ h134, h134 = hset h133 (hv h133 v1 10) v2 x9_129 →
            ((¬ x5_5 = 0 →
              ((hv h134 v0 0) ≠ 0) ∧
              ((hv h134 v0 0) ≠ 0) ∧
              (∀ h135, h135 = hset h134 (hv h134 v0 0) 8 (w32 ((hv h134 (hv h134 v0 0) 8) + 1)) →
              (∀ x10_136 : Int, x10_136 = (w32 (7 + (hv h134 (hv h134 v0 0) 8))) →
              (v1 ≠ 0) ∧
              ((hv h135 v1 12) ≠ 0) ∧
              (0 ≤ v2) ∧
              (v2 < (hn h135 (hv h135 v1 12))) ∧
              (∀ h137, h137 = hset h135 (hv h135 v1 12) v2 x10_136 →
              ((hv h137 v0 0) ≠ 0) ∧
              ((hv h137 (hv h137 v0 0) 9) ≠ 0) ∧
              (0 ≤ x10_136) ∧
              (x10_136 < (hn h137 (hv h137 (hv h137 v0 0) 9))) ∧
              (∀ h138, h138 = hset h137 (hv h137 (hv h137 v0 0) 9) x10_136 (if x4_4 = 20 then x6_13 else (if x6_13 = 0 then (-1) else (-2) : Int) : Int) →
              Q 0 h138))))) ∧
            (x5_5 = 0 →
              Q 0 h134)))) E) E) ∧
          (¬ (15 ≤ x4_4 ∧ x4_4 ≤ 19) →
            S_X11_is l G [(0, (if x4_4 = 13 then (if x9_129 < x7_22 then 0 else 1 : Int) else 1 : Int)), (0, x3_126)] h128 (fun _ h140 =>
            (v1 ≠ 0) ∧
            ((hv h140 v1 10) ≠ 0) ∧
            (0 ≤ v2) ∧
            (v2 < (hn h140 (hv h140 v1 10))) ∧
            (∀ h141, h141 = hset h140 (hv h140 v1 10) v2 x9_129 →
            ((¬ x5_5 = 0 →
              ((hv h141 v0 0) ≠ 0) ∧
              ((hv h141 v0 0) ≠ 0) ∧
              (∀ h142, h142 = hset h141 (hv h141 v0 0) 8 (w32 ((hv h141 (hv h141 v0 0) 8) + 1)) →
              (∀ x10_143 : Int, x10_143 = (w32 (7 + (hv h141 (hv h141 v0 0) 8))) →
              (v1 ≠ 0) ∧
              ((hv h142 v1 12) ≠ 0) ∧
              (0 ≤ v2) ∧
              (v2 < (hn h142 (hv h142 v1 12))) ∧
              (∀ h144, h144 = hset h142 (hv h142 v1 12) v2 x10_143 →
              ((hv h144 v0 0) ≠ 0) ∧
              ((hv h144 (hv h144 v0 0) 9) ≠ 0) ∧
              (0 ≤ x10_143) ∧
              (x10_143 < (hn h144 (hv h144 (hv h144 v0 0) 9))) ∧
              (∀ h145, h145 = hset h144 (hv h144 (hv h144 v0 0) 9) x10_143 (if x4_4 = 20 then x6_13 else (if x6_13 = 0 then (-1) else (-2) : Int) : Int) →
              Q 0 h145))))) ∧
            (x5_5 = 0 →
              Q 0 h141)))) E)))) E))) E) ∧
        (x4_4 = 29 →
          ((hv h120 v0 0) ≠ 0) ∧
          ((hv h120 (hv h120 v0 0) 6) ≠ 0) ∧
          (∀ x8_146 : Int, x8_146 = (isin x7_22 0 (w32 ((hn h120 (hv h120 (hv h120 v0 0) 6)) - 1))) →
          S_X11_is l G [(0, x8_146), (0, x3_19)] h120 (fun _ h148 =>
          (v1 ≠ 0) ∧
          ((hv h148 v1 9) ≠ 0) ∧
          (0 ≤ v2) ∧
          (v2 < (hn h148 (hv h148 v1 9))) ∧
          (∀ h149, h149 = hset h148 (hv h148 v1 9) v2 x7_22 →
          (∀ x3_150 : Int, x3_150 = (hv h149 v0 3) →
          S_X11_two l G [(2011, v0)] h149 (fun z151 h152 =>
          (∀ x9_153 : Int, x9_153 = z151 →
          (((15 ≤ x4_4 ∧ x4_4 ≤ 19) →
            (v1 ≠ 0) ∧
            S_X14_size l G [(2014, v1)] h152 (fun z154 h155 =>
            S_X11_is l G [(0, (if (isin x9_153 0 (w32 (z154 - 1))) = 0 then 0 else (if x4_4 = 13 then (if x9_153 < x7_22 then 0 else 1 : Int) else 1 : Int) : Int)), (0, x3_150)] h155 (fun _ h157 =>
            (v1 ≠ 0) ∧
            ((hv h157 v1 10) ≠ 0) ∧
            (0 ≤ v2) ∧
            (v2 < (hn h157 (hv h157 v1 10))) ∧
            (∀ h158, h158 = hset h157 (hv h157 v1 10) v2 x9_153 →
            ((¬ x5_5 = 0 →
              ((hv h158 v0 0) ≠ 0) ∧
              ((hv h158 v0 0) ≠ 0) ∧
              (∀ h159, h159 = hset h158 (hv h158 v0 0) 8 (w32 ((hv h158 (hv h158 v0 0) 8) + 1)) →
              (∀ x10_160 : Int, x10_160 = (w32 (7 + (hv h158 (hv h158 v0 0) 8))) →
              (v1 ≠ 0) ∧
              ((hv h159 v1 12) ≠ 0) ∧
              (0 ≤ v2) ∧
              (v2 < (hn h159 (hv h159 v1 12))) ∧
              (∀ h161, h161 = hset h159 (hv h159 v1 12) v2 x10_160 →
              ((hv h161 v0 0) ≠ 0) ∧
              ((hv h161 (hv h161 v0 0) 9) ≠ 0) ∧
              (0 ≤ x10_160) ∧
              (x10_160 < (hn h161 (hv h161 (hv h161 v0 0) 9))) ∧
              (∀ h162, h162 = hset h161 (hv h161 (hv h161 v0 0) 9) x10_160 (if x4_4 = 20 then x6_13 else (if x6_13 = 0 then (-1) else (-2) : Int) : Int) →
              Q 0 h162))))) ∧
            (x5_5 = 0 →
              Q 0 h158)))) E) E) ∧
          (¬ (15 ≤ x4_4 ∧ x4_4 ≤ 19) →
            S_X11_is l G [(0, (if x4_4 = 13 then (if x9_153 < x7_22 then 0 else 1 : Int) else 1 : Int)), (0, x3_150)] h152 (fun _ h164 =>
            (v1 ≠ 0) ∧
            ((hv h164 v1 10) ≠ 0) ∧
            (0 ≤ v2) ∧
            (v2 < (hn h164 (hv h164 v1 10))) ∧
            (∀ h165, h165 = hset h164 (hv h164 v1 10) v2 x9_153 →
            ((¬ x5_5 = 0 →
              ((hv h165 v0 0) ≠ 0) ∧
              ((hv h165 v0 0) ≠ 0) ∧
              (∀ h166, h166 = hset h165 (hv h165 v0 0) 8 (w32 ((hv h165 (hv h165 v0 0) 8) + 1)) →
              (∀ x10_167 : Int, x10_167 = (w32 (7 + (hv h165 (hv h165 v0 0) 8))) →
              (v1 ≠ 0) ∧
              ((hv h166 v1 12) ≠ 0) ∧
              (0 ≤ v2) ∧
              (v2 < (hn h166 (hv h166 v1 12))) ∧
              (∀ h168, h168 = hset h166 (hv h166 v1 12) v2 x10_167 →
              ((hv h168 v0 0) ≠ 0) ∧
              ((hv h168 (hv h168 v0 0) 9) ≠ 0) ∧
              (0 ≤ x10_167) ∧
              (x10_167 < (hn h168 (hv h168 (hv h168 v0 0) 9))) ∧
              (∀ h169, h169 = hset h168 (hv h168 (hv h168 v0 0) 9) x10_167 (if x4_4 = 20 then x6_13 else (if x6_13 = 0 then (-1) else (-2) : Int) : Int) →
              Q 0 h169))))) ∧
            (x5_5 = 0 →
              Q 0 h165)))) E)))) E))) E))))) ∧
      (¬ (x4_4 = 25 ∨ x4_4 = 26) →
        ((¬ x4_4 = 29 →
          S_X11_is l G [(0, x8_121), (0, x3_19)] h120 (fun _ h171 =>
          (v1 ≠ 0) ∧
          ((hv h171 v1 9) ≠ 0) ∧
          (0 ≤ v2) ∧
          (v2 < (hn h171 (hv h171 v1 9))) ∧
          (∀ h172, h172 = hset h171 (hv h171 v1 9) v2 x7_22 →
          (∀ x3_173 : Int, x3_173 = (hv h172 v0 3) →
          S_X11_two l G [(2011, v0)] h172 (fun z174 h175 =>
          (∀ x9_176 : Int, x9_176 = z174 →
          (((15 ≤ x4_4 ∧ x4_4 ≤ 19) →
            (v1 ≠ 0) ∧
            S_X14_size l G [(2014, v1)] h175 (fun z177 h178 =>
            S_X11_is l G [(0, (if (isin x9_176 0 (w32 (z177 - 1))) = 0 then 0 else (if x4_4 = 13 then (if x9_176 < x7_22 then 0 else 1 : Int) else 1 : Int) : Int)), (0, x3_173)] h178 (fun _ h180 =>
            (v1 ≠ 0) ∧
            ((hv h180 v1 10) ≠ 0) ∧
            (0 ≤ v2) ∧
            (v2 < (hn h180 (hv h180 v1 10))) ∧
            (∀ h181, h181 = hset h180 (hv h180 v1 10) v2 x9_176 →
            ((¬ x5_5 = 0 →
              ((hv h181 v0 0) ≠ 0) ∧
              ((hv h181 v0 0) ≠ 0) ∧
              (∀ h182, h182 = hset h181 (hv h181 v0 0) 8 (w32 ((hv h181 (hv h181 v0 0) 8) + 1)) →
              (∀ x10_183 : Int, x10_183 = (w32 (7 + (hv h181 (hv h181 v0 0) 8))) →
              (v1 ≠ 0) ∧
              ((hv h182 v1 12) ≠ 0) ∧
              (0 ≤ v2) ∧
              (v2 < (hn h182 (hv h182 v1 12))) ∧
              (∀ h184, h184 = hset h182 (hv h182 v1 12) v2 x10_183 →
              ((hv h184 v0 0) ≠ 0) ∧
              ((hv h184 (hv h184 v0 0) 9) ≠ 0) ∧
              (0 ≤ x10_183) ∧
              (x10_183 < (hn h184 (hv h184 (hv h184 v0 0) 9))) ∧
              (∀ h185, h185 = hset h184 (hv h184 (hv h184 v0 0) 9) x10_183 (if x4_4 = 20 then x6_13 else (if x6_13 = 0 then (-1) else (-2) : Int) : Int) →
              Q 0 h185))))) ∧
            (x5_5 = 0 →
              Q 0 h181)))) E) E) ∧
          (¬ (15 ≤ x4_4 ∧ x4_4 ≤ 19) →
            S_X11_is l G [(0, (if x4_4 = 13 then (if x9_176 < x7_22 then 0 else 1 : Int) else 1 : Int)), (0, x3_173)] h175 (fun _ h187 =>
            (v1 ≠ 0) ∧
            ((hv h187 v1 10) ≠ 0) ∧
            (0 ≤ v2) ∧
            (v2 < (hn h187 (hv h187 v1 10))) ∧
            (∀ h188, h188 = hset h187 (hv h187 v1 10) v2 x9_176 →
            ((¬ x5_5 = 0 →
              ((hv h188 v0 0) ≠ 0) ∧
              ((hv h188 v0 0) ≠ 0) ∧
              (∀ h189, h189 = hset h188 (hv h188 v0 0) 8 (w32 ((hv h188 (hv h188 v0 0) 8) + 1)) →
              (∀ x10_190 : Int, x10_190 = (w32 (7 + (hv h188 (hv h188 v0 0) 8))) →
              (v1 ≠ 0) ∧
              ((hv h189 v1 12) ≠ 0) ∧
              (0 ≤ v2) ∧
              (v2 < (hn h189 (hv h189 v1 12))) ∧
              (∀ h191, h191 = hset h189 (hv h189 v1 12) v2 x10_190 →
              ((hv h191 v0 0) ≠ 0) ∧
              ((hv h191 (hv h191 v0 0) 9) ≠ 0) ∧
              (0 ≤ x10_190) ∧
              (x10_190 < (hn h191 (hv h191 (hv h191 v0 0) 9))) ∧
              (∀ h192, h192 = hset h191 (hv h191 (hv h191 v0 0) 9) x10_190 (if x4_4 = 20 then x6_13 else (if x6_13 = 0 then (-1) else (-2) : Int) : Int) →
              Q 0 h192))))) ∧
            (x5_5 = 0 →
              Q 0 h188)))) E)))) E))) E) ∧
        (x4_4 = 29 →
          ((hv h120 v0 0) ≠ 0) ∧
          ((hv h120 (hv h120 v0 0) 6) ≠ 0) ∧
          (∀ x8_193 : Int, x8_193 = (isin x7_22 0 (w32 ((hn h120 (hv h120 (hv h120 v0 0) 6)) - 1))) →
          S_X11_is l G [(0, x8_193), (0, x3_19)] h120 (fun _ h195 =>
          (v1 ≠ 0) ∧
          ((hv h195 v1 9) ≠ 0) ∧
          (0 ≤ v2) ∧
          (v2 < (hn h195 (hv h195 v1 9))) ∧
          (∀ h196, h196 = hset h195 (hv h195 v1 9) v2 x7_22 →
          (∀ x3_197 : Int, x3_197 = (hv h196 v0 3) →
          S_X11_two l G [(2011, v0)] h196 (fun z198 h199 =>
          (∀ x9_200 : Int, x9_200 = z198 →
          (((15 ≤ x4_4 ∧ x4_4 ≤ 19) →
            (v1 ≠ 0) ∧
            S_X14_size l G [(2014, v1)] h199 (fun z201 h202 =>
            S_X11_is l G [(0, (if (isin x9_200 0 (w32 (z201 - 1))) = 0 then 0 else (if x4_4 = 13 then (if x9_200 < x7_22 then 0 else 1 : Int) else 1 : Int) : Int)), (0, x3_197)] h202 (fun _ h204 =>
            (v1 ≠ 0) ∧
            ((hv h204 v1 10) ≠ 0) ∧
            (0 ≤ v2) ∧
            (v2 < (hn h204 (hv h204 v1 10))) ∧
            (∀ h205, h205 = hset h204 (hv h204 v1 10) v2 x9_200 →
            ((¬ x5_5 = 0 →
              ((hv h205 v0 0) ≠ 0) ∧
              ((hv h205 v0 0) ≠ 0) ∧
              (∀ h206, h206 = hset h205 (hv h205 v0 0) 8 (w32 ((hv h205 (hv h205 v0 0) 8) + 1)) →
              (∀ x10_207 : Int, x10_207 = (w32 (7 + (hv h205 (hv h205 v0 0) 8))) →
              (v1 ≠ 0) ∧
              ((hv h206 v1 12) ≠ 0) ∧
              (0 ≤ v2) ∧
              (v2 < (hn h206 (hv h206 v1 12))) ∧
              (∀ h208, h208 = hset h206 (hv h206 v1 12) v2 x10_207 →
              ((hv h208 v0 0) ≠ 0) ∧
              ((hv h208 (hv h208 v0 0) 9) ≠ 0) ∧
              (0 ≤ x10_207) ∧
              (x10_207 < (hn h208 (hv h208 (hv h208 v0 0) 9))) ∧
              (∀ h209, h209 = hset h208 (hv h208 (hv h208 v0 0) 9) x10_207 (if x4_4 = 20 then x6_13 else (if x6_13 = 0 then (-1) else (-2) : Int) : Int) →
              Q 0 h209))))) ∧
            (x5_5 = 0 →
              Q 0 h205)))) E) E) ∧
          (¬ (15 ≤ x4_4 ∧ x4_4 ≤ 19) →
            S_X11_is l G [(0, (if x4_4 = 13 then (if x9_200 < x7_22 then 0 else 1 : Int) else 1 : Int)), (0, x3_197)] h199 (fun _ h211 =>
            (v1 ≠ 0) ∧
            ((hv h211 v1 10) ≠ 0) ∧
            (0 ≤ v2) ∧
            (v2 < (hn h211 (hv h211 v1 10))) ∧
            (∀ h212, h212 = hset h211 (hv h211 v1 10) v2 x9_200 →
            ((¬ x5_5 = 0 →
              ((hv h212 v0 0) ≠ 0) ∧
              ((hv h212 v0 0) ≠ 0) ∧
              (∀ h213, h213 = hset h212 (hv h212 v0 0) 8 (w32 ((hv h212 (hv h212 v0 0) 8) + 1)) →
              (∀ x10_214 : Int, x10_214 = (w32 (7 + (hv h212 (hv h212 v0 0) 8))) →
              (v1 ≠ 0) ∧
              ((hv h213 v1 12) ≠ 0) ∧
              (0 ≤ v2) ∧
              (v2 < (hn h213 (hv h213 v1 12))) ∧
              (∀ h215, h215 = hset h213 (hv h213 v1 12) v2 x10_214 →
              ((hv h215 v0 0) ≠ 0) ∧
              ((hv h215 (hv h215 v0 0) 9) ≠ 0) ∧
              (0 ≤ x10_214) ∧
              (x10_214 < (hn h215 (hv h215 (hv h215 v0 0) 9))) ∧
              (∀ h216, h216 = hset h215 (hv h215 (hv h215 v0 0) 9) x10_214 (if x4_4 = 20 then x6_13 else (if x6_13 = 0 then (-1) else (-2) : Int) : Int) →
              Q 0 h216))))) ∧
            (x5_5 = 0 →
              Q 0 h212)))) E)))) E))) E))))))) E))))) E))) E) E)) E)))) E))) E)) : JW K 0 [(2011, v0), (18, v1), (0, v2), (5000, 0), (5000, 0), (5000, 0), (5000, 0), (5000, 0), (5000, 0), (5000, 0), (5000, 0)] [] h := by
  have e1 := ki.2.2.2.2.1
  have e2 := ki.2.2.2.2.2.1
  subst e1; subst e2
  exact run_ok (dia := [(18, 33), (37, 57), (100, 128), (292, 314), (299, 314), (372, 391)]) (cnr := [(179, 189, 212), (268, 278, 295)]) (cuts := []) ki.1 (pk_X11_readInstruction ki hG) ok_X11_readInstruction (by decide) 160 true _ _ _ _ H
abbrev k_X11_mostX : List (Nat × List (Nat × Instr)) := [(1, [(0, .iload_n 2)]),
  (156, [(1, .tableswitch 192 2 36 #[155, 155, 192, 192, 192, 192, 192, 192, 192, 192, 192, 163, 163, 192, 166, 168, 155, 155, 171, 176, 192, 176, 176, 171, 171, 178, 178, 192, 189, 192, 192, 171, 163, 163, 189])]),
  (190, [(156, .aload_n 1), (157, .getfield 151), (160, .arraylength), (161, .iconst 1), (162, .isub), (163, .ireturn), (164, .bipush 7), (166, .ireturn), (167, .iconst 5), (168, .ireturn), (169, .bipush 47), (171, .ireturn), (172, .aload_n 0), (173, .invokevirtual 136), (176, .ireturn), (177, .iconst 1), (178, .ireturn), (179, .aload_n 0), (180, .getfield 12), (183, .getfield 74), (186, .arraylength), (187, .iconst 1), (188, .isub), (189, .ireturn)]),
  (205, [(190, .bipush 15), (192, .ireturn), (193, .sipush 255), (196, .ireturn)])]
theorem ok_X11_mostX : CodeOK cX11_mostX k_X11_mostX := okw 0 (by decide +kernel) (okc (by decide +kernel) (okw 156 (by decide +kernel) (okw 190 (by decide +kernel) (okn))))
abbrev p_X11_mostX (l : Launch) (G : JG) : JP := (true, [(12, 11, 0, 16, 0), (74, 12, 5, 104, 0), (151, 14, 5, 104, 0)], [], [], [], [], [], [(136, 1, [2011], 0, S_X11_lastClass l G)], false, 0, [])
theorem pk_X11_mostX {K : JC} {l : Launch} {G : JG} {Q : Int → MH → Prop} {E : Nat → Int → MH → Prop} {h0 : MH} (ki : KI K l G yX11_mostX cX11_mostX 3 (some .int) [] 5 170 0 Q E h0) (hG : gO G = true) : POK K RX11 (p_X11_mostX l G) :=
  POKi (y := yX11_mostX) ki hG (rfs rf_X11_ok (by decide +kernel)) fmz fmz fmz fmz fmz
  (pkE ki (by
    intro K e1 e2 e3 e4; subst e1; subst e2
    exact fmE (ceV 11 e3 e4 yl_X11_lastClass ⟨by decide, ⟨_, _, rfl⟩, q1019, qs5, q1017⟩ rfl) (fmz))) (fun z => Bool.noConfusion z) rfl (pkP ki (by
    intro K e1 e2 e3 e4; subst e1; subst e2
    exact fmz))
theorem r_X11_mostX_0 {K : JC} {l : Launch} {G : JG} {Q : Int → MH → Prop} {E : Nat → Int → MH → Prop} {h0 : MH} (ki : KI K l G yX11_mostX cX11_mostX 3 (some .int) [] 5 170 0 Q E h0) (hG : gO G = true) {v0 v1 v2 : Int} {h : MH} (H :
    (((v2 = 2 →
      (v1 ≠ 0) ∧
      ((hv h v1 5) ≠ 0) ∧
      Q (w32 ((hn h (hv h v1 5)) - 1)) h) ∧
    ((v2 = 2 + 1 →
      (v1 ≠ 0) ∧
      ((hv h v1 5) ≠ 0) ∧
      Q (w32 ((hn h (hv h v1 5)) - 1)) h) ∧
    ((v2 = 2 + 1 + 1 →
      Q 255 h) ∧
    ((v2 = 2 + 1 + 1 + 1 →
      Q 255 h) ∧
    ((v2 = 2 + 1 + 1 + 1 + 1 →
      Q 255 h) ∧
    ((v2 = 2 + 1 + 1 + 1 + 1 + 1 →
      Q 255 h) ∧
    ((v2 = 2 + 1 + 1 + 1 + 1 + 1 + 1 →
      Q 255 h) ∧
    ((v2 = 2 + 1 + 1 + 1 + 1 + 1 + 1 + 1 →
      Q 255 h) ∧
    ((v2 = 2 + 1 + 1 + 1 + 1 + 1 + 1 + 1 + 1 →
      Q 255 h) ∧
    ((v2 = 2 + 1 + 1 + 1 + 1 + 1 + 1 + 1 + 1 + 1 →
      Q 255 h) ∧
    ((v2 = 2 + 1 + 1 + 1 + 1 + 1 + 1 + 1 + 1 + 1 + 1 →
      Q 255 h) ∧
    ((v2 = 2 + 1 + 1 + 1 + 1 + 1 + 1 + 1 + 1 + 1 + 1 + 1 →
      Q 7 h) ∧
    ((v2 = 2 + 1 + 1 + 1 + 1 + 1 + 1 + 1 + 1 + 1 + 1 + 1 + 1 →
      Q 7 h) ∧
    ((v2 = 2 + 1 + 1 + 1 + 1 + 1 + 1 + 1 + 1 + 1 + 1 + 1 + 1 + 1 →
      Q 255 h) ∧
    ((v2 = 2 + 1 + 1 + 1 + 1 + 1 + 1 + 1 + 1 + 1 + 1 + 1 + 1 + 1 + 1 →
      Q 5 h) ∧
    ((v2 = 2 + 1 + 1 + 1 + 1 + 1 + 1 + 1 + 1 + 1 + 1 + 1 + 1 + 1 + 1 + 1 →
      Q 47 h) ∧
    ((v2 = 2 + 1 + 1 + 1 + 1 + 1 + 1 + 1 + 1 + 1 + 1 + 1 + 1 + 1 + 1 + 1 + 1 →
      (v1 ≠ 0) ∧
      ((hv h v1 5) ≠ 0) ∧
      Q (w32 ((hn h (hv h v1 5)) - 1)) h) ∧
    ((v2 = 2 + 1 + 1 + 1 + 1 + 1 + 1 + 1 + 1 + 1 + 1 + 1 + 1 + 1 + 1 + 1 + 1 + 1 →
      (v1 ≠ 0) ∧
      ((hv h v1 5) ≠ 0) ∧
      Q (w32 ((hn h (hv h v1 5)) - 1)) h) ∧
    ((v2 = 2 + 1 + 1 + 1 + 1 + 1 + 1 + 1 + 1 + 1 + 1 + 1 + 1 + 1 + 1 + 1 + 1 + 1 + 1 →
      S_X11_lastClass l G [(2011, v0)] h (fun z1 h2 =>
      Q z1 h2) E) ∧
    ((v2 = 2 + 1 + 1 + 1 + 1 + 1 + 1 + 1 + 1 + 1 + 1 + 1 + 1 + 1 + 1 + 1 + 1 + 1 + 1 + 1 →
      Q 1 h) ∧
    ((v2 = 2 + 1 + 1 + 1 + 1 + 1 + 1 + 1 + 1 + 1 + 1 + 1 + 1 + 1 + 1 + 1 + 1 + 1 + 1 + 1 + 1 →
      Q 255 h) ∧
    ((v2 = 2 + 1 + 1 + 1 + 1 + 1 + 1 + 1 + 1 + 1 + 1 + 1 + 1 + 1 + 1 + 1 + 1 + 1 + 1 + 1 + 1 + 1 →
      Q 1 h) ∧
    ((v2 = 2 + 1 + 1 + 1 + 1 + 1 + 1 + 1 + 1 + 1 + 1 + 1 + 1 + 1 + 1 + 1 + 1 + 1 + 1 + 1 + 1 + 1 + 1 →
      Q 1 h) ∧
    ((v2 = 2 + 1 + 1 + 1 + 1 + 1 + 1 + 1 + 1 + 1 + 1 + 1 + 1 + 1 + 1 + 1 + 1 + 1 + 1 + 1 + 1 + 1 + 1 + 1 →
      S_X11_lastClass l G [(2011, v0)] h (fun z3 h4 =>
      Q z3 h4) E) ∧
    ((v2 = 2 + 1 + 1 + 1 + 1 + 1 + 1 + 1 + 1 + 1 + 1 + 1 + 1 + 1 + 1 + 1 + 1 + 1 + 1 + 1 + 1 + 1 + 1 + 1 + 1 →
      S_X11_lastClass l G [(2011, v0)] h (fun z5 h6 =>
      Q z5 h6) E) ∧
    ((v2 = 2 + 1 + 1 + 1 + 1 + 1 + 1 + 1 + 1 + 1 + 1 + 1 + 1 + 1 + 1 + 1 + 1 + 1 + 1 + 1 + 1 + 1 + 1 + 1 + 1 + 1 →
      ((hv h v0 0) ≠ 0) ∧
      ((hv h (hv h v0 0) 5) ≠ 0) ∧
      Q (w32 ((hn h (hv h (hv h v0 0) 5)) - 1)) h) ∧
    ((v2 = 2 + 1 + 1 + 1 + 1 + 1 + 1 + 1 + 1 + 1 + 1 + 1 + 1 + 1 + 1 + 1 + 1 + 1 + 1 + 1 + 1 + 1 + 1 + 1 + 1 + 1 + 1 →
      ((hv h v0 0) ≠ 0) ∧
      ((hv h (hv h v0 0) 5) ≠ 0) ∧
      Q (w32 ((hn h (hv h (hv h v0 0) 5)) - 1)) h) ∧
    ((v2 = 2 + 1 + 1 + 1 + 1 + 1 + 1 + 1 + 1 + 1 + 1 + 1 + 1 + 1 + 1 + 1 + 1 + 1 + 1 + 1 + 1 + 1 + 1 + 1 + 1 + 1 + 1 + 1 →
      Q 255 h) ∧
    ((v2 = 2 + 1 + 1 + 1 + 1 + 1 + 1 + 1 + 1 + 1 + 1 + 1 + 1 + 1 + 1 + 1 + 1 + 1 + 1 + 1 + 1 + 1 + 1 + 1 + 1 + 1 + 1 + 1 + 1 →
      Q 15 h) ∧
    ((v2 = 2 + 1 + 1 + 1 + 1 + 1 + 1 + 1 + 1 + 1 + 1 + 1 + 1 + 1 + 1 + 1 + 1 + 1 + 1 + 1 + 1 + 1 + 1 + 1 + 1 + 1 + 1 + 1 + 1 + 1 →
      Q 255 h) ∧
    ((v2 = 2 + 1 + 1 + 1 + 1 + 1 + 1 + 1 + 1 + 1 + 1 + 1 + 1 + 1 + 1 + 1 + 1 + 1 + 1 + 1 + 1 + 1 + 1 + 1 + 1 + 1 + 1 + 1 + 1 + 1 + 1 →
      Q 255 h) ∧
    ((v2 = 2 + 1 + 1 + 1 + 1 + 1 + 1 + 1 + 1 + 1 + 1 + 1 + 1 + 1 + 1 + 1 + 1 + 1 + 1 + 1 + 1 + 1 + 1 + 1 + 1 + 1 + 1 + 1 + 1 + 1 + 1 + 1 →
      S_X11_lastClass l G [(2011, v0)] h (fun z7 h8 =>
      Q z7 h8) E) ∧
    ((v2 = 2 + 1 + 1 + 1 + 1 + 1 + 1 + 1 + 1 + 1 + 1 + 1 + 1 + 1 + 1 + 1 + 1 + 1 + 1 + 1 + 1 + 1 + 1 + 1 + 1 + 1 + 1 + 1 + 1 + 1 + 1 + 1 + 1 →
      Q 7 h) ∧
    ((v2 = 2 + 1 + 1 + 1 + 1 + 1 + 1 + 1 + 1 + 1 + 1 + 1 + 1 + 1 + 1 + 1 + 1 + 1 + 1 + 1 + 1 + 1 + 1 + 1 + 1 + 1 + 1 + 1 + 1 + 1 + 1 + 1 + 1 + 1 →
      Q 7 h) ∧
    ((v2 = 2 + 1 + 1 + 1 + 1 + 1 + 1 + 1 + 1 + 1 + 1 + 1 + 1 + 1 + 1 + 1 + 1 + 1 + 1 + 1 + 1 + 1 + 1 + 1 + 1 + 1 + 1 + 1 + 1 + 1 + 1 + 1 + 1 + 1 + 1 →
      Q 15 h) ∧
    True))))))))))))))))))))))))))))))))))) ∧ ((v2 < 2 ∨ 36 < v2) →
      Q 255 h))) : JW K 0 [(2011, v0), (18, v1), (0, v2)] [] h := by
  have e1 := ki.2.2.2.2.1
  have e2 := ki.2.2.2.2.2.1
  subst e1; subst e2
  exact run_ok (dia := []) (cnr := []) (cuts := []) ki.1 (pk_X11_mostX ki hG) ok_X11_mostX (by decide) 10 true _ _ _ _ H
abbrev k_X11_two : List (Nat × List (Nat × Instr)) := [(46, [(0, .aload_n 0), (1, .getfield 41), (4, .aload_n 0), (5, .getfield 32), (8, .if_icmp .ge 7), (11, .iconst 1), (12, .goto 4), (15, .iconst 0), (16, .aload_n 0), (17, .getfield 41), (20, .invokestatic 48), (23, .aload_n 0), (24, .getfield 41), (27, .iconst 1), (28, .iadd), (29, .aload_n 0), (30, .getfield 32), (33, .if_icmp .ge 7), (36, .iconst 1), (37, .goto 4), (40, .iconst 0), (41, .aload_n 0), (42, .getfield 41), (45, .iconst 1)]),
  (85, [(46, .iadd), (47, .invokestatic 48), (50, .aload_n 0), (51, .dup), (52, .getfield 41), (55, .iconst 2), (56, .iadd), (57, .putfield 41), (60, .aload_n 0), (61, .getfield 22), (64, .aload_n 0), (65, .getfield 41), (68, .iconst 2), (69, .isub), (70, .baload), (71, .bipush 8), (73, .ishl), (74, .aload_n 0), (75, .getfield 22), (78, .aload_n 0), (79, .getfield 41), (82, .iconst 1), (83, .isub), (84, .baload)]),
  (99, [(85, .sipush 255), (88, .iand), (89, .ior), (90, .ireturn)])]
theorem ok_X11_two : CodeOK cX11_two k_X11_two := okw 0 (by decide +kernel) (okw 46 (by decide +kernel) (okw 85 (by decide +kernel) (okn)))
abbrev p_X11_two (l : Launch) (G : JG) : JP := (true, [(22, 11, 1, 107, 0), (32, 11, 2, 0, 0), (41, 11, 3, 0, 0)], [], [], [(41, 11, 3, 0)], [], [], [(48, 0, [0, 0], 700, S_X11_is l G)], false, 0, [])
theorem pk_X11_two {K : JC} {l : Launch} {G : JG} {Q : Int → MH → Prop} {E : Nat → Int → MH → Prop} {h0 : MH} (ki : KI K l G yX11_two cX11_two 1 (some .int) [] 12 353 0 Q E h0) (hG : gO G = true) : POK K RX11 (p_X11_two l G) :=
  POKi (y := yX11_two) ki hG (rfs rf_X11_ok (by decide +kernel)) fmz fmz (rps rp_X11_ok (by decide +kernel)) fmz fmz
  (pkE ki (by
    intro K e1 e2 e3 e4; subst e1; subst e2
    exact fmE (ceS e3 e4 yl_X11_is ⟨q812, Or.inl q811⟩ rfl) (fmz))) (fun z => Bool.noConfusion z) rfl (pkP ki (by
    intro K e1 e2 e3 e4; subst e1; subst e2
    exact fmz))
theorem r_X11_two_0 {K : JC} {l : Launch} {G : JG} {Q : Int → MH → Prop} {E : Nat → Int → MH → Prop} {h0 : MH} (ki : KI K l G yX11_two cX11_two 1 (some .int) [] 12 353 0 Q E h0) (hG : gO G = true) {v0 : Int} {h : MH} (H :
    S_X11_is l G [(0, (if (hv h v0 3) < (hv h v0 2) then 1 else 0 : Int)), (0, (hv h v0 3))] h (fun _ h2 =>
    S_X11_is l G [(0, (if (w32 ((hv h2 v0 3) + 1)) < (hv h2 v0 2) then 1 else 0 : Int)), (0, (w32 ((hv h2 v0 3) + 1)))] h2 (fun _ h4 =>
    (∀ h5, h5 = hset h4 v0 3 (w32 ((hv h4 v0 3) + 2)) →
    ((hv h5 v0 1) ≠ 0) ∧
    (0 ≤ (w32 ((hv h5 v0 3) - 2))) ∧
    ((w32 ((hv h5 v0 3) - 2)) < (hn h5 (hv h5 v0 1))) ∧
    ((hv h5 v0 1) ≠ 0) ∧
    (0 ≤ (w32 ((hv h5 v0 3) - 1))) ∧
    ((w32 ((hv h5 v0 3) - 1)) < (hn h5 (hv h5 v0 1))) ∧
    Q (i_or (i_shl (hv h5 (hv h5 v0 1) (w32 ((hv h5 v0 3) - 2))) 8) (i_and (hv h5 (hv h5 v0 1) (w32 ((hv h5 v0 3) - 1))) 255)) h5)) E) E) : JW K 0 [(2011, v0)] [] h := by
  have e1 := ki.2.2.2.2.1
  have e2 := ki.2.2.2.2.2.1
  subst e1; subst e2
  exact run_ok (dia := [(8, 16), (33, 41)]) (cnr := []) (cuts := []) ki.1 (pk_X11_two ki hG) ok_X11_two (by decide) 47 true _ _ _ _ H
abbrev k_X11_readHandler : List (Nat × List (Nat × Instr)) := [(42, [(0, .new 160), (3, .dup), (4, .invokespecial 193), (7, .astore_n 3), (8, .aload_n 3), (9, .aload_n 0), (10, .iconst 0), (11, .sipush 255), (14, .invokevirtual 52), (17, .putfield 194), (20, .aload_n 3), (21, .aload_n 0), (22, .aload_n 3), (23, .getfield 194), (26, .iconst 1), (27, .iadd), (28, .aload_n 1), (29, .invokevirtual 121), (32, .invokevirtual 52), (35, .putfield 195), (38, .aload_n 3), (39, .aload_n 0), (40, .iconst 0), (41, .aload_n 1)]),
  (82, [(42, .invokevirtual 121), (45, .iconst 1), (46, .isub), (47, .invokevirtual 52), (50, .putfield 196), (53, .aload_n 3), (54, .aload_n 0), (55, .iconst 0), (56, .aload_n 0), (57, .invokevirtual 136), (60, .invokevirtual 52), (63, .putfield 197), (66, .aload_n 1), (67, .getfield 162), (70, .iload_n 2), (71, .aload_n 3), (72, .aastore), (73, .return_)])]
theorem ok_X11_readHandler : CodeOK cX11_readHandler k_X11_readHandler := okw 0 (by decide +kernel) (okw 42 (by decide +kernel) (okn))
abbrev p_X11_readHandler (l : Launch) (G : JG) : JP := (true, [(162, 14, 13, 129, 0), (194, 15, 0, 0, 0)], [], [], [(194, 15, 0, 0), (195, 15, 1, 0), (196, 15, 2, 0), (197, 15, 3, 0)], [(160, 15, 4)], [], [(52, 1, [0, 0, 2011], 0, S_X11_one l G), (121, 1, [2014], 0, S_X14_size l G), (136, 1, [2011], 0, S_X11_lastClass l G), (193, 2, [2015], 700, S_X15_init l G)], false, 700, [])
theorem pk_X11_readHandler {K : JC} {l : Launch} {G : JG} {Q : Int → MH → Prop} {E : Nat → Int → MH → Prop} {h0 : MH} (ki : KI K l G yX11_readHandler cX11_readHandler 4 none [] 13 375 700 Q E h0) (hG : gO G = true) : POK K RX11 (p_X11_readHandler l G) :=
  POKi (y := yX11_readHandler) ki hG (rfs rf_X11_ok (by decide +kernel)) fmz fmz (rps rp_X11_ok (by decide +kernel)) (subs (by decide +kernel) rn_X11_ok) fmz
  (pkE ki (by
    intro K e1 e2 e3 e4; subst e1; subst e2
    exact fmE (ceV 11 e3 e4 yl_X11_one ⟨by decide, ⟨_, _, rfl⟩, q806, qs0, q804⟩ rfl) (fmE (ceV 14 e3 e4 yl_X14_size ⟨by decide, ⟨_, _, rfl⟩, q1040, q1041, q1039⟩ rfl) (fmE (ceV 11 e3 e4 yl_X11_lastClass ⟨by decide, ⟨_, _, rfl⟩, q1019, qs5, q1017⟩ rfl) (fmE (ceI e3 e4 yl_X15_init ⟨rfl, q1049, Or.inr ⟨_, List.mem_of_getElem? (i := 13) rfl⟩, _, _, q1050⟩ rfl) (fmz)))))) (fun z => Bool.noConfusion z) rfl (pkP ki (by
    intro K e1 e2 e3 e4; subst e1; subst e2
    exact fmz))
theorem r_X11_readHandler_0 {K : JC} {l : Launch} {G : JG} {Q : Int → MH → Prop} {E : Nat → Int → MH → Prop} {h0 : MH} (ki : KI K l G yX11_readHandler cX11_readHandler 4 none [] 13 375 700 Q E h0) (hG : gO G = true) {v0 v1 v2 : Int} {h : MH} (H :
    (hz h + 1 ≤ LIMC) ∧
    (hs h + 4 ≤ LIMS) ∧
    (∀ h1, h1 = hnew h 15 0 4 →
    S_X15_init l G [(2015, (hz h + 1))] h1 (fun _ h3 =>
    (∀ x3_4 : Int, x3_4 = (hz h + 1) →
    S_X11_one l G [(2011, v0), (0, 0), (0, 255)] h3 (fun z5 h6 =>
    (∀ h7, h7 = hset h6 x3_4 0 z5 →
    (v1 ≠ 0) ∧
    S_X14_size l G [(2014, v1)] h7 (fun z8 h9 =>
    S_X11_one l G [(2011, v0), (0, (w32 ((hv h7 x3_4 0) + 1))), (0, z8)] h9 (fun z10 h11 =>
    (∀ h12, h12 = hset h11 x3_4 1 z10 →
    (v1 ≠ 0) ∧
    S_X14_size l G [(2014, v1)] h12 (fun z13 h14 =>
    S_X11_one l G [(2011, v0), (0, 0), (0, (w32 (z13 - 1)))] h14 (fun z15 h16 =>
    (∀ h17, h17 = hset h16 x3_4 2 z15 →
    S_X11_lastClass l G [(2011, v0)] h17 (fun z18 h19 =>
    S_X11_one l G [(2011, v0), (0, 0), (0, z18)] h19 (fun z20 h21 =>
    (∀ h22, h22 = hset h21 x3_4 3 z20 →
    (v1 ≠ 0) ∧
    ((hv h22 v1 13) ≠ 0) ∧
    (0 ≤ v2) ∧
    (v2 < (hn h22 (hv h22 v1 13))) ∧
    (∀ h23, h23 = hset h22 (hv h22 v1 13) v2 x3_4 →
    Q 0 h23))) E) E)) E) E)) E) E)) E)) E)) : JW K 0 [(2011, v0), (18, v1), (0, v2), (5000, 0)] [] h := by
  have e1 := ki.2.2.2.2.1
  have e2 := ki.2.2.2.2.2.1
  subst e1; subst e2
  exact run_ok (dia := []) (cnr := []) (cuts := []) ki.1 (pk_X11_readHandler ki hG) ok_X11_readHandler (by decide) 43 true _ _ _ _ H
abbrev k_X11_layPlaces : List (Nat × List (Nat × Instr)) := [(11, [(0, .aload_n 0), (1, .getfield 12), (4, .aload_n 0), (5, .getfield 12), (8, .getfield 112)]),
  (13, [(11, .newarray .int)]),
  (27, [(13, .putfield 115), (16, .aload_n 0), (17, .getfield 12), (20, .aload_n 0), (21, .getfield 12), (24, .getfield 112)]),
  (29, [(27, .newarray .int)]),
  (69, [(29, .putfield 118), (32, .aload_n 0), (33, .getfield 12), (36, .getfield 82), (39, .astore_n 1), (40, .aload_n 1), (41, .arraylength), (42, .istore_n 2), (43, .iconst 0), (44, .istore_n 3), (45, .iload_n 3), (46, .iload_n 2), (47, .if_icmp .ge 78), (50, .aload_n 1), (51, .iload_n 3), (52, .aaload), (53, .astore 4), (55, .iconst 0), (56, .istore 5), (58, .iload 5), (60, .aload 4), (62, .invokevirtual 121), (65, .if_icmp .ge 54), (68, .aload_n 0)]),
  (122, [(69, .getfield 12), (72, .getfield 115), (75, .aload 4), (77, .getfield 124), (80, .iload 5), (82, .iadd), (83, .aload 4), (85, .getfield 127), (88, .iload 5), (90, .iaload), (91, .iastore), (92, .aload_n 0), (93, .getfield 12), (96, .getfield 118), (99, .aload 4), (101, .getfield 124), (104, .iload 5), (106, .iadd), (107, .aload 4), (109, .getfield 130), (112, .iastore), (113, .iinc 5 1), (116, .goto (-58)), (119, .iinc 3 1)]),
  (134, [(122, .goto (-77)), (125, .return_)])]
theorem ok_X11_layPlaces : CodeOK cX11_layPlaces k_X11_layPlaces := okw 0 (by decide +kernel) (okc (by decide +kernel) (okw 13 (by decide +kernel) (okc (by decide +kernel) (okw 29 (by decide +kernel) (okw 69 (by decide +kernel) (okw 122 (by decide +kernel) (okn)))))))
abbrev p_X11_layPlaces (l : Launch) (G : JG) : JP := (true, [(12, 11, 0, 16, 0), (82, 12, 6, 128, 0), (112, 12, 7, 0, 0), (115, 12, 10, 104, 0), (118, 12, 11, 104, 0), (124, 14, 14, 0, 0), (127, 14, 12, 104, 0), (130, 14, 0, 0, 0)], [], [], [(115, 12, 10, 104), (118, 12, 11, 104)], [], [], [(121, 1, [2014], 0, S_X14_size l G)], false, 700, [])
theorem pk_X11_layPlaces {K : JC} {l : Launch} {G : JG} {Q : Int → MH → Prop} {E : Nat → Int → MH → Prop} {h0 : MH} (ki : KI K l G yX11_layPlaces cX11_layPlaces 6 none [] 5 170 700 Q E h0) (hG : gO G = true) : POK K RX11 (p_X11_layPlaces l G) :=
  POKi (y := yX11_layPlaces) ki hG (rfs rf_X11_ok (by decide +kernel)) fmz fmz (rps rp_X11_ok (by decide +kernel)) fmz fmz
  (pkE ki (by
    intro K e1 e2 e3 e4; subst e1; subst e2
    exact fmE (ceV 14 e3 e4 yl_X14_size ⟨by decide, ⟨_, _, rfl⟩, q1040, q1041, q1039⟩ rfl) (fmz))) (fun z => Bool.noConfusion z) rfl (pkP ki (by
    intro K e1 e2 e3 e4; subst e1; subst e2
    exact fmz))
theorem r_X11_layPlaces_0 {K : JC} {l : Launch} {G : JG} {Q : Int → MH → Prop} {E : Nat → Int → MH → Prop} {h0 : MH} (ki : KI K l G yX11_layPlaces cX11_layPlaces 6 none [] 5 170 700 Q E h0) (hG : gO G = true) {v0 : Int} {h : MH} (H :
    ((hv h v0 0) ≠ 0) ∧
    (0 ≤ (hv h (hv h v0 0) 7)) ∧
    (hz h + 1 ≤ LIMC) ∧
    (hs h + (hv h (hv h v0 0) 7) ≤ LIMS) ∧
    (∀ h1, h1 = hnew h 100 (hv h (hv h v0 0) 7) (hv h (hv h v0 0) 7) →
    ((hv h v0 0) ≠ 0) ∧
    (∀ h2, h2 = hset h1 (hv h v0 0) 10 (hz h + 1) →
    ((hv h2 v0 0) ≠ 0) ∧
    (0 ≤ (hv h2 (hv h2 v0 0) 7)) ∧
    (hz h2 + 1 ≤ LIMC) ∧
    (hs h2 + (hv h2 (hv h2 v0 0) 7) ≤ LIMS) ∧
    (∀ h3, h3 = hnew h2 100 (hv h2 (hv h2 v0 0) 7) (hv h2 (hv h2 v0 0) 7) →
    ((hv h2 v0 0) ≠ 0) ∧
    (∀ h4, h4 = hset h3 (hv h2 v0 0) 11 (hz h2 + 1) →
    ((hv h4 v0 0) ≠ 0) ∧
    (∀ x1_5 : Int, x1_5 = (hv h4 (hv h4 v0 0) 6) →
    (x1_5 ≠ 0) ∧
    (∀ x2_6 : Int, x2_6 = (hn h4 x1_5) →
    (∀ x3_7 : Int, x3_7 = 0 →
    JW K 45 [(2011, v0), (128, x1_5), (0, x2_6), (0, x3_7), (5000, 0), (5000, 0)] [] h4)))))))) : JW K 0 [(2011, v0), (5000, 0), (5000, 0), (5000, 0), (5000, 0), (5000, 0)] [] h := by
  have e1 := ki.2.2.2.2.1
  have e2 := ki.2.2.2.2.2.1
  subst e1; subst e2
  exact run_ok (dia := []) (cnr := []) (cuts := [(45, [2011, 128, 0, 0, 5000, 5000], []), (58, [2011, 128, 0, 0, 18, 0], [])]) ki.1 (pk_X11_layPlaces ki hG) ok_X11_layPlaces (by decide) 25 true _ _ _ _ H
theorem r_X11_layPlaces_45 {K : JC} {l : Launch} {G : JG} {Q : Int → MH → Prop} {E : Nat → Int → MH → Prop} {h0 : MH} (ki : KI K l G yX11_layPlaces cX11_layPlaces 6 none [] 5 170 700 Q E h0) (hG : gO G = true) {v0 v1 v2 v3 : Int} {h : MH} (H :
    ((v2 ≤ v3 →
      Q 0 h) ∧
    (v3 < v2 →
      (v1 ≠ 0) ∧
      (0 ≤ v3) ∧
      (v3 < (hn h v1)) ∧
      (∀ x4_1 : Int, x4_1 = (hv h v1 v3) →
      (∀ x5_2 : Int, x5_2 = 0 →
      JW K 58 [(2011, v0), (128, v1), (0, v2), (0, v3), (18, x4_1), (0, x5_2)] [] h))))) : JW K 45 [(2011, v0), (128, v1), (0, v2), (0, v3), (5000, 0), (5000, 0)] [] h := by
  have e1 := ki.2.2.2.2.1
  have e2 := ki.2.2.2.2.2.1
  subst e1; subst e2
  exact run_ok (dia := []) (cnr := []) (cuts := [(45, [2011, 128, 0, 0, 5000, 5000], []), (58, [2011, 128, 0, 0, 18, 0], [])]) ki.1 (pk_X11_layPlaces ki hG) ok_X11_layPlaces (by decide) 11 true _ _ _ _ H
theorem r_X11_layPlaces_58 {K : JC} {l : Launch} {G : JG} {Q : Int → MH → Prop} {E : Nat → Int → MH → Prop} {h0 : MH} (ki : KI K l G yX11_layPlaces cX11_layPlaces 6 none [] 5 170 700 Q E h0) (hG : gO G = true) {v0 v1 v2 v3 v4 v5 : Int} {h : MH} (H :
    (v4 ≠ 0) ∧
    S_X14_size l G [(2014, v4)] h (fun z1 h2 =>
    ((z1 ≤ v5 →
      (∀ x3_3 : Int, x3_3 = w32 (v3 + 1) →
      JW K 45 [(2011, v0), (128, v1), (0, v2), (0, x3_3), (5000, 0), (5000, 0)] [] h2)) ∧
    (v5 < z1 →
      ((hv h2 v0 0) ≠ 0) ∧
      (v4 ≠ 0) ∧
      (v4 ≠ 0) ∧
      ((hv h2 v4 12) ≠ 0) ∧
      (0 ≤ v5) ∧
      (v5 < (hn h2 (hv h2 v4 12))) ∧
      ((hv h2 (hv h2 v0 0) 10) ≠ 0) ∧
      (0 ≤ (w32 ((hv h2 v4 14) + v5))) ∧
      ((w32 ((hv h2 v4 14) + v5)) < (hn h2 (hv h2 (hv h2 v0 0) 10))) ∧
      (∀ h4, h4 = hset h2 (hv h2 (hv h2 v0 0) 10) (w32 ((hv h2 v4 14) + v5)) (hv h2 (hv h2 v4 12) v5) →
      ((hv h4 v0 0) ≠ 0) ∧
      (v4 ≠ 0) ∧
      (v4 ≠ 0) ∧
      ((hv h4 (hv h4 v0 0) 11) ≠ 0) ∧
      (0 ≤ (w32 ((hv h4 v4 14) + v5))) ∧
      ((w32 ((hv h4 v4 14) + v5)) < (hn h4 (hv h4 (hv h4 v0 0) 11))) ∧
      (∀ h5, h5 = hset h4 (hv h4 (hv h4 v0 0) 11) (w32 ((hv h4 v4 14) + v5)) (hv h4 v4 0) →
      (∀ x5_6 : Int, x5_6 = w32 (v5 + 1) →
      JW K 58 [(2011, v0), (128, v1), (0, v2), (0, v3), (18, v4), (0, x5_6)] [] h5)))))) E) : JW K 58 [(2011, v0), (128, v1), (0, v2), (0, v3), (18, v4), (0, v5)] [] h := by
  have e1 := ki.2.2.2.2.1
  have e2 := ki.2.2.2.2.2.1
  subst e1; subst e2
  exact run_ok (dia := []) (cnr := []) (cuts := [(45, [2011, 128, 0, 0, 5000, 5000], []), (58, [2011, 128, 0, 0, 18, 0], [])]) ki.1 (pk_X11_layPlaces ki hG) ok_X11_layPlaces (by decide) 30 true _ _ _ _ H
abbrev k_X11_findMarks : List (Nat × List (Nat × Instr)) := [(40, [(0, .iconst 0), (1, .istore_n 1), (2, .iload_n 1), (3, .aload_n 0), (4, .getfield 18), (7, .arraylength), (8, .if_icmp .ge 16), (11, .aload_n 0), (12, .getfield 18), (15, .iload_n 1), (16, .iconst 0), (17, .bastore), (18, .iinc 1 1), (21, .goto (-19)), (24, .aload_n 0), (25, .iconst (-1)), (26, .invokevirtual 209), (29, .aload_n 0), (30, .iconst 0), (31, .invokevirtual 209), (34, .aload_n 0), (35, .iconst 1), (36, .invokevirtual 209), (39, .aload_n 0)]),
  (81, [(40, .bipush 100), (42, .invokevirtual 209), (45, .aload_n 0), (46, .getfield 12), (49, .getfield 82), (52, .astore_n 1), (53, .aload_n 1), (54, .arraylength), (55, .istore_n 2), (56, .iconst 0), (57, .istore_n 3), (58, .iload_n 3), (59, .iload_n 2), (60, .if_icmp .ge 123), (63, .aload_n 1), (64, .iload_n 3), (65, .aaload), (66, .astore 4), (68, .iconst 0), (69, .istore 5), (71, .iload 5), (73, .aload 4), (75, .invokevirtual 121), (78, .if_icmp .ge 99)]),
  (130, [(81, .aload 4), (83, .getfield 169), (86, .iload 5), (88, .iaload), (89, .istore 6), (91, .iconst (-1)), (92, .istore 7), (94, .iload 7), (96, .iconst 2), (97, .if_icmp .ge 36), (100, .iload 6), (102, .ifCond .eq 10), (105, .iload 6), (107, .bipush 17), (109, .if_icmp .ne 24), (112, .aload_n 0), (113, .aload 4), (115, .getfield 175), (118, .iload 5), (120, .iaload), (121, .iload 7), (123, .iadd), (124, .invokevirtual 209), (127, .iinc 7 1)]),
  (184, [(130, .goto (-36)), (133, .iload 6), (135, .bipush 13), (137, .if_icmp .ne 15), (140, .aload_n 0), (141, .aload 4), (143, .getfield 175), (146, .iload 5), (148, .iaload), (149, .invokevirtual 209), (152, .iload 6), (154, .bipush 13), (156, .if_icmp .ne 15), (159, .aload_n 0), (160, .aload 4), (162, .getfield 178), (165, .iload 5), (167, .iaload), (168, .invokevirtual 209), (171, .iinc 5 1), (174, .goto (-103)), (177, .iinc 3 1), (180, .goto (-122)), (183, .iconst 2)]),
  (221, [(184, .istore_n 1), (185, .aload_n 0), (186, .getfield 18), (189, .astore_n 2), (190, .aload_n 2), (191, .arraylength), (192, .istore_n 3), (193, .iconst 0), (194, .istore 4), (196, .iload 4), (198, .iload_n 3), (199, .if_icmp .ge 28), (202, .aload_n 2), (203, .iload 4), (205, .baload), (206, .istore 5), (208, .iload_n 1), (209, .iload 5), (211, .ifCond .eq 7), (214, .iconst 1), (215, .goto 4), (218, .iconst 0), (219, .iadd), (220, .istore_n 1)]),
  (232, [(221, .iinc 4 1), (224, .goto (-28)), (227, .aload_n 0), (228, .getfield 12), (231, .iload_n 1)]),
  (234, [(232, .newarray .int)]),
  (277, [(234, .putfield 212), (237, .aload_n 0), (238, .getfield 12), (241, .getfield 212), (244, .iconst 0), (245, .ldc 217), (247, .iastore), (248, .iconst 1), (249, .istore_n 2), (250, .iconst 0), (251, .istore_n 3), (252, .iload_n 3), (253, .aload_n 0), (254, .getfield 18), (257, .arraylength), (258, .if_icmp .ge 34), (261, .aload_n 0), (262, .getfield 18), (265, .iload_n 3), (266, .baload), (267, .ifCond .eq 19), (270, .aload_n 0), (271, .getfield 12), (274, .getfield 212)]),
  (312, [(277, .iload_n 2), (278, .iinc 2 1), (281, .iload_n 3), (282, .ldc 208), (284, .isub), (285, .iastore), (286, .iinc 3 1), (289, .goto (-37)), (292, .aload_n 0), (293, .getfield 12), (296, .getfield 212), (299, .iload_n 2), (300, .ldc 218), (302, .iastore), (303, .return_)])]
theorem ok_X11_findMarks : CodeOK cX11_findMarks k_X11_findMarks := okw 0 (by decide +kernel) (okw 40 (by decide +kernel) (okw 81 (by decide +kernel) (okw 130 (by decide +kernel) (okw 184 (by decide +kernel) (okw 221 (by decide +kernel) (okc (by decide +kernel) (okw 234 (by decide +kernel) (okw 277 (by decide +kernel) (okn)))))))))
abbrev p_X11_findMarks (l : Launch) (G : JG) : JP := (true, [(12, 11, 0, 16, 0), (18, 11, 5, 106, 0), (82, 12, 6, 128, 0), (169, 14, 7, 104, 0), (175, 14, 9, 104, 0), (178, 14, 10, 104, 0), (212, 12, 12, 104, 0)], [(208, 32770), (217, (-2147483648)), (218, 2147483647)], [], [(212, 12, 12, 104)], [], [], [(121, 1, [2014], 0, S_X14_size l G), (209, 1, [0, 2011], 700, S_X11_mark l G)], false, 700, [])
theorem pk_X11_findMarks {K : JC} {l : Launch} {G : JG} {Q : Int → MH → Prop} {E : Nat → Int → MH → Prop} {h0 : MH} (ki : KI K l G yX11_findMarks cX11_findMarks 8 none [] 5 171 700 Q E h0) (hG : gO G = true) : POK K RX11 (p_X11_findMarks l G) :=
  POKi (y := yX11_findMarks) ki hG (rfs rf_X11_ok (by decide +kernel)) (subs (by decide +kernel) rc_X11_ok) fmz (rps rp_X11_ok (by decide +kernel)) fmz fmz
  (pkE ki (by
    intro K e1 e2 e3 e4; subst e1; subst e2
    exact fmE (ceV 14 e3 e4 yl_X14_size ⟨by decide, ⟨_, _, rfl⟩, q1040, q1041, q1039⟩ rfl) (fmE (ceV 11 e3 e4 yl_X11_mark ⟨by decide, ⟨_, _, rfl⟩, q1161, qs22, q1159⟩ rfl) (fmz)))) (fun z => Bool.noConfusion z) rfl (pkP ki (by
    intro K e1 e2 e3 e4; subst e1; subst e2
    exact fmz))
theorem r_X11_findMarks_0 {K : JC} {l : Launch} {G : JG} {Q : Int → MH → Prop} {E : Nat → Int → MH → Prop} {h0 : MH} (ki : KI K l G yX11_findMarks cX11_findMarks 8 none [] 5 171 700 Q E h0) (hG : gO G = true) {v0 : Int} {h : MH} (H :
    (∀ x1_1 : Int, x1_1 = 0 →
    JW K 2 [(2011, v0), (0, x1_1), (5000, 0), (5000, 0), (5000, 0), (5000, 0), (5000, 0), (5000, 0)] [] h)) : JW K 0 [(2011, v0), (5000, 0), (5000, 0), (5000, 0), (5000, 0), (5000, 0), (5000, 0), (5000, 0)] [] h := by
  have e1 := ki.2.2.2.2.1
  have e2 := ki.2.2.2.2.2.1
  subst e1; subst e2
  exact run_ok (dia := [(211, 219)]) (cnr := [(102, 112, 133)]) (cuts := [(2, [2011, 0, 5000, 5000, 5000, 5000, 5000, 5000], []), (58, [2011, 128, 0, 0, 5000, 5000, 5000, 5000], []), (71, [2011, 128, 0, 0, 18, 0, 5000, 5000], []), (94, [2011, 128, 0, 0, 18, 0, 0, 0], []), (196, [2011, 0, 106, 0, 0, 5000, 5000, 5000], []), (252, [2011, 0, 0, 0, 0, 5000, 5000, 5000], [])]) ki.1 (pk_X11_findMarks ki hG) ok_X11_findMarks (by decide) 4 true _ _ _ _ H
theorem r_X11_findMarks_2 {K : JC} {l : Launch} {G : JG} {Q : Int → MH → Prop} {E : Nat → Int → MH → Prop} {h0 : MH} (ki : KI K l G yX11_findMarks cX11_findMarks 8 none [] 5 171 700 Q E h0) (hG : gO G = true) {v0 v1 : Int} {h : MH} (H :
    ((hv h v0 5) ≠ 0) ∧
    (((hn h (hv h v0 5)) ≤ v1 →
      S_X11_mark l G [(2011, v0), (0, (-1))] h (fun _ h2 =>
      S_X11_mark l G [(2011, v0), (0, 0)] h2 (fun _ h4 =>
      S_X11_mark l G [(2011, v0), (0, 1)] h4 (fun _ h6 =>
      S_X11_mark l G [(2011, v0), (0, 100)] h6 (fun _ h8 =>
      ((hv h8 v0 0) ≠ 0) ∧
      (∀ x1_9 : Int, x1_9 = (hv h8 (hv h8 v0 0) 6) →
      (x1_9 ≠ 0) ∧
      (∀ x2_10 : Int, x2_10 = (hn h8 x1_9) →
      (∀ x3_11 : Int, x3_11 = 0 →
      JW K 58 [(2011, v0), (128, x1_9), (0, x2_10), (0, x3_11), (5000, 0), (5000, 0), (5000, 0), (5000, 0)] [] h8)))) E) E) E) E) ∧
    (v1 < (hn h (hv h v0 5)) →
      ((hv h v0 5) ≠ 0) ∧
      (0 ≤ v1) ∧
      (v1 < (hn h (hv h v0 5))) ∧
      ((0 : Int) = 0 ∨ (0 : Int) = 1) ∧
      (∀ h12, h12 = hset h (hv h v0 5) v1 0 →
      (∀ x1_13 : Int, x1_13 = w32 (v1 + 1) →
      JW K 2 [(2011, v0), (0, x1_13), (5000, 0), (5000, 0), (5000, 0), (5000, 0), (5000, 0), (5000, 0)] [] h12))))) : JW K 2 [(2011, v0), (0, v1), (5000, 0), (5000, 0), (5000, 0), (5000, 0), (5000, 0), (5000, 0)] [] h := by
  have e1 := ki.2.2.2.2.1
  have e2 := ki.2.2.2.2.2.1
  subst e1; subst e2
  exact run_ok (dia := [(211, 219)]) (cnr := [(102, 112, 133)]) (cuts := [(2, [2011, 0, 5000, 5000, 5000, 5000, 5000, 5000], []), (58, [2011, 128, 0, 0, 5000, 5000, 5000, 5000], []), (71, [2011, 128, 0, 0, 18, 0, 5000, 5000], []), (94, [2011, 128, 0, 0, 18, 0, 0, 0], []), (196, [2011, 0, 106, 0, 0, 5000, 5000, 5000], []), (252, [2011, 0, 0, 0, 0, 5000, 5000, 5000], [])]) ki.1 (pk_X11_findMarks ki hG) ok_X11_findMarks (by decide) 28 true _ _ _ _ H
theorem r_X11_findMarks_58 {K : JC} {l : Launch} {G : JG} {Q : Int → MH → Prop} {E : Nat → Int → MH → Prop} {h0 : MH} (ki : KI K l G yX11_findMarks cX11_findMarks 8 none [] 5 171 700 Q E h0) (hG : gO G = true) {v0 v1 v2 v3 : Int} {h : MH} (H :
    ((v2 ≤ v3 →
      (∀ x1_1 : Int, x1_1 = 2 →
      (∀ x2_2 : Int, x2_2 = (hv h v0 5) →
      (x2_2 ≠ 0) ∧
      (∀ x3_3 : Int, x3_3 = (hn h x2_2) →
      (∀ x4_4 : Int, x4_4 = 0 →
      JW K 196 [(2011, v0), (0, x1_1), (106, x2_2), (0, x3_3), (0, x4_4), (5000, 0), (5000, 0), (5000, 0)] [] h))))) ∧
    (v3 < v2 →
      (v1 ≠ 0) ∧
      (0 ≤ v3) ∧
      (v3 < (hn h v1)) ∧
      (∀ x4_5 : Int, x4_5 = (hv h v1 v3) →
      (∀ x5_6 : Int, x5_6 = 0 →
      JW K 71 [(2011, v0), (128, v1), (0, v2), (0, v3), (18, x4_5), (0, x5_6), (5000, 0), (5000, 0)] [] h))))) : JW K 58 [(2011, v0), (128, v1), (0, v2), (0, v3), (5000, 0), (5000, 0), (5000, 0), (5000, 0)] [] h := by
  have e1 := ki.2.2.2.2.1
  have e2 := ki.2.2.2.2.2.1
  subst e1; subst e2
  exact run_ok (dia := [(211, 219)]) (cnr := [(102, 112, 133)]) (cuts := [(2, [2011, 0, 5000, 5000, 5000, 5000, 5000, 5000], []), (58, [2011, 128, 0, 0, 5000, 5000, 5000, 5000], []), (71, [2011, 128, 0, 0, 18, 0, 5000, 5000], []), (94, [2011, 128, 0, 0, 18, 0, 0, 0], []), (196, [2011, 0, 106, 0, 0, 5000, 5000, 5000], []), (252, [2011, 0, 0, 0, 0, 5000, 5000, 5000], [])]) ki.1 (pk_X11_findMarks ki hG) ok_X11_findMarks (by decide) 15 true _ _ _ _ H
theorem r_X11_findMarks_71 {K : JC} {l : Launch} {G : JG} {Q : Int → MH → Prop} {E : Nat → Int → MH → Prop} {h0 : MH} (ki : KI K l G yX11_findMarks cX11_findMarks 8 none [] 5 171 700 Q E h0) (hG : gO G = true) {v0 v1 v2 v3 v4 v5 : Int} {h : MH} (H :
    (v4 ≠ 0) ∧
    S_X14_size l G [(2014, v4)] h (fun z1 h2 =>
    ((z1 ≤ v5 →
      (∀ x3_3 : Int, x3_3 = w32 (v3 + 1) →
      JW K 58 [(2011, v0), (128, v1), (0, v2), (0, x3_3), (5000, 0), (5000, 0), (5000, 0), (5000, 0)] [] h2)) ∧
    (v5 < z1 →
      (v4 ≠ 0) ∧
      ((hv h2 v4 7) ≠ 0) ∧
      (0 ≤ v5) ∧
      (v5 < (hn h2 (hv h2 v4 7))) ∧
      (∀ x6_4 : Int, x6_4 = (hv h2 (hv h2 v4 7) v5) →
      (∀ x7_5 : Int, x7_5 = (-1) →
      JW K 94 [(2011, v0), (128, v1), (0, v2), (0, v3), (18, v4), (0, v5), (0, x6_4), (0, x7_5)] [] h2))))) E) : JW K 71 [(2011, v0), (128, v1), (0, v2), (0, v3), (18, v4), (0, v5), (5000, 0), (5000, 0)] [] h := by
  have e1 := ki.2.2.2.2.1
  have e2 := ki.2.2.2.2.2.1
  subst e1; subst e2
  exact run_ok (dia := [(211, 219)]) (cnr := [(102, 112, 133)]) (cuts := [(2, [2011, 0, 5000, 5000, 5000, 5000, 5000, 5000], []), (58, [2011, 128, 0, 0, 5000, 5000, 5000, 5000], []), (71, [2011, 128, 0, 0, 18, 0, 5000, 5000], []), (94, [2011, 128, 0, 0, 18, 0, 0, 0], []), (196, [2011, 0, 106, 0, 0, 5000, 5000, 5000], []), (252, [2011, 0, 0, 0, 0, 5000, 5000, 5000], [])]) ki.1 (pk_X11_findMarks ki hG) ok_X11_findMarks (by decide) 13 true _ _ _ _ H
theorem r_X11_findMarks_94 {K : JC} {l : Launch} {G : JG} {Q : Int → MH → Prop} {E : Nat → Int → MH → Prop} {h0 : MH} (ki : KI K l G yX11_findMarks cX11_findMarks 8 none [] 5 171 700 Q E h0) (hG : gO G = true) {v0 v1 v2 v3 v4 v5 v6 v7 : Int} {h : MH} (H :
    ((2 ≤ v7 →
      ((¬ v6 = 13 →
        ((¬ v6 = 13 →
          (∀ x5_1 : Int, x5_1 = w32 (v5 + 1) →
          JW K 71 [(2011, v0), (128, v1), (0, v2), (0, v3), (18, v4), (0, x5_1), (5000, 0), (5000, 0)] [] h)) ∧
        (v6 = 13 →
          (v4 ≠ 0) ∧
          ((hv h v4 10) ≠ 0) ∧
          (0 ≤ v5) ∧
          (v5 < (hn h (hv h v4 10))) ∧
          S_X11_mark l G [(2011, v0), (0, (hv h (hv h v4 10) v5))] h (fun _ h3 =>
          (∀ x5_4 : Int, x5_4 = w32 (v5 + 1) →
          JW K 71 [(2011, v0), (128, v1), (0, v2), (0, v3), (18, v4), (0, x5_4), (5000, 0), (5000, 0)] [] h3)) E))) ∧
      (v6 = 13 →
        (v4 ≠ 0) ∧
        ((hv h v4 9) ≠ 0) ∧
        (0 ≤ v5) ∧
        (v5 < (hn h (hv h v4 9))) ∧
        S_X11_mark l G [(2011, v0), (0, (hv h (hv h v4 9) v5))] h (fun _ h6 =>
        ((¬ v6 = 13 →
          (∀ x5_7 : Int, x5_7 = w32 (v5 + 1) →
          JW K 71 [(2011, v0), (128, v1), (0, v2), (0, v3), (18, v4), (0, x5_7), (5000, 0), (5000, 0)] [] h6)) ∧
        (v6 = 13 →
          (v4 ≠ 0) ∧
          ((hv h6 v4 10) ≠ 0) ∧
          (0 ≤ v5) ∧
          (v5 < (hn h6 (hv h6 v4 10))) ∧
          S_X11_mark l G [(2011, v0), (0, (hv h6 (hv h6 v4 10) v5))] h6 (fun _ h9 =>
          (∀ x5_10 : Int, x5_10 = w32 (v5 + 1) →
          JW K 71 [(2011, v0), (128, v1), (0, v2), (0, v3), (18, v4), (0, x5_10), (5000, 0), (5000, 0)] [] h9)) E))) E))) ∧
    (v7 < 2 →
      (((v6 = 0 ∨ v6 = 17) →
        (v4 ≠ 0) ∧
        ((hv h v4 9) ≠ 0) ∧
        (0 ≤ v5) ∧
        (v5 < (hn h (hv h v4 9))) ∧
        S_X11_mark l G [(2011, v0), (0, (w32 ((hv h (hv h v4 9) v5) + v7)))] h (fun _ h12 =>
        (∀ x7_13 : Int, x7_13 = w32 (v7 + 1) →
        JW K 94 [(2011, v0), (128, v1), (0, v2), (0, v3), (18, v4), (0, v5), (0, v6), (0, x7_13)] [] h12)) E) ∧
      (¬ (v6 = 0 ∨ v6 = 17) →
        ((¬ v6 = 13 →
          ((¬ v6 = 13 →
            (∀ x5_14 : Int, x5_14 = w32 (v5 + 1) →
            JW K 71 [(2011, v0), (128, v1), (0, v2), (0, v3), (18, v4), (0, x5_14), (5000, 0), (5000, 0)] [] h)) ∧
          (v6 = 13 →
            (v4 ≠ 0) ∧
            ((hv h v4 10) ≠ 0) ∧
            (0 ≤ v5) ∧
            (v5 < (hn h (hv h v4 10))) ∧
            S_X11_mark l G [(2011, v0), (0, (hv h (hv h v4 10) v5))] h (fun _ h16 =>
            (∀ x5_17 : Int, x5_17 = w32 (v5 + 1) →
            JW K 71 [(2011, v0), (128, v1), (0, v2), (0, v3), (18, v4), (0, x5_17), (5000, 0), (5000, 0)] [] h16)) E))) ∧
        (v6 = 13 →
          (v4 ≠ 0) ∧
          ((hv h v4 9) ≠ 0) ∧
          (0 ≤ v5) ∧
          (v5 < (hn h (hv h v4 9))) ∧
          S_X11_mark l G [(2011, v0), (0, (hv h (hv h v4 9) v5))] h (fun _ h19 =>
          ((¬ v6 = 13 →
            (∀ x5_20 : Int, x5_20 = w32 (v5 + 1) →
            JW K 71 [(2011, v0), (128, v1), (0, v2), (0, v3), (18, v4), (0, x5_20), (5000, 0), (5000, 0)] [] h19)) ∧
          (v6 = 13 →
            (v4 ≠ 0) ∧
            ((hv h19 v4 10) ≠ 0) ∧
            (0 ≤ v5) ∧
            (v5 < (hn h19 (hv h19 v4 10))) ∧
            S_X11_mark l G [(2011, v0), (0, (hv h19 (hv h19 v4 10) v5))] h19 (fun _ h22 =>
            (∀ x5_23 : Int, x5_23 = w32 (v5 + 1) →
            JW K 71 [(2011, v0), (128, v1), (0, v2), (0, v3), (18, v4), (0, x5_23), (5000, 0), (5000, 0)] [] h22)) E))) E))))))) : JW K 94 [(2011, v0), (128, v1), (0, v2), (0, v3), (18, v4), (0, v5), (0, v6), (0, v7)] [] h := by
  have e1 := ki.2.2.2.2.1
  have e2 := ki.2.2.2.2.2.1
  subst e1; subst e2
  exact run_ok (dia := [(211, 219)]) (cnr := [(102, 112, 133)]) (cuts := [(2, [2011, 0, 5000, 5000, 5000, 5000, 5000, 5000], []), (58, [2011, 128, 0, 0, 5000, 5000, 5000, 5000], []), (71, [2011, 128, 0, 0, 18, 0, 5000, 5000], []), (94, [2011, 128, 0, 0, 18, 0, 0, 0], []), (196, [2011, 0, 106, 0, 0, 5000, 5000, 5000], []), (252, [2011, 0, 0, 0, 0, 5000, 5000, 5000], [])]) ki.1 (pk_X11_findMarks ki hG) ok_X11_findMarks (by decide) 27 true _ _ _ _ H
theorem r_X11_findMarks_196 {K : JC} {l : Launch} {G : JG} {Q : Int → MH → Prop} {E : Nat → Int → MH → Prop} {h0 : MH} (ki : KI K l G yX11_findMarks cX11_findMarks 8 none [] 5 171 700 Q E h0) (hG : gO G = true) {v0 v1 v2 v3 v4 : Int} {h : MH} (H :
    ((v3 ≤ v4 →
      (0 ≤ v1) ∧
      (hz h + 1 ≤ LIMC) ∧
      (hs h + v1 ≤ LIMS) ∧
      (∀ h1, h1 = hnew h 100 v1 v1 →
      ((hv h v0 0) ≠ 0) ∧
      (∀ h2, h2 = hset h1 (hv h v0 0) 12 (hz h + 1) →
      ((hv h2 v0 0) ≠ 0) ∧
      ((hv h2 (hv h2 v0 0) 12) ≠ 0) ∧
      (0 ≤ (0 : Int)) ∧
      (0 < (hn h2 (hv h2 (hv h2 v0 0) 12))) ∧
      (∀ h3, h3 = hset h2 (hv h2 (hv h2 v0 0) 12) 0 (-2147483648) →
      (∀ x2_4 : Int, x2_4 = 1 →
      (∀ x3_5 : Int, x3_5 = 0 →
      JW K 252 [(2011, v0), (0, v1), (0, x2_4), (0, x3_5), (0, v4), (5000, 0), (5000, 0), (5000, 0)] [] h3)))))) ∧
    (v4 < v3 →
      (v2 ≠ 0) ∧
      (0 ≤ v4) ∧
      (v4 < (hn h v2)) ∧
      (∀ x5_6 : Int, x5_6 = (hv h v2 v4) →
      (∀ x1_7 : Int, x1_7 = (w32 (v1 + (if x5_6 = 0 then 0 else 1 : Int))) →
      (∀ x4_8 : Int, x4_8 = w32 (v4 + 1) →
      JW K 196 [(2011, v0), (0, x1_7), (106, v2), (0, v3), (0, x4_8), (5000, 0), (5000, 0), (5000, 0)] [] h)))))) : JW K 196 [(2011, v0), (0, v1), (106, v2), (0, v3), (0, v4), (5000, 0), (5000, 0), (5000, 0)] [] h := by
  have e1 := ki.2.2.2.2.1
  have e2 := ki.2.2.2.2.2.1
  subst e1; subst e2
  exact run_ok (dia := [(211, 219)]) (cnr := [(102, 112, 133)]) (cuts := [(2, [2011, 0, 5000, 5000, 5000, 5000, 5000, 5000], []), (58, [2011, 128, 0, 0, 5000, 5000, 5000, 5000], []), (71, [2011, 128, 0, 0, 18, 0, 5000, 5000], []), (94, [2011, 128, 0, 0, 18, 0, 0, 0], []), (196, [2011, 0, 106, 0, 0, 5000, 5000, 5000], []), (252, [2011, 0, 0, 0, 0, 5000, 5000, 5000], [])]) ki.1 (pk_X11_findMarks ki hG) ok_X11_findMarks (by decide) 20 true _ _ _ _ H
theorem r_X11_findMarks_252 {K : JC} {l : Launch} {G : JG} {Q : Int → MH → Prop} {E : Nat → Int → MH → Prop} {h0 : MH} (ki : KI K l G yX11_findMarks cX11_findMarks 8 none [] 5 171 700 Q E h0) (hG : gO G = true) {v0 v1 v2 v3 v4 : Int} {h : MH} (H :
    ((hv h v0 5) ≠ 0) ∧
    (((hn h (hv h v0 5)) ≤ v3 →
      ((hv h v0 0) ≠ 0) ∧
      ((hv h (hv h v0 0) 12) ≠ 0) ∧
      (0 ≤ v2) ∧
      (v2 < (hn h (hv h (hv h v0 0) 12))) ∧
      (∀ h1, h1 = hset h (hv h (hv h v0 0) 12) v2 2147483647 →
      Q 0 h1)) ∧
    (v3 < (hn h (hv h v0 5)) →
      ((hv h v0 5) ≠ 0) ∧
      (0 ≤ v3) ∧
      (v3 < (hn h (hv h v0 5))) ∧
      (((hv h (hv h v0 5) v3) = 0 →
        (∀ x3_2 : Int, x3_2 = w32 (v3 + 1) →
        JW K 252 [(2011, v0), (0, v1), (0, v2), (0, x3_2), (0, v4), (5000, 0), (5000, 0), (5000, 0)] [] h)) ∧
      (¬ (hv h (hv h v0 5) v3) = 0 →
        ((hv h v0 0) ≠ 0) ∧
        (∀ x2_3 : Int, x2_3 = w32 (v2 + 1) →
        ((hv h (hv h v0 0) 12) ≠ 0) ∧
        (0 ≤ v2) ∧
        (v2 < (hn h (hv h (hv h v0 0) 12))) ∧
        (∀ h4, h4 = hset h (hv h (hv h v0 0) 12) v2 (w32 (v3 - 32770)) →
        (∀ x3_5 : Int, x3_5 = w32 (v3 + 1) →
        JW K 252 [(2011, v0), (0, v1), (0, x2_3), (0, x3_5), (0, v4), (5000, 0), (5000, 0), (5000, 0)] [] h4)))))))) : JW K 252 [(2011, v0), (0, v1), (0, v2), (0, v3), (0, v4), (5000, 0), (5000, 0), (5000, 0)] [] h := by
  have e1 := ki.2.2.2.2.1
  have e2 := ki.2.2.2.2.2.1
  subst e1; subst e2
  exact run_ok (dia := [(211, 219)]) (cnr := [(102, 112, 133)]) (cuts := [(2, [2011, 0, 5000, 5000, 5000, 5000, 5000, 5000], []), (58, [2011, 128, 0, 0, 5000, 5000, 5000, 5000], []), (71, [2011, 128, 0, 0, 18, 0, 5000, 5000], []), (94, [2011, 128, 0, 0, 18, 0, 0, 0], []), (196, [2011, 0, 106, 0, 0, 5000, 5000, 5000], []), (252, [2011, 0, 0, 0, 0, 5000, 5000, 5000], [])]) ki.1 (pk_X11_findMarks ki hG) ok_X11_findMarks (by decide) 23 true _ _ _ _ H
abbrev k_X11_mark : List (Nat × List (Nat × Instr)) := [(19, [(0, .aload_n 0), (1, .getfield 18), (4, .iload_n 1), (5, .ldc 208), (7, .iadd), (8, .iconst 1), (9, .bastore), (10, .return_)])]
theorem ok_X11_mark : CodeOK cX11_mark k_X11_mark := okw 0 (by decide +kernel) (okn)
abbrev p_X11_mark (l : Launch) (G : JG) : JP := (true, [(18, 11, 5, 106, 0)], [(208, 32770)], [], [], [], [], [], false, 700, [])
theorem pk_X11_mark {K : JC} {l : Launch} {G : JG} {Q : Int → MH → Prop} {E : Nat → Int → MH → Prop} {h0 : MH} (ki : KI K l G yX11_mark cX11_mark 2 none [] 4 150 700 Q E h0) (hG : gO G = true) : POK K RX11 (p_X11_mark l G) :=
  POKi (y := yX11_mark) ki hG (rfs rf_X11_ok (by decide +kernel)) (subs (by decide +kernel) rc_X11_ok) fmz fmz fmz fmz
  (pkE ki (by
    intro K e1 e2 e3 e4; subst e1; subst e2
    exact fmz)) (fun z => Bool.noConfusion z) rfl (pkP ki (by
    intro K e1 e2 e3 e4; subst e1; subst e2
    exact fmz))
theorem r_X11_mark_0 {K : JC} {l : Launch} {G : JG} {Q : Int → MH → Prop} {E : Nat → Int → MH → Prop} {h0 : MH} (ki : KI K l G yX11_mark cX11_mark 2 none [] 4 150 700 Q E h0) (hG : gO G = true) {v0 v1 : Int} {h : MH} (H :
    ((hv h v0 5) ≠ 0) ∧
    (0 ≤ (w32 (v1 + 32770))) ∧
    ((w32 (v1 + 32770)) < (hn h (hv h v0 5))) ∧
    ((1 : Int) = 0 ∨ (1 : Int) = 1) ∧
    (∀ h1, h1 = hset h (hv h v0 5) (w32 (v1 + 32770)) 1 →
    Q 0 h1)) : JW K 0 [(2011, v0), (0, v1)] [] h := by
  have e1 := ki.2.2.2.2.1
  have e2 := ki.2.2.2.2.2.1
  subst e1; subst e2
  exact run_ok (dia := []) (cnr := []) (cuts := []) ki.1 (pk_X11_mark ki hG) ok_X11_mark (by decide) 9 true _ _ _ _ H
abbrev k_X12_init : List (Nat × List (Nat × Instr)) := [(7, [(0, .aload_n 0), (1, .invokespecial 3), (4, .aload_n 0), (5, .bipush 24)]),
  (9, [(7, .newarray .int)]),
  (24, [(9, .putfield 9), (12, .aload_n 0), (13, .bipush 24), (15, .anewarray 15), (18, .putfield 16), (21, .aload_n 0), (22, .bipush 63)]),
  (26, [(24, .newarray .int)]),
  (38, [(26, .putfield 20), (29, .return_)])]
theorem ok_X12_init : CodeOK cX12_init k_X12_init := okw 0 (by decide +kernel) (okc (by decide +kernel) (okw 9 (by decide +kernel) (okc (by decide +kernel) (okw 26 (by decide +kernel) (okn)))))
abbrev p_X12_init (l : Launch) (G : JG) : JP := (true, [], [], [], [(9, 12, 3, 104), (16, 12, 4, 134), (20, 12, 9, 104)], [], [(15, 130)], [(3, 3, [], 700, fun _ _ _ _ => True)], true, 700, [])
theorem pk_X12_init {K : JC} {l : Launch} {G : JG} {Q : Int → MH → Prop} {E : Nat → Int → MH → Prop} {h0 : MH} (ki : KI K l G yX12_init cX12_init 1 none [] 5 170 700 Q E h0) (hG : gO G = true) : POK K RX12 (p_X12_init l G) :=
  POKi (y := yX12_init) ki hG fmz fmz fmz (rps rp_X12_ok (by decide +kernel)) fmz (subs (by decide +kernel) ra_X12_ok)
  (pkE ki (by
    intro K e1 e2 e3 e4; subst e1; subst e2
    exact fmE (ceO e3 e4 q693 rfl) (fmz))) (fun _ => rfl) rfl (pkP ki (by
    intro K e1 e2 e3 e4; subst e1; subst e2
    exact fmz))
theorem r_X12_init_0 {K : JC} {l : Launch} {G : JG} {Q : Int → MH → Prop} {E : Nat → Int → MH → Prop} {h0 : MH} (ki : KI K l G yX12_init cX12_init 1 none [] 5 170 700 Q E h0) (hG : gO G = true) {v0 : Int} {h : MH} (H :
    (0 ≤ (24 : Int)) ∧
    (hz h + 1 ≤ LIMC) ∧
    (hs h + 24 ≤ LIMS) ∧
    (∀ h1, h1 = hnew h 100 24 24 →
    (∀ h2, h2 = hset h1 v0 3 (hz h + 1) →
    (0 ≤ (24 : Int)) ∧
    (hz h2 + 1 ≤ LIMC) ∧
    (hs h2 + 24 ≤ LIMS) ∧
    (∀ h3, h3 = hnew h2 130 24 24 →
    (∀ h4, h4 = hset h3 v0 4 (hz h2 + 1) →
    (0 ≤ (63 : Int)) ∧
    (hz h4 + 1 ≤ LIMC) ∧
    (hs h4 + 63 ≤ LIMS) ∧
    (∀ h5, h5 = hnew h4 100 63 63 →
    (∀ h6, h6 = hset h5 v0 9 (hz h4 + 1) →
    Q 0 h6))))))) : JW K 0 [(2012, v0)] [] h := by
  have e1 := ki.2.2.2.2.1
  have e2 := ki.2.2.2.2.2.1
  subst e1; subst e2
  exact run_ok (dia := []) (cnr := []) (cuts := []) ki.1 (pk_X12_init ki hG) ok_X12_init (by decide) 16 true _ _ _ _ H
abbrev k_X12_named : List (Nat × List (Nat × Instr)) := [(44, [(0, .iconst 0), (1, .istore_n 2), (2, .iload_n 2), (3, .aload_n 0), (4, .getfield 34), (7, .arraylength), (8, .if_icmp .ge 44), (11, .aload_n 0), (12, .getfield 34), (15, .iload_n 2), (16, .aaload), (17, .getfield 38), (20, .sipush 255), (23, .if_icmp .eq 23), (26, .aload_n 0), (27, .getfield 34), (30, .iload_n 2), (31, .aaload), (32, .getfield 43), (35, .iload_n 1), (36, .if_icmp .ne 10), (39, .aload_n 0), (40, .getfield 34), (43, .iload_n 2)]),
  (62, [(44, .aaload), (45, .areturn), (46, .iinc 2 1), (49, .goto (-47)), (52, .aconst_null), (53, .areturn)])]
theorem ok_X12_named : CodeOK cX12_named k_X12_named := okw 0 (by decide +kernel) (okw 44 (by decide +kernel) (okn))
abbrev p_X12_named (l : Launch) (G : JG) : JP := (true, [(34, 12, 6, 128, 0), (38, 14, 1, 0, 0), (43, 14, 2, 0, 0)], [], [], [], [], [], [], false, 18, [])
theorem pk_X12_named {K : JC} {l : Launch} {G : JG} {Q : Int → MH → Prop} {E : Nat → Int → MH → Prop} {h0 : MH} (ki : KI K l G yX12_named cX12_named 3 (some (.object "FactHouse$Method")) [] 4 150 18 Q E h0) (hG : gO G = true) : POK K RX12 (p_X12_named l G) :=
  POKi (y := yX12_named) ki hG (rfs rf_X12_ok (by decide +kernel)) fmz fmz fmz fmz fmz
  (pkE ki (by
    intro K e1 e2 e3 e4; subst e1; subst e2
    exact fmz)) (fun z => Bool.noConfusion z) rfl (pkP ki (by
    intro K e1 e2 e3 e4; subst e1; subst e2
    exact fmz))
theorem r_X12_named_0 {K : JC} {l : Launch} {G : JG} {Q : Int → MH → Prop} {E : Nat → Int → MH → Prop} {h0 : MH} (ki : KI K l G yX12_named cX12_named 3 (some (.object "FactHouse$Method")) [] 4 150 18 Q E h0) (hG : gO G = true) {v0 v1 : Int} {h : MH} (H :
    (∀ x2_1 : Int, x2_1 = 0 →
    JW K 2 [(2012, v0), (0, v1), (0, x2_1)] [] h)) : JW K 0 [(2012, v0), (0, v1), (5000, 0)] [] h := by
  have e1 := ki.2.2.2.2.1
  have e2 := ki.2.2.2.2.2.1
  subst e1; subst e2
  exact run_ok (dia := []) (cnr := [(23, 39, 46)]) (cuts := [(2, [2012, 0, 0], [])]) ki.1 (pk_X12_named ki hG) ok_X12_named (by decide) 4 true _ _ _ _ H
theorem r_X12_named_2 {K : JC} {l : Launch} {G : JG} {Q : Int → MH → Prop} {E : Nat → Int → MH → Prop} {h0 : MH} (ki : KI K l G yX12_named cX12_named 3 (some (.object "FactHouse$Method")) [] 4 150 18 Q E h0) (hG : gO G = true) {v0 v1 v2 : Int} {h : MH} (H :
    ((hv h v0 6) ≠ 0) ∧
    (((hn h (hv h v0 6)) ≤ v2 →
      Q 0 h) ∧
    (v2 < (hn h (hv h v0 6)) →
      ((hv h v0 6) ≠ 0) ∧
      (0 ≤ v2) ∧
      (v2 < (hn h (hv h v0 6))) ∧
      ((hv h (hv h v0 6) v2) ≠ 0) ∧
      ((¬ (hv h (hv h (hv h v0 6) v2) 1) = 255 → ((hv h v0 6) ≠ 0) ∧ (0 ≤ v2) ∧ (v2 < (hn h (hv h v0 6))) ∧ (hv h (hv h v0 6) v2) ≠ 0)) ∧
      (((¬ (hv h (hv h (hv h v0 6) v2) 1) = 255 ∧ (hv h (hv h (hv h v0 6) v2) 2) = v1) →
        ((hv h v0 6) ≠ 0) ∧
        (0 ≤ v2) ∧
        (v2 < (hn h (hv h v0 6))) ∧
        Q (hv h (hv h v0 6) v2) h) ∧
      (¬ (¬ (hv h (hv h (hv h v0 6) v2) 1) = 255 ∧ (hv h (hv h (hv h v0 6) v2) 2) = v1) →
        (∀ x2_1 : Int, x2_1 = w32 (v2 + 1) →
        JW K 2 [(2012, v0), (0, v1), (0, x2_1)] [] h)))))) : JW K 2 [(2012, v0), (0, v1), (0, v2)] [] h := by
  have e1 := ki.2.2.2.2.1
  have e2 := ki.2.2.2.2.2.1
  subst e1; subst e2
  exact run_ok (dia := []) (cnr := [(23, 39, 46)]) (cuts := [(2, [2012, 0, 0], [])]) ki.1 (pk_X12_named ki hG) ok_X12_named (by decide) 18 true _ _ _ _ H
abbrev k_X12_down : List (Nat × List (Nat × Instr)) := [(35, [(0, .iconst 0), (1, .istore_n 3), (2, .aload_n 0), (3, .getfield 46), (6, .arraylength), (7, .iconst 1), (8, .isub), (9, .istore 4), (11, .iload_n 3), (12, .iload 4), (14, .if_icmp .ge 41), (17, .iload_n 3), (18, .iload 4), (20, .iadd), (21, .iconst 1), (22, .iadd), (23, .iconst 2), (24, .idiv), (25, .istore 5), (27, .aload_n 0), (28, .getfield 46), (31, .iload 5), (33, .iaload), (34, .i2l)]),
  (70, [(35, .lload_n 1), (36, .lcmp), (37, .ifCond .gt 9), (40, .iload 5), (42, .istore_n 3), (43, .goto 9), (46, .iload 5), (48, .iconst 1), (49, .isub), (50, .istore 4), (52, .goto (-41)), (55, .aload_n 0), (56, .getfield 46), (59, .iload_n 3), (60, .iaload), (61, .ireturn)])]
theorem ok_X12_down : CodeOK cX12_down k_X12_down := okw 0 (by decide +kernel) (okw 35 (by decide +kernel) (okn))
abbrev p_X12_down (l : Launch) (G : JG) : JP := (true, [(46, 12, 12, 104, 0)], [], [], [], [], [], [], false, 0, [])
theorem pk_X12_down {K : JC} {l : Launch} {G : JG} {Q : Int → MH → Prop} {E : Nat → Int → MH → Prop} {h0 : MH} (ki : KI K l G yX12_down cX12_down 6 (some .int) [] 4 150 0 Q E h0) (hG : gO G = true) : POK K RX12 (p_X12_down l G) :=
  POKi (y := yX12_down) ki hG (rfs rf_X12_ok (by decide +kernel)) fmz fmz fmz fmz fmz
  (pkE ki (by
    intro K e1 e2 e3 e4; subst e1; subst e2
    exact fmz)) (fun z => Bool.noConfusion z) rfl (pkP ki (by
    intro K e1 e2 e3 e4; subst e1; subst e2
    exact fmz))
theorem r_X12_down_0 {K : JC} {l : Launch} {G : JG} {Q : Int → MH → Prop} {E : Nat → Int → MH → Prop} {h0 : MH} (ki : KI K l G yX12_down cX12_down 6 (some .int) [] 4 150 0 Q E h0) (hG : gO G = true) {v0 v1 : Int} {h : MH} (H :
    (∀ x3_1 : Int, x3_1 = 0 →
    ((hv h v0 12) ≠ 0) ∧
    (∀ x4_2 : Int, x4_2 = (w32 ((hn h (hv h v0 12)) - 1)) →
    JW K 11 [(2012, v0), (1, v1), (5000, 0), (0, x3_1), (0, x4_2), (5000, 0)] [] h))) : JW K 0 [(2012, v0), (1, v1), (5000, 0), (5000, 0), (5000, 0), (5000, 0)] [] h := by
  have e1 := ki.2.2.2.2.1
  have e2 := ki.2.2.2.2.2.1
  subst e1; subst e2
  exact run_ok (dia := []) (cnr := []) (cuts := [(11, [2012, 1, 5000, 0, 0, 5000], [])]) ki.1 (pk_X12_down ki hG) ok_X12_down (by decide) 10 true _ _ _ _ H
theorem r_X12_down_11 {K : JC} {l : Launch} {G : JG} {Q : Int → MH → Prop} {E : Nat → Int → MH → Prop} {h0 : MH} (ki : KI K l G yX12_down cX12_down 6 (some .int) [] 4 150 0 Q E h0) (hG : gO G = true) {v0 v1 v3 v4 : Int} {h : MH} (H :
    ((v4 ≤ v3 →
      ((hv h v0 12) ≠ 0) ∧
      (0 ≤ v3) ∧
      (v3 < (hn h (hv h v0 12))) ∧
      Q (hv h (hv h v0 12) v3) h) ∧
    (v3 < v4 →
      (¬ (2 : Int) = 0) ∧
      (∀ x5_1 : Int, x5_1 = (i_div (w32 ((w32 (v3 + v4)) + 1)) 2) →
      ((hv h v0 12) ≠ 0) ∧
      (0 ≤ x5_1) ∧
      (x5_1 < (hn h (hv h v0 12))) ∧
      ((0 < (lc (hv h (hv h v0 12) x5_1) v1) →
        (∀ x4_2 : Int, x4_2 = (w32 (x5_1 - 1)) →
        JW K 11 [(2012, v0), (1, v1), (5000, 0), (0, v3), (0, x4_2), (5000, 0)] [] h)) ∧
      ((lc (hv h (hv h v0 12) x5_1) v1) ≤ 0 →
        (∀ x3_3 : Int, x3_3 = x5_1 →
        JW K 11 [(2012, v0), (1, v1), (5000, 0), (0, x3_3), (0, v4), (5000, 0)] [] h))))))) : JW K 11 [(2012, v0), (1, v1), (5000, 0), (0, v3), (0, v4), (5000, 0)] [] h := by
  have e1 := ki.2.2.2.2.1
  have e2 := ki.2.2.2.2.2.1
  subst e1; subst e2
  exact run_ok (dia := []) (cnr := []) (cuts := [(11, [2012, 1, 5000, 0, 0, 5000], [])]) ki.1 (pk_X12_down ki hG) ok_X12_down (by decide) 26 true _ _ _ _ H
abbrev k_X12_up : List (Nat × List (Nat × Instr)) := [(35, [(0, .iconst 0), (1, .istore_n 3), (2, .aload_n 0), (3, .getfield 46), (6, .arraylength), (7, .iconst 1), (8, .isub), (9, .istore 4), (11, .iload_n 3), (12, .iload 4), (14, .if_icmp .ge 39), (17, .iload_n 3), (18, .iload 4), (20, .iadd), (21, .iconst 2), (22, .idiv), (23, .istore 5), (25, .aload_n 0), (26, .getfield 46), (29, .iload 5), (31, .iaload), (32, .i2l), (33, .lload_n 1), (34, .lcmp)]),
  (68, [(35, .ifCond .lt 10), (38, .iload 5), (40, .istore 4), (42, .goto 8), (45, .iload 5), (47, .iconst 1), (48, .iadd), (49, .istore_n 3), (50, .goto (-39)), (53, .aload_n 0), (54, .getfield 46), (57, .iload_n 3), (58, .iaload), (59, .ireturn)])]
theorem ok_X12_up : CodeOK cX12_up k_X12_up := okw 0 (by decide +kernel) (okw 35 (by decide +kernel) (okn))
abbrev p_X12_up (l : Launch) (G : JG) : JP := (true, [(46, 12, 12, 104, 0)], [], [], [], [], [], [], false, 0, [])
theorem pk_X12_up {K : JC} {l : Launch} {G : JG} {Q : Int → MH → Prop} {E : Nat → Int → MH → Prop} {h0 : MH} (ki : KI K l G yX12_up cX12_up 6 (some .int) [] 4 150 0 Q E h0) (hG : gO G = true) : POK K RX12 (p_X12_up l G) :=
  POKi (y := yX12_up) ki hG (rfs rf_X12_ok (by decide +kernel)) fmz fmz fmz fmz fmz
  (pkE ki (by
    intro K e1 e2 e3 e4; subst e1; subst e2
    exact fmz)) (fun z => Bool.noConfusion z) rfl (pkP ki (by
    intro K e1 e2 e3 e4; subst e1; subst e2
    exact fmz))
theorem r_X12_up_0 {K : JC} {l : Launch} {G : JG} {Q : Int → MH → Prop} {E : Nat → Int → MH → Prop} {h0 : MH} (ki : KI K l G yX12_up cX12_up 6 (some .int) [] 4 150 0 Q E h0) (hG : gO G = true) {v0 v1 : Int} {h : MH} (H :
    (∀ x3_1 : Int, x3_1 = 0 →
    ((hv h v0 12) ≠ 0) ∧
    (∀ x4_2 : Int, x4_2 = (w32 ((hn h (hv h v0 12)) - 1)) →
    JW K 11 [(2012, v0), (1, v1), (5000, 0), (0, x3_1), (0, x4_2), (5000, 0)] [] h))) : JW K 0 [(2012, v0), (1, v1), (5000, 0), (5000, 0), (5000, 0), (5000, 0)] [] h := by
  have e1 := ki.2.2.2.2.1
  have e2 := ki.2.2.2.2.2.1
  subst e1; subst e2
  exact run_ok (dia := []) (cnr := []) (cuts := [(11, [2012, 1, 5000, 0, 0, 5000], [])]) ki.1 (pk_X12_up ki hG) ok_X12_up (by decide) 10 true _ _ _ _ H
theorem r_X12_up_11 {K : JC} {l : Launch} {G : JG} {Q : Int → MH → Prop} {E : Nat → Int → MH → Prop} {h0 : MH} (ki : KI K l G yX12_up cX12_up 6 (some .int) [] 4 150 0 Q E h0) (hG : gO G = true) {v0 v1 v3 v4 : Int} {h : MH} (H :
    ((v4 ≤ v3 →
      ((hv h v0 12) ≠ 0) ∧
      (0 ≤ v3) ∧
      (v3 < (hn h (hv h v0 12))) ∧
      Q (hv h (hv h v0 12) v3) h) ∧
    (v3 < v4 →
      (¬ (2 : Int) = 0) ∧
      (∀ x5_1 : Int, x5_1 = (i_div (w32 (v3 + v4)) 2) →
      ((hv h v0 12) ≠ 0) ∧
      (0 ≤ x5_1) ∧
      (x5_1 < (hn h (hv h v0 12))) ∧
      (((lc (hv h (hv h v0 12) x5_1) v1) < 0 →
        (∀ x3_2 : Int, x3_2 = (w32 (x5_1 + 1)) →
        JW K 11 [(2012, v0), (1, v1), (5000, 0), (0, x3_2), (0, v4), (5000, 0)] [] h)) ∧
      (0 ≤ (lc (hv h (hv h v0 12) x5_1) v1) →
        (∀ x4_3 : Int, x4_3 = x5_1 →
        JW K 11 [(2012, v0), (1, v1), (5000, 0), (0, v3), (0, x4_3), (5000, 0)] [] h))))))) : JW K 11 [(2012, v0), (1, v1), (5000, 0), (0, v3), (0, v4), (5000, 0)] [] h := by
  have e1 := ki.2.2.2.2.1
  have e2 := ki.2.2.2.2.2.1
  subst e1; subst e2
  exact run_ok (dia := []) (cnr := []) (cuts := [(11, [2012, 1, 5000, 0, 0, 5000], [])]) ki.1 (pk_X12_up ki hG) ok_X12_up (by decide) 24 true _ _ _ _ H
abbrev k_X12_ofClass : List (Nat × List (Nat × Instr)) := [(41, [(0, .lconst 0), (1, .lstore 4), (3, .iconst 1), (4, .istore 6), (6, .iload 6), (8, .bipush 7), (10, .aload_n 0), (11, .getfield 27), (14, .iadd), (15, .if_icmp .ge 39), (18, .lload_n 1), (19, .iload 6), (21, .lshr), (22, .lconst 1), (23, .land), (24, .lconst 1), (25, .lcmp), (26, .ifCond .ne 22), (29, .aload_n 0), (30, .iload 6), (32, .iload_n 3), (33, .invokevirtual 31), (36, .ifCond .eq 12), (39, .lload 4)]),
  (65, [(41, .lconst 1), (42, .iload 6), (44, .lshl), (45, .lor), (46, .lstore 4), (48, .iinc 6 1), (51, .goto (-45)), (54, .lload 4), (56, .lreturn)])]
theorem ok_X12_ofClass : CodeOK cX12_ofClass k_X12_ofClass := okw 0 (by decide +kernel) (okw 41 (by decide +kernel) (okn))
abbrev p_X12_ofClass (l : Launch) (G : JG) : JP := (true, [(27, 12, 8, 0, 0)], [], [], [], [], [], [(31, 1, [0, 0, 2012], 2, S_X12_siteIsOf l G)], false, 1, [])
theorem pk_X12_ofClass {K : JC} {l : Launch} {G : JG} {Q : Int → MH → Prop} {E : Nat → Int → MH → Prop} {h0 : MH} (ki : KI K l G yX12_ofClass cX12_ofClass 7 (some .long) [] 6 196 1 Q E h0) (hG : gO G = true) : POK K RX12 (p_X12_ofClass l G) :=
  POKi (y := yX12_ofClass) ki hG (rfs rf_X12_ok (by decide +kernel)) fmz fmz fmz fmz fmz
  (pkE ki (by
    intro K e1 e2 e3 e4; subst e1; subst e2
    exact fmE (ceV 12 e3 e4 yl_X12_siteIsOf ⟨by decide, ⟨_, _, rfl⟩, q1442, q1443, q1441⟩ rfl) (fmz))) (fun z => Bool.noConfusion z) rfl (pkP ki (by
    intro K e1 e2 e3 e4; subst e1; subst e2
    exact fmz))
theorem r_X12_ofClass_0 {K : JC} {l : Launch} {G : JG} {Q : Int → MH → Prop} {E : Nat → Int → MH → Prop} {h0 : MH} (ki : KI K l G yX12_ofClass cX12_ofClass 7 (some .long) [] 6 196 1 Q E h0) (hG : gO G = true) {v0 v1 v3 : Int} {h : MH} (H :
    (∀ x4_1 : Int, x4_1 = 0 →
    (∀ x6_2 : Int, x6_2 = 1 →
    JW K 6 [(2012, v0), (1, v1), (5000, 0), (0, v3), (1, x4_1), (5000, 0), (0, x6_2)] [] h))) : JW K 0 [(2012, v0), (1, v1), (5000, 0), (0, v3), (5000, 0), (5000, 0), (5000, 0)] [] h := by
  have e1 := ki.2.2.2.2.1
  have e2 := ki.2.2.2.2.2.1
  subst e1; subst e2
  exact run_ok (dia := []) (cnr := []) (cuts := [(6, [2012, 1, 5000, 0, 1, 5000, 0], [])]) ki.1 (pk_X12_ofClass ki hG) ok_X12_ofClass (by decide) 6 true _ _ _ _ H
theorem r_X12_ofClass_6 {K : JC} {l : Launch} {G : JG} {Q : Int → MH → Prop} {E : Nat → Int → MH → Prop} {h0 : MH} (ki : KI K l G yX12_ofClass cX12_ofClass 7 (some .long) [] 6 196 1 Q E h0) (hG : gO G = true) {v0 v1 v3 v4 v6 : Int} {h : MH} (H :
    (((w32 (7 + (hv h v0 8))) ≤ v6 →
      Q v4 h) ∧
    (v6 < (w32 (7 + (hv h v0 8))) →
      ((¬ (lc (l_and (l_shr v1 v6) 1) 1) = 0 →
        (∀ x6_1 : Int, x6_1 = w32 (v6 + 1) →
        JW K 6 [(2012, v0), (1, v1), (5000, 0), (0, v3), (1, v4), (5000, 0), (0, x6_1)] [] h)) ∧
      ((lc (l_and (l_shr v1 v6) 1) 1) = 0 →
        S_X12_siteIsOf l G [(2012, v0), (0, v6), (0, v3)] h (fun z2 h3 =>
        ((z2 = 0 →
          (∀ x6_4 : Int, x6_4 = w32 (v6 + 1) →
          JW K 6 [(2012, v0), (1, v1), (5000, 0), (0, v3), (1, v4), (5000, 0), (0, x6_4)] [] h3)) ∧
        (¬ z2 = 0 →
          (∀ x4_5 : Int, x4_5 = (l_or v4 (l_shl 1 v6)) →
          (∀ x6_6 : Int, x6_6 = w32 (v6 + 1) →
          JW K 6 [(2012, v0), (1, v1), (5000, 0), (0, v3), (1, x4_5), (5000, 0), (0, x6_6)] [] h3))))) E))))) : JW K 6 [(2012, v0), (1, v1), (5000, 0), (0, v3), (1, v4), (5000, 0), (0, v6)] [] h := by
  have e1 := ki.2.2.2.2.1
  have e2 := ki.2.2.2.2.2.1
  subst e1; subst e2
  exact run_ok (dia := []) (cnr := []) (cuts := [(6, [2012, 1, 5000, 0, 1, 5000, 0], [])]) ki.1 (pk_X12_ofClass ki hG) ok_X12_ofClass (by decide) 29 true _ _ _ _ H
abbrev k_X12_siteIsOf : List (Nat × List (Nat × Instr)) := [(38, [(0, .aload_n 0), (1, .getfield 20), (4, .iload_n 1), (5, .iaload), (6, .istore_n 3), (7, .iload_n 3), (8, .ifCond .ge 15), (11, .iload_n 2), (12, .ifCond .ne 7), (15, .iconst 1), (16, .goto 13), (19, .iconst 0), (20, .goto 9), (23, .aload_n 0), (24, .iload_n 3), (25, .iload_n 2), (26, .invokevirtual 23), (29, .ireturn)])]
theorem ok_X12_siteIsOf : CodeOK cX12_siteIsOf k_X12_siteIsOf := okw 0 (by decide +kernel) (okn)
abbrev p_X12_siteIsOf (l : Launch) (G : JG) : JP := (true, [(20, 12, 9, 104, 0)], [], [], [], [], [], [(23, 1, [0, 0, 2012], 2, S_X12_isOf l G)], false, 2, [])
theorem pk_X12_siteIsOf {K : JC} {l : Launch} {G : JG} {Q : Int → MH → Prop} {E : Nat → Int → MH → Prop} {h0 : MH} (ki : KI K l G yX12_siteIsOf cX12_siteIsOf 4 (some .boolean) [] 5 173 2 Q E h0) (hG : gO G = true) : POK K RX12 (p_X12_siteIsOf l G) :=
  POKi (y := yX12_siteIsOf) ki hG (rfs rf_X12_ok (by decide +kernel)) fmz fmz fmz fmz fmz
  (pkE ki (by
    intro K e1 e2 e3 e4; subst e1; subst e2
    exact fmE (ceV 12 e3 e4 yl_X12_isOf ⟨by decide, ⟨_, _, rfl⟩, q1446, q1447, q1445⟩ rfl) (fmz))) (fun z => Bool.noConfusion z) rfl (pkP ki (by
    intro K e1 e2 e3 e4; subst e1; subst e2
    exact fmz))
theorem r_X12_siteIsOf_0 {K : JC} {l : Launch} {G : JG} {Q : Int → MH → Prop} {E : Nat → Int → MH → Prop} {h0 : MH} (ki : KI K l G yX12_siteIsOf cX12_siteIsOf 4 (some .boolean) [] 5 173 2 Q E h0) (hG : gO G = true) {v0 v1 v2 : Int} {h : MH} (H :
    ((hv h v0 9) ≠ 0) ∧
    (0 ≤ v1) ∧
    (v1 < (hn h (hv h v0 9))) ∧
    (∀ x3_1 : Int, x3_1 = (hv h (hv h v0 9) v1) →
    ((0 ≤ x3_1 →
      S_X12_isOf l G [(2012, v0), (0, x3_1), (0, v2)] h (fun z2 h3 =>
      ((z2 = 0 ∨ z2 = 1) ∧ Q z2 h3)) E) ∧
    (x3_1 < 0 →
      (((if v2 = 0 then 1 else 0 : Int) = 0 ∨ (if v2 = 0 then 1 else 0 : Int) = 1) ∧ Q (if v2 = 0 then 1 else 0 : Int) h))))) : JW K 0 [(2012, v0), (0, v1), (0, v2), (5000, 0)] [] h := by
  have e1 := ki.2.2.2.2.1
  have e2 := ki.2.2.2.2.2.1
  subst e1; subst e2
  exact run_ok (dia := [(12, 29)]) (cnr := []) (cuts := []) ki.1 (pk_X12_siteIsOf ki hG) ok_X12_siteIsOf (by decide) 13 true _ _ _ _ H
abbrev k_X12_isOf : List (Nat × List (Nat × Instr)) := [(40, [(0, .iload_n 1), (1, .istore_n 3), (2, .iload_n 3), (3, .iload_n 2), (4, .if_icmp .eq 17), (7, .iload_n 3), (8, .ifCond .eq 13), (11, .aload_n 0), (12, .getfield 9), (15, .iload_n 3), (16, .iaload), (17, .istore_n 3), (18, .goto (-16)), (21, .iload_n 3), (22, .iload_n 2), (23, .if_icmp .ne 7), (26, .iconst 1), (27, .goto 4), (30, .iconst 0), (31, .ireturn)])]
theorem ok_X12_isOf : CodeOK cX12_isOf k_X12_isOf := okw 0 (by decide +kernel) (okn)
abbrev p_X12_isOf (l : Launch) (G : JG) : JP := (true, [(9, 12, 3, 104, 0)], [], [], [], [], [], [], false, 2, [])
theorem pk_X12_isOf {K : JC} {l : Launch} {G : JG} {Q : Int → MH → Prop} {E : Nat → Int → MH → Prop} {h0 : MH} (ki : KI K l G yX12_isOf cX12_isOf 4 (some .boolean) [] 4 150 2 Q E h0) (hG : gO G = true) : POK K RX12 (p_X12_isOf l G) :=
  POKi (y := yX12_isOf) ki hG (rfs rf_X12_ok (by decide +kernel)) fmz fmz fmz fmz fmz
  (pkE ki (by
    intro K e1 e2 e3 e4; subst e1; subst e2
    exact fmz)) (fun z => Bool.noConfusion z) rfl (pkP ki (by
    intro K e1 e2 e3 e4; subst e1; subst e2
    exact fmz))
theorem r_X12_isOf_0 {K : JC} {l : Launch} {G : JG} {Q : Int → MH → Prop} {E : Nat → Int → MH → Prop} {h0 : MH} (ki : KI K l G yX12_isOf cX12_isOf 4 (some .boolean) [] 4 150 2 Q E h0) (hG : gO G = true) {v0 v1 v2 : Int} {h : MH} (H :
    (∀ x3_1 : Int, x3_1 = v1 →
    JW K 2 [(2012, v0), (0, v1), (0, v2), (0, x3_1)] [] h)) : JW K 0 [(2012, v0), (0, v1), (0, v2), (5000, 0)] [] h := by
  have e1 := ki.2.2.2.2.1
  have e2 := ki.2.2.2.2.2.1
  subst e1; subst e2
  exact run_ok (dia := [(23, 31)]) (cnr := [(4, 11, 21)]) (cuts := [(2, [2012, 0, 0, 0], [])]) ki.1 (pk_X12_isOf ki hG) ok_X12_isOf (by decide) 4 true _ _ _ _ H
theorem r_X12_isOf_2 {K : JC} {l : Launch} {G : JG} {Q : Int → MH → Prop} {E : Nat → Int → MH → Prop} {h0 : MH} (ki : KI K l G yX12_isOf cX12_isOf 4 (some .boolean) [] 4 150 2 Q E h0) (hG : gO G = true) {v0 v1 v2 v3 : Int} {h : MH} (H :
    (((¬ v3 = v2 ∧ ¬ v3 = 0) →
      ((hv h v0 3) ≠ 0) ∧
      (0 ≤ v3) ∧
      (v3 < (hn h (hv h v0 3))) ∧
      (∀ x3_1 : Int, x3_1 = (hv h (hv h v0 3) v3) →
      JW K 2 [(2012, v0), (0, v1), (0, v2), (0, x3_1)] [] h)) ∧
    (¬ (¬ v3 = v2 ∧ ¬ v3 = 0) →
      (((if v3 = v2 then 1 else 0 : Int) = 0 ∨ (if v3 = v2 then 1 else 0 : Int) = 1) ∧ Q (if v3 = v2 then 1 else 0 : Int) h)))) : JW K 2 [(2012, v0), (0, v1), (0, v2), (0, v3)] [] h := by
  have e1 := ki.2.2.2.2.1
  have e2 := ki.2.2.2.2.2.1
  subst e1; subst e2
  exact run_ok (dia := [(23, 31)]) (cnr := [(4, 11, 21)]) (cuts := [(2, [2012, 0, 0, 0], [])]) ki.1 (pk_X12_isOf ki hG) ok_X12_isOf (by decide) 11 true _ _ _ _ H
abbrev k_X12_arrays : List (Nat × List (Nat × Instr)) := [(41, [(0, .lconst 0), (1, .lstore 4), (3, .bipush 7), (5, .istore 6), (7, .iload 6), (9, .bipush 7), (11, .aload_n 0), (12, .getfield 27), (15, .iadd), (16, .if_icmp .ge 49), (19, .lload_n 1), (20, .iload 6), (22, .lshr), (23, .lconst 1), (24, .land), (25, .lconst 1), (26, .lcmp), (27, .ifCond .ne 32), (30, .aload_n 0), (31, .getfield 20), (34, .iload 6), (36, .iaload), (37, .iload_n 3), (38, .ifCond .ne 7)]),
  (76, [(41, .iconst (-1)), (42, .goto 5), (45, .bipush (-2)), (47, .if_icmp .ne 12), (50, .lload 4), (52, .lconst 1), (53, .iload 6), (55, .lshl), (56, .lor), (57, .lstore 4), (59, .iinc 6 1), (62, .goto (-55)), (65, .lload 4), (67, .lreturn)])]
theorem ok_X12_arrays : CodeOK cX12_arrays k_X12_arrays := okw 0 (by decide +kernel) (okw 41 (by decide +kernel) (okn))
abbrev p_X12_arrays (l : Launch) (G : JG) : JP := (true, [(20, 12, 9, 104, 0), (27, 12, 8, 0, 0)], [], [], [], [], [], [], false, 1, [])
theorem pk_X12_arrays {K : JC} {l : Launch} {G : JG} {Q : Int → MH → Prop} {E : Nat → Int → MH → Prop} {h0 : MH} (ki : KI K l G yX12_arrays cX12_arrays 7 (some .long) [] 4 150 1 Q E h0) (hG : gO G = true) : POK K RX12 (p_X12_arrays l G) :=
  POKi (y := yX12_arrays) ki hG (rfs rf_X12_ok (by decide +kernel)) fmz fmz fmz fmz fmz
  (pkE ki (by
    intro K e1 e2 e3 e4; subst e1; subst e2
    exact fmz)) (fun z => Bool.noConfusion z) rfl (pkP ki (by
    intro K e1 e2 e3 e4; subst e1; subst e2
    exact fmz))
theorem r_X12_arrays_0 {K : JC} {l : Launch} {G : JG} {Q : Int → MH → Prop} {E : Nat → Int → MH → Prop} {h0 : MH} (ki : KI K l G yX12_arrays cX12_arrays 7 (some .long) [] 4 150 1 Q E h0) (hG : gO G = true) {v0 v1 v3 : Int} {h : MH} (H :
    (∀ x4_1 : Int, x4_1 = 0 →
    (∀ x6_2 : Int, x6_2 = 7 →
    JW K 7 [(2012, v0), (1, v1), (5000, 0), (0, v3), (1, x4_1), (5000, 0), (0, x6_2)] [] h))) : JW K 0 [(2012, v0), (1, v1), (5000, 0), (0, v3), (5000, 0), (5000, 0), (5000, 0)] [] h := by
  have e1 := ki.2.2.2.2.1
  have e2 := ki.2.2.2.2.2.1
  subst e1; subst e2
  exact run_ok (dia := [(38, 47)]) (cnr := []) (cuts := [(7, [2012, 1, 5000, 0, 1, 5000, 0], [])]) ki.1 (pk_X12_arrays ki hG) ok_X12_arrays (by decide) 6 true _ _ _ _ H
theorem r_X12_arrays_7 {K : JC} {l : Launch} {G : JG} {Q : Int → MH → Prop} {E : Nat → Int → MH → Prop} {h0 : MH} (ki : KI K l G yX12_arrays cX12_arrays 7 (some .long) [] 4 150 1 Q E h0) (hG : gO G = true) {v0 v1 v3 v4 v6 : Int} {h : MH} (H :
    (((w32 (7 + (hv h v0 8))) ≤ v6 →
      Q v4 h) ∧
    (v6 < (w32 (7 + (hv h v0 8))) →
      ((¬ (lc (l_and (l_shr v1 v6) 1) 1) = 0 →
        (∀ x6_1 : Int, x6_1 = w32 (v6 + 1) →
        JW K 7 [(2012, v0), (1, v1), (5000, 0), (0, v3), (1, v4), (5000, 0), (0, x6_1)] [] h)) ∧
      ((lc (l_and (l_shr v1 v6) 1) 1) = 0 →
        ((hv h v0 9) ≠ 0) ∧
        (0 ≤ v6) ∧
        (v6 < (hn h (hv h v0 9))) ∧
        ((¬ (hv h (hv h v0 9) v6) = (if v3 = 0 then (-1) else (-2) : Int) →
          (∀ x6_2 : Int, x6_2 = w32 (v6 + 1) →
          JW K 7 [(2012, v0), (1, v1), (5000, 0), (0, v3), (1, v4), (5000, 0), (0, x6_2)] [] h)) ∧
        ((hv h (hv h v0 9) v6) = (if v3 = 0 then (-1) else (-2) : Int) →
          (∀ x4_3 : Int, x4_3 = (l_or v4 (l_shl 1 v6)) →
          (∀ x6_4 : Int, x6_4 = w32 (v6 + 1) →
          JW K 7 [(2012, v0), (1, v1), (5000, 0), (0, v3), (1, x4_3), (5000, 0), (0, x6_4)] [] h))))))))) : JW K 7 [(2012, v0), (1, v1), (5000, 0), (0, v3), (1, v4), (5000, 0), (0, v6)] [] h := by
  have e1 := ki.2.2.2.2.1
  have e2 := ki.2.2.2.2.2.1
  subst e1; subst e2
  exact run_ok (dia := [(38, 47)]) (cnr := []) (cuts := [(7, [2012, 1, 5000, 0, 1, 5000, 0], [])]) ki.1 (pk_X12_arrays ki hG) ok_X12_arrays (by decide) 31 true _ _ _ _ H
abbrev k_X12_find : List (Nat × List (Nat × Instr)) := [(43, [(0, .aload_n 0), (1, .getfield 20), (4, .iload_n 1), (5, .iaload), (6, .ifCond .ge 7), (9, .iconst 0), (10, .goto 9), (13, .aload_n 0), (14, .getfield 20), (17, .iload_n 1), (18, .iaload), (19, .istore_n 3), (20, .iconst 0), (21, .istore 4), (23, .iload 4), (25, .aload_n 0), (26, .getfield 34), (29, .arraylength), (30, .if_icmp .ge 45), (33, .aload_n 0), (34, .getfield 34), (37, .iload 4), (39, .aaload), (40, .getfield 38)]),
  (87, [(43, .iload_n 3), (44, .if_icmp .ne 25), (47, .aload_n 0), (48, .getfield 34), (51, .iload 4), (53, .aaload), (54, .getfield 43), (57, .iload_n 2), (58, .if_icmp .ne 11), (61, .aload_n 0), (62, .getfield 34), (65, .iload 4), (67, .aaload), (68, .areturn), (69, .iinc 4 1), (72, .goto (-49)), (75, .iload_n 3), (76, .ifCond .ne 5), (79, .aconst_null), (80, .areturn), (81, .aload_n 0), (82, .getfield 9), (85, .iload_n 3), (86, .iaload)]),
  (97, [(87, .istore_n 3), (88, .goto (-68))])]
theorem ok_X12_find : CodeOK cX12_find k_X12_find := okw 0 (by decide +kernel) (okw 43 (by decide +kernel) (okw 87 (by decide +kernel) (okn)))
abbrev p_X12_find (l : Launch) (G : JG) : JP := (true, [(9, 12, 3, 104, 0), (20, 12, 9, 104, 0), (34, 12, 6, 128, 0), (38, 14, 1, 0, 0), (43, 14, 2, 0, 0)], [], [], [], [], [], [], false, 18, [])
theorem pk_X12_find {K : JC} {l : Launch} {G : JG} {Q : Int → MH → Prop} {E : Nat → Int → MH → Prop} {h0 : MH} (ki : KI K l G yX12_find cX12_find 5 (some (.object "FactHouse$Method")) [] 4 150 18 Q E h0) (hG : gO G = true) : POK K RX12 (p_X12_find l G) :=
  POKi (y := yX12_find) ki hG (rfs rf_X12_ok (by decide +kernel)) fmz fmz fmz fmz fmz
  (pkE ki (by
    intro K e1 e2 e3 e4; subst e1; subst e2
    exact fmz)) (fun z => Bool.noConfusion z) rfl (pkP ki (by
    intro K e1 e2 e3 e4; subst e1; subst e2
    exact fmz))
theorem r_X12_find_0 {K : JC} {l : Launch} {G : JG} {Q : Int → MH → Prop} {E : Nat → Int → MH → Prop} {h0 : MH} (ki : KI K l G yX12_find cX12_find 5 (some (.object "FactHouse$Method")) [] 4 150 18 Q E h0) (hG : gO G = true) {v0 v1 v2 : Int} {h : MH} (H :
    ((hv h v0 9) ≠ 0) ∧
    (0 ≤ v1) ∧
    (v1 < (hn h (hv h v0 9))) ∧
    ((0 ≤ (hv h (hv h v0 9) v1) → ((hv h v0 9) ≠ 0) ∧ (0 ≤ v1) ∧ v1 < (hn h (hv h v0 9)))) ∧
    (∀ x3_1 : Int, x3_1 = (if (hv h (hv h v0 9) v1) < 0 then 0 else (hv h (hv h v0 9) v1) : Int) →
    JW K 20 [(2012, v0), (0, v1), (0, v2), (0, x3_1), (5000, 0)] [] h)) : JW K 0 [(2012, v0), (0, v1), (0, v2), (5000, 0), (5000, 0)] [] h := by
  have e1 := ki.2.2.2.2.1
  have e2 := ki.2.2.2.2.2.1
  subst e1; subst e2
  exact run_ok (dia := [(6, 19)]) (cnr := [(44, 61, 69)]) (cuts := [(20, [2012, 0, 0, 0, 5000], []), (23, [2012, 0, 0, 0, 0], [])]) ki.1 (pk_X12_find ki hG) ok_X12_find (by decide) 8 true _ _ _ _ H
theorem r_X12_find_20 {K : JC} {l : Launch} {G : JG} {Q : Int → MH → Prop} {E : Nat → Int → MH → Prop} {h0 : MH} (ki : KI K l G yX12_find cX12_find 5 (some (.object "FactHouse$Method")) [] 4 150 18 Q E h0) (hG : gO G = true) {v0 v1 v2 v3 : Int} {h : MH} (H :
    (∀ x4_1 : Int, x4_1 = 0 →
    JW K 23 [(2012, v0), (0, v1), (0, v2), (0, v3), (0, x4_1)] [] h)) : JW K 20 [(2012, v0), (0, v1), (0, v2), (0, v3), (5000, 0)] [] h := by
  have e1 := ki.2.2.2.2.1
  have e2 := ki.2.2.2.2.2.1
  subst e1; subst e2
  exact run_ok (dia := [(6, 19)]) (cnr := [(44, 61, 69)]) (cuts := [(20, [2012, 0, 0, 0, 5000], []), (23, [2012, 0, 0, 0, 0], [])]) ki.1 (pk_X12_find ki hG) ok_X12_find (by decide) 4 true _ _ _ _ H
theorem r_X12_find_23 {K : JC} {l : Launch} {G : JG} {Q : Int → MH → Prop} {E : Nat → Int → MH → Prop} {h0 : MH} (ki : KI K l G yX12_find cX12_find 5 (some (.object "FactHouse$Method")) [] 4 150 18 Q E h0) (hG : gO G = true) {v0 v1 v2 v3 v4 : Int} {h : MH} (H :
    ((hv h v0 6) ≠ 0) ∧
    (((hn h (hv h v0 6)) ≤ v4 →
      ((¬ v3 = 0 →
        ((hv h v0 3) ≠ 0) ∧
        (0 ≤ v3) ∧
        (v3 < (hn h (hv h v0 3))) ∧
        (∀ x3_1 : Int, x3_1 = (hv h (hv h v0 3) v3) →
        JW K 20 [(2012, v0), (0, v1), (0, v2), (0, x3_1), (5000, 0)] [] h)) ∧
      (v3 = 0 →
        Q 0 h))) ∧
    (v4 < (hn h (hv h v0 6)) →
      ((hv h v0 6) ≠ 0) ∧
      (0 ≤ v4) ∧
      (v4 < (hn h (hv h v0 6))) ∧
      ((hv h (hv h v0 6) v4) ≠ 0) ∧
      (((hv h (hv h (hv h v0 6) v4) 1) = v3 → ((hv h v0 6) ≠ 0) ∧ (0 ≤ v4) ∧ (v4 < (hn h (hv h v0 6))) ∧ (hv h (hv h v0 6) v4) ≠ 0)) ∧
      ((((hv h (hv h (hv h v0 6) v4) 1) = v3 ∧ (hv h (hv h (hv h v0 6) v4) 2) = v2) →
        ((hv h v0 6) ≠ 0) ∧
        (0 ≤ v4) ∧
        (v4 < (hn h (hv h v0 6))) ∧
        Q (hv h (hv h v0 6) v4) h) ∧
      (¬ ((hv h (hv h (hv h v0 6) v4) 1) = v3 ∧ (hv h (hv h (hv h v0 6) v4) 2) = v2) →
        (∀ x4_2 : Int, x4_2 = w32 (v4 + 1) →
        JW K 23 [(2012, v0), (0, v1), (0, v2), (0, v3), (0, x4_2)] [] h)))))) : JW K 23 [(2012, v0), (0, v1), (0, v2), (0, v3), (0, v4)] [] h := by
  have e1 := ki.2.2.2.2.1
  have e2 := ki.2.2.2.2.2.1
  subst e1; subst e2
  exact run_ok (dia := [(6, 19)]) (cnr := [(44, 61, 69)]) (cuts := [(20, [2012, 0, 0, 0, 5000], []), (23, [2012, 0, 0, 0, 0], [])]) ki.1 (pk_X12_find ki hG) ok_X12_find (by decide) 18 true _ _ _ _ H
abbrev k_X14_init : List (Nat × List (Nat × Instr)) := [(18, [(0, .aload_n 0), (1, .invokespecial 1), (4, .aload_n 0), (5, .iload_n 1), (6, .putfield 7), (9, .return_)])]
theorem ok_X14_init : CodeOK cX14_init k_X14_init := okw 0 (by decide +kernel) (okn)
abbrev p_X14_init (l : Launch) (G : JG) : JP := (true, [], [], [], [(7, 14, 0, 0)], [], [], [(1, 3, [], 700, fun _ _ _ _ => True)], true, 700, [])
theorem pk_X14_init {K : JC} {l : Launch} {G : JG} {Q : Int → MH → Prop} {E : Nat → Int → MH → Prop} {h0 : MH} (ki : KI K l G yX14_init cX14_init 2 none [] 5 170 700 Q E h0) (hG : gO G = true) : POK K RX14 (p_X14_init l G) :=
  POKi (y := yX14_init) ki hG fmz fmz fmz (rps rp_X14_ok (by decide +kernel)) fmz fmz
  (pkE ki (by
    intro K e1 e2 e3 e4; subst e1; subst e2
    exact fmE (ceO e3 e4 q900 rfl) (fmz))) (fun _ => rfl) rfl (pkP ki (by
    intro K e1 e2 e3 e4; subst e1; subst e2
    exact fmz))
theorem r_X14_init_0 {K : JC} {l : Launch} {G : JG} {Q : Int → MH → Prop} {E : Nat → Int → MH → Prop} {h0 : MH} (ki : KI K l G yX14_init cX14_init 2 none [] 5 170 700 Q E h0) (hG : gO G = true) {v0 v1 : Int} {h : MH} (H :
    (∀ h1, h1 = hset h v0 0 v1 →
    Q 0 h1)) : JW K 0 [(2014, v0), (0, v1)] [] h := by
  have e1 := ki.2.2.2.2.1
  have e2 := ki.2.2.2.2.2.1
  subst e1; subst e2
  exact run_ok (dia := []) (cnr := []) (cuts := []) ki.1 (pk_X14_init ki hG) ok_X14_init (by decide) 7 true _ _ _ _ H
abbrev k_X14_isLike : List (Nat × List (Nat × Instr)) := [(46, [(0, .aload_n 0), (1, .getfield 17), (4, .aload_n 1), (5, .getfield 17), (8, .if_icmp .ne 18), (11, .aload_n 0), (12, .getfield 20), (15, .aload_n 1), (16, .getfield 20), (19, .if_icmp .ne 7), (22, .iconst 1), (23, .goto 4), (26, .iconst 0), (27, .istore_n 2), (28, .iconst 0), (29, .istore_n 3), (30, .iload_n 2), (31, .ifCond .eq 38), (34, .iload_n 3), (35, .aload_n 0), (36, .getfield 17), (39, .if_icmp .ge 30), (42, .aload_n 0), (43, .getfield 23)]),
  (79, [(46, .iload_n 3), (47, .iaload), (48, .aload_n 1), (49, .getfield 23), (52, .iload_n 3), (53, .iaload), (54, .if_icmp .ne 7), (57, .iconst 1), (58, .goto 4), (61, .iconst 0), (62, .istore_n 2), (63, .iinc 3 1), (66, .goto (-36)), (69, .iload_n 2), (70, .ireturn)])]
theorem ok_X14_isLike : CodeOK cX14_isLike k_X14_isLike := okw 0 (by decide +kernel) (okw 46 (by decide +kernel) (okn))
abbrev p_X14_isLike (l : Launch) (G : JG) : JP := (true, [(17, 14, 3, 0, 0), (20, 14, 4, 0, 0), (23, 14, 5, 104, 0)], [], [], [], [], [], [], false, 2, [])
theorem pk_X14_isLike {K : JC} {l : Launch} {G : JG} {Q : Int → MH → Prop} {E : Nat → Int → MH → Prop} {h0 : MH} (ki : KI K l G yX14_isLike cX14_isLike 4 (some .boolean) [] 4 150 2 Q E h0) (hG : gO G = true) : POK K RX14 (p_X14_isLike l G) :=
  POKi (y := yX14_isLike) ki hG (rfs rf_X14_ok (by decide +kernel)) fmz fmz fmz fmz fmz
  (pkE ki (by
    intro K e1 e2 e3 e4; subst e1; subst e2
    exact fmz)) (fun z => Bool.noConfusion z) rfl (pkP ki (by
    intro K e1 e2 e3 e4; subst e1; subst e2
    exact fmz))
theorem r_X14_isLike_0 {K : JC} {l : Launch} {G : JG} {Q : Int → MH → Prop} {E : Nat → Int → MH → Prop} {h0 : MH} (ki : KI K l G yX14_isLike cX14_isLike 4 (some .boolean) [] 4 150 2 Q E h0) (hG : gO G = true) {v0 v1 : Int} {h : MH} (H :
    (v1 ≠ 0) ∧
    (((hv h v0 3) = (hv h v1 3) → v1 ≠ 0)) ∧
    (∀ x2_1 : Int, x2_1 = (if (hv h v0 3) = (hv h v1 3) then (if (hv h v0 4) = (hv h v1 4) then 1 else 0 : Int) else 0 : Int) →
    (∀ x3_2 : Int, x3_2 = 0 →
    JW K 30 [(2014, v0), (18, v1), (0, x2_1), (0, x3_2)] [] h))) : JW K 0 [(2014, v0), (18, v1), (5000, 0), (5000, 0)] [] h := by
  have e1 := ki.2.2.2.2.1
  have e2 := ki.2.2.2.2.2.1
  subst e1; subst e2
  exact run_ok (dia := [(8, 27), (54, 62)]) (cnr := [(31, 42, 69)]) (cuts := [(30, [2014, 18, 0, 0], [])]) ki.1 (pk_X14_isLike ki hG) ok_X14_isLike (by decide) 10 true _ _ _ _ H
theorem r_X14_isLike_30 {K : JC} {l : Launch} {G : JG} {Q : Int → MH → Prop} {E : Nat → Int → MH → Prop} {h0 : MH} (ki : KI K l G yX14_isLike cX14_isLike 4 (some .boolean) [] 4 150 2 Q E h0) (hG : gO G = true) {v0 v1 v2 v3 : Int} {h : MH} (H :
    (((¬ v2 = 0 ∧ v3 < (hv h v0 3)) →
      ((hv h v0 5) ≠ 0) ∧
      (0 ≤ v3) ∧
      (v3 < (hn h (hv h v0 5))) ∧
      (v1 ≠ 0) ∧
      ((hv h v1 5) ≠ 0) ∧
      (0 ≤ v3) ∧
      (v3 < (hn h (hv h v1 5))) ∧
      (∀ x2_1 : Int, x2_1 = (if (hv h (hv h v0 5) v3) = (hv h (hv h v1 5) v3) then 1 else 0 : Int) →
      (∀ x3_2 : Int, x3_2 = w32 (v3 + 1) →
      JW K 30 [(2014, v0), (18, v1), (0, x2_1), (0, x3_2)] [] h))) ∧
    (¬ (¬ v2 = 0 ∧ v3 < (hv h v0 3)) →
      ((v2 = 0 ∨ v2 = 1) ∧ Q v2 h)))) : JW K 30 [(2014, v0), (18, v1), (0, v2), (0, v3)] [] h := by
  have e1 := ki.2.2.2.2.1
  have e2 := ki.2.2.2.2.2.1
  subst e1; subst e2
  exact run_ok (dia := [(8, 27), (54, 62)]) (cnr := [(31, 42, 69)]) (cuts := [(30, [2014, 18, 0, 0], [])]) ki.1 (pk_X14_isLike ki hG) ok_X14_isLike (by decide) 16 true _ _ _ _ H
abbrev k_X14_size : List (Nat × List (Nat × Instr)) := [(14, [(0, .aload_n 0), (1, .getfield 13), (4, .arraylength), (5, .ireturn)])]
theorem ok_X14_size : CodeOK cX14_size k_X14_size := okw 0 (by decide +kernel) (okn)
abbrev p_X14_size (l : Launch) (G : JG) : JP := (true, [(13, 14, 7, 104, 0)], [], [], [], [], [], [], false, 0, [])
theorem pk_X14_size {K : JC} {l : Launch} {G : JG} {Q : Int → MH → Prop} {E : Nat → Int → MH → Prop} {h0 : MH} (ki : KI K l G yX14_size cX14_size 1 (some .int) [] 4 150 0 Q E h0) (hG : gO G = true) : POK K RX14 (p_X14_size l G) :=
  POKi (y := yX14_size) ki hG (rfs rf_X14_ok (by decide +kernel)) fmz fmz fmz fmz fmz
  (pkE ki (by
    intro K e1 e2 e3 e4; subst e1; subst e2
    exact fmz)) (fun z => Bool.noConfusion z) rfl (pkP ki (by
    intro K e1 e2 e3 e4; subst e1; subst e2
    exact fmz))
theorem r_X14_size_0 {K : JC} {l : Launch} {G : JG} {Q : Int → MH → Prop} {E : Nat → Int → MH → Prop} {h0 : MH} (ki : KI K l G yX14_size cX14_size 1 (some .int) [] 4 150 0 Q E h0) (hG : gO G = true) {v0 : Int} {h : MH} (H :
    ((hv h v0 7) ≠ 0) ∧
    Q (hn h (hv h v0 7)) h) : JW K 0 [(2014, v0)] [] h := by
  have e1 := ki.2.2.2.2.1
  have e2 := ki.2.2.2.2.2.1
  subst e1; subst e2
  exact run_ok (dia := []) (cnr := []) (cuts := []) ki.1 (pk_X14_size ki hG) ok_X14_size (by decide) 5 true _ _ _ _ H
abbrev k_X15_init : List (Nat × List (Nat × Instr)) := [(13, [(0, .aload_n 0), (1, .invokespecial 1), (4, .return_)])]
theorem ok_X15_init : CodeOK cX15_init k_X15_init := okw 0 (by decide +kernel) (okn)
abbrev p_X15_init (l : Launch) (G : JG) : JP := (true, [], [], [], [], [], [], [(1, 3, [], 700, fun _ _ _ _ => True)], true, 700, [])
theorem pk_X15_init {K : JC} {l : Launch} {G : JG} {Q : Int → MH → Prop} {E : Nat → Int → MH → Prop} {h0 : MH} (ki : KI K l G yX15_init cX15_init 1 none [] 5 170 700 Q E h0) (hG : gO G = true) : POK K RX15 (p_X15_init l G) :=
  POKi (y := yX15_init) ki hG fmz fmz fmz fmz fmz fmz
  (pkE ki (by
    intro K e1 e2 e3 e4; subst e1; subst e2
    exact fmE (ceO e3 e4 q1051 rfl) (fmz))) (fun _ => rfl) rfl (pkP ki (by
    intro K e1 e2 e3 e4; subst e1; subst e2
    exact fmz))
theorem r_X15_init_0 {K : JC} {l : Launch} {G : JG} {Q : Int → MH → Prop} {E : Nat → Int → MH → Prop} {h0 : MH} (ki : KI K l G yX15_init cX15_init 1 none [] 5 170 700 Q E h0) (hG : gO G = true) {v0 : Int} {h : MH} (H :
    Q 0 h) : JW K 0 [(2015, v0)] [] h := by
  have e1 := ki.2.2.2.2.1
  have e2 := ki.2.2.2.2.2.1
  subst e1; subst e2
  exact run_ok (dia := []) (cnr := []) (cuts := []) ki.1 (pk_X15_init ki hG) ok_X15_init (by decide) 4 true _ _ _ _ H
abbrev k_X16_init : List (Nat × List (Nat × Instr)) := [(23, [(0, .aload_n 0), (1, .invokespecial 3), (4, .aload_n 0), (5, .aload_n 1), (6, .putfield 9), (9, .aload_n 0), (10, .aload_n 2), (11, .putfield 15), (14, .return_)])]
theorem ok_X16_init : CodeOK cX16_init k_X16_init := okw 0 (by decide +kernel) (okn)
abbrev p_X16_init (l : Launch) (G : JG) : JP := (true, [], [], [], [(9, 16, 0, 16), (15, 16, 1, 18)], [], [], [(3, 3, [], 700, fun _ _ _ _ => True)], true, 700, [])
theorem pk_X16_init {K : JC} {l : Launch} {G : JG} {Q : Int → MH → Prop} {E : Nat → Int → MH → Prop} {h0 : MH} (ki : KI K l G yX16_init cX16_init 3 none [] 5 170 700 Q E h0) (hG : gO G = true) : POK K RX16 (p_X16_init l G) :=
  POKi (y := yX16_init) ki hG fmz fmz fmz (rps rp_X16_ok (by decide +kernel)) fmz fmz
  (pkE ki (by
    intro K e1 e2 e3 e4; subst e1; subst e2
    exact fmE (ceO e3 e4 q1083 rfl) (fmz))) (fun _ => rfl) rfl (pkP ki (by
    intro K e1 e2 e3 e4; subst e1; subst e2
    exact fmz))
theorem r_X16_init_0 {K : JC} {l : Launch} {G : JG} {Q : Int → MH → Prop} {E : Nat → Int → MH → Prop} {h0 : MH} (ki : KI K l G yX16_init cX16_init 3 none [] 5 170 700 Q E h0) (hG : gO G = true) {v0 v1 v2 : Int} {h : MH} (H :
    (∀ h1, h1 = hset h v0 0 v1 →
    (∀ h2, h2 = hset h1 v0 1 v2 →
    Q 0 h2))) : JW K 0 [(2016, v0), (16, v1), (18, v2)] [] h := by
  have e1 := ki.2.2.2.2.1
  have e2 := ki.2.2.2.2.2.1
  subst e1; subst e2
  exact run_ok (dia := []) (cnr := []) (cuts := []) ki.1 (pk_X16_init ki hG) ok_X16_init (by decide) 10 true _ _ _ _ H
abbrev k_X16_judge : List (Nat × List (Nat × Instr)) := [(9, [(0, .aload_n 0), (1, .getfield 15), (4, .invokevirtual 65), (7, .istore_n 1), (8, .iload_n 1)]),
  (11, [(9, .newarray .boolean)]),
  (13, [(11, .astore_n 2), (12, .iload_n 1)]),
  (15, [(13, .newarray .boolean)]),
  (63, [(15, .astore_n 3), (16, .iconst 0), (17, .istore 4), (19, .iload 4), (21, .iload_n 1), (22, .if_icmp .ge 52), (25, .aload_n 0), (26, .getfield 15), (29, .getfield 68), (32, .iload 4), (34, .iaload), (35, .bipush 15), (37, .if_icmp .lt 31), (40, .aload_n 0), (41, .getfield 15), (44, .getfield 68), (47, .iload 4), (49, .iaload), (50, .bipush 19), (52, .if_icmp .gt 16), (55, .aload_n 2), (56, .aload_n 0), (57, .getfield 15), (60, .getfield 71)]),
  (108, [(63, .iload 4), (65, .iaload), (66, .iconst 1), (67, .bastore), (68, .iinc 4 1), (71, .goto (-52)), (74, .aload_n 0), (75, .getfield 15), (78, .getfield 74), (81, .astore 4), (83, .aload 4), (85, .arraylength), (86, .istore 5), (88, .iconst 0), (89, .istore 6), (91, .iload 6), (93, .iload 5), (95, .if_icmp .ge 24), (98, .aload 4), (100, .iload 6), (102, .aaload), (103, .astore 7), (105, .aload_n 3), (106, .aload 7)]),
  (124, [(108, .getfield 78), (111, .iconst 1), (112, .bastore), (113, .iinc 6 1), (116, .goto (-25)), (119, .aload_n 0), (120, .getfield 15), (123, .iload_n 1)]),
  (126, [(124, .newarray .int)]),
  (134, [(126, .putfield 83), (129, .aload_n 0), (130, .getfield 15), (133, .iload_n 1)]),
  (136, [(134, .newarray .int)]),
  (180, [(136, .putfield 86), (139, .iconst 1), (140, .istore 4), (142, .aload_n 0), (143, .iconst 0), (144, .putfield 27), (147, .aload_n 0), (148, .getfield 27), (151, .iload_n 1), (152, .if_icmp .ge 309), (155, .aload_n 0), (156, .aload_n 3), (157, .aload_n 0), (158, .getfield 27), (161, .baload), (162, .ifCond .eq 17), (165, .aload_n 2), (166, .aload_n 0), (167, .getfield 27), (170, .baload), (171, .ifCond .ne 12), (174, .iload 4), (176, .ifCond .ne 7), (179, .iconst 1)]),
  (228, [(180, .goto 4), (183, .iconst 0), (184, .invokevirtual 40), (187, .aload_n 0), (188, .aload_n 2), (189, .aload_n 0), (190, .getfield 27), (193, .baload), (194, .ifCond .eq 15), (197, .iload 4), (199, .ifCond .eq 10), (202, .aload_n 0), (203, .getfield 34), (206, .ifCond .ne 7), (209, .iconst 1), (210, .goto 4), (213, .iconst 0), (214, .invokevirtual 40), (217, .iload 4), (219, .ifCond .ne 49), (222, .aload_n 0), (223, .aload_n 3), (224, .aload_n 0), (225, .getfield 27)]),
  (276, [(228, .baload), (229, .ifCond .eq 7), (232, .iconst 1), (233, .goto 4), (236, .iconst 0), (237, .putfield 34), (240, .aload_n 0), (241, .iconst 1), (242, .putfield 44), (245, .aload_n 0), (246, .aload_n 0), (247, .getfield 34), (250, .aload_n 0), (251, .getfield 15), (254, .getfield 37), (257, .if_icmp .gt 7), (260, .iconst 1), (261, .goto 4), (264, .iconst 0), (265, .invokevirtual 40), (268, .aload_n 0), (269, .getfield 15), (272, .getfield 83), (275, .aload_n 0)]),
  (324, [(276, .getfield 27), (279, .aload_n 0), (280, .getfield 34), (283, .iastore), (284, .aload_n 0), (285, .getfield 15), (288, .getfield 86), (291, .aload_n 0), (292, .getfield 27), (295, .aload_n 0), (296, .getfield 44), (299, .iastore), (300, .aload_n 0), (301, .aload_n 0), (302, .getfield 15), (305, .getfield 68), (308, .aload_n 0), (309, .getfield 27), (312, .iaload), (313, .aload_n 0), (314, .getfield 15), (317, .getfield 88), (320, .aload_n 0), (321, .getfield 27)]),
  (372, [(324, .iaload), (325, .aload_n 0), (326, .getfield 15), (329, .getfield 91), (332, .aload_n 0), (333, .getfield 27), (336, .iaload), (337, .invokevirtual 94), (340, .aload_n 0), (341, .aload_n 0), (342, .getfield 15), (345, .getfield 68), (348, .aload_n 0), (349, .getfield 27), (352, .iaload), (353, .bipush 15), (355, .if_icmp .lt 27), (358, .aload_n 0), (359, .getfield 15), (362, .getfield 68), (365, .aload_n 0), (366, .getfield 27), (369, .iaload), (370, .bipush 19)]),
  (424, [(372, .if_icmp .gt 10), (375, .aload_n 0), (376, .getfield 34), (379, .ifCond .ne 7), (382, .iconst 1), (383, .goto 4), (386, .iconst 0), (387, .invokevirtual 40), (390, .aload_n 0), (391, .getfield 15), (394, .getfield 68), (397, .aload_n 0), (398, .getfield 27), (401, .iaload), (402, .bipush 15), (404, .if_icmp .eq 41), (407, .aload_n 0), (408, .getfield 15), (411, .getfield 68), (414, .aload_n 0), (415, .getfield 27), (418, .iaload), (419, .bipush 31), (421, .if_icmp .eq 24)]),
  (468, [(424, .aload_n 0), (425, .getfield 15), (428, .getfield 68), (431, .aload_n 0), (432, .getfield 27), (435, .iaload), (436, .bipush 32), (438, .if_icmp .eq 7), (441, .iconst 1), (442, .goto 4), (445, .iconst 0), (446, .istore 4), (448, .aload_n 0), (449, .dup), (450, .getfield 27), (453, .iconst 1), (454, .iadd), (455, .putfield 27), (458, .goto (-311)), (461, .aload_n 0), (462, .iload_n 1), (463, .iconst 1), (464, .isub), (465, .putfield 27)]),
  (491, [(468, .aload_n 0), (469, .iload 4), (471, .ifCond .ne 7), (474, .iconst 1), (475, .goto 4), (478, .iconst 0), (479, .invokevirtual 40), (482, .return_)])]
theorem ok_X16_judge : CodeOK cX16_judge k_X16_judge := okw 0 (by decide +kernel) (okc (by decide +kernel) (okw 11 (by decide +kernel) (okc (by decide +kernel) (okw 15 (by decide +kernel) (okw 63 (by decide +kernel) (okw 108 (by decide +kernel) (okc (by decide +kernel) (okw 126 (by decide +kernel) (okc (by decide +kernel) (okw 136 (by decide +kernel) (okw 180 (by decide +kernel) (okw 228 (by decide +kernel) (okw 276 (by decide +kernel) (okw 324 (by decide +kernel) (okw 372 (by decide +kernel) (okw 424 (by decide +kernel) (okw 468 (by decide +kernel) (okn))))))))))))))))))
abbrev p_X16_judge (l : Launch) (G : JG) : JP := (true, [(15, 16, 1, 18, 0), (27, 16, 4, 0, 0), (34, 16, 2, 0, 0), (37, 14, 6, 0, 0), (44, 16, 3, 0, 0), (68, 14, 7, 104, 0), (71, 14, 10, 104, 0), (74, 14, 13, 129, 0), (78, 15, 2, 0, 0), (83, 14, 17, 104, 0), (86, 14, 18, 104, 0), (88, 14, 8, 104, 0), (91, 14, 9, 104, 0)], [], [], [(27, 16, 4, 0), (34, 16, 2, 0), (44, 16, 3, 0), (83, 14, 17, 104), (86, 14, 18, 104)], [], [], [(40, 1, [0, 2016], 700, S_X16_need l G), (65, 1, [2014], 0, S_X14_size l G), (94, 1, [0, 0, 0, 2016], 700, S_X16_act l G)], false, 700, [])
theorem pk_X16_judge {K : JC} {l : Launch} {G : JG} {Q : Int → MH → Prop} {E : Nat → Int → MH → Prop} {h0 : MH} (ki : KI K l G yX16_judge cX16_judge 8 none [] 17 462 700 Q E h0) (hG : gO G = true) : POK K RX16 (p_X16_judge l G) :=
  POKi (y := yX16_judge) ki hG (rfs rf_X16_ok (by decide +kernel)) fmz fmz (rps rp_X16_ok (by decide +kernel)) fmz fmz
  (pkE ki (by
    intro K e1 e2 e3 e4; subst e1; subst e2
    exact fmE (ceV 16 e3 e4 yl_X16_need ⟨by decide, ⟨_, _, rfl⟩, q1107, qs10, q1105⟩ rfl) (fmE (ceV 14 e3 e4 yl_X14_size ⟨by decide, ⟨_, _, rfl⟩, q1040, q1041, q1104⟩ rfl) (fmE (ceV 16 e3 e4 yl_X16_act ⟨by decide, ⟨_, _, rfl⟩, q1113, qs11, q1111⟩ rfl) (fmz))))) (fun z => Bool.noConfusion z) rfl (pkP ki (by
    intro K e1 e2 e3 e4; subst e1; subst e2
    exact fmz))
theorem r_X16_judge_0 {K : JC} {l : Launch} {G : JG} {Q : Int → MH → Prop} {E : Nat → Int → MH → Prop} {h0 : MH} (ki : KI K l G yX16_judge cX16_judge 8 none [] 17 462 700 Q E h0) (hG : gO G = true) {v0 : Int} {h : MH} (H :
    ((hv h v0 1) ≠ 0) ∧
    S_X14_size l G [(2014, (hv h v0 1))] h (fun z1 h2 =>
    (∀ x1_3 : Int, x1_3 = z1 →
    (0 ≤ x1_3) ∧
    (hz h2 + 1 ≤ LIMC) ∧
    (hs h2 + x1_3 ≤ LIMS) ∧
    (∀ h4, h4 = hnew h2 102 x1_3 x1_3 →
    (∀ x2_5 : Int, x2_5 = (hz h2 + 1) →
    (0 ≤ x1_3) ∧
    (hz h4 + 1 ≤ LIMC) ∧
    (hs h4 + x1_3 ≤ LIMS) ∧
    (∀ h6, h6 = hnew h4 102 x1_3 x1_3 →
    (∀ x3_7 : Int, x3_7 = (hz h4 + 1) →
    (∀ x4_8 : Int, x4_8 = 0 →
    JW K 19 [(2016, v0), (0, x1_3), (2102, x2_5), (2102, x3_7), (0, x4_8), (5000, 0), (5000, 0), (5000, 0)] [] h6))))))) E) : JW K 0 [(2016, v0), (5000, 0), (5000, 0), (5000, 0), (5000, 0), (5000, 0), (5000, 0), (5000, 0)] [] h := by
  have e1 := ki.2.2.2.2.1
  have e2 := ki.2.2.2.2.2.1
  subst e1; subst e2
  exact run_ok (dia := [(162, 184), (194, 214), (229, 237), (257, 265), (355, 387), (404, 446), (471, 479)]) (cnr := [(37, 55, 68)]) (cuts := [(19, [2016, 0, 2102, 2102, 0, 5000, 5000, 5000], []), (91, [2016, 0, 2102, 2102, 129, 0, 0, 5000], []), (147, [2016, 0, 2102, 2102, 0, 0, 0, 5000], [])]) ki.1 (pk_X16_judge ki hG) ok_X16_judge (by decide) 14 true _ _ _ _ H
theorem r_X16_judge_19 {K : JC} {l : Launch} {G : JG} {Q : Int → MH → Prop} {E : Nat → Int → MH → Prop} {h0 : MH} (ki : KI K l G yX16_judge cX16_judge 8 none [] 17 462 700 Q E h0) (hG : gO G = true) {v0 v1 v2 v3 v4 : Int} {h : MH} (H :
    ((v1 ≤ v4 →
      ((hv h v0 1) ≠ 0) ∧
      (∀ x4_1 : Int, x4_1 = (hv h (hv h v0 1) 13) →
      (x4_1 ≠ 0) ∧
      (∀ x5_2 : Int, x5_2 = (hn h x4_1) →
      (∀ x6_3 : Int, x6_3 = 0 →
      JW K 91 [(2016, v0), (0, v1), (2102, v2), (2102, v3), (129, x4_1), (0, x5_2), (0, x6_3), (5000, 0)] [] h)))) ∧
    (v4 < v1 →
      ((hv h v0 1) ≠ 0) ∧
      ((hv h (hv h v0 1) 7) ≠ 0) ∧
      (0 ≤ v4) ∧
      (v4 < (hn h (hv h (hv h v0 1) 7))) ∧
      ((15 ≤ (hv h (hv h (hv h v0 1) 7) v4) → ((hv h v0 1) ≠ 0) ∧ ((hv h (hv h v0 1) 7) ≠ 0) ∧ (0 ≤ v4) ∧ v4 < (hn h (hv h (hv h v0 1) 7)))) ∧
      (((15 ≤ (hv h (hv h (hv h v0 1) 7) v4) ∧ (hv h (hv h (hv h v0 1) 7) v4) ≤ 19) →
        ((hv h v0 1) ≠ 0) ∧
        ((hv h (hv h v0 1) 10) ≠ 0) ∧
        (0 ≤ v4) ∧
        (v4 < (hn h (hv h (hv h v0 1) 10))) ∧
        (0 ≤ (hv h (hv h (hv h v0 1) 10) v4)) ∧
        ((hv h (hv h (hv h v0 1) 10) v4) < (hn h v2)) ∧
        ((1 : Int) = 0 ∨ (1 : Int) = 1) ∧
        (∀ h4, h4 = hset h v2 (hv h (hv h (hv h v0 1) 10) v4) 1 →
        (∀ x4_5 : Int, x4_5 = w32 (v4 + 1) →
        JW K 19 [(2016, v0), (0, v1), (2102, v2), (2102, v3), (0, x4_5), (5000, 0), (5000, 0), (5000, 0)] [] h4))) ∧
      (¬ (15 ≤ (hv h (hv h (hv h v0 1) 7) v4) ∧ (hv h (hv h (hv h v0 1) 7) v4) ≤ 19) →
        (∀ x4_6 : Int, x4_6 = w32 (v4 + 1) →
        JW K 19 [(2016, v0), (0, v1), (2102, v2), (2102, v3), (0, x4_6), (5000, 0), (5000, 0), (5000, 0)] [] h)))))) : JW K 19 [(2016, v0), (0, v1), (2102, v2), (2102, v3), (0, v4), (5000, 0), (5000, 0), (5000, 0)] [] h := by
  have e1 := ki.2.2.2.2.1
  have e2 := ki.2.2.2.2.2.1
  subst e1; subst e2
  exact run_ok (dia := [(162, 184), (194, 214), (229, 237), (257, 265), (355, 387), (404, 446), (471, 479)]) (cnr := [(37, 55, 68)]) (cuts := [(19, [2016, 0, 2102, 2102, 0, 5000, 5000, 5000], []), (91, [2016, 0, 2102, 2102, 129, 0, 0, 5000], []), (147, [2016, 0, 2102, 2102, 0, 0, 0, 5000], [])]) ki.1 (pk_X16_judge ki hG) ok_X16_judge (by decide) 22 true _ _ _ _ H
theorem r_X16_judge_91 {K : JC} {l : Launch} {G : JG} {Q : Int → MH → Prop} {E : Nat → Int → MH → Prop} {h0 : MH} (ki : KI K l G yX16_judge cX16_judge 8 none [] 17 462 700 Q E h0) (hG : gO G = true) {v0 v1 v2 v3 v4 v5 v6 : Int} {h : MH} (H :
    ((v5 ≤ v6 →
      (0 ≤ v1) ∧
      (hz h + 1 ≤ LIMC) ∧
      (hs h + v1 ≤ LIMS) ∧
      (∀ h1, h1 = hnew h 100 v1 v1 →
      ((hv h v0 1) ≠ 0) ∧
      (∀ h2, h2 = hset h1 (hv h v0 1) 17 (hz h + 1) →
      (0 ≤ v1) ∧
      (hz h2 + 1 ≤ LIMC) ∧
      (hs h2 + v1 ≤ LIMS) ∧
      (∀ h3, h3 = hnew h2 100 v1 v1 →
      ((hv h2 v0 1) ≠ 0) ∧
      (∀ h4, h4 = hset h3 (hv h2 v0 1) 18 (hz h2 + 1) →
      (∀ x4_5 : Int, x4_5 = 1 →
      (∀ h6, h6 = hset h4 v0 4 0 →
      JW K 147 [(2016, v0), (0, v1), (2102, v2), (2102, v3), (0, x4_5), (0, v5), (0, v6), (5000, 0)] [] h6))))))) ∧
    (v6 < v5 →
      (v4 ≠ 0) ∧
      (0 ≤ v6) ∧
      (v6 < (hn h v4)) ∧
      (∀ x7_7 : Int, x7_7 = (hv h v4 v6) →
      (x7_7 ≠ 0) ∧
      (0 ≤ (hv h x7_7 2)) ∧
      ((hv h x7_7 2) < (hn h v3)) ∧
      ((1 : Int) = 0 ∨ (1 : Int) = 1) ∧
      (∀ h8, h8 = hset h v3 (hv h x7_7 2) 1 →
      (∀ x6_9 : Int, x6_9 = w32 (v6 + 1) →
      JW K 91 [(2016, v0), (0, v1), (2102, v2), (2102, v3), (129, v4), (0, v5), (0, x6_9), (5000, 0)] [] h8)))))) : JW K 91 [(2016, v0), (0, v1), (2102, v2), (2102, v3), (129, v4), (0, v5), (0, v6), (5000, 0)] [] h := by
  have e1 := ki.2.2.2.2.1
  have e2 := ki.2.2.2.2.2.1
  subst e1; subst e2
  exact run_ok (dia := [(162, 184), (194, 214), (229, 237), (257, 265), (355, 387), (404, 446), (471, 479)]) (cnr := [(37, 55, 68)]) (cuts := [(19, [2016, 0, 2102, 2102, 0, 5000, 5000, 5000], []), (91, [2016, 0, 2102, 2102, 129, 0, 0, 5000], []), (147, [2016, 0, 2102, 2102, 0, 0, 0, 5000], [])]) ki.1 (pk_X16_judge ki hG) ok_X16_judge (by decide) 20 true _ _ _ _ H
theorem r_X16_judge_147 {K : JC} {l : Launch} {G : JG} {Q : Int → MH → Prop} {E : Nat → Int → MH → Prop} {h0 : MH} (ki : KI K l G yX16_judge cX16_judge 8 none [] 17 462 700 Q E h0) (hG : gO G = true) {v0 v1 v2 v3 v4 v5 v6 : Int} {h : MH} (H :
    ((v1 ≤ (hv h v0 4) →
      (∀ h1, h1 = hset h v0 4 (w32 (v1 - 1)) →
      S_X16_need l G [(2016, v0), (0, (if v4 = 0 then 1 else 0 : Int))] h1 (fun _ h3 =>
      Q 0 h3) E)) ∧
    ((hv h v0 4) < v1 →
      (0 ≤ (hv h v0 4)) ∧
      ((hv h v0 4) < (hn h v3)) ∧
      ((¬ (hv h v3 (hv h v0 4)) = 0 → (0 ≤ (hv h v0 4)) ∧ (hv h v0 4) < (hn h v2))) ∧
      S_X16_need l G [(2016, v0), (0, (if (hv h v3 (hv h v0 4)) = 0 then 1 else (if (hv h v2 (hv h v0 4)) = 0 then (if v4 = 0 then 1 else 0 : Int) else 0 : Int) : Int))] h (fun _ h5 =>
      (0 ≤ (hv h5 v0 4)) ∧
      ((hv h5 v0 4) < (hn h5 v2)) ∧
      S_X16_need l G [(2016, v0), (0, (if (hv h5 v2 (hv h5 v0 4)) = 0 then 1 else (if v4 = 0 then 1 else (if (hv h5 v0 2) = 0 then 1 else 0 : Int) : Int) : Int))] h5 (fun _ h7 =>
      ((¬ v4 = 0 →
        ((hv h7 v0 1) ≠ 0) ∧
        ((hv h7 (hv h7 v0 1) 17) ≠ 0) ∧
        (0 ≤ (hv h7 v0 4)) ∧
        ((hv h7 v0 4) < (hn h7 (hv h7 (hv h7 v0 1) 17))) ∧
        (∀ h8, h8 = hset h7 (hv h7 (hv h7 v0 1) 17) (hv h7 v0 4) (hv h7 v0 2) →
        ((hv h8 v0 1) ≠ 0) ∧
        ((hv h8 (hv h8 v0 1) 18) ≠ 0) ∧
        (0 ≤ (hv h8 v0 4)) ∧
        ((hv h8 v0 4) < (hn h8 (hv h8 (hv h8 v0 1) 18))) ∧
        (∀ h9, h9 = hset h8 (hv h8 (hv h8 v0 1) 18) (hv h8 v0 4) (hv h8 v0 3) →
        ((hv h9 v0 1) ≠ 0) ∧
        ((hv h9 (hv h9 v0 1) 7) ≠ 0) ∧
        (0 ≤ (hv h9 v0 4)) ∧
        ((hv h9 v0 4) < (hn h9 (hv h9 (hv h9 v0 1) 7))) ∧
        ((hv h9 v0 1) ≠ 0) ∧
        ((hv h9 (hv h9 v0 1) 8) ≠ 0) ∧
        (0 ≤ (hv h9 v0 4)) ∧
        ((hv h9 v0 4) < (hn h9 (hv h9 (hv h9 v0 1) 8))) ∧
        ((hv h9 v0 1) ≠ 0) ∧
        ((hv h9 (hv h9 v0 1) 9) ≠ 0) ∧
        (0 ≤ (hv h9 v0 4)) ∧
        ((hv h9 v0 4) < (hn h9 (hv h9 (hv h9 v0 1) 9))) ∧
        S_X16_act l G [(2016, v0), (0, (hv h9 (hv h9 (hv h9 v0 1) 7) (hv h9 v0 4))), (0, (hv h9 (hv h9 (hv h9 v0 1) 8) (hv h9 v0 4))), (0, (hv h9 (hv h9 (hv h9 v0 1) 9) (hv h9 v0 4)))] h9 (fun _ h11 =>
        ((hv h11 v0 1) ≠ 0) ∧
        ((hv h11 (hv h11 v0 1) 7) ≠ 0) ∧
        (0 ≤ (hv h11 v0 4)) ∧
        ((hv h11 v0 4) < (hn h11 (hv h11 (hv h11 v0 1) 7))) ∧
        ((15 ≤ (hv h11 (hv h11 (hv h11 v0 1) 7) (hv h11 v0 4)) → ((hv h11 v0 1) ≠ 0) ∧ ((hv h11 (hv h11 v0 1) 7) ≠ 0) ∧ (0 ≤ (hv h11 v0 4)) ∧ (hv h11 v0 4) < (hn h11 (hv h11 (hv h11 v0 1) 7)))) ∧
        S_X16_need l G [(2016, v0), (0, (if (hv h11 (hv h11 (hv h11 v0 1) 7) (hv h11 v0 4)) < 15 then 1 else (if 19 < (hv h11 (hv h11 (hv h11 v0 1) 7) (hv h11 v0 4)) then 1 else (if (hv h11 v0 2) = 0 then 1 else 0 : Int) : Int) : Int))] h11 (fun _ h13 =>
        ((hv h13 v0 1) ≠ 0) ∧
        ((hv h13 (hv h13 v0 1) 7) ≠ 0) ∧
        (0 ≤ (hv h13 v0 4)) ∧
        ((hv h13 v0 4) < (hn h13 (hv h13 (hv h13 v0 1) 7))) ∧
        ((¬ (hv h13 (hv h13 (hv h13 v0 1) 7) (hv h13 v0 4)) = 15 → ((hv h13 v0 1) ≠ 0) ∧ ((hv h13 (hv h13 v0 1) 7) ≠ 0) ∧ (0 ≤ (hv h13 v0 4)) ∧ ((hv h13 v0 4) < (hn h13 (hv h13 (hv h13 v0 1) 7))) ∧ (¬ (hv h13 (hv h13 (hv h13 v0 1) 7) (hv h13 v0 4)) = 31 → ((hv h13 v0 1) ≠ 0) ∧ ((hv h13 (hv h13 v0 1) 7) ≠ 0) ∧ (0 ≤ (hv h13 v0 4)) ∧ (hv h13 v0 4) < (hn h13 (hv h13 (hv h13 v0 1) 7))))) ∧
        (∀ x4_14 : Int, x4_14 = (if (hv h13 (hv h13 (hv h13 v0 1) 7) (hv h13 v0 4)) = 15 then 0 else (if (hv h13 (hv h13 (hv h13 v0 1) 7) (hv h13 v0 4)) = 31 then 0 else (if (hv h13 (hv h13 (hv h13 v0 1) 7) (hv h13 v0 4)) = 32 then 0 else 1 : Int) : Int) : Int) →
        (∀ h15, h15 = hset h13 v0 4 (w32 ((hv h13 v0 4) + 1)) →
        JW K 147 [(2016, v0), (0, v1), (2102, v2), (2102, v3), (0, x4_14), (0, v5), (0, v6), (5000, 0)] [] h15))) E) E))) ∧
      (v4 = 0 →
        (0 ≤ (hv h7 v0 4)) ∧
        ((hv h7 v0 4) < (hn h7 v3)) ∧
        (∀ h16, h16 = hset h7 v0 2 (if (hv h7 v3 (hv h7 v0 4)) = 0 then 0 else 1 : Int) →
        (∀ h17, h17 = hset h16 v0 3 1 →
        ((hv h17 v0 1) ≠ 0) ∧
        S_X16_need l G [(2016, v0), (0, (if (hv h17 (hv h17 v0 1) 6) < (hv h17 v0 2) then 0 else 1 : Int))] h17 (fun _ h19 =>
        ((hv h19 v0 1) ≠ 0) ∧
        ((hv h19 (hv h19 v0 1) 17) ≠ 0) ∧
        (0 ≤ (hv h19 v0 4)) ∧
        ((hv h19 v0 4) < (hn h19 (hv h19 (hv h19 v0 1) 17))) ∧
        (∀ h20, h20 = hset h19 (hv h19 (hv h19 v0 1) 17) (hv h19 v0 4) (hv h19 v0 2) →
        ((hv h20 v0 1) ≠ 0) ∧
        ((hv h20 (hv h20 v0 1) 18) ≠ 0) ∧
        (0 ≤ (hv h20 v0 4)) ∧
        ((hv h20 v0 4) < (hn h20 (hv h20 (hv h20 v0 1) 18))) ∧
        (∀ h21, h21 = hset h20 (hv h20 (hv h20 v0 1) 18) (hv h20 v0 4) (hv h20 v0 3) →
        ((hv h21 v0 1) ≠ 0) ∧
        ((hv h21 (hv h21 v0 1) 7) ≠ 0) ∧
        (0 ≤ (hv h21 v0 4)) ∧
        ((hv h21 v0 4) < (hn h21 (hv h21 (hv h21 v0 1) 7))) ∧
        ((hv h21 v0 1) ≠ 0) ∧
        ((hv h21 (hv h21 v0 1) 8) ≠ 0) ∧
        (0 ≤ (hv h21 v0 4)) ∧
        ((hv h21 v0 4) < (hn h21 (hv h21 (hv h21 v0 1) 8))) ∧
        ((hv h21 v0 1) ≠ 0) ∧
        ((hv h21 (hv h21 v0 1) 9) ≠ 0) ∧
        (0 ≤ (hv h21 v0 4)) ∧
        ((hv h21 v0 4) < (hn h21 (hv h21 (hv h21 v0 1) 9))) ∧
        S_X16_act l G [(2016, v0), (0, (hv h21 (hv h21 (hv h21 v0 1) 7) (hv h21 v0 4))), (0, (hv h21 (hv h21 (hv h21 v0 1) 8) (hv h21 v0 4))), (0, (hv h21 (hv h21 (hv h21 v0 1) 9) (hv h21 v0 4)))] h21 (fun _ h23 =>
        ((hv h23 v0 1) ≠ 0) ∧
        ((hv h23 (hv h23 v0 1) 7) ≠ 0) ∧
        (0 ≤ (hv h23 v0 4)) ∧
        ((hv h23 v0 4) < (hn h23 (hv h23 (hv h23 v0 1) 7))) ∧
        ((15 ≤ (hv h23 (hv h23 (hv h23 v0 1) 7) (hv h23 v0 4)) → ((hv h23 v0 1) ≠ 0) ∧ ((hv h23 (hv h23 v0 1) 7) ≠ 0) ∧ (0 ≤ (hv h23 v0 4)) ∧ (hv h23 v0 4) < (hn h23 (hv h23 (hv h23 v0 1) 7)))) ∧
        S_X16_need l G [(2016, v0), (0, (if (hv h23 (hv h23 (hv h23 v0 1) 7) (hv h23 v0 4)) < 15 then 1 else (if 19 < (hv h23 (hv h23 (hv h23 v0 1) 7) (hv h23 v0 4)) then 1 else (if (hv h23 v0 2) = 0 then 1 else 0 : Int) : Int) : Int))] h23 (fun _ h25 =>
        ((hv h25 v0 1) ≠ 0) ∧
        ((hv h25 (hv h25 v0 1) 7) ≠ 0) ∧
        (0 ≤ (hv h25 v0 4)) ∧
        ((hv h25 v0 4) < (hn h25 (hv h25 (hv h25 v0 1) 7))) ∧
        ((¬ (hv h25 (hv h25 (hv h25 v0 1) 7) (hv h25 v0 4)) = 15 → ((hv h25 v0 1) ≠ 0) ∧ ((hv h25 (hv h25 v0 1) 7) ≠ 0) ∧ (0 ≤ (hv h25 v0 4)) ∧ ((hv h25 v0 4) < (hn h25 (hv h25 (hv h25 v0 1) 7))) ∧ (¬ (hv h25 (hv h25 (hv h25 v0 1) 7) (hv h25 v0 4)) = 31 → ((hv h25 v0 1) ≠ 0) ∧ ((hv h25 (hv h25 v0 1) 7) ≠ 0) ∧ (0 ≤ (hv h25 v0 4)) ∧ (hv h25 v0 4) < (hn h25 (hv h25 (hv h25 v0 1) 7))))) ∧
        (∀ x4_26 : Int, x4_26 = (if (hv h25 (hv h25 (hv h25 v0 1) 7) (hv h25 v0 4)) = 15 then 0 else (if (hv h25 (hv h25 (hv h25 v0 1) 7) (hv h25 v0 4)) = 31 then 0 else (if (hv h25 (hv h25 (hv h25 v0 1) 7) (hv h25 v0 4)) = 32 then 0 else 1 : Int) : Int) : Int) →
        (∀ h27, h27 = hset h25 v0 4 (w32 ((hv h25 v0 4) + 1)) →
        JW K 147 [(2016, v0), (0, v1), (2102, v2), (2102, v3), (0, x4_26), (0, v5), (0, v6), (5000, 0)] [] h27))) E) E))) E))))) E) E))) : JW K 147 [(2016, v0), (0, v1), (2102, v2), (2102, v3), (0, v4), (0, v5), (0, v6), (5000, 0)] [] h := by
  have e1 := ki.2.2.2.2.1
  have e2 := ki.2.2.2.2.2.1
  subst e1; subst e2
  exact run_ok (dia := [(162, 184), (194, 214), (229, 237), (257, 265), (355, 387), (404, 446), (471, 479)]) (cnr := [(37, 55, 68)]) (cuts := [(19, [2016, 0, 2102, 2102, 0, 5000, 5000, 5000], []), (91, [2016, 0, 2102, 2102, 129, 0, 0, 5000], []), (147, [2016, 0, 2102, 2102, 0, 0, 0, 5000], [])]) ki.1 (pk_X16_judge ki hG) ok_X16_judge (by decide) 102 true _ _ _ _ H
abbrev k_X16_need : List (Nat × List (Nat × Instr)) := [(33, [(0, .iload_n 1), (1, .ifCond .ne 23), (4, .new 19), (7, .dup), (8, .aload_n 0), (9, .getfield 15), (12, .getfield 21), (15, .aload_n 0), (16, .getfield 27), (19, .iaload), (20, .invokespecial 31), (23, .athrow), (24, .return_)])]
theorem ok_X16_need : CodeOK cX16_need k_X16_need := okw 0 (by decide +kernel) (okn)
abbrev p_X16_need (l : Launch) (G : JG) : JP := (true, [(15, 16, 1, 18, 0), (21, 14, 11, 104, 0), (27, 16, 4, 0, 0)], [], [], [], [(19, 13, 7)], [], [(31, 2, [0, 2013], 700, S_X13_init l G)], false, 700, [])
theorem pk_X16_need {K : JC} {l : Launch} {G : JG} {Q : Int → MH → Prop} {E : Nat → Int → MH → Prop} {h0 : MH} (ki : KI K l G yX16_need cX16_need 2 none [] 11 332 700 Q E h0) (hG : gO G = true) : POK K RX16 (p_X16_need l G) :=
  POKi (y := yX16_need) ki hG (rfs rf_X16_ok (by decide +kernel)) fmz fmz fmz (subs (by decide +kernel) rn_X16_ok) fmz
  (pkE ki (by
    intro K e1 e2 e3 e4; subst e1; subst e2
    exact fmE (ceI e3 e4 yl_X13_init ⟨rfl, q859, Or.inl q1110, _, _, q860⟩ rfl) (fmz))) (fun z => Bool.noConfusion z) rfl (pkP ki (by
    intro K e1 e2 e3 e4; subst e1; subst e2
    exact fmz))
theorem r_X16_need_0 {K : JC} {l : Launch} {G : JG} {Q : Int → MH → Prop} {E : Nat → Int → MH → Prop} {h0 : MH} (ki : KI K l G yX16_need cX16_need 2 none [] 11 332 700 Q E h0) (hG : gO G = true) {v0 v1 : Int} {h : MH} (H :
    ((¬ v1 = 0 →
      Q 0 h) ∧
    (v1 = 0 →
      (hz h + 1 ≤ LIMC) ∧
      (hs h + 7 ≤ LIMS) ∧
      (∀ h1, h1 = hnew h 13 0 7 →
      ((hv h1 v0 1) ≠ 0) ∧
      ((hv h1 (hv h1 v0 1) 11) ≠ 0) ∧
      (0 ≤ (hv h1 v0 4)) ∧
      ((hv h1 v0 4) < (hn h1 (hv h1 (hv h1 v0 1) 11))) ∧
      S_X13_init l G [(2013, (hz h + 1)), (0, (hv h1 (hv h1 (hv h1 v0 1) 11) (hv h1 v0 4)))] h1 (fun _ h3 =>
      E 13 (hz h + 1) h3) E)))) : JW K 0 [(2016, v0), (0, v1)] [] h := by
  have e1 := ki.2.2.2.2.1
  have e2 := ki.2.2.2.2.2.1
  subst e1; subst e2
  exact run_ok (dia := []) (cnr := []) (cuts := []) ki.1 (pk_X16_need ki hG) ok_X16_need (by decide) 13 true _ _ _ _ H
abbrev k_X16_act : List (Nat × List (Nat × Instr)) := [(43, [(0, .iload_n 1), (1, .bipush 7), (3, .if_icmp .ge 12), (6, .aload_n 0), (7, .iload_n 1), (8, .iload_n 2), (9, .invokevirtual 98), (12, .goto 41), (15, .iload_n 1), (16, .bipush 20), (18, .if_icmp .ge 12), (21, .aload_n 0), (22, .iload_n 1), (23, .iload_n 2), (24, .invokevirtual 102), (27, .goto 26), (30, .iload_n 1), (31, .bipush 29), (33, .if_icmp .ge 13), (36, .aload_n 0), (37, .iload_n 1), (38, .iload_n 2), (39, .iload_n 3), (40, .invokevirtual 105)]),
  (62, [(43, .goto 10), (46, .aload_n 0), (47, .iload_n 1), (48, .iload_n 2), (49, .iload_n 3), (50, .invokevirtual 108), (53, .return_)])]
theorem ok_X16_act : CodeOK cX16_act k_X16_act := okw 0 (by decide +kernel) (okw 43 (by decide +kernel) (okn))
abbrev p_X16_act (l : Launch) (G : JG) : JP := (true, [], [], [], [], [], [], [(98, 1, [0, 0, 2016], 700, S_X16_simple l G), (102, 1, [0, 0, 2016], 700, S_X16_numbers l G), (105, 1, [0, 0, 0, 2016], 700, S_X16_objects l G), (108, 1, [0, 0, 0, 2016], 700, S_X16_calls l G)], false, 700, [])
theorem pk_X16_act {K : JC} {l : Launch} {G : JG} {Q : Int → MH → Prop} {E : Nat → Int → MH → Prop} {h0 : MH} (ki : KI K l G yX16_act cX16_act 4 none [] 16 439 700 Q E h0) (hG : gO G = true) : POK K RX16 (p_X16_act l G) :=
  POKi (y := yX16_act) ki hG fmz fmz fmz fmz fmz fmz
  (pkE ki (by
    intro K e1 e2 e3 e4; subst e1; subst e2
    exact fmE (ceV 16 e3 e4 yl_X16_simple ⟨by decide, ⟨_, _, rfl⟩, q1117, qs12, q1115⟩ rfl) (fmE (ceV 16 e3 e4 yl_X16_numbers ⟨by decide, ⟨_, _, rfl⟩, q1133, qs16, q1131⟩ rfl) (fmE (ceV 16 e3 e4 yl_X16_objects ⟨by decide, ⟨_, _, rfl⟩, q1137, qs17, q1135⟩ rfl) (fmE (ceV 16 e3 e4 yl_X16_calls ⟨by decide, ⟨_, _, rfl⟩, q1141, qs18, q1139⟩ rfl) (fmz)))))) (fun z => Bool.noConfusion z) rfl (pkP ki (by
    intro K e1 e2 e3 e4; subst e1; subst e2
    exact fmz))
theorem r_X16_act_0 {K : JC} {l : Launch} {G : JG} {Q : Int → MH → Prop} {E : Nat → Int → MH → Prop} {h0 : MH} (ki : KI K l G yX16_act cX16_act 4 none [] 16 439 700 Q E h0) (hG : gO G = true) {v0 v1 v2 v3 : Int} {h : MH} (H :
    ((7 ≤ v1 →
      ((20 ≤ v1 →
        ((29 ≤ v1 →
          S_X16_calls l G [(2016, v0), (0, v1), (0, v2), (0, v3)] h (fun _ h2 =>
          Q 0 h2) E) ∧
        (v1 < 29 →
          S_X16_objects l G [(2016, v0), (0, v1), (0, v2), (0, v3)] h (fun _ h4 =>
          Q 0 h4) E))) ∧
      (v1 < 20 →
        S_X16_numbers l G [(2016, v0), (0, v1), (0, v2)] h (fun _ h6 =>
        Q 0 h6) E))) ∧
    (v1 < 7 →
      S_X16_simple l G [(2016, v0), (0, v1), (0, v2)] h (fun _ h8 =>
      Q 0 h8) E))) : JW K 0 [(2016, v0), (0, v1), (0, v2), (0, v3)] [] h := by
  have e1 := ki.2.2.2.2.1
  have e2 := ki.2.2.2.2.2.1
  subst e1; subst e2
  exact run_ok (dia := []) (cnr := []) (cuts := []) ki.1 (pk_X16_act ki hG) ok_X16_act (by decide) 17 true _ _ _ _ H
abbrev k_X16_simple : List (Nat × List (Nat × Instr)) := [(46, [(0, .iload_n 1), (1, .ifCond .ne 11), (4, .aload_n 0), (5, .iconst 0), (6, .invokevirtual 62), (9, .goto 101), (12, .iload_n 1), (13, .iconst 1), (14, .if_icmp .ne 11), (17, .aload_n 0), (18, .iconst 1), (19, .invokevirtual 62), (22, .goto 88), (25, .iload_n 1), (26, .iconst 2), (27, .if_icmp .ne 19), (30, .aload_n 0), (31, .aload_n 0), (32, .getfield 15), (35, .getfield 54), (38, .iload_n 2), (39, .iaload), (40, .invokevirtual 62), (43, .goto 67)]),
  (88, [(46, .iload_n 1), (47, .iconst 3), (48, .if_icmp .ne 19), (51, .aload_n 0), (52, .aload_n 0), (53, .getfield 15), (56, .getfield 54), (59, .iload_n 2), (60, .iaload), (61, .invokevirtual 57), (64, .goto 46), (67, .aload_n 0), (68, .invokevirtual 47), (71, .istore_n 3), (72, .iload_n 1), (73, .iconst 5), (74, .if_icmp .ne 13), (77, .aload_n 0), (78, .iload_n 3), (79, .invokevirtual 62), (82, .aload_n 0), (83, .iload_n 3), (84, .invokevirtual 62), (87, .iload_n 1)]),
  (119, [(88, .bipush 6), (90, .if_icmp .ne 20), (93, .aload_n 0), (94, .invokevirtual 47), (97, .istore 4), (99, .aload_n 0), (100, .iload_n 3), (101, .invokevirtual 62), (104, .aload_n 0), (105, .iload 4), (107, .invokevirtual 62), (110, .return_)])]
theorem ok_X16_simple : CodeOK cX16_simple k_X16_simple := okw 0 (by decide +kernel) (okw 46 (by decide +kernel) (okw 88 (by decide +kernel) (okn)))
abbrev p_X16_simple (l : Launch) (G : JG) : JP := (true, [(15, 16, 1, 18, 0), (54, 14, 5, 104, 0)], [], [], [], [], [], [(47, 1, [2016], 0, S_X16_take_2 l G), (57, 1, [0, 2016], 700, S_X16_take l G), (62, 1, [0, 2016], 700, S_X16_put l G)], false, 700, [])
theorem pk_X16_simple {K : JC} {l : Launch} {G : JG} {Q : Int → MH → Prop} {E : Nat → Int → MH → Prop} {h0 : MH} (ki : KI K l G yX16_simple cX16_simple 5 none [] 14 394 700 Q E h0) (hG : gO G = true) : POK K RX16 (p_X16_simple l G) :=
  POKi (y := yX16_simple) ki hG (rfs rf_X16_ok (by decide +kernel)) fmz fmz fmz fmz fmz
  (pkE ki (by
    intro K e1 e2 e3 e4; subst e1; subst e2
    exact fmE (ceV 16 e3 e4 yl_X16_take_2 ⟨by decide, ⟨_, _, rfl⟩, q1129, qs15, q1127⟩ rfl) (fmE (ceV 16 e3 e4 yl_X16_take ⟨by decide, ⟨_, _, rfl⟩, q1125, qs14, q1123⟩ rfl) (fmE (ceV 16 e3 e4 yl_X16_put ⟨by decide, ⟨_, _, rfl⟩, q1121, qs13, q1119⟩ rfl) (fmz))))) (fun z => Bool.noConfusion z) rfl (pkP ki (by
    intro K e1 e2 e3 e4; subst e1; subst e2
    exact fmz))
theorem r_X16_simple_0 {K : JC} {l : Launch} {G : JG} {Q : Int → MH → Prop} {E : Nat → Int → MH → Prop} {h0 : MH} (ki : KI K l G yX16_simple cX16_simple 5 none [] 14 394 700 Q E h0) (hG : gO G = true) {v0 v1 v2 : Int} {h : MH} (H :
    ((¬ v1 = 0 →
      ((¬ v1 = 1 →
        ((¬ v1 = 2 →
          ((¬ v1 = 3 →
            S_X16_take_2 l G [(2016, v0)] h (fun z1 h2 =>
            (∀ x3_3 : Int, x3_3 = z1 →
            ((¬ v1 = 5 →
              ((¬ v1 = 6 →
                Q 0 h2) ∧
              (v1 = 6 →
                S_X16_take_2 l G [(2016, v0)] h2 (fun z4 h5 =>
                (∀ x4_6 : Int, x4_6 = z4 →
                S_X16_put l G [(2016, v0), (0, x3_3)] h5 (fun _ h8 =>
                S_X16_put l G [(2016, v0), (0, x4_6)] h8 (fun _ h10 =>
                Q 0 h10) E) E)) E))) ∧
            (v1 = 5 →
              S_X16_put l G [(2016, v0), (0, x3_3)] h2 (fun _ h12 =>
              S_X16_put l G [(2016, v0), (0, x3_3)] h12 (fun _ h14 =>
              ((¬ v1 = 6 →
                Q 0 h14) ∧
              (v1 = 6 →
                S_X16_take_2 l G [(2016, v0)] h14 (fun z15 h16 =>
                (∀ x4_17 : Int, x4_17 = z15 →
                S_X16_put l G [(2016, v0), (0, x3_3)] h16 (fun _ h19 =>
                S_X16_put l G [(2016, v0), (0, x4_17)] h19 (fun _ h21 =>
                Q 0 h21) E) E)) E))) E) E)))) E) ∧
          (v1 = 3 →
            ((hv h v0 1) ≠ 0) ∧
            ((hv h (hv h v0 1) 5) ≠ 0) ∧
            (0 ≤ v2) ∧
            (v2 < (hn h (hv h (hv h v0 1) 5))) ∧
            S_X16_take l G [(2016, v0), (0, (hv h (hv h (hv h v0 1) 5) v2))] h (fun _ h23 =>
            Q 0 h23) E))) ∧
        (v1 = 2 →
          ((hv h v0 1) ≠ 0) ∧
          ((hv h (hv h v0 1) 5) ≠ 0) ∧
          (0 ≤ v2) ∧
          (v2 < (hn h (hv h (hv h v0 1) 5))) ∧
          S_X16_put l G [(2016, v0), (0, (hv h (hv h (hv h v0 1) 5) v2))] h (fun _ h25 =>
          Q 0 h25) E))) ∧
      (v1 = 1 →
        S_X16_put l G [(2016, v0), (0, 1)] h (fun _ h27 =>
        Q 0 h27) E))) ∧
    (v1 = 0 →
      S_X16_put l G [(2016, v0), (0, 0)] h (fun _ h29 =>
      Q 0 h29) E))) : JW K 0 [(2016, v0), (0, v1), (0, v2), (5000, 0), (5000, 0)] [] h := by
  have e1 := ki.2.2.2.2.1
  have e2 := ki.2.2.2.2.2.1
  subst e1; subst e2
  exact run_ok (dia := []) (cnr := []) (cuts := []) ki.1 (pk_X16_simple ki hG) ok_X16_simple (by decide) 37 true _ _ _ _ H
abbrev k_X16_put : List (Nat × List (Nat × Instr)) := [(44, [(0, .aload_n 0), (1, .aload_n 0), (2, .getfield 34), (5, .aload_n 0), (6, .getfield 15), (9, .getfield 37), (12, .if_icmp .ge 7), (15, .iconst 1), (16, .goto 4), (19, .iconst 0), (20, .invokevirtual 40), (23, .aload_n 0), (24, .iload_n 1), (25, .iconst 1), (26, .if_icmp .ne 17), (29, .aload_n 0), (30, .getfield 44), (33, .iconst 1), (34, .aload_n 0), (35, .getfield 34), (38, .ishl), (39, .ior), (40, .goto 16), (43, .aload_n 0)]),
  (78, [(44, .getfield 44), (47, .iconst 1), (48, .aload_n 0), (49, .getfield 34), (52, .ishl), (53, .iconst (-1)), (54, .ixor), (55, .iand), (56, .putfield 44), (59, .aload_n 0), (60, .dup), (61, .getfield 34), (64, .iconst 1), (65, .iadd), (66, .putfield 34), (69, .return_)])]
theorem ok_X16_put : CodeOK cX16_put k_X16_put := okw 0 (by decide +kernel) (okw 44 (by decide +kernel) (okn))
abbrev p_X16_put (l : Launch) (G : JG) : JP := (true, [(15, 16, 1, 18, 0), (34, 16, 2, 0, 0), (37, 14, 6, 0, 0), (44, 16, 3, 0, 0)], [], [], [(34, 16, 2, 0), (44, 16, 3, 0)], [], [], [(40, 1, [0, 2016], 700, S_X16_need l G)], false, 700, [])
theorem pk_X16_put {K : JC} {l : Launch} {G : JG} {Q : Int → MH → Prop} {E : Nat → Int → MH → Prop} {h0 : MH} (ki : KI K l G yX16_put cX16_put 2 none [] 12 353 700 Q E h0) (hG : gO G = true) : POK K RX16 (p_X16_put l G) :=
  POKi (y := yX16_put) ki hG (rfs rf_X16_ok (by decide +kernel)) fmz fmz (rps rp_X16_ok (by decide +kernel)) fmz fmz
  (pkE ki (by
    intro K e1 e2 e3 e4; subst e1; subst e2
    exact fmE (ceV 16 e3 e4 yl_X16_need ⟨by decide, ⟨_, _, rfl⟩, q1107, qs10, q1105⟩ rfl) (fmz))) (fun z => Bool.noConfusion z) rfl (pkP ki (by
    intro K e1 e2 e3 e4; subst e1; subst e2
    exact fmz))
theorem r_X16_put_0 {K : JC} {l : Launch} {G : JG} {Q : Int → MH → Prop} {E : Nat → Int → MH → Prop} {h0 : MH} (ki : KI K l G yX16_put cX16_put 2 none [] 12 353 700 Q E h0) (hG : gO G = true) {v0 v1 : Int} {h : MH} (H :
    ((hv h v0 1) ≠ 0) ∧
    S_X16_need l G [(2016, v0), (0, (if (hv h v0 2) < (hv h (hv h v0 1) 6) then 1 else 0 : Int))] h (fun _ h2 =>
    (∀ h3, h3 = hset h2 v0 3 (if v1 = 1 then (i_or (hv h2 v0 3) (i_shl 1 (hv h2 v0 2))) else (i_and (hv h2 v0 3) (i_xor (i_shl 1 (hv h2 v0 2)) (-1))) : Int) →
    (∀ h4, h4 = hset h3 v0 2 (w32 ((hv h3 v0 2) + 1)) →
    Q 0 h4))) E) : JW K 0 [(2016, v0), (0, v1)] [] h := by
  have e1 := ki.2.2.2.2.1
  have e2 := ki.2.2.2.2.2.1
  subst e1; subst e2
  exact run_ok (dia := [(12, 20), (26, 56)]) (cnr := []) (cuts := []) ki.1 (pk_X16_put ki hG) ok_X16_put (by decide) 21 true _ _ _ _ H
abbrev k_X16_take : List (Nat × List (Nat × Instr)) := [(26, [(0, .aload_n 0), (1, .aload_n 0), (2, .invokevirtual 47), (5, .iload_n 1), (6, .if_icmp .ne 7), (9, .iconst 1), (10, .goto 4), (13, .iconst 0), (14, .invokevirtual 40), (17, .return_)])]
theorem ok_X16_take : CodeOK cX16_take k_X16_take := okw 0 (by decide +kernel) (okn)
abbrev p_X16_take (l : Launch) (G : JG) : JP := (true, [], [], [], [], [], [], [(40, 1, [0, 2016], 700, S_X16_need l G), (47, 1, [2016], 0, S_X16_take_2 l G)], false, 700, [])
theorem pk_X16_take {K : JC} {l : Launch} {G : JG} {Q : Int → MH → Prop} {E : Nat → Int → MH → Prop} {h0 : MH} (ki : KI K l G yX16_take cX16_take 2 none [] 13 373 700 Q E h0) (hG : gO G = true) : POK K RX16 (p_X16_take l G) :=
  POKi (y := yX16_take) ki hG fmz fmz fmz fmz fmz fmz
  (pkE ki (by
    intro K e1 e2 e3 e4; subst e1; subst e2
    exact fmE (ceV 16 e3 e4 yl_X16_need ⟨by decide, ⟨_, _, rfl⟩, q1107, qs10, q1105⟩ rfl) (fmE (ceV 16 e3 e4 yl_X16_take_2 ⟨by decide, ⟨_, _, rfl⟩, q1129, qs15, q1127⟩ rfl) (fmz)))) (fun z => Bool.noConfusion z) rfl (pkP ki (by
    intro K e1 e2 e3 e4; subst e1; subst e2
    exact fmz))
theorem r_X16_take_0 {K : JC} {l : Launch} {G : JG} {Q : Int → MH → Prop} {E : Nat → Int → MH → Prop} {h0 : MH} (ki : KI K l G yX16_take cX16_take 2 none [] 13 373 700 Q E h0) (hG : gO G = true) {v0 v1 : Int} {h : MH} (H :
    S_X16_take_2 l G [(2016, v0)] h (fun z1 h2 =>
    S_X16_need l G [(2016, v0), (0, (if z1 = v1 then 1 else 0 : Int))] h2 (fun _ h4 =>
    Q 0 h4) E) E) : JW K 0 [(2016, v0), (0, v1)] [] h := by
  have e1 := ki.2.2.2.2.1
  have e2 := ki.2.2.2.2.2.1
  subst e1; subst e2
  exact run_ok (dia := [(6, 14)]) (cnr := []) (cuts := []) ki.1 (pk_X16_take ki hG) ok_X16_take (by decide) 8 true _ _ _ _ H
abbrev k_X16_take_2 : List (Nat × List (Nat × Instr)) := [(46, [(0, .aload_n 0), (1, .aload_n 0), (2, .getfield 34), (5, .ifCond .le 7), (8, .iconst 1), (9, .goto 4), (12, .iconst 0), (13, .invokevirtual 40), (16, .aload_n 0), (17, .dup), (18, .getfield 34), (21, .iconst 1), (22, .isub), (23, .putfield 34), (26, .aload_n 0), (27, .getfield 44), (30, .aload_n 0), (31, .getfield 34), (34, .ishr), (35, .iconst 1), (36, .iand), (37, .ireturn)])]
theorem ok_X16_take_2 : CodeOK cX16_take_2 k_X16_take_2 := okw 0 (by decide +kernel) (okn)
abbrev p_X16_take_2 (l : Launch) (G : JG) : JP := (true, [(34, 16, 2, 0, 0), (44, 16, 3, 0, 0)], [], [], [(34, 16, 2, 0)], [], [], [(40, 1, [0, 2016], 700, S_X16_need l G)], false, 0, [])
theorem pk_X16_take_2 {K : JC} {l : Launch} {G : JG} {Q : Int → MH → Prop} {E : Nat → Int → MH → Prop} {h0 : MH} (ki : KI K l G yX16_take_2 cX16_take_2 1 (some .int) [] 12 353 0 Q E h0) (hG : gO G = true) : POK K RX16 (p_X16_take_2 l G) :=
  POKi (y := yX16_take_2) ki hG (rfs rf_X16_ok (by decide +kernel)) fmz fmz (rps rp_X16_ok (by decide +kernel)) fmz fmz
  (pkE ki (by
    intro K e1 e2 e3 e4; subst e1; subst e2
    exact fmE (ceV 16 e3 e4 yl_X16_need ⟨by decide, ⟨_, _, rfl⟩, q1107, qs10, q1105⟩ rfl) (fmz))) (fun z => Bool.noConfusion z) rfl (pkP ki (by
    intro K e1 e2 e3 e4; subst e1; subst e2
    exact fmz))
theorem r_X16_take_2_0 {K : JC} {l : Launch} {G : JG} {Q : Int → MH → Prop} {E : Nat → Int → MH → Prop} {h0 : MH} (ki : KI K l G yX16_take_2 cX16_take_2 1 (some .int) [] 12 353 0 Q E h0) (hG : gO G = true) {v0 : Int} {h : MH} (H :
    S_X16_need l G [(2016, v0), (0, (if 0 < (hv h v0 2) then 1 else 0 : Int))] h (fun _ h2 =>
    (∀ h3, h3 = hset h2 v0 2 (w32 ((hv h2 v0 2) - 1)) →
    Q (i_and (i_shr (hv h3 v0 3) (hv h3 v0 2)) 1) h3)) E) : JW K 0 [(2016, v0)] [] h := by
  have e1 := ki.2.2.2.2.1
  have e2 := ki.2.2.2.2.2.1
  subst e1; subst e2
  exact run_ok (dia := [(5, 13)]) (cnr := []) (cuts := []) ki.1 (pk_X16_take_2 ki hG) ok_X16_take_2 (by decide) 20 true _ _ _ _ H
abbrev k_X16_numbers : List (Nat × List (Nat × Instr)) := [(45, [(0, .iload_n 1), (1, .bipush 12), (3, .if_icmp .gt 27), (6, .aload_n 0), (7, .iconst 0), (8, .invokevirtual 57), (11, .iload_n 1), (12, .bipush 12), (14, .if_icmp .eq 8), (17, .aload_n 0), (18, .iconst 0), (19, .invokevirtual 57), (22, .aload_n 0), (23, .iconst 0), (24, .invokevirtual 62), (27, .goto 101), (30, .iload_n 1), (31, .bipush 13), (33, .if_icmp .ne 11), (36, .aload_n 0), (37, .iconst 0), (38, .invokevirtual 62), (41, .goto 87), (44, .iload_n 1)]),
  (92, [(45, .bipush 14), (47, .if_icmp .ne 11), (50, .aload_n 0), (51, .iconst 0), (52, .invokevirtual 57), (55, .goto 73), (58, .iload_n 1), (59, .bipush 16), (61, .if_icmp .ne 16), (64, .aload_n 0), (65, .iconst 0), (66, .invokevirtual 57), (69, .aload_n 0), (70, .iconst 0), (71, .invokevirtual 57), (74, .goto 54), (77, .iload_n 1), (78, .bipush 15), (80, .if_icmp .eq 48), (83, .aload_n 0), (84, .aload_n 0), (85, .getfield 15), (88, .getfield 54), (91, .iload_n 1)]),
  (137, [(92, .bipush 17), (94, .if_icmp .ne 10), (97, .iload_n 2), (98, .bipush 8), (100, .irem), (101, .goto 4), (104, .iload_n 2), (105, .iaload), (106, .iload_n 1), (107, .bipush 17), (109, .if_icmp .ne 7), (112, .iconst 0), (113, .goto 4), (116, .iconst 1), (117, .if_icmp .ne 7), (120, .iconst 1), (121, .goto 4), (124, .iconst 0), (125, .invokevirtual 40), (128, .return_)])]
theorem ok_X16_numbers : CodeOK cX16_numbers k_X16_numbers := okw 0 (by decide +kernel) (okw 45 (by decide +kernel) (okw 92 (by decide +kernel) (okn)))
abbrev p_X16_numbers (l : Launch) (G : JG) : JP := (true, [(15, 16, 1, 18, 0), (54, 14, 5, 104, 0)], [], [], [], [], [], [(40, 1, [0, 2016], 700, S_X16_need l G), (57, 1, [0, 2016], 700, S_X16_take l G), (62, 1, [0, 2016], 700, S_X16_put l G)], false, 700, [])
theorem pk_X16_numbers {K : JC} {l : Launch} {G : JG} {Q : Int → MH → Prop} {E : Nat → Int → MH → Prop} {h0 : MH} (ki : KI K l G yX16_numbers cX16_numbers 3 none [] 14 394 700 Q E h0) (hG : gO G = true) : POK K RX16 (p_X16_numbers l G) :=
  POKi (y := yX16_numbers) ki hG (rfs rf_X16_ok (by decide +kernel)) fmz fmz fmz fmz fmz
  (pkE ki (by
    intro K e1 e2 e3 e4; subst e1; subst e2
    exact fmE (ceV 16 e3 e4 yl_X16_need ⟨by decide, ⟨_, _, rfl⟩, q1107, qs10, q1105⟩ rfl) (fmE (ceV 16 e3 e4 yl_X16_take ⟨by decide, ⟨_, _, rfl⟩, q1125, qs14, q1123⟩ rfl) (fmE (ceV 16 e3 e4 yl_X16_put ⟨by decide, ⟨_, _, rfl⟩, q1121, qs13, q1119⟩ rfl) (fmz))))) (fun z => Bool.noConfusion z) rfl (pkP ki (by
    intro K e1 e2 e3 e4; subst e1; subst e2
    exact fmz))
theorem r_X16_numbers_0 {K : JC} {l : Launch} {G : JG} {Q : Int → MH → Prop} {E : Nat → Int → MH → Prop} {h0 : MH} (ki : KI K l G yX16_numbers cX16_numbers 3 none [] 14 394 700 Q E h0) (hG : gO G = true) {v0 v1 v2 : Int} {h : MH} (H :
    ((12 < v1 →
      ((¬ v1 = 13 →
        ((¬ v1 = 14 →
          ((¬ v1 = 16 →
            ((v1 = 15 →
              Q 0 h) ∧
            (¬ v1 = 15 →
              ((hv h v0 1) ≠ 0) ∧
              ((v1 = 17 → ¬ (8 : Int) = 0)) ∧
              ((hv h (hv h v0 1) 5) ≠ 0) ∧
              (0 ≤ (if v1 = 17 then (i_rem v2 8) else v2 : Int)) ∧
              ((if v1 = 17 then (i_rem v2 8) else v2 : Int) < (hn h (hv h (hv h v0 1) 5))) ∧
              S_X16_need l G [(2016, v0), (0, (if (hv h (hv h (hv h v0 1) 5) (if v1 = 17 then (i_rem v2 8) else v2 : Int)) = (if v1 = 17 then 0 else 1 : Int) then 1 else 0 : Int))] h (fun _ h2 =>
              Q 0 h2) E))) ∧
          (v1 = 16 →
            S_X16_take l G [(2016, v0), (0, 0)] h (fun _ h4 =>
            S_X16_take l G [(2016, v0), (0, 0)] h4 (fun _ h6 =>
            Q 0 h6) E) E))) ∧
        (v1 = 14 →
          S_X16_take l G [(2016, v0), (0, 0)] h (fun _ h8 =>
          Q 0 h8) E))) ∧
      (v1 = 13 →
        S_X16_put l G [(2016, v0), (0, 0)] h (fun _ h10 =>
        Q 0 h10) E))) ∧
    (v1 ≤ 12 →
      S_X16_take l G [(2016, v0), (0, 0)] h (fun _ h12 =>
      ((v1 = 12 →
        S_X16_put l G [(2016, v0), (0, 0)] h12 (fun _ h14 =>
        Q 0 h14) E) ∧
      (¬ v1 = 12 →
        S_X16_take l G [(2016, v0), (0, 0)] h12 (fun _ h16 =>
        S_X16_put l G [(2016, v0), (0, 0)] h16 (fun _ h18 =>
        Q 0 h18) E) E))) E))) : JW K 0 [(2016, v0), (0, v1), (0, v2)] [] h := by
  have e1 := ki.2.2.2.2.1
  have e2 := ki.2.2.2.2.2.1
  subst e1; subst e2
  exact run_ok (dia := [(94, 105), (109, 117), (117, 125)]) (cnr := []) (cuts := []) ki.1 (pk_X16_numbers ki hG) ok_X16_numbers (by decide) 30 true _ _ _ _ H
abbrev k_X16_objects : List (Nat × List (Nat × Instr)) := [(1, [(0, .iload_n 1)]),
  (48, [(1, .tableswitch 179 20 27 #[47, 55, 68, 81, 99, 117, 140, 163])]),
  (92, [(48, .aload_n 0), (49, .iconst 1), (50, .invokevirtual 62), (53, .goto 140), (56, .aload_n 0), (57, .iconst 0), (58, .invokevirtual 57), (61, .aload_n 0), (62, .iconst 1), (63, .invokevirtual 62), (66, .goto 127), (69, .aload_n 0), (70, .iconst 1), (71, .invokevirtual 57), (74, .aload_n 0), (75, .iconst 0), (76, .invokevirtual 62), (79, .goto 114), (82, .aload_n 0), (83, .iconst 0), (84, .invokevirtual 57), (87, .aload_n 0), (88, .iconst 1), (89, .invokevirtual 57)]),
  (134, [(92, .aload_n 0), (93, .iload_n 2), (94, .invokevirtual 62), (97, .goto 96), (100, .aload_n 0), (101, .iload_n 2), (102, .invokevirtual 57), (105, .aload_n 0), (106, .iconst 0), (107, .invokevirtual 57), (110, .aload_n 0), (111, .iconst 1), (112, .invokevirtual 57), (115, .goto 78), (118, .aload_n 0), (119, .iconst 1), (120, .invokevirtual 57), (123, .aload_n 0), (124, .aload_n 0), (125, .getfield 9), (128, .getfield 111), (131, .iload_n 2), (132, .aaload), (133, .iload_n 3)]),
  (180, [(134, .iaload), (135, .invokevirtual 62), (138, .goto 55), (141, .aload_n 0), (142, .aload_n 0), (143, .getfield 9), (146, .getfield 111), (149, .iload_n 2), (150, .aaload), (151, .iload_n 3), (152, .iaload), (153, .invokevirtual 57), (156, .aload_n 0), (157, .iconst 1), (158, .invokevirtual 57), (161, .goto 32), (164, .aload_n 0), (165, .aload_n 0), (166, .getfield 9), (169, .getfield 117), (172, .iload_n 2), (173, .iaload), (174, .invokevirtual 62), (177, .goto 16)]),
  (202, [(180, .aload_n 0), (181, .aload_n 0), (182, .getfield 9), (185, .getfield 117), (188, .iload_n 2), (189, .iaload), (190, .invokevirtual 57), (193, .return_)])]
theorem ok_X16_objects : CodeOK cX16_objects k_X16_objects := okw 0 (by decide +kernel) (okc (by decide +kernel) (okw 48 (by decide +kernel) (okw 92 (by decide +kernel) (okw 134 (by decide +kernel) (okw 180 (by decide +kernel) (okn))))))
abbrev p_X16_objects (l : Launch) (G : JG) : JP := (true, [(9, 16, 0, 16, 0), (111, 12, 4, 134, 0), (117, 12, 5, 104, 0)], [], [], [], [], [], [(57, 1, [0, 2016], 700, S_X16_take l G), (62, 1, [0, 2016], 700, S_X16_put l G)], false, 700, [])
theorem pk_X16_objects {K : JC} {l : Launch} {G : JG} {Q : Int → MH → Prop} {E : Nat → Int → MH → Prop} {h0 : MH} (ki : KI K l G yX16_objects cX16_objects 4 none [] 14 394 700 Q E h0) (hG : gO G = true) : POK K RX16 (p_X16_objects l G) :=
  POKi (y := yX16_objects) ki hG (rfs rf_X16_ok (by decide +kernel)) fmz fmz fmz fmz fmz
  (pkE ki (by
    intro K e1 e2 e3 e4; subst e1; subst e2
    exact fmE (ceV 16 e3 e4 yl_X16_take ⟨by decide, ⟨_, _, rfl⟩, q1125, qs14, q1123⟩ rfl) (fmE (ceV 16 e3 e4 yl_X16_put ⟨by decide, ⟨_, _, rfl⟩, q1121, qs13, q1119⟩ rfl) (fmz)))) (fun z => Bool.noConfusion z) rfl (pkP ki (by
    intro K e1 e2 e3 e4; subst e1; subst e2
    exact fmz))
theorem r_X16_objects_0 {K : JC} {l : Launch} {G : JG} {Q : Int → MH → Prop} {E : Nat → Int → MH → Prop} {h0 : MH} (ki : KI K l G yX16_objects cX16_objects 4 none [] 14 394 700 Q E h0) (hG : gO G = true) {v0 v1 v2 v3 : Int} {h : MH} (H :
    (((v1 = 20 →
      S_X16_put l G [(2016, v0), (0, 1)] h (fun _ h2 =>
      Q 0 h2) E) ∧
    ((v1 = 20 + 1 →
      S_X16_take l G [(2016, v0), (0, 0)] h (fun _ h4 =>
      S_X16_put l G [(2016, v0), (0, 1)] h4 (fun _ h6 =>
      Q 0 h6) E) E) ∧
    ((v1 = 20 + 1 + 1 →
      S_X16_take l G [(2016, v0), (0, 1)] h (fun _ h8 =>
      S_X16_put l G [(2016, v0), (0, 0)] h8 (fun _ h10 =>
      Q 0 h10) E) E) ∧
    ((v1 = 20 + 1 + 1 + 1 →
      S_X16_take l G [(2016, v0), (0, 0)] h (fun _ h12 =>
      S_X16_take l G [(2016, v0), (0, 1)] h12 (fun _ h14 =>
      S_X16_put l G [(2016, v0), (0, v2)] h14 (fun _ h16 =>
      Q 0 h16) E) E) E) ∧
    ((v1 = 20 + 1 + 1 + 1 + 1 →
      S_X16_take l G [(2016, v0), (0, v2)] h (fun _ h18 =>
      S_X16_take l G [(2016, v0), (0, 0)] h18 (fun _ h20 =>
      S_X16_take l G [(2016, v0), (0, 1)] h20 (fun _ h22 =>
      Q 0 h22) E) E) E) ∧
    ((v1 = 20 + 1 + 1 + 1 + 1 + 1 →
      S_X16_take l G [(2016, v0), (0, 1)] h (fun _ h24 =>
      ((hv h24 v0 0) ≠ 0) ∧
      ((hv h24 (hv h24 v0 0) 4) ≠ 0) ∧
      (0 ≤ v2) ∧
      (v2 < (hn h24 (hv h24 (hv h24 v0 0) 4))) ∧
      ((hv h24 (hv h24 (hv h24 v0 0) 4) v2) ≠ 0) ∧
      (0 ≤ v3) ∧
      (v3 < (hn h24 (hv h24 (hv h24 (hv h24 v0 0) 4) v2))) ∧
      S_X16_put l G [(2016, v0), (0, (hv h24 (hv h24 (hv h24 (hv h24 v0 0) 4) v2) v3))] h24 (fun _ h26 =>
      Q 0 h26) E) E) ∧
    ((v1 = 20 + 1 + 1 + 1 + 1 + 1 + 1 →
      ((hv h v0 0) ≠ 0) ∧
      ((hv h (hv h v0 0) 4) ≠ 0) ∧
      (0 ≤ v2) ∧
      (v2 < (hn h (hv h (hv h v0 0) 4))) ∧
      ((hv h (hv h (hv h v0 0) 4) v2) ≠ 0) ∧
      (0 ≤ v3) ∧
      (v3 < (hn h (hv h (hv h (hv h v0 0) 4) v2))) ∧
      S_X16_take l G [(2016, v0), (0, (hv h (hv h (hv h (hv h v0 0) 4) v2) v3))] h (fun _ h28 =>
      S_X16_take l G [(2016, v0), (0, 1)] h28 (fun _ h30 =>
      Q 0 h30) E) E) ∧
    ((v1 = 20 + 1 + 1 + 1 + 1 + 1 + 1 + 1 →
      ((hv h v0 0) ≠ 0) ∧
      ((hv h (hv h v0 0) 5) ≠ 0) ∧
      (0 ≤ v2) ∧
      (v2 < (hn h (hv h (hv h v0 0) 5))) ∧
      S_X16_put l G [(2016, v0), (0, (hv h (hv h (hv h v0 0) 5) v2))] h (fun _ h32 =>
      Q 0 h32) E) ∧
    True)))))))) ∧ ((v1 < 20 ∨ 27 < v1) →
      ((hv h v0 0) ≠ 0) ∧
      ((hv h (hv h v0 0) 5) ≠ 0) ∧
      (0 ≤ v2) ∧
      (v2 < (hn h (hv h (hv h v0 0) 5))) ∧
      S_X16_take l G [(2016, v0), (0, (hv h (hv h (hv h v0 0) 5) v2))] h (fun _ h34 =>
      Q 0 h34) E))) : JW K 0 [(2016, v0), (0, v1), (0, v2), (0, v3)] [] h := by
  have e1 := ki.2.2.2.2.1
  have e2 := ki.2.2.2.2.2.1
  subst e1; subst e2
  exact run_ok (dia := []) (cnr := []) (cuts := []) ki.1 (pk_X16_objects ki hG) ok_X16_objects (by decide) 17 true _ _ _ _ H
abbrev k_X16_calls : List (Nat × List (Nat × Instr)) := [(1, [(0, .iload_n 1)]),
  (48, [(1, .tableswitch 245 29 36 #[47, 90, 125, 167, 175, 245, 245, 188])]),
  (96, [(48, .aload_n 0), (49, .aload_n 0), (50, .getfield 9), (53, .getfield 120), (56, .iload_n 3), (57, .aaload), (58, .getfield 124), (61, .sipush 255), (64, .if_icmp .ne 7), (67, .iconst 1), (68, .goto 4), (71, .iconst 0), (72, .invokevirtual 40), (75, .aload_n 0), (76, .aload_n 0), (77, .getfield 9), (80, .getfield 120), (83, .iload_n 3), (84, .aaload), (85, .invokevirtual 127), (88, .goto 158), (91, .aload_n 0), (92, .aload_n 0), (93, .getfield 9)]),
  (146, [(96, .iload_n 2), (97, .invokevirtual 131), (100, .ifnull 7), (103, .iconst 1), (104, .goto 4), (107, .iconst 0), (108, .invokevirtual 40), (111, .aload_n 0), (112, .aload_n 0), (113, .getfield 9), (116, .iload_n 2), (117, .invokevirtual 131), (120, .invokevirtual 127), (123, .goto 123), (126, .aload_n 0), (127, .getfield 15), (130, .getfield 59), (133, .ifCond .le 16), (136, .aload_n 0), (137, .aload_n 0), (138, .getfield 15), (141, .getfield 59), (144, .iconst 1), (145, .isub)]),
  (194, [(146, .invokevirtual 57), (149, .aload_n 0), (150, .aload_n 0), (151, .getfield 34), (154, .ifCond .ne 7), (157, .iconst 1), (158, .goto 4), (161, .iconst 0), (162, .invokevirtual 40), (165, .goto 81), (168, .aload_n 0), (169, .iconst 1), (170, .invokevirtual 57), (173, .goto 73), (176, .aload_n 0), (177, .iconst 1), (178, .invokevirtual 57), (181, .aload_n 0), (182, .iconst 1), (183, .invokevirtual 62), (186, .goto 60), (189, .aload_n 0), (190, .aload_n 0), (191, .getfield 9)]),
  (246, [(194, .iload_n 2), (195, .invokevirtual 131), (198, .ifnull 36), (201, .aload_n 0), (202, .getfield 9), (205, .iload_n 2), (206, .invokevirtual 131), (209, .getfield 51), (212, .iconst 1), (213, .if_icmp .ne 21), (216, .aload_n 0), (217, .getfield 9), (220, .iload_n 2), (221, .invokevirtual 131), (224, .getfield 59), (227, .ifCond .ne 7), (230, .iconst 1), (231, .goto 4), (234, .iconst 0), (235, .invokevirtual 40), (238, .aload_n 0), (239, .iconst 1), (240, .invokevirtual 57), (243, .goto 3)]),
  (255, [(246, .return_)])]
theorem ok_X16_calls : CodeOK cX16_calls k_X16_calls := okw 0 (by decide +kernel) (okc (by decide +kernel) (okw 48 (by decide +kernel) (okw 96 (by decide +kernel) (okw 146 (by decide +kernel) (okw 194 (by decide +kernel) (okw 246 (by decide +kernel) (okn)))))))
abbrev p_X16_calls (l : Launch) (G : JG) : JP := (true, [(9, 16, 0, 16, 0), (15, 16, 1, 18, 0), (34, 16, 2, 0, 0), (51, 14, 3, 0, 0), (59, 14, 4, 0, 0), (120, 12, 6, 128, 0), (124, 14, 1, 0, 0)], [], [], [], [], [], [(40, 1, [0, 2016], 700, S_X16_need l G), (57, 1, [0, 2016], 700, S_X16_take l G), (62, 1, [0, 2016], 700, S_X16_put l G), (127, 1, [18, 2016], 700, S_X16_takeAll l G), (131, 1, [0, 2012], 18, S_X12_named l G)], false, 700, [])
theorem pk_X16_calls {K : JC} {l : Launch} {G : JG} {Q : Int → MH → Prop} {E : Nat → Int → MH → Prop} {h0 : MH} (ki : KI K l G yX16_calls cX16_calls 4 none [] 15 416 700 Q E h0) (hG : gO G = true) : POK K RX16 (p_X16_calls l G) :=
  POKi (y := yX16_calls) ki hG (rfs rf_X16_ok (by decide +kernel)) fmz fmz fmz fmz fmz
  (pkE ki (by
    intro K e1 e2 e3 e4; subst e1; subst e2
    exact fmE (ceV 16 e3 e4 yl_X16_need ⟨by decide, ⟨_, _, rfl⟩, q1107, qs10, q1105⟩ rfl) (fmE (ceV 16 e3 e4 yl_X16_take ⟨by decide, ⟨_, _, rfl⟩, q1125, qs14, q1123⟩ rfl) (fmE (ceV 16 e3 e4 yl_X16_put ⟨by decide, ⟨_, _, rfl⟩, q1121, qs13, q1119⟩ rfl) (fmE (ceV 16 e3 e4 yl_X16_takeAll ⟨by decide, ⟨_, _, rfl⟩, q1145, qs19, q1143⟩ rfl) (fmE (ceV 12 e3 e4 yl_X12_named ⟨by decide, ⟨_, _, rfl⟩, q1148, q1149, q1147⟩ rfl) (fmz))))))) (fun z => Bool.noConfusion z) rfl (pkP ki (by
    intro K e1 e2 e3 e4; subst e1; subst e2
    exact fmz))
theorem r_X16_calls_0 {K : JC} {l : Launch} {G : JG} {Q : Int → MH → Prop} {E : Nat → Int → MH → Prop} {h0 : MH} (ki : KI K l G yX16_calls cX16_calls 4 none [] 15 416 700 Q E h0) (hG : gO G = true) {v0 v1 v2 v3 : Int} {h : MH} (H :
    (((v1 = 29 →
      ((hv h v0 0) ≠ 0) ∧
      ((hv h (hv h v0 0) 6) ≠ 0) ∧
      (0 ≤ v3) ∧
      (v3 < (hn h (hv h (hv h v0 0) 6))) ∧
      ((hv h (hv h (hv h v0 0) 6) v3) ≠ 0) ∧
      S_X16_need l G [(2016, v0), (0, (if (hv h (hv h (hv h (hv h v0 0) 6) v3) 1) = 255 then 1 else 0 : Int))] h (fun _ h2 =>
      ((hv h2 v0 0) ≠ 0) ∧
      ((hv h2 (hv h2 v0 0) 6) ≠ 0) ∧
      (0 ≤ v3) ∧
      (v3 < (hn h2 (hv h2 (hv h2 v0 0) 6))) ∧
      S_X16_takeAll l G [(2016, v0), (18, (hv h2 (hv h2 (hv h2 v0 0) 6) v3))] h2 (fun _ h4 =>
      Q 0 h4) E) E) ∧
    ((v1 = 29 + 1 →
      ((hv h v0 0) ≠ 0) ∧
      S_X12_named l G [(2012, (hv h v0 0)), (0, v2)] h (fun z5 h6 =>
      S_X16_need l G [(2016, v0), (0, (if z5 = 0 then 0 else 1 : Int))] h6 (fun _ h8 =>
      ((hv h8 v0 0) ≠ 0) ∧
      S_X12_named l G [(2012, (hv h8 v0 0)), (0, v2)] h8 (fun z9 h10 =>
      S_X16_takeAll l G [(2016, v0), (18, z9)] h10 (fun _ h12 =>
      Q 0 h12) E) E) E) E) ∧
    ((v1 = 29 + 1 + 1 →
      ((hv h v0 1) ≠ 0) ∧
      (((hv h (hv h v0 1) 4) ≤ 0 →
        S_X16_need l G [(2016, v0), (0, (if (hv h v0 2) = 0 then 1 else 0 : Int))] h (fun _ h14 =>
        Q 0 h14) E) ∧
      (0 < (hv h (hv h v0 1) 4) →
        ((hv h v0 1) ≠ 0) ∧
        S_X16_take l G [(2016, v0), (0, (w32 ((hv h (hv h v0 1) 4) - 1)))] h (fun _ h16 =>
        S_X16_need l G [(2016, v0), (0, (if (hv h16 v0 2) = 0 then 1 else 0 : Int))] h16 (fun _ h18 =>
        Q 0 h18) E) E))) ∧
    ((v1 = 29 + 1 + 1 + 1 →
      S_X16_take l G [(2016, v0), (0, 1)] h (fun _ h20 =>
      Q 0 h20) E) ∧
    ((v1 = 29 + 1 + 1 + 1 + 1 →
      S_X16_take l G [(2016, v0), (0, 1)] h (fun _ h22 =>
      S_X16_put l G [(2016, v0), (0, 1)] h22 (fun _ h24 =>
      Q 0 h24) E) E) ∧
    ((v1 = 29 + 1 + 1 + 1 + 1 + 1 →
      Q 0 h) ∧
    ((v1 = 29 + 1 + 1 + 1 + 1 + 1 + 1 →
      Q 0 h) ∧
    ((v1 = 29 + 1 + 1 + 1 + 1 + 1 + 1 + 1 →
      ((hv h v0 0) ≠ 0) ∧
      S_X12_named l G [(2012, (hv h v0 0)), (0, v2)] h (fun z25 h26 =>
      ((z25 = 0 →
        S_X16_need l G [(2016, v0), (0, 0)] h26 (fun _ h28 =>
        S_X16_take l G [(2016, v0), (0, 1)] h28 (fun _ h30 =>
        Q 0 h30) E) E) ∧
      (¬ z25 = 0 →
        ((hv h26 v0 0) ≠ 0) ∧
        S_X12_named l G [(2012, (hv h26 v0 0)), (0, v2)] h26 (fun z31 h32 =>
        (z31 ≠ 0) ∧
        ((¬ (hv h32 z31 3) = 1 →
          S_X16_need l G [(2016, v0), (0, 0)] h32 (fun _ h34 =>
          S_X16_take l G [(2016, v0), (0, 1)] h34 (fun _ h36 =>
          Q 0 h36) E) E) ∧
        ((hv h32 z31 3) = 1 →
          ((hv h32 v0 0) ≠ 0) ∧
          S_X12_named l G [(2012, (hv h32 v0 0)), (0, v2)] h32 (fun z37 h38 =>
          (z37 ≠ 0) ∧
          S_X16_need l G [(2016, v0), (0, (if (hv h38 z37 4) = 0 then 1 else 0 : Int))] h38 (fun _ h40 =>
          S_X16_take l G [(2016, v0), (0, 1)] h40 (fun _ h42 =>
          Q 0 h42) E) E) E))) E))) E) ∧
    True)))))))) ∧ ((v1 < 29 ∨ 36 < v1) →
      Q 0 h))) : JW K 0 [(2016, v0), (0, v1), (0, v2), (0, v3)] [] h := by
  have e1 := ki.2.2.2.2.1
  have e2 := ki.2.2.2.2.2.1
  subst e1; subst e2
  exact run_ok (dia := [(64, 72), (100, 108), (154, 162), (227, 235)]) (cnr := []) (cuts := []) ki.1 (pk_X16_calls ki hG) ok_X16_calls (by decide) 28 true _ _ _ _ H
abbrev k_X16_takeAll : List (Nat × List (Nat × Instr)) := [(44, [(0, .aload_n 1), (1, .getfield 51), (4, .iconst 1), (5, .isub), (6, .istore_n 2), (7, .iload_n 2), (8, .ifCond .lt 19), (11, .aload_n 0), (12, .aload_n 1), (13, .getfield 54), (16, .iload_n 2), (17, .iaload), (18, .invokevirtual 57), (21, .iinc 2 (-1)), (24, .goto (-17)), (27, .aload_n 1), (28, .getfield 59), (31, .ifCond .le 13), (34, .aload_n 0), (35, .aload_n 1), (36, .getfield 59), (39, .iconst 1), (40, .isub), (41, .invokevirtual 62)]),
  (53, [(44, .return_)])]
theorem ok_X16_takeAll : CodeOK cX16_takeAll k_X16_takeAll := okw 0 (by decide +kernel) (okw 44 (by decide +kernel) (okn))
abbrev p_X16_takeAll (l : Launch) (G : JG) : JP := (true, [(51, 14, 3, 0, 0), (54, 14, 5, 104, 0), (59, 14, 4, 0, 0)], [], [], [], [], [], [(57, 1, [0, 2016], 700, S_X16_take l G), (62, 1, [0, 2016], 700, S_X16_put l G)], false, 700, [])
theorem pk_X16_takeAll {K : JC} {l : Launch} {G : JG} {Q : Int → MH → Prop} {E : Nat → Int → MH → Prop} {h0 : MH} (ki : KI K l G yX16_takeAll cX16_takeAll 3 none [] 14 394 700 Q E h0) (hG : gO G = true) : POK K RX16 (p_X16_takeAll l G) :=
  POKi (y := yX16_takeAll) ki hG (rfs rf_X16_ok (by decide +kernel)) fmz fmz fmz fmz fmz
  (pkE ki (by
    intro K e1 e2 e3 e4; subst e1; subst e2
    exact fmE (ceV 16 e3 e4 yl_X16_take ⟨by decide, ⟨_, _, rfl⟩, q1125, qs14, q1123⟩ rfl) (fmE (ceV 16 e3 e4 yl_X16_put ⟨by decide, ⟨_, _, rfl⟩, q1121, qs13, q1119⟩ rfl) (fmz)))) (fun z => Bool.noConfusion z) rfl (pkP ki (by
    intro K e1 e2 e3 e4; subst e1; subst e2
    exact fmz))
theorem r_X16_takeAll_0 {K : JC} {l : Launch} {G : JG} {Q : Int → MH → Prop} {E : Nat → Int → MH → Prop} {h0 : MH} (ki : KI K l G yX16_takeAll cX16_takeAll 3 none [] 14 394 700 Q E h0) (hG : gO G = true) {v0 v1 : Int} {h : MH} (H :
    (v1 ≠ 0) ∧
    (∀ x2_1 : Int, x2_1 = (w32 ((hv h v1 3) - 1)) →
    JW K 7 [(2016, v0), (18, v1), (0, x2_1)] [] h)) : JW K 0 [(2016, v0), (18, v1), (5000, 0)] [] h := by
  have e1 := ki.2.2.2.2.1
  have e2 := ki.2.2.2.2.2.1
  subst e1; subst e2
  exact run_ok (dia := []) (cnr := []) (cuts := [(7, [2016, 18, 0], [])]) ki.1 (pk_X16_takeAll ki hG) ok_X16_takeAll (by decide) 7 true _ _ _ _ H
theorem r_X16_takeAll_7 {K : JC} {l : Launch} {G : JG} {Q : Int → MH → Prop} {E : Nat → Int → MH → Prop} {h0 : MH} (ki : KI K l G yX16_takeAll cX16_takeAll 3 none [] 14 394 700 Q E h0) (hG : gO G = true) {v0 v1 v2 : Int} {h : MH} (H :
    ((v2 < 0 →
      (v1 ≠ 0) ∧
      (((hv h v1 4) ≤ 0 →
        Q 0 h) ∧
      (0 < (hv h v1 4) →
        (v1 ≠ 0) ∧
        S_X16_put l G [(2016, v0), (0, (w32 ((hv h v1 4) - 1)))] h (fun _ h2 =>
        Q 0 h2) E))) ∧
    (0 ≤ v2 →
      (v1 ≠ 0) ∧
      ((hv h v1 5) ≠ 0) ∧
      (0 ≤ v2) ∧
      (v2 < (hn h (hv h v1 5))) ∧
      S_X16_take l G [(2016, v0), (0, (hv h (hv h v1 5) v2))] h (fun _ h4 =>
      (∀ x2_5 : Int, x2_5 = w32 (v2 + (-1)) →
      JW K 7 [(2016, v0), (18, v1), (0, x2_5)] [] h4)) E))) : JW K 7 [(2016, v0), (18, v1), (0, v2)] [] h := by
  have e1 := ki.2.2.2.2.1
  have e2 := ki.2.2.2.2.2.1
  subst e1; subst e2
  exact run_ok (dia := []) (cnr := []) (cuts := [(7, [2016, 18, 0], [])]) ki.1 (pk_X16_takeAll ki hG) ok_X16_takeAll (by decide) 13 true _ _ _ _ H
