/-! by gen/mkall.py -/
set_option maxRecDepth 100000
abbrev k_X1_init : List (Nat × List (Nat × Instr)) := [(8, [(0, .aload_n 0), (1, .invokespecial 15), (4, .aload_n 0), (5, .sipush 20000)]),
  (10, [(8, .newarray .byte)]),
  (54, [(10, .putfield 18), (13, .aload_n 0), (14, .new 22), (17, .dup), (18, .invokespecial 24), (21, .putfield 25), (24, .aload_n 0), (25, .new 29), (28, .dup), (29, .invokespecial 31), (32, .putfield 32), (35, .aload_n 0), (36, .new 36), (39, .dup), (40, .invokespecial 38), (43, .putfield 39), (46, .aload_n 0), (47, .iconst 1), (48, .putfield 43), (51, .aload_n 0), (52, .ldc 47)]),
  (56, [(54, .newarray .boolean)]),
  (68, [(56, .putfield 48), (59, .return_)])]
theorem ok_X1_init : CodeOK cX1_init k_X1_init := okw 0 (by decide +kernel) (okc (by decide +kernel) (okw 10 (by decide +kernel) (okc (by decide +kernel) (okw 56 (by decide +kernel) (okn)))))
abbrev p_X1_init (l : Launch) (G : JG) : JP := (false, [], [(47, 65540)], [], [(18, 1, 0, 107), (25, 1, 4, 6), (32, 1, 5, 11), (39, 1, 6, 12), (43, 1, 7, 2), (48, 1, 8, 106)], [(22, 2, 29), (29, 7, 17), (36, 8, 32)], [], [(15, 3, [], 700, fun _ _ _ _ => True), (24, 2, [2002], 700, S_X2_init l G), (31, 2, [2007], 700, S_X7_init l G), (38, 2, [2008], 700, S_X8_init l G)], true, 700, [])
theorem pk_X1_init {K : JC} {l : Launch} {G : JG} {Q : Int → MH → Prop} {E : Nat → Int → MH → Prop} {h0 : MH} (ki : KI K l G yX1_init cX1_init 1 none [] 8 232 700 Q E h0) (hG : gO G = false) : POK K RX1 (p_X1_init l G) :=
  POKi (y := yX1_init) ki hG fmz (subs (by decide +kernel) rc_X1_ok) fmz (rps rp_X1_ok (by decide +kernel)) (subs (by decide +kernel) rn_X1_ok) fmz
  (pkE ki (by
    intro K e1 e2 e3 e4; subst e1; subst e2
    exact fmE (ceO e3 e4 q224 rfl) (fmE (ceI e3 e4 yl_X2_init ⟨rfl, q230, Or.inl q229, _, _, q231⟩ rfl) (fmE (ceI e3 e4 yl_X7_init ⟨rfl, q469, Or.inr ⟨_, List.mem_of_getElem? (i := 0) rfl⟩, _, _, q470⟩ rfl) (fmE (ceI e3 e4 yl_X8_init ⟨rfl, q538, Or.inr ⟨_, List.mem_of_getElem? (i := 1) rfl⟩, _, _, q539⟩ rfl) (fmz)))))) (fun _ => rfl) rfl (pkP ki (by
    intro K e1 e2 e3 e4; subst e1; subst e2
    exact fmz))
theorem r_X1_init_0 {K : JC} {l : Launch} {G : JG} {Q : Int → MH → Prop} {E : Nat → Int → MH → Prop} {h0 : MH} (ki : KI K l G yX1_init cX1_init 1 none [] 8 232 700 Q E h0) (hG : gO G = false) {v0 : Int} {h : MH} (H :
    (0 ≤ (20000 : Int)) ∧
    (hz h + 1 ≤ LIMC) ∧
    (hs h + 20000 ≤ LIMS) ∧
    (∀ h1, h1 = hnew h 103 20000 20000 →
    (∀ h2, h2 = hset h1 v0 0 (hz h + 1) →
    (hz h2 + 1 ≤ LIMC) ∧
    (hs h2 + 29 ≤ LIMS) ∧
    (∀ h3, h3 = hnew h2 2 0 29 →
    S_X2_init l G [(2002, (hz h2 + 1))] h3 (fun _ h5 =>
    (∀ h6, h6 = hset h5 v0 4 (hz h2 + 1) →
    (hz h6 + 1 ≤ LIMC) ∧
    (hs h6 + 17 ≤ LIMS) ∧
    (∀ h7, h7 = hnew h6 7 0 17 →
    S_X7_init l G [(2007, (hz h6 + 1))] h7 (fun _ h9 =>
    (∀ h10, h10 = hset h9 v0 5 (hz h6 + 1) →
    (hz h10 + 1 ≤ LIMC) ∧
    (hs h10 + 32 ≤ LIMS) ∧
    (∀ h11, h11 = hnew h10 8 0 32 →
    S_X8_init l G [(2008, (hz h10 + 1))] h11 (fun _ h13 =>
    (∀ h14, h14 = hset h13 v0 6 (hz h10 + 1) →
    ((1 : Int) = 0 ∨ (1 : Int) = 1) ∧
    (∀ h15, h15 = hset h14 v0 7 1 →
    (0 ≤ (65540 : Int)) ∧
    (hz h15 + 1 ≤ LIMC) ∧
    (hs h15 + 65540 ≤ LIMS) ∧
    (∀ h16, h16 = hnew h15 102 65540 65540 →
    (∀ h17, h17 = hset h16 v0 8 (hz h15 + 1) →
    Q 0 h17))))) E))) E))) E)))) : JW K 0 [(2001, v0)] [] h := by
  have e1 := ki.2.2.2.2.1
  have e2 := ki.2.2.2.2.2.1
  subst e1; subst e2
  exact run_ok (dia := []) (cnr := []) (cuts := []) ki.1 (pk_X1_init ki hG) ok_X1_init (by decide) 30 true _ _ _ _ H
abbrev k_X1_told : List (Nat × List (Nat × Instr)) := [(45, [(0, .iload_n 1), (1, .iconst 5), (2, .if_icmp .ne 11), (5, .aload_n 0), (6, .getfield 39), (9, .getfield 124), (12, .ireturn), (13, .iload_n 1), (14, .bipush 6), (16, .if_icmp .ne 8), (19, .aload_n 0), (20, .getfield 62), (23, .ireturn), (24, .iload_n 1), (25, .i2l), (26, .lconst 0), (27, .ldc2_w 127), (30, .invokestatic 54), (33, .ifCond .ne 5), (36, .iconst (-1)), (37, .ireturn), (38, .aload_n 0), (39, .getfield 83), (42, .ifnonnull 5)]),
  (48, [(45, .iconst 0), (46, .ireturn), (47, .iload_n 1)]),
  (84, [(48, .tableswitch 81 0 4 #[36, 45, 56, 64, 73])]),
  (129, [(84, .aload_n 0), (85, .getfield 83), (88, .getfield 93), (91, .arraylength), (92, .ireturn), (93, .bipush 8), (95, .aload_n 0), (96, .getfield 83), (99, .getfield 129), (102, .iadd), (103, .ireturn), (104, .aload_n 0), (105, .getfield 83), (108, .getfield 132), (111, .ireturn), (112, .aload_n 0), (113, .getfield 83), (116, .getfield 135), (119, .arraylength), (120, .ireturn), (121, .aload_n 0), (122, .getfield 83), (125, .getfield 114), (128, .ireturn)]),
  (145, [(129, .aload_n 0), (130, .getfield 83), (133, .getfield 139), (136, .ireturn)])]
theorem ok_X1_told : CodeOK cX1_told k_X1_told := okw 0 (by decide +kernel) (okw 45 (by decide +kernel) (okc (by decide +kernel) (okw 84 (by decide +kernel) (okw 129 (by decide +kernel) (okn)))))
abbrev p_X1_told (l : Launch) (G : JG) : JP := (true, [(39, 1, 6, 2008, 345), (62, 1, 1, 0, 0), (83, 1, 2, 16, 0), (93, 12, 6, 128, 0), (114, 12, 14, 0, 0), (124, 8, 25, 0, 0), (129, 12, 2, 0, 0), (132, 12, 8, 0, 0), (135, 12, 12, 104, 0), (139, 12, 7, 0, 0)], [], [(127, 7)], [], [], [], [], false, 0, [(54, e_X1_isIn)])
theorem pk_X1_told {K : JC} {l : Launch} {G : JG} {Q : Int → MH → Prop} {E : Nat → Int → MH → Prop} {h0 : MH} (ki : KI K l G yX1_told cX1_told 2 (some .int) [] 5 175 0 Q E h0) (hG : gO G = true) : POK K RX1 (p_X1_told l G) :=
  POKi (y := yX1_told) ki hG (rfs rf_X1_ok (by decide +kernel)) fmz (subs (by decide +kernel) rl_X1_ok) fmz fmz fmz
  (pkE ki (by
    intro K e1 e2 e3 e4; subst e1; subst e2
    exact fmz)) (fun z => Bool.noConfusion z) rfl (pkP ki (by
    intro K e1 e2 e3 e4; subst e1; subst e2
    exact fmP (pe_X1_isIn hG e3 e4 ⟨q809, Or.inl q1175⟩ rfl rfl) (fmz)))
theorem r_X1_told_0 {K : JC} {l : Launch} {G : JG} {Q : Int → MH → Prop} {E : Nat → Int → MH → Prop} {h0 : MH} (ki : KI K l G yX1_told cX1_told 2 (some .int) [] 5 175 0 Q E h0) (hG : gO G = true) {v1 : Int} {h : MH} (H :
    ((¬ v1 = 5 →
      ((¬ v1 = 6 →
        ((¬ (isin v1 0 7) = 0 →
          ((¬ (hv h 1 2) = 0 →
            (((v1 = 0 →
              ((hv h 1 2) ≠ 0) ∧
              ((hv h (hv h 1 2) 6) ≠ 0) ∧
              Q (hn h (hv h (hv h 1 2) 6)) h) ∧
            ((v1 = 0 + 1 →
              ((hv h 1 2) ≠ 0) ∧
              Q (w32 (8 + (hv h (hv h 1 2) 2))) h) ∧
            ((v1 = 0 + 1 + 1 →
              ((hv h 1 2) ≠ 0) ∧
              Q (hv h (hv h 1 2) 8) h) ∧
            ((v1 = 0 + 1 + 1 + 1 →
              ((hv h 1 2) ≠ 0) ∧
              ((hv h (hv h 1 2) 12) ≠ 0) ∧
              Q (hn h (hv h (hv h 1 2) 12)) h) ∧
            ((v1 = 0 + 1 + 1 + 1 + 1 →
              ((hv h 1 2) ≠ 0) ∧
              Q (hv h (hv h 1 2) 14) h) ∧
            True))))) ∧ ((v1 < 0 ∨ 4 < v1) →
              ((hv h 1 2) ≠ 0) ∧
              Q (hv h (hv h 1 2) 7) h))) ∧
          ((hv h 1 2) = 0 →
            Q 0 h))) ∧
        ((isin v1 0 7) = 0 →
          Q (-1) h))) ∧
      (v1 = 6 →
        Q (hv h 1 1) h))) ∧
    (v1 = 5 →
      Q (hv h 346 25) h))) : JW K 0 [(2001, 1), (0, v1)] [] h := by
  have e1 := ki.2.2.2.2.1
  have e2 := ki.2.2.2.2.2.1
  subst e1; subst e2
  exact run_ok (dia := []) (cnr := []) (cuts := []) ki.1 (pk_X1_told ki hG) ok_X1_told (by decide) 24 true _ _ _ _ H
abbrev k_X1_type : List (Nat × List (Nat × Instr)) := [(46, [(0, .iload_n 3), (1, .i2l), (2, .lconst 1), (3, .ldc2_w 52), (6, .invokestatic 54), (9, .invokestatic 58), (12, .aload_n 0), (13, .getfield 62), (16, .iload_n 3), (17, .iadd), (18, .sipush 20000), (21, .if_icmp .gt 7), (24, .iconst 1), (25, .goto 4), (28, .iconst 0), (29, .invokestatic 66), (32, .iload_n 3), (33, .iconst 1), (34, .isub), (35, .istore 4), (37, .iload 4), (39, .ifCond .lt 34), (42, .aload_n 0), (43, .getfield 18)]),
  (86, [(46, .aload_n 0), (47, .dup), (48, .getfield 62), (51, .dup_x1), (52, .iconst 1), (53, .iadd), (54, .putfield 62), (57, .lload_n 1), (58, .bipush 8), (60, .iload 4), (62, .imul), (63, .lshr), (64, .l2i), (65, .i2b), (66, .bastore), (67, .iinc 4 (-1)), (70, .goto (-33)), (73, .aload_n 0), (74, .getfield 62), (77, .ireturn)])]
theorem ok_X1_type : CodeOK cX1_type k_X1_type := okw 0 (by decide +kernel) (okw 46 (by decide +kernel) (okn))
abbrev p_X1_type (l : Launch) (G : JG) : JP := (true, [(18, 1, 0, 21000103, 1), (62, 1, 1, 0, 0)], [], [(52, 8)], [(62, 1, 1, 0)], [], [], [(58, 0, [0], 700, S_X1_want l G), (66, 0, [0], 700, S_X1_must l G)], false, 0, [(54, e_X1_isIn)])
theorem pk_X1_type {K : JC} {l : Launch} {G : JG} {Q : Int → MH → Prop} {E : Nat → Int → MH → Prop} {h0 : MH} (ki : KI K l G yX1_type cX1_type 5 (some .int) [] 12 339 0 Q E h0) (hG : gO G = true) : POK K RX1 (p_X1_type l G) :=
  POKi (y := yX1_type) ki hG (rfs rf_X1_ok (by decide +kernel)) fmz (subs (by decide +kernel) rl_X1_ok) (rps rp_X1_ok (by decide +kernel)) fmz fmz
  (pkE ki (by
    intro K e1 e2 e3 e4; subst e1; subst e2
    exact fmE (ceS e3 e4 yl_X1_want ⟨q1187, Or.inl q1186⟩ rfl) (fmE (ceS e3 e4 yl_X1_must ⟨q1211, Or.inl q1210⟩ rfl) (fmz)))) (fun z => Bool.noConfusion z) rfl (pkP ki (by
    intro K e1 e2 e3 e4; subst e1; subst e2
    exact fmP (pe_X1_isIn hG e3 e4 ⟨q809, Or.inl q1175⟩ rfl rfl) (fmz)))
theorem r_X1_type_0 {K : JC} {l : Launch} {G : JG} {Q : Int → MH → Prop} {E : Nat → Int → MH → Prop} {h0 : MH} (ki : KI K l G yX1_type cX1_type 5 (some .int) [] 12 339 0 Q E h0) (hG : gO G = true) {v1 v3 : Int} {h : MH} (H :
    S_X1_want l G [(0, (isin v3 1 8))] h (fun _ h2 =>
    S_X1_must l G [(0, (if 20000 < (w32 ((hv h2 1 1) + v3)) then 0 else 1 : Int))] h2 (fun _ h4 =>
    (∀ x4_5 : Int, x4_5 = (w32 (v3 - 1)) →
    JW K 37 [(2001, 1), (1, v1), (5000, 0), (0, v3), (0, x4_5)] [] h4)) E) E) : JW K 0 [(2001, 1), (1, v1), (5000, 0), (0, v3), (5000, 0)] [] h := by
  have e1 := ki.2.2.2.2.1
  have e2 := ki.2.2.2.2.2.1
  subst e1; subst e2
  exact run_ok (dia := [(21, 29)]) (cnr := []) (cuts := [(37, [2001, 1, 5000, 0, 0], [])]) ki.1 (pk_X1_type ki hG) ok_X1_type (by decide) 19 true _ _ _ _ H
theorem r_X1_type_37 {K : JC} {l : Launch} {G : JG} {Q : Int → MH → Prop} {E : Nat → Int → MH → Prop} {h0 : MH} (ki : KI K l G yX1_type cX1_type 5 (some .int) [] 12 339 0 Q E h0) (hG : gO G = true) {v1 v3 v4 : Int} {h : MH} (H :
    ((v4 < 0 →
      Q (hv h 1 1) h) ∧
    (0 ≤ v4 →
      (∀ h1, h1 = hset h 1 1 (w32 ((hv h 1 1) + 1)) →
      (0 ≤ (hv h 1 1)) ∧
      ((hv h 1 1) < 20000) ∧
      (-128 ≤ (w8 (w32 (l_shr v1 (w32 (8 * v4))))) ∧ (w8 (w32 (l_shr v1 (w32 (8 * v4))))) ≤ 127) ∧
      (∀ h2, h2 = hset h1 2 (hv h 1 1) (w8 (w32 (l_shr v1 (w32 (8 * v4))))) →
      (∀ x4_3 : Int, x4_3 = w32 (v4 + (-1)) →
      JW K 37 [(2001, 1), (1, v1), (5000, 0), (0, v3), (0, x4_3)] [] h2)))))) : JW K 37 [(2001, 1), (1, v1), (5000, 0), (0, v3), (0, v4)] [] h := by
  have e1 := ki.2.2.2.2.1
  have e2 := ki.2.2.2.2.2.1
  subst e1; subst e2
  exact run_ok (dia := [(21, 29)]) (cnr := []) (cuts := [(37, [2001, 1, 5000, 0, 0], [])]) ki.1 (pk_X1_type ki hG) ok_X1_type (by decide) 23 true _ _ _ _ H
abbrev k_X1_want : List (Nat × List (Nat × Instr)) := [(21, [(0, .iload_n 0), (1, .ifCond .ne 11), (4, .new 9), (7, .dup), (8, .invokespecial 11), (11, .athrow), (12, .return_)])]
theorem ok_X1_want : CodeOK cX1_want k_X1_want := okw 0 (by decide +kernel) (okn)
abbrev p_X1_want (l : Launch) (G : JG) : JP := (true, [], [], [], [], [(9, 20, 6)], [], [(11, 2, [2020], 700, S_J3_init l G)], false, 700, [])
theorem pk_X1_want {K : JC} {l : Launch} {G : JG} {Q : Int → MH → Prop} {E : Nat → Int → MH → Prop} {h0 : MH} (ki : KI K l G yX1_want cX1_want 1 none [] 11 319 700 Q E h0) (hG : gO G = true) : POK K RX1 (p_X1_want l G) :=
  POKi (y := yX1_want) ki hG fmz fmz fmz fmz (subs (by decide +kernel) rn_X1_ok) fmz
  (pkE ki (by
    intro K e1 e2 e3 e4; subst e1; subst e2
    exact fmE (ceI e3 e4 yl_J3_init ⟨rfl, q1199, Or.inl q1198, _, _, q1200⟩ rfl) (fmz))) (fun z => Bool.noConfusion z) rfl (pkP ki (by
    intro K e1 e2 e3 e4; subst e1; subst e2
    exact fmz))
theorem r_X1_want_0 {K : JC} {l : Launch} {G : JG} {Q : Int → MH → Prop} {E : Nat → Int → MH → Prop} {h0 : MH} (ki : KI K l G yX1_want cX1_want 1 none [] 11 319 700 Q E h0) (hG : gO G = true) {v0 : Int} {h : MH} (H :
    ((¬ v0 = 0 →
      Q 0 h) ∧
    (v0 = 0 →
      (hz h + 1 ≤ LIMC) ∧
      (hs h + 6 ≤ LIMS) ∧
      (∀ h1, h1 = hnew h 20 0 6 →
      S_J3_init l G [(2020, (hz h + 1))] h1 (fun _ h3 =>
      E 20 (hz h + 1) h3) E)))) : JW K 0 [(0, v0)] [] h := by
  have e1 := ki.2.2.2.2.1
  have e2 := ki.2.2.2.2.2.1
  subst e1; subst e2
  exact run_ok (dia := []) (cnr := []) (cuts := []) ki.1 (pk_X1_want ki hG) ok_X1_want (by decide) 7 true _ _ _ _ H
abbrev k_X1_must : List (Nat × List (Nat × Instr)) := [(21, [(0, .iload_n 0), (1, .ifCond .ne 11), (4, .new 12), (7, .dup), (8, .invokespecial 14), (11, .athrow), (12, .return_)])]
theorem ok_X1_must : CodeOK cX1_must k_X1_must := okw 0 (by decide +kernel) (okn)
abbrev p_X1_must (l : Launch) (G : JG) : JP := (true, [], [], [], [], [(12, 21, 6)], [], [(14, 2, [2021], 700, S_J4_init l G)], false, 700, [])
theorem pk_X1_must {K : JC} {l : Launch} {G : JG} {Q : Int → MH → Prop} {E : Nat → Int → MH → Prop} {h0 : MH} (ki : KI K l G yX1_must cX1_must 1 none [] 11 319 700 Q E h0) (hG : gO G = true) : POK K RX1 (p_X1_must l G) :=
  POKi (y := yX1_must) ki hG fmz fmz fmz fmz (subs (by decide +kernel) rn_X1_ok) fmz
  (pkE ki (by
    intro K e1 e2 e3 e4; subst e1; subst e2
    exact fmE (ceI e3 e4 yl_J4_init ⟨rfl, q1223, Or.inl q1222, _, _, q1224⟩ rfl) (fmz))) (fun z => Bool.noConfusion z) rfl (pkP ki (by
    intro K e1 e2 e3 e4; subst e1; subst e2
    exact fmz))
theorem r_X1_must_0 {K : JC} {l : Launch} {G : JG} {Q : Int → MH → Prop} {E : Nat → Int → MH → Prop} {h0 : MH} (ki : KI K l G yX1_must cX1_must 1 none [] 11 319 700 Q E h0) (hG : gO G = true) {v0 : Int} {h : MH} (H :
    ((¬ v0 = 0 →
      Q 0 h) ∧
    (v0 = 0 →
      (hz h + 1 ≤ LIMC) ∧
      (hs h + 6 ≤ LIMS) ∧
      (∀ h1, h1 = hnew h 21 0 6 →
      S_J4_init l G [(2021, (hz h + 1))] h1 (fun _ h3 =>
      E 21 (hz h + 1) h3) E)))) : JW K 0 [(0, v0)] [] h := by
  have e1 := ki.2.2.2.2.1
  have e2 := ki.2.2.2.2.2.1
  subst e1; subst e2
  exact run_ok (dia := []) (cnr := []) (cuts := []) ki.1 (pk_X1_must ki hG) ok_X1_must (by decide) 7 true _ _ _ _ H
abbrev k_X1_root : List (Nat × List (Nat × Instr)) := [(50, [(0, .aload_n 0), (1, .iload_n 1), (2, .invokevirtual 99), (5, .invokestatic 103), (8, .aload_n 0), (9, .getfield 83), (12, .getfield 93), (15, .iload_n 1), (16, .aaload), (17, .getfield 106), (20, .sipush 255), (23, .if_icmp .ne 7), (26, .iconst 1), (27, .goto 4), (30, .iconst 0), (31, .invokestatic 66), (34, .aload_n 0), (35, .getfield 83), (38, .getfield 111), (41, .iload_n 1), (42, .baload), (43, .ifCond .ne 16), (46, .aload_n 0), (47, .getfield 83)]),
  (94, [(50, .dup), (51, .getfield 114), (54, .iconst 1), (55, .iadd), (56, .putfield 114), (59, .aload_n 0), (60, .dup), (61, .getfield 43), (64, .aload_n 0), (65, .getfield 83), (68, .getfield 111), (71, .iload_n 1), (72, .baload), (73, .ifCond .ne 7), (76, .iconst 1), (77, .goto 4), (80, .iconst 0), (81, .ior), (82, .putfield 43), (85, .aload_n 0), (86, .getfield 83), (89, .getfield 111), (92, .iload_n 1), (93, .iconst 1)]),
  (111, [(94, .bastore), (95, .aload_n 0), (96, .getfield 83), (99, .getfield 114), (102, .ireturn)])]
theorem ok_X1_root : CodeOK cX1_root k_X1_root := okw 0 (by decide +kernel) (okw 50 (by decide +kernel) (okw 94 (by decide +kernel) (okn)))
abbrev p_X1_root (l : Launch) (G : JG) : JP := (true, [(43, 1, 7, 0, 0), (83, 1, 2, 16, 0), (93, 12, 6, 128, 0), (106, 14, 1, 0, 0), (111, 12, 13, 106, 0), (114, 12, 14, 0, 0)], [], [], [(43, 1, 7, 2), (114, 12, 14, 0)], [], [], [(66, 0, [0], 700, S_X1_must l G), (99, 1, [0, 2001], 2, S_X1_hasMethod l G), (103, 0, [0], 700, S_X1_index l G)], false, 0, [])
theorem pk_X1_root {K : JC} {l : Launch} {G : JG} {Q : Int → MH → Prop} {E : Nat → Int → MH → Prop} {h0 : MH} (ki : KI K l G yX1_root cX1_root 2 (some .int) [] 12 339 0 Q E h0) (hG : gO G = true) : POK K RX1 (p_X1_root l G) :=
  POKi (y := yX1_root) ki hG (rfs rf_X1_ok (by decide +kernel)) fmz fmz (rps rp_X1_ok (by decide +kernel)) fmz fmz
  (pkE ki (by
    intro K e1 e2 e3 e4; subst e1; subst e2
    exact fmE (ceS e3 e4 yl_X1_must ⟨q1211, Or.inl q1210⟩ rfl) (fmE (ceV 1 e3 e4 yl_X1_hasMethod ⟨by decide, ⟨_, _, rfl⟩, q1269, qs23, q1267⟩ rfl) (fmE (ceS e3 e4 yl_X1_index ⟨q1272, Or.inl q1271⟩ rfl) (fmz))))) (fun z => Bool.noConfusion z) rfl (pkP ki (by
    intro K e1 e2 e3 e4; subst e1; subst e2
    exact fmz))
theorem r_X1_root_0 {K : JC} {l : Launch} {G : JG} {Q : Int → MH → Prop} {E : Nat → Int → MH → Prop} {h0 : MH} (ki : KI K l G yX1_root cX1_root 2 (some .int) [] 12 339 0 Q E h0) (hG : gO G = true) {v1 : Int} {h : MH} (H :
    S_X1_hasMethod l G [(2001, 1), (0, v1)] h (fun z1 h2 =>
    S_X1_index l G [(0, z1)] h2 (fun _ h4 =>
    ((hv h4 1 2) ≠ 0) ∧
    ((hv h4 (hv h4 1 2) 6) ≠ 0) ∧
    (0 ≤ v1) ∧
    (v1 < (hn h4 (hv h4 (hv h4 1 2) 6))) ∧
    ((hv h4 (hv h4 (hv h4 1 2) 6) v1) ≠ 0) ∧
    S_X1_must l G [(0, (if (hv h4 (hv h4 (hv h4 (hv h4 1 2) 6) v1) 1) = 255 then 1 else 0 : Int))] h4 (fun _ h6 =>
    ((hv h6 1 2) ≠ 0) ∧
    ((hv h6 (hv h6 1 2) 13) ≠ 0) ∧
    (0 ≤ v1) ∧
    (v1 < (hn h6 (hv h6 (hv h6 1 2) 13))) ∧
    ((¬ (hv h6 (hv h6 (hv h6 1 2) 13) v1) = 0 →
      ((hv h6 1 2) ≠ 0) ∧
      ((hv h6 (hv h6 1 2) 13) ≠ 0) ∧
      (0 ≤ v1) ∧
      (v1 < (hn h6 (hv h6 (hv h6 1 2) 13))) ∧
      ((i_or (hv h6 1 7) (if (hv h6 (hv h6 (hv h6 1 2) 13) v1) = 0 then 1 else 0 : Int)) = 0 ∨ (i_or (hv h6 1 7) (if (hv h6 (hv h6 (hv h6 1 2) 13) v1) = 0 then 1 else 0 : Int)) = 1) ∧
      (∀ h7, h7 = hset h6 1 7 (i_or (hv h6 1 7) (if (hv h6 (hv h6 (hv h6 1 2) 13) v1) = 0 then 1 else 0 : Int)) →
      ((hv h7 1 2) ≠ 0) ∧
      ((hv h7 (hv h7 1 2) 13) ≠ 0) ∧
      (0 ≤ v1) ∧
      (v1 < (hn h7 (hv h7 (hv h7 1 2) 13))) ∧
      ((1 : Int) = 0 ∨ (1 : Int) = 1) ∧
      (∀ h8, h8 = hset h7 (hv h7 (hv h7 1 2) 13) v1 1 →
      ((hv h8 1 2) ≠ 0) ∧
      Q (hv h8 (hv h8 1 2) 14) h8))) ∧
    ((hv h6 (hv h6 (hv h6 1 2) 13) v1) = 0 →
      ((hv h6 1 2) ≠ 0) ∧
      ((hv h6 1 2) ≠ 0) ∧
      (∀ h9, h9 = hset h6 (hv h6 1 2) 14 (w32 ((hv h6 (hv h6 1 2) 14) + 1)) →
      ((hv h9 1 2) ≠ 0) ∧
      ((hv h9 (hv h9 1 2) 13) ≠ 0) ∧
      (0 ≤ v1) ∧
      (v1 < (hn h9 (hv h9 (hv h9 1 2) 13))) ∧
      ((i_or (hv h9 1 7) (if (hv h9 (hv h9 (hv h9 1 2) 13) v1) = 0 then 1 else 0 : Int)) = 0 ∨ (i_or (hv h9 1 7) (if (hv h9 (hv h9 (hv h9 1 2) 13) v1) = 0 then 1 else 0 : Int)) = 1) ∧
      (∀ h10, h10 = hset h9 1 7 (i_or (hv h9 1 7) (if (hv h9 (hv h9 (hv h9 1 2) 13) v1) = 0 then 1 else 0 : Int)) →
      ((hv h10 1 2) ≠ 0) ∧
      ((hv h10 (hv h10 1 2) 13) ≠ 0) ∧
      (0 ≤ v1) ∧
      (v1 < (hn h10 (hv h10 (hv h10 1 2) 13))) ∧
      ((1 : Int) = 0 ∨ (1 : Int) = 1) ∧
      (∀ h11, h11 = hset h10 (hv h10 (hv h10 1 2) 13) v1 1 →
      ((hv h11 1 2) ≠ 0) ∧
      Q (hv h11 (hv h11 1 2) 14) h11)))))) E) E) E) : JW K 0 [(2001, 1), (0, v1)] [] h := by
  have e1 := ki.2.2.2.2.1
  have e2 := ki.2.2.2.2.2.1
  subst e1; subst e2
  exact run_ok (dia := [(23, 31), (73, 81)]) (cnr := []) (cuts := []) ki.1 (pk_X1_root ki hG) ok_X1_root (by decide) 48 true _ _ _ _ H
abbrev k_X1_hasMethod : List (Nat × List (Nat × Instr)) := [(41, [(0, .aload_n 0), (1, .getfield 83), (4, .ifnull 27), (7, .iload_n 1), (8, .i2l), (9, .lconst 0), (10, .aload_n 0), (11, .getfield 83), (14, .getfield 93), (17, .arraylength), (18, .iconst 1), (19, .isub), (20, .i2l), (21, .invokestatic 54), (24, .ifCond .eq 7), (27, .iconst 1), (28, .goto 4), (31, .iconst 0), (32, .ireturn)])]
theorem ok_X1_hasMethod : CodeOK cX1_hasMethod k_X1_hasMethod := okw 0 (by decide +kernel) (okn)
abbrev p_X1_hasMethod (l : Launch) (G : JG) : JP := (true, [(83, 1, 2, 16, 0), (93, 12, 6, 128, 0)], [], [], [], [], [], [], false, 2, [(54, e_X1_isIn)])
theorem pk_X1_hasMethod {K : JC} {l : Launch} {G : JG} {Q : Int → MH → Prop} {E : Nat → Int → MH → Prop} {h0 : MH} (ki : KI K l G yX1_hasMethod cX1_hasMethod 2 (some .boolean) [] 5 175 2 Q E h0) (hG : gO G = true) : POK K RX1 (p_X1_hasMethod l G) :=
  POKi (y := yX1_hasMethod) ki hG (rfs rf_X1_ok (by decide +kernel)) fmz fmz fmz fmz fmz
  (pkE ki (by
    intro K e1 e2 e3 e4; subst e1; subst e2
    exact fmz)) (fun z => Bool.noConfusion z) rfl (pkP ki (by
    intro K e1 e2 e3 e4; subst e1; subst e2
    exact fmP (pe_X1_isIn hG e3 e4 ⟨q809, Or.inl q1175⟩ rfl rfl) (fmz)))
theorem r_X1_hasMethod_0 {K : JC} {l : Launch} {G : JG} {Q : Int → MH → Prop} {E : Nat → Int → MH → Prop} {h0 : MH} (ki : KI K l G yX1_hasMethod cX1_hasMethod 2 (some .boolean) [] 5 175 2 Q E h0) (hG : gO G = true) {v1 : Int} {h : MH} (H :
    ((¬ (hv h 1 2) = 0 → ((hv h 1 2) ≠ 0) ∧ (hv h (hv h 1 2) 6) ≠ 0)) ∧
    (((if (hv h 1 2) = 0 then 0 else (if (isin v1 0 (w32 ((hn h (hv h (hv h 1 2) 6)) - 1))) = 0 then 0 else 1 : Int) : Int) = 0 ∨ (if (hv h 1 2) = 0 then 0 else (if (isin v1 0 (w32 ((hn h (hv h (hv h 1 2) 6)) - 1))) = 0 then 0 else 1 : Int) : Int) = 1) ∧ Q (if (hv h 1 2) = 0 then 0 else (if (isin v1 0 (w32 ((hn h (hv h (hv h 1 2) 6)) - 1))) = 0 then 0 else 1 : Int) : Int) h)) : JW K 0 [(2001, 1), (0, v1)] [] h := by
  have e1 := ki.2.2.2.2.1
  have e2 := ki.2.2.2.2.2.1
  subst e1; subst e2
  exact run_ok (dia := [(4, 32)]) (cnr := []) (cuts := []) ki.1 (pk_X1_hasMethod ki hG) ok_X1_hasMethod (by decide) 5 true _ _ _ _ H
abbrev k_X1_index : List (Nat × List (Nat × Instr)) := [(21, [(0, .iload_n 0), (1, .ifCond .ne 11), (4, .new 3), (7, .dup), (8, .invokespecial 5), (11, .athrow), (12, .return_)])]
theorem ok_X1_index : CodeOK cX1_index k_X1_index := okw 0 (by decide +kernel) (okn)
abbrev p_X1_index (l : Launch) (G : JG) : JP := (true, [], [], [], [], [(3, 22, 6)], [], [(5, 2, [2022], 700, S_J5_init_2 l G)], false, 700, [])
theorem pk_X1_index {K : JC} {l : Launch} {G : JG} {Q : Int → MH → Prop} {E : Nat → Int → MH → Prop} {h0 : MH} (ki : KI K l G yX1_index cX1_index 1 none [] 11 319 700 Q E h0) (hG : gO G = true) : POK K RX1 (p_X1_index l G) :=
  POKi (y := yX1_index) ki hG fmz fmz fmz fmz (subs (by decide +kernel) rn_X1_ok) fmz
  (pkE ki (by
    intro K e1 e2 e3 e4; subst e1; subst e2
    exact fmE (ceI e3 e4 yl_J5_init_2 ⟨rfl, q1284, Or.inl q1283, _, _, q1285⟩ rfl) (fmz))) (fun z => Bool.noConfusion z) rfl (pkP ki (by
    intro K e1 e2 e3 e4; subst e1; subst e2
    exact fmz))
theorem r_X1_index_0 {K : JC} {l : Launch} {G : JG} {Q : Int → MH → Prop} {E : Nat → Int → MH → Prop} {h0 : MH} (ki : KI K l G yX1_index cX1_index 1 none [] 11 319 700 Q E h0) (hG : gO G = true) {v0 : Int} {h : MH} (H :
    ((¬ v0 = 0 →
      Q 0 h) ∧
    (v0 = 0 →
      (hz h + 1 ≤ LIMC) ∧
      (hs h + 6 ≤ LIMS) ∧
      (∀ h1, h1 = hnew h 22 0 6 →
      S_J5_init_2 l G [(2022, (hz h + 1))] h1 (fun _ h3 =>
      E 22 (hz h + 1) h3) E)))) : JW K 0 [(0, v0)] [] h := by
  have e1 := ki.2.2.2.2.1
  have e2 := ki.2.2.2.2.2.1
  subst e1; subst e2
  exact run_ok (dia := []) (cnr := []) (cuts := []) ki.1 (pk_X1_index ki hG) ok_X1_index (by decide) 7 true _ _ _ _ H
abbrev k_X1_method : List (Nat × List (Nat × Instr)) := [(50, [(0, .aload_n 0), (1, .getfield 83), (4, .ifnull 7), (7, .iconst 1), (8, .goto 4), (11, .iconst 0), (12, .invokestatic 66), (15, .aload_n 0), (16, .iload_n 1), (17, .invokevirtual 99), (20, .ifCond .eq 19), (23, .iload_n 2), (24, .i2l), (25, .lconst 0), (26, .ldc2_w 142), (29, .invokestatic 54), (32, .ifCond .eq 7), (35, .iconst 1), (36, .goto 4), (39, .iconst 0), (40, .invokestatic 103), (43, .aload_n 0), (44, .getfield 83), (47, .getfield 93)]),
  (54, [(50, .iload_n 1), (51, .aaload), (52, .astore_n 3), (53, .iload_n 2)]),
  (100, [(54, .tableswitch 101 0 7 #[46, 51, 56, 61, 66, 72, 77, 83])]),
  (138, [(100, .aload_n 3), (101, .getfield 106), (104, .ireturn), (105, .aload_n 3), (106, .getfield 144), (109, .ireturn), (110, .aload_n 3), (111, .getfield 147), (114, .ireturn), (115, .aload_n 3), (116, .getfield 150), (119, .ireturn), (120, .aload_n 3), (121, .getfield 153), (124, .arraylength), (125, .ireturn), (126, .aload_n 3), (127, .invokevirtual 156), (130, .ireturn), (131, .aload_n 3), (132, .getfield 160), (135, .arraylength), (136, .ireturn), (137, .aload_n 0)]),
  (185, [(138, .getfield 83), (141, .getfield 111), (144, .iload_n 1), (145, .baload), (146, .ifCond .eq 7), (149, .iconst 1), (150, .goto 4), (153, .iconst 0), (154, .ireturn), (155, .aload_n 0), (156, .invokevirtual 164), (159, .iload_n 2), (160, .bipush 8), (162, .if_icmp .ne 13), (165, .aload_n 0), (166, .getfield 32), (169, .getfield 167), (172, .goto 10), (175, .aload_n 0), (176, .getfield 32), (179, .getfield 171), (182, .iload_n 1), (183, .lshr), (184, .lconst 1)]),
  (196, [(185, .land), (186, .l2i), (187, .ireturn)])]
theorem ok_X1_method : CodeOK cX1_method k_X1_method := okw 0 (by decide +kernel) (okw 50 (by decide +kernel) (okc (by decide +kernel) (okw 100 (by decide +kernel) (okw 138 (by decide +kernel) (okw 185 (by decide +kernel) (okn))))))
abbrev p_X1_method (l : Launch) (G : JG) : JP := (true, [(32, 1, 5, 2007, 295), (83, 1, 2, 16, 0), (93, 12, 6, 128, 0), (106, 14, 1, 0, 0), (111, 12, 13, 106, 0), (144, 14, 2, 0, 0), (147, 14, 3, 0, 0), (150, 14, 4, 0, 0), (153, 14, 5, 104, 0), (160, 14, 13, 129, 0), (167, 7, 11, 1, 0), (171, 7, 12, 1, 0)], [], [(142, 9)], [], [], [], [(66, 0, [0], 700, S_X1_must l G), (99, 1, [0, 2001], 2, S_X1_hasMethod l G), (103, 0, [0], 700, S_X1_index l G), (156, 1, [2014], 0, S_X14_size l G), (164, 1, [2001], 700, S_X1_know l G)], false, 0, [(54, e_X1_isIn)])
theorem pk_X1_method {K : JC} {l : Launch} {G : JG} {Q : Int → MH → Prop} {E : Nat → Int → MH → Prop} {h0 : MH} (ki : KI K l G yX1_method cX1_method 4 (some .int) [] 16 444 0 Q E h0) (hG : gO G = true) : POK K RX1 (p_X1_method l G) :=
  POKi (y := yX1_method) ki hG (rfs rf_X1_ok (by decide +kernel)) fmz (subs (by decide +kernel) rl_X1_ok) fmz fmz fmz
  (pkE ki (by
    intro K e1 e2 e3 e4; subst e1; subst e2
    exact fmE (ceS e3 e4 yl_X1_must ⟨q1211, Or.inl q1210⟩ rfl) (fmE (ceV 1 e3 e4 yl_X1_hasMethod ⟨by decide, ⟨_, _, rfl⟩, q1269, qs23, q1267⟩ rfl) (fmE (ceS e3 e4 yl_X1_index ⟨q1272, Or.inl q1271⟩ rfl) (fmE (ceV 14 e3 e4 yl_X14_size ⟨by decide, ⟨_, _, rfl⟩, q1040, q1041, q1297⟩ rfl) (fmE (ceV 1 e3 e4 yl_X1_know ⟨by decide, ⟨_, _, rfl⟩, q1300, qs24, q1298⟩ rfl) (fmz))))))) (fun z => Bool.noConfusion z) rfl (pkP ki (by
    intro K e1 e2 e3 e4; subst e1; subst e2
    exact fmP (pe_X1_isIn hG e3 e4 ⟨q809, Or.inl q1175⟩ rfl rfl) (fmz)))
theorem r_X1_method_0 {K : JC} {l : Launch} {G : JG} {Q : Int → MH → Prop} {E : Nat → Int → MH → Prop} {h0 : MH} (ki : KI K l G yX1_method cX1_method 4 (some .int) [] 16 444 0 Q E h0) (hG : gO G = true) {v1 v2 : Int} {h : MH} (H :
    S_X1_must l G [(0, (if (hv h 1 2) = 0 then 0 else 1 : Int))] h (fun _ h2 =>
    S_X1_hasMethod l G [(2001, 1), (0, v1)] h2 (fun z3 h4 =>
    S_X1_index l G [(0, (if z3 = 0 then 0 else (if (isin v2 0 9) = 0 then 0 else 1 : Int) : Int))] h4 (fun _ h6 =>
    ((hv h6 1 2) ≠ 0) ∧
    ((hv h6 (hv h6 1 2) 6) ≠ 0) ∧
    (0 ≤ v1) ∧
    (v1 < (hn h6 (hv h6 (hv h6 1 2) 6))) ∧
    (∀ x3_7 : Int, x3_7 = (hv h6 (hv h6 (hv h6 1 2) 6) v1) →
    (((v2 = 0 →
      (x3_7 ≠ 0) ∧
      Q (hv h6 x3_7 1) h6) ∧
    ((v2 = 0 + 1 →
      (x3_7 ≠ 0) ∧
      Q (hv h6 x3_7 2) h6) ∧
    ((v2 = 0 + 1 + 1 →
      (x3_7 ≠ 0) ∧
      Q (hv h6 x3_7 3) h6) ∧
    ((v2 = 0 + 1 + 1 + 1 →
      (x3_7 ≠ 0) ∧
      Q (hv h6 x3_7 4) h6) ∧
    ((v2 = 0 + 1 + 1 + 1 + 1 →
      (x3_7 ≠ 0) ∧
      ((hv h6 x3_7 5) ≠ 0) ∧
      Q (hn h6 (hv h6 x3_7 5)) h6) ∧
    ((v2 = 0 + 1 + 1 + 1 + 1 + 1 →
      (x3_7 ≠ 0) ∧
      S_X14_size l G [(2014, x3_7)] h6 (fun z8 h9 =>
      Q z8 h9) E) ∧
    ((v2 = 0 + 1 + 1 + 1 + 1 + 1 + 1 →
      (x3_7 ≠ 0) ∧
      ((hv h6 x3_7 13) ≠ 0) ∧
      Q (hn h6 (hv h6 x3_7 13)) h6) ∧
    ((v2 = 0 + 1 + 1 + 1 + 1 + 1 + 1 + 1 →
      ((hv h6 1 2) ≠ 0) ∧
      ((hv h6 (hv h6 1 2) 13) ≠ 0) ∧
      (0 ≤ v1) ∧
      (v1 < (hn h6 (hv h6 (hv h6 1 2) 13))) ∧
      Q (if (hv h6 (hv h6 (hv h6 1 2) 13) v1) = 0 then 0 else 1 : Int) h6) ∧
    True)))))))) ∧ ((v2 < 0 ∨ 7 < v2) →
      S_X1_know l G [(2001, 1)] h6 (fun _ h11 =>
      Q (w32 (l_and (l_shr (if v2 = 8 then (hv h11 296 11) else (hv h11 296 12) : Int) v1) 1)) h11) E)))) E) E) E) : JW K 0 [(2001, 1), (0, v1), (0, v2), (5000, 0)] [] h := by
  have e1 := ki.2.2.2.2.1
  have e2 := ki.2.2.2.2.2.1
  subst e1; subst e2
  exact run_ok (dia := [(4, 12), (20, 40), (146, 154), (162, 182)]) (cnr := []) (cuts := []) ki.1 (pk_X1_method ki hG) ok_X1_method (by decide) 29 true _ _ _ _ H
abbrev k_X1_know : List (Nat × List (Nat × Instr)) := [(52, [(0, .aload_n 0), (1, .getfield 43), (4, .ifCond .ne 4), (7, .return_), (8, .aload_n 0), (9, .getfield 25), (12, .aload_n 0), (13, .getfield 83), (16, .invokevirtual 117), (19, .aload_n 0), (20, .getfield 32), (23, .aload_n 0), (24, .getfield 83), (27, .aload_n 0), (28, .getfield 25), (31, .aload_n 0), (32, .getfield 87), (35, .invokevirtual 121), (38, .aload_n 0), (39, .iconst 0), (40, .putfield 43), (43, .return_)])]
theorem ok_X1_know : CodeOK cX1_know k_X1_know := okw 0 (by decide +kernel) (okn)
abbrev p_X1_know (l : Launch) (G : JG) : JP := (true, [(25, 1, 4, 2002, 2), (32, 1, 5, 2007, 295), (43, 1, 7, 0, 0), (83, 1, 2, 16, 0), (87, 1, 3, 16, 0)], [], [], [(43, 1, 7, 2)], [], [], [(117, 1, [16, 2002], 700, S_X2_find l G), (121, 1, [16, 6, 16, 2007], 700, S_X7_find l G)], false, 700, [])
theorem pk_X1_know {K : JC} {l : Launch} {G : JG} {Q : Int → MH → Prop} {E : Nat → Int → MH → Prop} {h0 : MH} (ki : KI K l G yX1_know cX1_know 1 none [] 15 424 700 Q E h0) (hG : gO G = true) : POK K RX1 (p_X1_know l G) :=
  POKi (y := yX1_know) ki hG (rfs rf_X1_ok (by decide +kernel)) fmz fmz (rps rp_X1_ok (by decide +kernel)) fmz fmz
  (pkE ki (by
    intro K e1 e2 e3 e4; subst e1; subst e2
    exact fmE (ceV 2 e3 e4 yl_X2_find ⟨by decide, ⟨_, _, rfl⟩, q1303, q1304, q1302⟩ rfl) (fmE (ceV 7 e3 e4 yl_X7_find ⟨by decide, ⟨_, _, rfl⟩, q1593, q1594, q1592⟩ rfl) (fmz)))) (fun z => Bool.noConfusion z) rfl (pkP ki (by
    intro K e1 e2 e3 e4; subst e1; subst e2
    exact fmz))
theorem r_X1_know_0 {K : JC} {l : Launch} {G : JG} {Q : Int → MH → Prop} {E : Nat → Int → MH → Prop} {h0 : MH} (ki : KI K l G yX1_know cX1_know 1 none [] 15 424 700 Q E h0) (hG : gO G = true) {h : MH} (H :
    ((¬ (hv h 1 7) = 0 →
      S_X2_find l G [(2002, 3), (16, (hv h 1 2))] h (fun _ h2 =>
      S_X7_find l G [(2007, 296), (16, (hv h2 1 2)), (6, 3), (16, (hv h2 1 3))] h2 (fun _ h4 =>
      ((0 : Int) = 0 ∨ (0 : Int) = 1) ∧
      (∀ h5, h5 = hset h4 1 7 0 →
      Q 0 h5)) E) E) ∧
    ((hv h 1 7) = 0 →
      Q 0 h))) : JW K 0 [(2001, 1)] [] h := by
  have e1 := ki.2.2.2.2.1
  have e2 := ki.2.2.2.2.2.1
  subst e1; subst e2
  exact run_ok (dia := []) (cnr := []) (cuts := []) ki.1 (pk_X1_know ki hG) ok_X1_know (by decide) 22 true _ _ _ _ H
abbrev k_X1_classOf : List (Nat × List (Nat × Instr)) := [(41, [(0, .aload_n 0), (1, .getfield 83), (4, .ifnull 7), (7, .iconst 1), (8, .goto 4), (11, .iconst 0), (12, .invokestatic 66), (15, .aload_n 0), (16, .iload_n 1), (17, .invokevirtual 174), (20, .invokestatic 103), (23, .aload_n 0), (24, .getfield 83), (27, .getfield 177), (30, .iload_n 1), (31, .iaload), (32, .ireturn)])]
theorem ok_X1_classOf : CodeOK cX1_classOf k_X1_classOf := okw 0 (by decide +kernel) (okn)
abbrev p_X1_classOf (l : Launch) (G : JG) : JP := (true, [(83, 1, 2, 16, 0), (177, 12, 9, 104, 0)], [], [], [], [], [], [(66, 0, [0], 700, S_X1_must l G), (103, 0, [0], 700, S_X1_index l G), (174, 1, [0, 2001], 2, S_X1_isSite l G)], false, 0, [])
theorem pk_X1_classOf {K : JC} {l : Launch} {G : JG} {Q : Int → MH → Prop} {E : Nat → Int → MH → Prop} {h0 : MH} (ki : KI K l G yX1_classOf cX1_classOf 2 (some .int) [] 12 339 0 Q E h0) (hG : gO G = true) : POK K RX1 (p_X1_classOf l G) :=
  POKi (y := yX1_classOf) ki hG (rfs rf_X1_ok (by decide +kernel)) fmz fmz fmz fmz fmz
  (pkE ki (by
    intro K e1 e2 e3 e4; subst e1; subst e2
    exact fmE (ceS e3 e4 yl_X1_must ⟨q1211, Or.inl q1210⟩ rfl) (fmE (ceS e3 e4 yl_X1_index ⟨q1272, Or.inl q1271⟩ rfl) (fmE (ceV 1 e3 e4 yl_X1_isSite ⟨by decide, ⟨_, _, rfl⟩, q1666, qs72, q1664⟩ rfl) (fmz))))) (fun z => Bool.noConfusion z) rfl (pkP ki (by
    intro K e1 e2 e3 e4; subst e1; subst e2
    exact fmz))
theorem r_X1_classOf_0 {K : JC} {l : Launch} {G : JG} {Q : Int → MH → Prop} {E : Nat → Int → MH → Prop} {h0 : MH} (ki : KI K l G yX1_classOf cX1_classOf 2 (some .int) [] 12 339 0 Q E h0) (hG : gO G = true) {v1 : Int} {h : MH} (H :
    S_X1_must l G [(0, (if (hv h 1 2) = 0 then 0 else 1 : Int))] h (fun _ h2 =>
    S_X1_isSite l G [(2001, 1), (0, v1)] h2 (fun z3 h4 =>
    S_X1_index l G [(0, z3)] h4 (fun _ h6 =>
    ((hv h6 1 2) ≠ 0) ∧
    ((hv h6 (hv h6 1 2) 9) ≠ 0) ∧
    (0 ≤ v1) ∧
    (v1 < (hn h6 (hv h6 (hv h6 1 2) 9))) ∧
    Q (hv h6 (hv h6 (hv h6 1 2) 9) v1) h6) E) E) E) : JW K 0 [(2001, 1), (0, v1)] [] h := by
  have e1 := ki.2.2.2.2.1
  have e2 := ki.2.2.2.2.2.1
  subst e1; subst e2
  exact run_ok (dia := [(4, 12)]) (cnr := []) (cuts := []) ki.1 (pk_X1_classOf ki hG) ok_X1_classOf (by decide) 15 true _ _ _ _ H
abbrev k_X1_isSite : List (Nat × List (Nat × Instr)) := [(28, [(0, .iload_n 1), (1, .i2l), (2, .lconst 1), (3, .bipush 7), (5, .aload_n 0), (6, .getfield 83), (9, .getfield 132), (12, .iadd), (13, .iconst 1), (14, .isub), (15, .i2l), (16, .invokestatic 54), (19, .ireturn)])]
theorem ok_X1_isSite : CodeOK cX1_isSite k_X1_isSite := okw 0 (by decide +kernel) (okn)
abbrev p_X1_isSite (l : Launch) (G : JG) : JP := (true, [(83, 1, 2, 16, 0), (132, 12, 8, 0, 0)], [], [], [], [], [], [], false, 2, [(54, e_X1_isIn)])
theorem pk_X1_isSite {K : JC} {l : Launch} {G : JG} {Q : Int → MH → Prop} {E : Nat → Int → MH → Prop} {h0 : MH} (ki : KI K l G yX1_isSite cX1_isSite 2 (some .boolean) [] 5 175 2 Q E h0) (hG : gO G = true) : POK K RX1 (p_X1_isSite l G) :=
  POKi (y := yX1_isSite) ki hG (rfs rf_X1_ok (by decide +kernel)) fmz fmz fmz fmz fmz
  (pkE ki (by
    intro K e1 e2 e3 e4; subst e1; subst e2
    exact fmz)) (fun z => Bool.noConfusion z) rfl (pkP ki (by
    intro K e1 e2 e3 e4; subst e1; subst e2
    exact fmP (pe_X1_isIn hG e3 e4 ⟨q809, Or.inl q1175⟩ rfl rfl) (fmz)))
theorem r_X1_isSite_0 {K : JC} {l : Launch} {G : JG} {Q : Int → MH → Prop} {E : Nat → Int → MH → Prop} {h0 : MH} (ki : KI K l G yX1_isSite cX1_isSite 2 (some .boolean) [] 5 175 2 Q E h0) (hG : gO G = true) {v1 : Int} {h : MH} (H :
    ((hv h 1 2) ≠ 0) ∧
    (((isin v1 1 (w32 ((w32 (7 + (hv h (hv h 1 2) 8))) - 1))) = 0 ∨ (isin v1 1 (w32 ((w32 (7 + (hv h (hv h 1 2) 8))) - 1))) = 1) ∧ Q (isin v1 1 (w32 ((w32 (7 + (hv h (hv h 1 2) 8))) - 1))) h)) : JW K 0 [(2001, 1), (0, v1)] [] h := by
  have e1 := ki.2.2.2.2.1
  have e2 := ki.2.2.2.2.2.1
  subst e1; subst e2
  exact run_ok (dia := []) (cnr := []) (cuts := []) ki.1 (pk_X1_isSite ki hG) ok_X1_isSite (by decide) 14 true _ _ _ _ H
abbrev k_X1_depth : List (Nat × List (Nat × Instr)) := [(30, [(0, .aload_n 0), (1, .iload_n 1), (2, .iload_n 2), (3, .invokevirtual 183), (6, .istore_n 3), (7, .aload_n 0), (8, .getfield 83), (11, .getfield 93), (14, .iload_n 1), (15, .aaload), (16, .getfield 187), (19, .iload_n 2), (20, .iaload), (21, .ireturn)])]
theorem ok_X1_depth : CodeOK cX1_depth k_X1_depth := okw 0 (by decide +kernel) (okn)
abbrev p_X1_depth (l : Launch) (G : JG) : JP := (true, [(83, 1, 2, 16, 0), (93, 12, 6, 128, 0), (187, 14, 17, 104, 0)], [], [], [], [], [], [(183, 1, [0, 0, 2001], 0, S_X1_placeOf l G)], false, 0, [])
theorem pk_X1_depth {K : JC} {l : Launch} {G : JG} {Q : Int → MH → Prop} {E : Nat → Int → MH → Prop} {h0 : MH} (ki : KI K l G yX1_depth cX1_depth 4 (some .int) [] 17 466 0 Q E h0) (hG : gO G = true) : POK K RX1 (p_X1_depth l G) :=
  POKi (y := yX1_depth) ki hG (rfs rf_X1_ok (by decide +kernel)) fmz fmz fmz fmz fmz
  (pkE ki (by
    intro K e1 e2 e3 e4; subst e1; subst e2
    exact fmE (ceV 1 e3 e4 yl_X1_placeOf ⟨by decide, ⟨_, _, rfl⟩, q1677, qs73, q1675⟩ rfl) (fmz))) (fun z => Bool.noConfusion z) rfl (pkP ki (by
    intro K e1 e2 e3 e4; subst e1; subst e2
    exact fmz))
theorem r_X1_depth_0 {K : JC} {l : Launch} {G : JG} {Q : Int → MH → Prop} {E : Nat → Int → MH → Prop} {h0 : MH} (ki : KI K l G yX1_depth cX1_depth 4 (some .int) [] 17 466 0 Q E h0) (hG : gO G = true) {v1 v2 : Int} {h : MH} (H :
    S_X1_placeOf l G [(2001, 1), (0, v1), (0, v2)] h (fun z1 h2 =>
    (∀ x3_3 : Int, x3_3 = z1 →
    ((hv h2 1 2) ≠ 0) ∧
    ((hv h2 (hv h2 1 2) 6) ≠ 0) ∧
    (0 ≤ v1) ∧
    (v1 < (hn h2 (hv h2 (hv h2 1 2) 6))) ∧
    ((hv h2 (hv h2 (hv h2 1 2) 6) v1) ≠ 0) ∧
    ((hv h2 (hv h2 (hv h2 (hv h2 1 2) 6) v1) 17) ≠ 0) ∧
    (0 ≤ v2) ∧
    (v2 < (hn h2 (hv h2 (hv h2 (hv h2 (hv h2 1 2) 6) v1) 17))) ∧
    Q (hv h2 (hv h2 (hv h2 (hv h2 (hv h2 1 2) 6) v1) 17) v2) h2)) E) : JW K 0 [(2001, 1), (0, v1), (0, v2), (5000, 0)] [] h := by
  have e1 := ki.2.2.2.2.1
  have e2 := ki.2.2.2.2.2.1
  subst e1; subst e2
  exact run_ok (dia := []) (cnr := []) (cuts := []) ki.1 (pk_X1_depth ki hG) ok_X1_depth (by decide) 15 true _ _ _ _ H
abbrev k_X1_placeOf : List (Nat × List (Nat × Instr)) := [(44, [(0, .aload_n 0), (1, .getfield 83), (4, .ifnull 7), (7, .iconst 1), (8, .goto 4), (11, .iconst 0), (12, .invokestatic 66), (15, .aload_n 0), (16, .iload_n 1), (17, .invokevirtual 99), (20, .ifCond .eq 31), (23, .iload_n 2), (24, .i2l), (25, .lconst 0), (26, .aload_n 0), (27, .getfield 83), (30, .getfield 93), (33, .iload_n 1), (34, .aaload), (35, .invokevirtual 156), (38, .iconst 1), (39, .isub), (40, .i2l), (41, .invokestatic 54)]),
  (82, [(44, .ifCond .eq 7), (47, .iconst 1), (48, .goto 4), (51, .iconst 0), (52, .invokestatic 103), (55, .aload_n 0), (56, .invokevirtual 164), (59, .aload_n 0), (60, .getfield 83), (63, .getfield 93), (66, .iload_n 1), (67, .aaload), (68, .getfield 180), (71, .iload_n 2), (72, .iadd), (73, .ireturn)])]
theorem ok_X1_placeOf : CodeOK cX1_placeOf k_X1_placeOf := okw 0 (by decide +kernel) (okw 44 (by decide +kernel) (okn))
abbrev p_X1_placeOf (l : Launch) (G : JG) : JP := (true, [(83, 1, 2, 16, 0), (93, 12, 6, 128, 0), (180, 14, 14, 0, 0)], [], [], [], [], [], [(66, 0, [0], 700, S_X1_must l G), (99, 1, [0, 2001], 2, S_X1_hasMethod l G), (103, 0, [0], 700, S_X1_index l G), (156, 1, [2014], 0, S_X14_size l G), (164, 1, [2001], 700, S_X1_know l G)], false, 0, [(54, e_X1_isIn)])
theorem pk_X1_placeOf {K : JC} {l : Launch} {G : JG} {Q : Int → MH → Prop} {E : Nat → Int → MH → Prop} {h0 : MH} (ki : KI K l G yX1_placeOf cX1_placeOf 3 (some .int) [] 16 444 0 Q E h0) (hG : gO G = true) : POK K RX1 (p_X1_placeOf l G) :=
  POKi (y := yX1_placeOf) ki hG (rfs rf_X1_ok (by decide +kernel)) fmz fmz fmz fmz fmz
  (pkE ki (by
    intro K e1 e2 e3 e4; subst e1; subst e2
    exact fmE (ceS e3 e4 yl_X1_must ⟨q1211, Or.inl q1210⟩ rfl) (fmE (ceV 1 e3 e4 yl_X1_hasMethod ⟨by decide, ⟨_, _, rfl⟩, q1269, qs23, q1267⟩ rfl) (fmE (ceS e3 e4 yl_X1_index ⟨q1272, Or.inl q1271⟩ rfl) (fmE (ceV 14 e3 e4 yl_X14_size ⟨by decide, ⟨_, _, rfl⟩, q1040, q1041, q1297⟩ rfl) (fmE (ceV 1 e3 e4 yl_X1_know ⟨by decide, ⟨_, _, rfl⟩, q1300, qs24, q1298⟩ rfl) (fmz))))))) (fun z => Bool.noConfusion z) rfl (pkP ki (by
    intro K e1 e2 e3 e4; subst e1; subst e2
    exact fmP (pe_X1_isIn hG e3 e4 ⟨q809, Or.inl q1175⟩ rfl rfl) (fmz)))
theorem r_X1_placeOf_0 {K : JC} {l : Launch} {G : JG} {Q : Int → MH → Prop} {E : Nat → Int → MH → Prop} {h0 : MH} (ki : KI K l G yX1_placeOf cX1_placeOf 3 (some .int) [] 16 444 0 Q E h0) (hG : gO G = true) {v1 v2 : Int} {h : MH} (H :
    S_X1_must l G [(0, (if (hv h 1 2) = 0 then 0 else 1 : Int))] h (fun _ h2 =>
    S_X1_hasMethod l G [(2001, 1), (0, v1)] h2 (fun z3 h4 =>
    ((z3 = 0 →
      S_X1_index l G [(0, 0)] h4 (fun _ h6 =>
      S_X1_know l G [(2001, 1)] h6 (fun _ h8 =>
      ((hv h8 1 2) ≠ 0) ∧
      ((hv h8 (hv h8 1 2) 6) ≠ 0) ∧
      (0 ≤ v1) ∧
      (v1 < (hn h8 (hv h8 (hv h8 1 2) 6))) ∧
      ((hv h8 (hv h8 (hv h8 1 2) 6) v1) ≠ 0) ∧
      Q (w32 ((hv h8 (hv h8 (hv h8 (hv h8 1 2) 6) v1) 14) + v2)) h8) E) E) ∧
    (¬ z3 = 0 →
      ((hv h4 1 2) ≠ 0) ∧
      ((hv h4 (hv h4 1 2) 6) ≠ 0) ∧
      (0 ≤ v1) ∧
      (v1 < (hn h4 (hv h4 (hv h4 1 2) 6))) ∧
      ((hv h4 (hv h4 (hv h4 1 2) 6) v1) ≠ 0) ∧
      S_X14_size l G [(2014, (hv h4 (hv h4 (hv h4 1 2) 6) v1))] h4 (fun z9 h10 =>
      S_X1_index l G [(0, (if (isin v2 0 (w32 (z9 - 1))) = 0 then 0 else 1 : Int))] h10 (fun _ h12 =>
      S_X1_know l G [(2001, 1)] h12 (fun _ h14 =>
      ((hv h14 1 2) ≠ 0) ∧
      ((hv h14 (hv h14 1 2) 6) ≠ 0) ∧
      (0 ≤ v1) ∧
      (v1 < (hn h14 (hv h14 (hv h14 1 2) 6))) ∧
      ((hv h14 (hv h14 (hv h14 1 2) 6) v1) ≠ 0) ∧
      Q (w32 ((hv h14 (hv h14 (hv h14 (hv h14 1 2) 6) v1) 14) + v2)) h14) E) E) E))) E) E) : JW K 0 [(2001, 1), (0, v1), (0, v2)] [] h := by
  have e1 := ki.2.2.2.2.1
  have e2 := ki.2.2.2.2.2.1
  subst e1; subst e2
  exact run_ok (dia := [(4, 12), (44, 52)]) (cnr := []) (cuts := []) ki.1 (pk_X1_placeOf ki hG) ok_X1_placeOf (by decide) 35 true _ _ _ _ H
abbrev k_X1_reach : List (Nat × List (Nat × Instr)) := [(26, [(0, .aload_n 0), (1, .getfield 25), (4, .getfield 190), (7, .aload_n 0), (8, .iload_n 1), (9, .iload_n 2), (10, .invokevirtual 183), (13, .aaload), (14, .getfield 194), (17, .ireturn)])]
theorem ok_X1_reach : CodeOK cX1_reach k_X1_reach := okw 0 (by decide +kernel) (okn)
abbrev p_X1_reach (l : Launch) (G : JG) : JP := (true, [(25, 1, 4, 2002, 2), (190, 2, 1, 2500113, 1), (194, 3, 0, 0, 0)], [], [], [], [], [], [(183, 1, [0, 0, 2001], 0, S_X1_placeOf l G)], false, 2, [])
theorem pk_X1_reach {K : JC} {l : Launch} {G : JG} {Q : Int → MH → Prop} {E : Nat → Int → MH → Prop} {h0 : MH} (ki : KI K l G yX1_reach cX1_reach 3 (some .boolean) [] 17 466 2 Q E h0) (hG : gO G = true) : POK K RX1 (p_X1_reach l G) :=
  POKi (y := yX1_reach) ki hG (rfs rf_X1_ok (by decide +kernel)) fmz fmz fmz fmz fmz
  (pkE ki (by
    intro K e1 e2 e3 e4; subst e1; subst e2
    exact fmE (ceV 1 e3 e4 yl_X1_placeOf ⟨by decide, ⟨_, _, rfl⟩, q1677, qs73, q1675⟩ rfl) (fmz))) (fun z => Bool.noConfusion z) rfl (pkP ki (by
    intro K e1 e2 e3 e4; subst e1; subst e2
    exact fmz))
theorem r_X1_reach_0 {K : JC} {l : Launch} {G : JG} {Q : Int → MH → Prop} {E : Nat → Int → MH → Prop} {h0 : MH} (ki : KI K l G yX1_reach cX1_reach 3 (some .boolean) [] 17 466 2 Q E h0) (hG : gO G = true) {v1 v2 : Int} {h : MH} (H :
    S_X1_placeOf l G [(2001, 1), (0, v1), (0, v2)] h (fun z1 h2 =>
    (0 ≤ z1) ∧
    (z1 < 1500) ∧
    ((hv h2 4 z1) ≠ 0) ∧
    (((hv h2 (hv h2 4 z1) 0) = 0 ∨ (hv h2 (hv h2 4 z1) 0) = 1) ∧ Q (hv h2 (hv h2 4 z1) 0) h2)) E) : JW K 0 [(2001, 1), (0, v1), (0, v2)] [] h := by
  have e1 := ki.2.2.2.2.1
  have e2 := ki.2.2.2.2.2.1
  subst e1; subst e2
  exact run_ok (dia := []) (cnr := []) (cuts := []) ki.1 (pk_X1_reach ki hG) ok_X1_reach (by decide) 11 true _ _ _ _ H
abbrev k_X1_value : List (Nat × List (Nat × Instr)) := [(39, [(0, .aload_n 0), (1, .iload_n 1), (2, .iload_n 2), (3, .invokevirtual 183), (6, .istore 5), (8, .aload_n 0), (9, .getfield 83), (12, .getfield 93), (15, .iload_n 1), (16, .aaload), (17, .astore 6), (19, .iload_n 3), (20, .i2l), (21, .lconst 0), (22, .aload 6), (24, .getfield 153), (27, .arraylength), (28, .iconst 1), (29, .isub), (30, .i2l), (31, .invokestatic 54), (34, .ifCond .ne 27), (37, .iload_n 3), (38, .i2l)]),
  (86, [(39, .ldc2_w 52), (42, .bipush 8), (44, .aload 6), (46, .getfield 187), (49, .iload_n 2), (50, .iaload), (51, .iadd), (52, .iconst 1), (53, .isub), (54, .i2l), (55, .invokestatic 54), (58, .ifCond .eq 20), (61, .iload 4), (63, .i2l), (64, .lconst 0), (65, .ldc2_w 212), (68, .invokestatic 54), (71, .ifCond .eq 7), (74, .iconst 1), (75, .goto 4), (78, .iconst 0), (79, .invokestatic 103), (82, .aload_n 0), (83, .getfield 25)]),
  (127, [(86, .getfield 190), (89, .iload 5), (91, .aaload), (92, .getfield 194), (95, .invokestatic 66), (98, .aload_n 0), (99, .getfield 25), (102, .getfield 190), (105, .iload 5), (107, .aaload), (108, .getfield 214), (111, .iload_n 3), (112, .aaload), (113, .iload 4), (115, .invokestatic 218), (118, .lreturn)])]
theorem ok_X1_value : CodeOK cX1_value k_X1_value := okw 0 (by decide +kernel) (okw 39 (by decide +kernel) (okw 86 (by decide +kernel) (okn)))
abbrev p_X1_value (l : Launch) (G : JG) : JP := (true, [(25, 1, 4, 2002, 2), (83, 1, 2, 16, 0), (93, 12, 6, 128, 0), (153, 14, 5, 104, 0), (187, 14, 17, 104, 0), (190, 2, 1, 2500113, 1), (194, 3, 0, 0, 0), (214, 3, 1, 118, 0)], [], [(52, 8), (212, 3)], [], [], [], [(66, 0, [0], 700, S_X1_must l G), (103, 0, [0], 700, S_X1_index l G), (183, 1, [0, 0, 2001], 0, S_X1_placeOf l G), (218, 0, [0, 8], 1, S_X1_about l G)], false, 1, [(54, e_X1_isIn)])
theorem pk_X1_value {K : JC} {l : Launch} {G : JG} {Q : Int → MH → Prop} {E : Nat → Int → MH → Prop} {h0 : MH} (ki : KI K l G yX1_value cX1_value 7 (some .long) [] 17 466 1 Q E h0) (hG : gO G = true) : POK K RX1 (p_X1_value l G) :=
  POKi (y := yX1_value) ki hG (rfs rf_X1_ok (by decide +kernel)) fmz (subs (by decide +kernel) rl_X1_ok) fmz fmz fmz
  (pkE ki (by
    intro K e1 e2 e3 e4; subst e1; subst e2
    exact fmE (ceS e3 e4 yl_X1_must ⟨q1211, Or.inl q1210⟩ rfl) (fmE (ceS e3 e4 yl_X1_index ⟨q1272, Or.inl q1271⟩ rfl) (fmE (ceV 1 e3 e4 yl_X1_placeOf ⟨by decide, ⟨_, _, rfl⟩, q1677, qs73, q1675⟩ rfl) (fmE (ceS e3 e4 yl_X1_about ⟨q1695, Or.inl q1694⟩ rfl) (fmz)))))) (fun z => Bool.noConfusion z) rfl (pkP ki (by
    intro K e1 e2 e3 e4; subst e1; subst e2
    exact fmP (pe_X1_isIn hG e3 e4 ⟨q809, Or.inl q1175⟩ rfl rfl) (fmz)))
theorem r_X1_value_0 {K : JC} {l : Launch} {G : JG} {Q : Int → MH → Prop} {E : Nat → Int → MH → Prop} {h0 : MH} (ki : KI K l G yX1_value cX1_value 7 (some .long) [] 17 466 1 Q E h0) (hG : gO G = true) {v1 v2 v3 v4 : Int} {h : MH} (H :
    S_X1_placeOf l G [(2001, 1), (0, v1), (0, v2)] h (fun z1 h2 =>
    (∀ x5_3 : Int, x5_3 = z1 →
    ((hv h2 1 2) ≠ 0) ∧
    ((hv h2 (hv h2 1 2) 6) ≠ 0) ∧
    (0 ≤ v1) ∧
    (v1 < (hn h2 (hv h2 (hv h2 1 2) 6))) ∧
    (∀ x6_4 : Int, x6_4 = (hv h2 (hv h2 (hv h2 1 2) 6) v1) →
    (x6_4 ≠ 0) ∧
    ((hv h2 x6_4 5) ≠ 0) ∧
    (((isin v3 0 (w32 ((hn h2 (hv h2 x6_4 5)) - 1))) = 0 → (x6_4 ≠ 0) ∧ ((hv h2 x6_4 17) ≠ 0) ∧ (0 ≤ v2) ∧ v2 < (hn h2 (hv h2 x6_4 17)))) ∧
    S_X1_index l G [(0, (if (isin v3 0 (w32 ((hn h2 (hv h2 x6_4 5)) - 1))) = 0 then (if (isin v3 8 (w32 ((w32 (8 + (hv h2 (hv h2 x6_4 17) v2))) - 1))) = 0 then 0 else (if (isin v4 0 3) = 0 then 0 else 1 : Int) : Int) else (if (isin v4 0 3) = 0 then 0 else 1 : Int) : Int))] h2 (fun _ h6 =>
    (0 ≤ x5_3) ∧
    (x5_3 < 1500) ∧
    ((hv h6 4 x5_3) ≠ 0) ∧
    S_X1_must l G [(0, (hv h6 (hv h6 4 x5_3) 0))] h6 (fun _ h8 =>
    (0 ≤ x5_3) ∧
    (x5_3 < 1500) ∧
    ((hv h8 4 x5_3) ≠ 0) ∧
    ((hv h8 (hv h8 4 x5_3) 1) ≠ 0) ∧
    (0 ≤ v3) ∧
    (v3 < (hn h8 (hv h8 (hv h8 4 x5_3) 1))) ∧
    S_X1_about l G [(8, (hv h8 (hv h8 (hv h8 4 x5_3) 1) v3)), (0, v4)] h8 (fun z9 h10 =>
    Q z9 h10) E) E) E))) E) : JW K 0 [(2001, 1), (0, v1), (0, v2), (0, v3), (0, v4), (5000, 0), (5000, 0)] [] h := by
  have e1 := ki.2.2.2.2.1
  have e2 := ki.2.2.2.2.2.1
  subst e1; subst e2
  exact run_ok (dia := [(34, 79)]) (cnr := []) (cuts := []) ki.1 (pk_X1_value ki hG) ok_X1_value (by decide) 42 true _ _ _ _ H
abbrev k_X1_about : List (Nat × List (Nat × Instr)) := [(51, [(0, .iload_n 1), (1, .ifCond .ne 11), (4, .aload_n 0), (5, .getfield 199), (8, .i2l), (9, .goto 33), (12, .iload_n 1), (13, .iconst 1), (14, .if_icmp .ne 11), (17, .aload_n 0), (18, .getfield 204), (21, .i2l), (22, .goto 20), (25, .iload_n 1), (26, .iconst 2), (27, .if_icmp .ne 11), (30, .aload_n 0), (31, .getfield 207), (34, .i2l), (35, .goto 7), (38, .aload_n 0), (39, .getfield 210), (42, .lreturn)])]
theorem ok_X1_about : CodeOK cX1_about k_X1_about := okw 0 (by decide +kernel) (okn)
abbrev p_X1_about (l : Launch) (G : JG) : JP := (true, [(199, 4, 1, 0, 0), (204, 4, 2, 0, 0), (207, 4, 3, 0, 0), (210, 4, 4, 1, 0)], [], [], [], [], [], [], false, 1, [])
theorem pk_X1_about {K : JC} {l : Launch} {G : JG} {Q : Int → MH → Prop} {E : Nat → Int → MH → Prop} {h0 : MH} (ki : KI K l G yX1_about cX1_about 2 (some .long) [] 4 150 1 Q E h0) (hG : gO G = true) : POK K RX1 (p_X1_about l G) :=
  POKi (y := yX1_about) ki hG (rfs rf_X1_ok (by decide +kernel)) fmz fmz fmz fmz fmz
  (pkE ki (by
    intro K e1 e2 e3 e4; subst e1; subst e2
    exact fmz)) (fun z => Bool.noConfusion z) rfl (pkP ki (by
    intro K e1 e2 e3 e4; subst e1; subst e2
    exact fmz))
theorem r_X1_about_0 {K : JC} {l : Launch} {G : JG} {Q : Int → MH → Prop} {E : Nat → Int → MH → Prop} {h0 : MH} (ki : KI K l G yX1_about cX1_about 2 (some .long) [] 4 150 1 Q E h0) (hG : gO G = true) {v0 v1 : Int} {h : MH} (H :
    ((¬ v1 = 0 → ((¬ v1 = 1 → ((¬ v1 = 2 → v0 ≠ 0)) ∧ (v1 = 2 → v0 ≠ 0))) ∧ (v1 = 1 → v0 ≠ 0))) ∧
    ((v1 = 0 → v0 ≠ 0)) ∧
    Q (if v1 = 0 then (hv h v0 1) else (if v1 = 1 then (hv h v0 2) else (if v1 = 2 then (hv h v0 3) else (hv h v0 4) : Int) : Int) : Int) h) : JW K 0 [(8, v0), (0, v1)] [] h := by
  have e1 := ki.2.2.2.2.1
  have e2 := ki.2.2.2.2.2.1
  subst e1; subst e2
  exact run_ok (dia := [(1, 42)]) (cnr := []) (cuts := []) ki.1 (pk_X1_about ki hG) ok_X1_about (by decide) 4 true _ _ _ _ H
abbrev k_X1_locks : List (Nat × List (Nat × Instr)) := [(47, [(0, .aload_n 0), (1, .iload_n 1), (2, .iload_n 2), (3, .invokevirtual 183), (6, .istore 4), (8, .iload_n 3), (9, .i2l), (10, .lconst 0), (11, .lconst 1), (12, .invokestatic 54), (15, .invokestatic 103), (18, .aload_n 0), (19, .getfield 25), (22, .getfield 190), (25, .iload 4), (27, .aaload), (28, .getfield 194), (31, .invokestatic 66), (34, .iload_n 3), (35, .ifCond .ne 19), (38, .aload_n 0), (39, .getfield 25), (42, .getfield 190), (45, .iload 4)]),
  (76, [(47, .aaload), (48, .getfield 222), (51, .goto 16), (54, .aload_n 0), (55, .getfield 25), (58, .getfield 190), (61, .iload 4), (63, .aaload), (64, .getfield 225), (67, .ireturn)])]
theorem ok_X1_locks : CodeOK cX1_locks k_X1_locks := okw 0 (by decide +kernel) (okw 47 (by decide +kernel) (okn))
abbrev p_X1_locks (l : Launch) (G : JG) : JP := (true, [(25, 1, 4, 2002, 2), (190, 2, 1, 2500113, 1), (194, 3, 0, 0, 0), (222, 3, 2, 0, 0), (225, 3, 3, 0, 0)], [], [], [], [], [], [(66, 0, [0], 700, S_X1_must l G), (103, 0, [0], 700, S_X1_index l G), (183, 1, [0, 0, 2001], 0, S_X1_placeOf l G)], false, 0, [(54, e_X1_isIn)])
theorem pk_X1_locks {K : JC} {l : Launch} {G : JG} {Q : Int → MH → Prop} {E : Nat → Int → MH → Prop} {h0 : MH} (ki : KI K l G yX1_locks cX1_locks 5 (some .int) [] 17 466 0 Q E h0) (hG : gO G = true) : POK K RX1 (p_X1_locks l G) :=
  POKi (y := yX1_locks) ki hG (rfs rf_X1_ok (by decide +kernel)) fmz fmz fmz fmz fmz
  (pkE ki (by
    intro K e1 e2 e3 e4; subst e1; subst e2
    exact fmE (ceS e3 e4 yl_X1_must ⟨q1211, Or.inl q1210⟩ rfl) (fmE (ceS e3 e4 yl_X1_index ⟨q1272, Or.inl q1271⟩ rfl) (fmE (ceV 1 e3 e4 yl_X1_placeOf ⟨by decide, ⟨_, _, rfl⟩, q1677, qs73, q1675⟩ rfl) (fmz))))) (fun z => Bool.noConfusion z) rfl (pkP ki (by
    intro K e1 e2 e3 e4; subst e1; subst e2
    exact fmP (pe_X1_isIn hG e3 e4 ⟨q809, Or.inl q1175⟩ rfl rfl) (fmz)))
theorem r_X1_locks_0 {K : JC} {l : Launch} {G : JG} {Q : Int → MH → Prop} {E : Nat → Int → MH → Prop} {h0 : MH} (ki : KI K l G yX1_locks cX1_locks 5 (some .int) [] 17 466 0 Q E h0) (hG : gO G = true) {v1 v2 v3 : Int} {h : MH} (H :
    S_X1_placeOf l G [(2001, 1), (0, v1), (0, v2)] h (fun z1 h2 =>
    (∀ x4_3 : Int, x4_3 = z1 →
    S_X1_index l G [(0, (isin v3 0 1))] h2 (fun _ h5 =>
    (0 ≤ x4_3) ∧
    (x4_3 < 1500) ∧
    ((hv h5 4 x4_3) ≠ 0) ∧
    S_X1_must l G [(0, (hv h5 (hv h5 4 x4_3) 0))] h5 (fun _ h7 =>
    ((¬ v3 = 0 → (0 ≤ x4_3) ∧ (x4_3 < 1500) ∧ (hv h7 4 x4_3) ≠ 0)) ∧
    ((v3 = 0 → (0 ≤ x4_3) ∧ (x4_3 < 1500) ∧ (hv h7 4 x4_3) ≠ 0)) ∧
    Q (if v3 = 0 then (hv h7 (hv h7 4 x4_3) 2) else (hv h7 (hv h7 4 x4_3) 3) : Int) h7) E) E)) E) : JW K 0 [(2001, 1), (0, v1), (0, v2), (0, v3), (5000, 0)] [] h := by
  have e1 := ki.2.2.2.2.1
  have e2 := ki.2.2.2.2.2.1
  subst e1; subst e2
  exact run_ok (dia := [(35, 67)]) (cnr := []) (cuts := []) ki.1 (pk_X1_locks ki hG) ok_X1_locks (by decide) 22 true _ _ _ _ H
abbrev k_X1_throwsAt : List (Nat × List (Nat × Instr)) := [(23, [(0, .aload_n 0), (1, .getfield 25), (4, .getfield 228), (7, .aload_n 0), (8, .iload_n 1), (9, .iload_n 2), (10, .invokevirtual 183), (13, .laload), (14, .lreturn)])]
theorem ok_X1_throwsAt : CodeOK cX1_throwsAt k_X1_throwsAt := okw 0 (by decide +kernel) (okn)
abbrev p_X1_throwsAt (l : Launch) (G : JG) : JP := (true, [(25, 1, 4, 2002, 2), (228, 2, 7, 2500101, 70)], [], [], [], [], [], [(183, 1, [0, 0, 2001], 0, S_X1_placeOf l G)], false, 1, [])
theorem pk_X1_throwsAt {K : JC} {l : Launch} {G : JG} {Q : Int → MH → Prop} {E : Nat → Int → MH → Prop} {h0 : MH} (ki : KI K l G yX1_throwsAt cX1_throwsAt 3 (some .long) [] 17 466 1 Q E h0) (hG : gO G = true) : POK K RX1 (p_X1_throwsAt l G) :=
  POKi (y := yX1_throwsAt) ki hG (rfs rf_X1_ok (by decide +kernel)) fmz fmz fmz fmz fmz
  (pkE ki (by
    intro K e1 e2 e3 e4; subst e1; subst e2
    exact fmE (ceV 1 e3 e4 yl_X1_placeOf ⟨by decide, ⟨_, _, rfl⟩, q1677, qs73, q1675⟩ rfl) (fmz))) (fun z => Bool.noConfusion z) rfl (pkP ki (by
    intro K e1 e2 e3 e4; subst e1; subst e2
    exact fmz))
theorem r_X1_throwsAt_0 {K : JC} {l : Launch} {G : JG} {Q : Int → MH → Prop} {E : Nat → Int → MH → Prop} {h0 : MH} (ki : KI K l G yX1_throwsAt cX1_throwsAt 3 (some .long) [] 17 466 1 Q E h0) (hG : gO G = true) {v1 v2 : Int} {h : MH} (H :
    S_X1_placeOf l G [(2001, 1), (0, v1), (0, v2)] h (fun z1 h2 =>
    (0 ≤ z1) ∧
    (z1 < 1500) ∧
    Q (hv h2 73 z1) h2) E) : JW K 0 [(2001, 1), (0, v1), (0, v2)] [] h := by
  have e1 := ki.2.2.2.2.1
  have e2 := ki.2.2.2.2.2.1
  subst e1; subst e2
  exact run_ok (dia := []) (cnr := []) (cuts := []) ki.1 (pk_X1_throwsAt ki hG) ok_X1_throwsAt (by decide) 10 true _ _ _ _ H
abbrev k_X1_calls : List (Nat × List (Nat × Instr)) := [(23, [(0, .aload_n 0), (1, .getfield 25), (4, .getfield 232), (7, .aload_n 0), (8, .iload_n 1), (9, .iload_n 2), (10, .invokevirtual 183), (13, .laload), (14, .lreturn)])]
theorem ok_X1_calls : CodeOK cX1_calls k_X1_calls := okw 0 (by decide +kernel) (okn)
abbrev p_X1_calls (l : Launch) (G : JG) : JP := (true, [(25, 1, 4, 2002, 2), (232, 2, 8, 2500101, 71)], [], [], [], [], [], [(183, 1, [0, 0, 2001], 0, S_X1_placeOf l G)], false, 1, [])
theorem pk_X1_calls {K : JC} {l : Launch} {G : JG} {Q : Int → MH → Prop} {E : Nat → Int → MH → Prop} {h0 : MH} (ki : KI K l G yX1_calls cX1_calls 3 (some .long) [] 17 466 1 Q E h0) (hG : gO G = true) : POK K RX1 (p_X1_calls l G) :=
  POKi (y := yX1_calls) ki hG (rfs rf_X1_ok (by decide +kernel)) fmz fmz fmz fmz fmz
  (pkE ki (by
    intro K e1 e2 e3 e4; subst e1; subst e2
    exact fmE (ceV 1 e3 e4 yl_X1_placeOf ⟨by decide, ⟨_, _, rfl⟩, q1677, qs73, q1675⟩ rfl) (fmz))) (fun z => Bool.noConfusion z) rfl (pkP ki (by
    intro K e1 e2 e3 e4; subst e1; subst e2
    exact fmz))
theorem r_X1_calls_0 {K : JC} {l : Launch} {G : JG} {Q : Int → MH → Prop} {E : Nat → Int → MH → Prop} {h0 : MH} (ki : KI K l G yX1_calls cX1_calls 3 (some .long) [] 17 466 1 Q E h0) (hG : gO G = true) {v1 v2 : Int} {h : MH} (H :
    S_X1_placeOf l G [(2001, 1), (0, v1), (0, v2)] h (fun z1 h2 =>
    (0 ≤ z1) ∧
    (z1 < 1500) ∧
    Q (hv h2 74 z1) h2) E) : JW K 0 [(2001, 1), (0, v1), (0, v2)] [] h := by
  have e1 := ki.2.2.2.2.1
  have e2 := ki.2.2.2.2.2.1
  subst e1; subst e2
  exact run_ok (dia := []) (cnr := []) (cuts := []) ki.1 (pk_X1_calls ki hG) ok_X1_calls (by decide) 10 true _ _ _ _ H
abbrev k_X1_outcome : List (Nat × List (Nat × Instr)) := [(48, [(0, .aload_n 0), (1, .getfield 83), (4, .ifnull 7), (7, .iconst 1), (8, .goto 4), (11, .iconst 0), (12, .invokestatic 66), (15, .aload_n 0), (16, .iload_n 1), (17, .invokevirtual 99), (20, .ifCond .eq 19), (23, .iload_n 2), (24, .i2l), (25, .lconst 0), (26, .ldc2_w 235), (29, .invokestatic 54), (32, .ifCond .eq 7), (35, .iconst 1), (36, .goto 4), (39, .iconst 0), (40, .invokestatic 103), (43, .aload_n 0), (44, .invokevirtual 164), (47, .aload_n 0)]),
  (92, [(48, .getfield 25), (51, .getfield 237), (54, .iload_n 1), (55, .aaload), (56, .astore_n 3), (57, .iload_n 2), (58, .ifCond .ne 16), (61, .aload_n 3), (62, .getfield 241), (65, .ifCond .eq 7), (68, .lconst 1), (69, .goto 4), (72, .lconst 0), (73, .lreturn), (74, .iload_n 2), (75, .iconst 5), (76, .if_icmp .ge 16), (79, .aload_n 3), (80, .getfield 246), (83, .iload_n 2), (84, .iconst 1), (85, .isub), (86, .invokestatic 218), (89, .goto 20)]),
  (118, [(92, .iload_n 2), (93, .iconst 5), (94, .if_icmp .ne 10), (97, .aload_n 3), (98, .getfield 250), (101, .goto 8), (104, .aload_n 3), (105, .getfield 253), (108, .i2l), (109, .lreturn)])]
theorem ok_X1_outcome : CodeOK cX1_outcome k_X1_outcome := okw 0 (by decide +kernel) (okw 48 (by decide +kernel) (okw 92 (by decide +kernel) (okn)))
abbrev p_X1_outcome (l : Launch) (G : JG) : JP := (true, [(25, 1, 4, 2002, 2), (83, 1, 2, 16, 0), (237, 2, 2, 1040115, 2), (241, 5, 0, 0, 0), (246, 5, 1, 8, 0), (250, 5, 4, 1, 0), (253, 5, 7, 0, 0)], [], [(235, 6)], [], [], [], [(66, 0, [0], 700, S_X1_must l G), (99, 1, [0, 2001], 2, S_X1_hasMethod l G), (103, 0, [0], 700, S_X1_index l G), (164, 1, [2001], 700, S_X1_know l G), (218, 0, [0, 8], 1, S_X1_about l G)], false, 1, [(54, e_X1_isIn)])
theorem pk_X1_outcome {K : JC} {l : Launch} {G : JG} {Q : Int → MH → Prop} {E : Nat → Int → MH → Prop} {h0 : MH} (ki : KI K l G yX1_outcome cX1_outcome 4 (some .long) [] 16 444 1 Q E h0) (hG : gO G = true) : POK K RX1 (p_X1_outcome l G) :=
  POKi (y := yX1_outcome) ki hG (rfs rf_X1_ok (by decide +kernel)) fmz (subs (by decide +kernel) rl_X1_ok) fmz fmz fmz
  (pkE ki (by
    intro K e1 e2 e3 e4; subst e1; subst e2
    exact fmE (ceS e3 e4 yl_X1_must ⟨q1211, Or.inl q1210⟩ rfl) (fmE (ceV 1 e3 e4 yl_X1_hasMethod ⟨by decide, ⟨_, _, rfl⟩, q1269, qs23, q1267⟩ rfl) (fmE (ceS e3 e4 yl_X1_index ⟨q1272, Or.inl q1271⟩ rfl) (fmE (ceV 1 e3 e4 yl_X1_know ⟨by decide, ⟨_, _, rfl⟩, q1300, qs24, q1298⟩ rfl) (fmE (ceS e3 e4 yl_X1_about ⟨q1695, Or.inl q1694⟩ rfl) (fmz))))))) (fun z => Bool.noConfusion z) rfl (pkP ki (by
    intro K e1 e2 e3 e4; subst e1; subst e2
    exact fmP (pe_X1_isIn hG e3 e4 ⟨q809, Or.inl q1175⟩ rfl rfl) (fmz)))
theorem r_X1_outcome_0 {K : JC} {l : Launch} {G : JG} {Q : Int → MH → Prop} {E : Nat → Int → MH → Prop} {h0 : MH} (ki : KI K l G yX1_outcome cX1_outcome 4 (some .long) [] 16 444 1 Q E h0) (hG : gO G = true) {v1 v2 : Int} {h : MH} (H :
    S_X1_must l G [(0, (if (hv h 1 2) = 0 then 0 else 1 : Int))] h (fun _ h2 =>
    S_X1_hasMethod l G [(2001, 1), (0, v1)] h2 (fun z3 h4 =>
    S_X1_index l G [(0, (if z3 = 0 then 0 else (if (isin v2 0 6) = 0 then 0 else 1 : Int) : Int))] h4 (fun _ h6 =>
    S_X1_know l G [(2001, 1)] h6 (fun _ h8 =>
    (0 ≤ v1) ∧
    (v1 < 40) ∧
    (∀ x3_9 : Int, x3_9 = (hv h8 5 v1) →
    ((¬ v2 = 0 →
      ((5 ≤ v2 →
        ((¬ v2 = 5 → x3_9 ≠ 0)) ∧
        ((v2 = 5 → x3_9 ≠ 0)) ∧
        Q (if v2 = 5 then (hv h8 x3_9 4) else (hv h8 x3_9 7) : Int) h8) ∧
      (v2 < 5 →
        (x3_9 ≠ 0) ∧
        S_X1_about l G [(8, (hv h8 x3_9 1)), (0, (w32 (v2 - 1)))] h8 (fun z10 h11 =>
        Q z10 h11) E))) ∧
    (v2 = 0 →
      (x3_9 ≠ 0) ∧
      Q (if (hv h8 x3_9 0) = 0 then 0 else 1 : Int) h8)))) E) E) E) E) : JW K 0 [(2001, 1), (0, v1), (0, v2), (5000, 0)] [] h := by
  have e1 := ki.2.2.2.2.1
  have e2 := ki.2.2.2.2.2.1
  subst e1; subst e2
  exact run_ok (dia := [(4, 12), (20, 40), (65, 73), (94, 109)]) (cnr := []) (cuts := []) ki.1 (pk_X1_outcome ki hG) ok_X1_outcome (by decide) 31 true _ _ _ _ H
abbrev k_X1_held : List (Nat × List (Nat × Instr)) := [(45, [(0, .aload_n 0), (1, .getfield 83), (4, .ifnull 7), (7, .iconst 1), (8, .goto 4), (11, .iconst 0), (12, .invokestatic 66), (15, .iload_n 1), (16, .i2l), (17, .ldc2_w 127), (20, .bipush 7), (22, .aload_n 0), (23, .getfield 83), (26, .getfield 132), (29, .iadd), (30, .iconst 1), (31, .isub), (32, .i2l), (33, .invokestatic 54), (36, .ifCond .eq 19), (39, .iload_n 3), (40, .i2l), (41, .lconst 0), (42, .ldc2_w 256)]),
  (92, [(45, .invokestatic 54), (48, .ifCond .eq 7), (51, .iconst 1), (52, .goto 4), (55, .iconst 0), (56, .invokestatic 103), (59, .aload_n 0), (60, .getfield 83), (63, .getfield 177), (66, .iload_n 1), (67, .iaload), (68, .istore 4), (70, .iload_n 2), (71, .i2l), (72, .lconst 0), (73, .iload 4), (75, .ifCond .ge 7), (78, .lconst 0), (79, .goto 17), (82, .aload_n 0), (83, .getfield 83), (86, .getfield 258), (89, .iload 4), (91, .aaload)]),
  (135, [(92, .arraylength), (93, .iconst 1), (94, .isub), (95, .i2l), (96, .invokestatic 54), (99, .invokestatic 103), (102, .aload_n 0), (103, .invokevirtual 164), (106, .iload_n 3), (107, .iconst 4), (108, .if_icmp .ge 17), (111, .aload_n 0), (112, .getfield 25), (115, .iload_n 1), (116, .iload_n 2), (117, .invokevirtual 262), (120, .iload_n 3), (121, .invokestatic 218), (124, .lreturn), (125, .iload 4), (127, .ifCond .ge 20), (130, .aload_n 0), (131, .getfield 25), (134, .iload_n 1)]),
  (157, [(135, .invokevirtual 266), (138, .iload_n 3), (139, .iconst 4), (140, .isub), (141, .invokestatic 218), (144, .goto 4), (147, .lconst 0), (148, .lreturn)])]
theorem ok_X1_held : CodeOK cX1_held k_X1_held := okw 0 (by decide +kernel) (okw 45 (by decide +kernel) (okw 92 (by decide +kernel) (okw 135 (by decide +kernel) (okn))))
abbrev p_X1_held (l : Launch) (G : JG) : JP := (true, [(25, 1, 4, 2002, 2), (83, 1, 2, 16, 0), (132, 12, 8, 0, 0), (177, 12, 9, 104, 0), (258, 12, 4, 134, 0)], [], [(127, 7), (256, 5)], [], [], [], [(66, 0, [0], 700, S_X1_must l G), (103, 0, [0], 700, S_X1_index l G), (164, 1, [2001], 700, S_X1_know l G), (218, 0, [0, 8], 1, S_X1_about l G), (262, 1, [0, 0, 2002], 8, S_X2_field l G), (266, 1, [0, 2002], 8, S_X2_length l G)], false, 1, [(54, e_X1_isIn)])
theorem pk_X1_held {K : JC} {l : Launch} {G : JG} {Q : Int → MH → Prop} {E : Nat → Int → MH → Prop} {h0 : MH} (ki : KI K l G yX1_held cX1_held 5 (some .long) [] 16 444 1 Q E h0) (hG : gO G = true) : POK K RX1 (p_X1_held l G) :=
  POKi (y := yX1_held) ki hG (rfs rf_X1_ok (by decide +kernel)) fmz (subs (by decide +kernel) rl_X1_ok) fmz fmz fmz
  (pkE ki (by
    intro K e1 e2 e3 e4; subst e1; subst e2
    exact fmE (ceS e3 e4 yl_X1_must ⟨q1211, Or.inl q1210⟩ rfl) (fmE (ceS e3 e4 yl_X1_index ⟨q1272, Or.inl q1271⟩ rfl) (fmE (ceV 1 e3 e4 yl_X1_know ⟨by decide, ⟨_, _, rfl⟩, q1300, qs24, q1298⟩ rfl) (fmE (ceS e3 e4 yl_X1_about ⟨q1695, Or.inl q1694⟩ rfl) (fmE (ceV 2 e3 e4 yl_X2_field ⟨by decide, ⟨_, _, rfl⟩, q1735, q1736, q1734⟩ rfl) (fmE (ceV 2 e3 e4 yl_X2_length ⟨by decide, ⟨_, _, rfl⟩, q1739, q1740, q1738⟩ rfl) (fmz)))))))) (fun z => Bool.noConfusion z) rfl (pkP ki (by
    intro K e1 e2 e3 e4; subst e1; subst e2
    exact fmP (pe_X1_isIn hG e3 e4 ⟨q809, Or.inl q1175⟩ rfl rfl) (fmz)))
theorem r_X1_held_0 {K : JC} {l : Launch} {G : JG} {Q : Int → MH → Prop} {E : Nat → Int → MH → Prop} {h0 : MH} (ki : KI K l G yX1_held cX1_held 5 (some .long) [] 16 444 1 Q E h0) (hG : gO G = true) {v1 v2 v3 : Int} {h : MH} (H :
    S_X1_must l G [(0, (if (hv h 1 2) = 0 then 0 else 1 : Int))] h (fun _ h2 =>
    ((hv h2 1 2) ≠ 0) ∧
    S_X1_index l G [(0, (if (isin v1 7 (w32 ((w32 (7 + (hv h2 (hv h2 1 2) 8))) - 1))) = 0 then 0 else (if (isin v3 0 5) = 0 then 0 else 1 : Int) : Int))] h2 (fun _ h4 =>
    ((hv h4 1 2) ≠ 0) ∧
    ((hv h4 (hv h4 1 2) 9) ≠ 0) ∧
    (0 ≤ v1) ∧
    (v1 < (hn h4 (hv h4 (hv h4 1 2) 9))) ∧
    (∀ x4_5 : Int, x4_5 = (hv h4 (hv h4 (hv h4 1 2) 9) v1) →
    ((0 ≤ x4_5 → ((hv h4 1 2) ≠ 0) ∧ ((hv h4 (hv h4 1 2) 4) ≠ 0) ∧ (0 ≤ x4_5) ∧ (x4_5 < (hn h4 (hv h4 (hv h4 1 2) 4))) ∧ (hv h4 (hv h4 (hv h4 1 2) 4) x4_5) ≠ 0)) ∧
    S_X1_index l G [(0, (isin v2 0 (if x4_5 < 0 then 0 else (w32 ((hn h4 (hv h4 (hv h4 (hv h4 1 2) 4) x4_5)) - 1)) : Int)))] h4 (fun _ h7 =>
    S_X1_know l G [(2001, 1)] h7 (fun _ h9 =>
    ((4 ≤ v3 →
      ((0 ≤ x4_5 →
        Q 0 h9) ∧
      (x4_5 < 0 →
        S_X2_length l G [(2002, 3), (0, v1)] h9 (fun z10 h11 =>
        S_X1_about l G [(8, z10), (0, (w32 (v3 - 4)))] h11 (fun z12 h13 =>
        Q z12 h13) E) E))) ∧
    (v3 < 4 →
      S_X2_field l G [(2002, 3), (0, v1), (0, v2)] h9 (fun z14 h15 =>
      S_X1_about l G [(8, z14), (0, v3)] h15 (fun z16 h17 =>
      Q z16 h17) E) E))) E) E)) E) E) : JW K 0 [(2001, 1), (0, v1), (0, v2), (0, v3), (5000, 0)] [] h := by
  have e1 := ki.2.2.2.2.1
  have e2 := ki.2.2.2.2.2.1
  subst e1; subst e2
  exact run_ok (dia := [(4, 12), (36, 56), (75, 96)]) (cnr := []) (cuts := []) ki.1 (pk_X1_held ki hG) ok_X1_held (by decide) 49 true _ _ _ _ H
abbrev k_X1_statics : List (Nat × List (Nat × Instr)) := [(44, [(0, .aload_n 0), (1, .getfield 83), (4, .ifnull 7), (7, .iconst 1), (8, .goto 4), (11, .iconst 0), (12, .invokestatic 66), (15, .iload_n 1), (16, .i2l), (17, .lconst 0), (18, .aload_n 0), (19, .getfield 83), (22, .getfield 270), (25, .arraylength), (26, .iconst 1), (27, .isub), (28, .i2l), (29, .invokestatic 54), (32, .ifCond .eq 19), (35, .iload_n 2), (36, .i2l), (37, .lconst 0), (38, .ldc2_w 212), (41, .invokestatic 54)]),
  (80, [(44, .ifCond .eq 7), (47, .iconst 1), (48, .goto 4), (51, .iconst 0), (52, .invokestatic 103), (55, .aload_n 0), (56, .invokevirtual 164), (59, .aload_n 0), (60, .getfield 25), (63, .iload_n 1), (64, .invokevirtual 273), (67, .iload_n 2), (68, .invokestatic 218), (71, .lreturn)])]
theorem ok_X1_statics : CodeOK cX1_statics k_X1_statics := okw 0 (by decide +kernel) (okw 44 (by decide +kernel) (okn))
abbrev p_X1_statics (l : Launch) (G : JG) : JP := (true, [(25, 1, 4, 2002, 2), (83, 1, 2, 16, 0), (270, 12, 5, 104, 0)], [], [(212, 3)], [], [], [], [(66, 0, [0], 700, S_X1_must l G), (103, 0, [0], 700, S_X1_index l G), (164, 1, [2001], 700, S_X1_know l G), (218, 0, [0, 8], 1, S_X1_about l G), (273, 1, [0, 2002], 8, S_X2_statics l G)], false, 1, [(54, e_X1_isIn)])
theorem pk_X1_statics {K : JC} {l : Launch} {G : JG} {Q : Int → MH → Prop} {E : Nat → Int → MH → Prop} {h0 : MH} (ki : KI K l G yX1_statics cX1_statics 3 (some .long) [] 16 444 1 Q E h0) (hG : gO G = true) : POK K RX1 (p_X1_statics l G) :=
  POKi (y := yX1_statics) ki hG (rfs rf_X1_ok (by decide +kernel)) fmz (subs (by decide +kernel) rl_X1_ok) fmz fmz fmz
  (pkE ki (by
    intro K e1 e2 e3 e4; subst e1; subst e2
    exact fmE (ceS e3 e4 yl_X1_must ⟨q1211, Or.inl q1210⟩ rfl) (fmE (ceS e3 e4 yl_X1_index ⟨q1272, Or.inl q1271⟩ rfl) (fmE (ceV 1 e3 e4 yl_X1_know ⟨by decide, ⟨_, _, rfl⟩, q1300, qs24, q1298⟩ rfl) (fmE (ceS e3 e4 yl_X1_about ⟨q1695, Or.inl q1694⟩ rfl) (fmE (ceV 2 e3 e4 yl_X2_statics ⟨by decide, ⟨_, _, rfl⟩, q1750, q1751, q1749⟩ rfl) (fmz))))))) (fun z => Bool.noConfusion z) rfl (pkP ki (by
    intro K e1 e2 e3 e4; subst e1; subst e2
    exact fmP (pe_X1_isIn hG e3 e4 ⟨q809, Or.inl q1175⟩ rfl rfl) (fmz)))
theorem r_X1_statics_0 {K : JC} {l : Launch} {G : JG} {Q : Int → MH → Prop} {E : Nat → Int → MH → Prop} {h0 : MH} (ki : KI K l G yX1_statics cX1_statics 3 (some .long) [] 16 444 1 Q E h0) (hG : gO G = true) {v1 v2 : Int} {h : MH} (H :
    S_X1_must l G [(0, (if (hv h 1 2) = 0 then 0 else 1 : Int))] h (fun _ h2 =>
    ((hv h2 1 2) ≠ 0) ∧
    ((hv h2 (hv h2 1 2) 5) ≠ 0) ∧
    S_X1_index l G [(0, (if (isin v1 0 (w32 ((hn h2 (hv h2 (hv h2 1 2) 5)) - 1))) = 0 then 0 else (if (isin v2 0 3) = 0 then 0 else 1 : Int) : Int))] h2 (fun _ h4 =>
    S_X1_know l G [(2001, 1)] h4 (fun _ h6 =>
    S_X2_statics l G [(2002, 3), (0, v1)] h6 (fun z7 h8 =>
    S_X1_about l G [(8, z7), (0, v2)] h8 (fun z9 h10 =>
    Q z9 h10) E) E) E) E) E) : JW K 0 [(2001, 1), (0, v1), (0, v2)] [] h := by
  have e1 := ki.2.2.2.2.1
  have e2 := ki.2.2.2.2.2.1
  subst e1; subst e2
  exact run_ok (dia := [(4, 12), (32, 52)]) (cnr := []) (cuts := []) ki.1 (pk_X1_statics ki hG) ok_X1_statics (by decide) 27 true _ _ _ _ H
abbrev k_X1_sink : List (Nat × List (Nat × Instr)) := [(48, [(0, .aload_n 0), (1, .getfield 83), (4, .ifnull 7), (7, .iconst 1), (8, .goto 4), (11, .iconst 0), (12, .invokestatic 66), (15, .iload_n 1), (16, .i2l), (17, .lconst 0), (18, .ldc2_w 127), (21, .invokestatic 54), (24, .ifCond .eq 19), (27, .iload_n 2), (28, .i2l), (29, .lconst 0), (30, .ldc2_w 212), (33, .invokestatic 54), (36, .ifCond .eq 7), (39, .iconst 1), (40, .goto 4), (43, .iconst 0), (44, .invokestatic 103), (47, .aload_n 0)]),
  (96, [(48, .invokevirtual 164), (51, .aload_n 0), (52, .getfield 25), (55, .getfield 275), (58, .iload_n 1), (59, .aaload), (60, .astore_n 3), (61, .iload_n 2), (62, .ifCond .ne 18), (65, .aload_n 3), (66, .getfield 278), (69, .ifCond .eq 7), (72, .lconst 1), (73, .goto 14), (76, .lconst 0), (77, .goto 10), (80, .aload_n 3), (81, .iload_n 2), (82, .iconst 1), (83, .isub), (84, .invokestatic 218), (87, .lreturn)])]
theorem ok_X1_sink : CodeOK cX1_sink k_X1_sink := okw 0 (by decide +kernel) (okw 48 (by decide +kernel) (okn))
abbrev p_X1_sink (l : Launch) (G : JG) : JP := (true, [(25, 1, 4, 2002, 2), (83, 1, 2, 16, 0), (275, 2, 6, 1008114, 69), (278, 4, 0, 0, 0)], [], [(127, 7), (212, 3)], [], [], [], [(66, 0, [0], 700, S_X1_must l G), (103, 0, [0], 700, S_X1_index l G), (164, 1, [2001], 700, S_X1_know l G), (218, 0, [0, 8], 1, S_X1_about l G)], false, 1, [(54, e_X1_isIn)])
theorem pk_X1_sink {K : JC} {l : Launch} {G : JG} {Q : Int → MH → Prop} {E : Nat → Int → MH → Prop} {h0 : MH} (ki : KI K l G yX1_sink cX1_sink 4 (some .long) [] 16 444 1 Q E h0) (hG : gO G = true) : POK K RX1 (p_X1_sink l G) :=
  POKi (y := yX1_sink) ki hG (rfs rf_X1_ok (by decide +kernel)) fmz (subs (by decide +kernel) rl_X1_ok) fmz fmz fmz
  (pkE ki (by
    intro K e1 e2 e3 e4; subst e1; subst e2
    exact fmE (ceS e3 e4 yl_X1_must ⟨q1211, Or.inl q1210⟩ rfl) (fmE (ceS e3 e4 yl_X1_index ⟨q1272, Or.inl q1271⟩ rfl) (fmE (ceV 1 e3 e4 yl_X1_know ⟨by decide, ⟨_, _, rfl⟩, q1300, qs24, q1298⟩ rfl) (fmE (ceS e3 e4 yl_X1_about ⟨q1695, Or.inl q1694⟩ rfl) (fmz)))))) (fun z => Bool.noConfusion z) rfl (pkP ki (by
    intro K e1 e2 e3 e4; subst e1; subst e2
    exact fmP (pe_X1_isIn hG e3 e4 ⟨q809, Or.inl q1175⟩ rfl rfl) (fmz)))
theorem r_X1_sink_0 {K : JC} {l : Launch} {G : JG} {Q : Int → MH → Prop} {E : Nat → Int → MH → Prop} {h0 : MH} (ki : KI K l G yX1_sink cX1_sink 4 (some .long) [] 16 444 1 Q E h0) (hG : gO G = true) {v1 v2 : Int} {h : MH} (H :
    S_X1_must l G [(0, (if (hv h 1 2) = 0 then 0 else 1 : Int))] h (fun _ h2 =>
    S_X1_index l G [(0, (if (isin v1 0 7) = 0 then 0 else (if (isin v2 0 3) = 0 then 0 else 1 : Int) : Int))] h2 (fun _ h4 =>
    S_X1_know l G [(2001, 1)] h4 (fun _ h6 =>
    (0 ≤ v1) ∧
    (v1 < 8) ∧
    (∀ x3_7 : Int, x3_7 = (hv h6 72 v1) →
    ((¬ v2 = 0 →
      S_X1_about l G [(8, x3_7), (0, (w32 (v2 - 1)))] h6 (fun z8 h9 =>
      Q z8 h9) E) ∧
    (v2 = 0 →
      (x3_7 ≠ 0) ∧
      Q (if (hv h6 x3_7 0) = 0 then 0 else 1 : Int) h6)))) E) E) E) : JW K 0 [(2001, 1), (0, v1), (0, v2), (5000, 0)] [] h := by
  have e1 := ki.2.2.2.2.1
  have e2 := ki.2.2.2.2.2.1
  subst e1; subst e2
  exact run_ok (dia := [(4, 12), (24, 44), (69, 87)]) (cnr := []) (cuts := []) ki.1 (pk_X1_sink ki hG) ok_X1_sink (by decide) 28 true _ _ _ _ H
abbrev k_X1_live : List (Nat × List (Nat × Instr)) := [(23, [(0, .aload_n 0), (1, .getfield 32), (4, .getfield 281), (7, .aload_n 0), (8, .iload_n 1), (9, .iload_n 2), (10, .invokevirtual 183), (13, .iaload), (14, .ireturn)])]
theorem ok_X1_live : CodeOK cX1_live k_X1_live := okw 0 (by decide +kernel) (okn)
abbrev p_X1_live (l : Launch) (G : JG) : JP := (true, [(32, 1, 5, 2007, 295), (281, 7, 5, 2500100, 3)], [], [], [], [], [], [(183, 1, [0, 0, 2001], 0, S_X1_placeOf l G)], false, 0, [])
theorem pk_X1_live {K : JC} {l : Launch} {G : JG} {Q : Int → MH → Prop} {E : Nat → Int → MH → Prop} {h0 : MH} (ki : KI K l G yX1_live cX1_live 3 (some .int) [] 17 466 0 Q E h0) (hG : gO G = true) : POK K RX1 (p_X1_live l G) :=
  POKi (y := yX1_live) ki hG (rfs rf_X1_ok (by decide +kernel)) fmz fmz fmz fmz fmz
  (pkE ki (by
    intro K e1 e2 e3 e4; subst e1; subst e2
    exact fmE (ceV 1 e3 e4 yl_X1_placeOf ⟨by decide, ⟨_, _, rfl⟩, q1677, qs73, q1675⟩ rfl) (fmz))) (fun z => Bool.noConfusion z) rfl (pkP ki (by
    intro K e1 e2 e3 e4; subst e1; subst e2
    exact fmz))
theorem r_X1_live_0 {K : JC} {l : Launch} {G : JG} {Q : Int → MH → Prop} {E : Nat → Int → MH → Prop} {h0 : MH} (ki : KI K l G yX1_live cX1_live 3 (some .int) [] 17 466 0 Q E h0) (hG : gO G = true) {v1 v2 : Int} {h : MH} (H :
    S_X1_placeOf l G [(2001, 1), (0, v1), (0, v2)] h (fun z1 h2 =>
    (0 ≤ z1) ∧
    (z1 < 1500) ∧
    Q (hv h2 299 z1) h2) E) : JW K 0 [(2001, 1), (0, v1), (0, v2)] [] h := by
  have e1 := ki.2.2.2.2.1
  have e2 := ki.2.2.2.2.2.1
  subst e1; subst e2
  exact run_ok (dia := []) (cnr := []) (cuts := []) ki.1 (pk_X1_live ki hG) ok_X1_live (by decide) 10 true _ _ _ _ H
abbrev k_X1_idle : List (Nat × List (Nat × Instr)) := [(45, [(0, .aload_n 0), (1, .getfield 83), (4, .ifnull 7), (7, .iconst 1), (8, .goto 4), (11, .iconst 0), (12, .invokestatic 66), (15, .aload_n 0), (16, .iload_n 1), (17, .invokevirtual 99), (20, .invokestatic 103), (23, .aload_n 0), (24, .invokevirtual 164), (27, .aload_n 0), (28, .getfield 32), (31, .getfield 284), (34, .iload_n 1), (35, .iaload), (36, .ireturn)])]
theorem ok_X1_idle : CodeOK cX1_idle k_X1_idle := okw 0 (by decide +kernel) (okn)
abbrev p_X1_idle (l : Launch) (G : JG) : JP := (true, [(32, 1, 5, 2007, 295), (83, 1, 2, 16, 0), (284, 7, 6, 1040100, 4)], [], [], [], [], [], [(66, 0, [0], 700, S_X1_must l G), (99, 1, [0, 2001], 2, S_X1_hasMethod l G), (103, 0, [0], 700, S_X1_index l G), (164, 1, [2001], 700, S_X1_know l G)], false, 0, [])
theorem pk_X1_idle {K : JC} {l : Launch} {G : JG} {Q : Int → MH → Prop} {E : Nat → Int → MH → Prop} {h0 : MH} (ki : KI K l G yX1_idle cX1_idle 2 (some .int) [] 16 444 0 Q E h0) (hG : gO G = true) : POK K RX1 (p_X1_idle l G) :=
  POKi (y := yX1_idle) ki hG (rfs rf_X1_ok (by decide +kernel)) fmz fmz fmz fmz fmz
  (pkE ki (by
    intro K e1 e2 e3 e4; subst e1; subst e2
    exact fmE (ceS e3 e4 yl_X1_must ⟨q1211, Or.inl q1210⟩ rfl) (fmE (ceV 1 e3 e4 yl_X1_hasMethod ⟨by decide, ⟨_, _, rfl⟩, q1269, qs23, q1267⟩ rfl) (fmE (ceS e3 e4 yl_X1_index ⟨q1272, Or.inl q1271⟩ rfl) (fmE (ceV 1 e3 e4 yl_X1_know ⟨by decide, ⟨_, _, rfl⟩, q1300, qs24, q1298⟩ rfl) (fmz)))))) (fun z => Bool.noConfusion z) rfl (pkP ki (by
    intro K e1 e2 e3 e4; subst e1; subst e2
    exact fmz))
theorem r_X1_idle_0 {K : JC} {l : Launch} {G : JG} {Q : Int → MH → Prop} {E : Nat → Int → MH → Prop} {h0 : MH} (ki : KI K l G yX1_idle cX1_idle 2 (some .int) [] 16 444 0 Q E h0) (hG : gO G = true) {v1 : Int} {h : MH} (H :
    S_X1_must l G [(0, (if (hv h 1 2) = 0 then 0 else 1 : Int))] h (fun _ h2 =>
    S_X1_hasMethod l G [(2001, 1), (0, v1)] h2 (fun z3 h4 =>
    S_X1_index l G [(0, z3)] h4 (fun _ h6 =>
    S_X1_know l G [(2001, 1)] h6 (fun _ h8 =>
    (0 ≤ v1) ∧
    (v1 < 40) ∧
    Q (hv h8 300 v1) h8) E) E) E) E) : JW K 0 [(2001, 1), (0, v1)] [] h := by
  have e1 := ki.2.2.2.2.1
  have e2 := ki.2.2.2.2.2.1
  subst e1; subst e2
  exact run_ok (dia := [(4, 12)]) (cnr := []) (cuts := []) ki.1 (pk_X1_idle ki hG) ok_X1_idle (by decide) 17 true _ _ _ _ H
abbrev k_X1_threads : List (Nat × List (Nat × Instr)) := [(50, [(0, .aload_n 0), (1, .getfield 83), (4, .ifnull 7), (7, .iconst 1), (8, .goto 4), (11, .iconst 0), (12, .invokestatic 66), (15, .iload_n 1), (16, .i2l), (17, .lconst 0), (18, .ldc2_w 287), (21, .invokestatic 54), (24, .ifCond .ne 17), (27, .iload_n 1), (28, .i2l), (29, .ldc2_w 52), (32, .ldc2_w 289), (35, .invokestatic 54), (38, .ifCond .eq 7), (41, .iconst 1), (42, .goto 4), (45, .iconst 0), (46, .invokestatic 103), (49, .aload_n 0)]),
  (102, [(50, .invokevirtual 164), (53, .iload_n 1), (54, .ifCond .ne 13), (57, .aload_n 0), (58, .getfield 32), (61, .getfield 291), (64, .goto 46), (67, .iload_n 1), (68, .iconst 1), (69, .if_icmp .ne 14), (72, .aload_n 0), (73, .getfield 32), (76, .iconst (-1)), (77, .invokevirtual 294), (80, .goto 30), (83, .iload_n 1), (84, .iconst 2), (85, .if_icmp .ne 13), (88, .aload_n 0), (89, .getfield 32), (92, .invokevirtual 298), (95, .goto 15), (98, .aload_n 0), (99, .getfield 32)]),
  (119, [(102, .getfield 301), (105, .iload_n 1), (106, .bipush 8), (108, .isub), (109, .iaload), (110, .ireturn)])]
theorem ok_X1_threads : CodeOK cX1_threads k_X1_threads := okw 0 (by decide +kernel) (okw 50 (by decide +kernel) (okw 102 (by decide +kernel) (okn)))
abbrev p_X1_threads (l : Launch) (G : JG) : JP := (true, [(32, 1, 5, 2007, 295), (83, 1, 2, 16, 0), (291, 7, 3, 0, 0), (301, 7, 7, 1008100, 5)], [], [(52, 8), (287, 2), (289, 15)], [], [], [], [(66, 0, [0], 700, S_X1_must l G), (103, 0, [0], 700, S_X1_index l G), (164, 1, [2001], 700, S_X1_know l G), (294, 1, [0, 2007], 0, S_X7_countRaces l G), (298, 1, [2007], 0, S_X7_rings l G)], false, 0, [(54, e_X1_isIn)])
theorem pk_X1_threads {K : JC} {l : Launch} {G : JG} {Q : Int → MH → Prop} {E : Nat → Int → MH → Prop} {h0 : MH} (ki : KI K l G yX1_threads cX1_threads 2 (some .int) [] 16 444 0 Q E h0) (hG : gO G = true) : POK K RX1 (p_X1_threads l G) :=
  POKi (y := yX1_threads) ki hG (rfs rf_X1_ok (by decide +kernel)) fmz (subs (by decide +kernel) rl_X1_ok) fmz fmz fmz
  (pkE ki (by
    intro K e1 e2 e3 e4; subst e1; subst e2
    exact fmE (ceS e3 e4 yl_X1_must ⟨q1211, Or.inl q1210⟩ rfl) (fmE (ceS e3 e4 yl_X1_index ⟨q1272, Or.inl q1271⟩ rfl) (fmE (ceV 1 e3 e4 yl_X1_know ⟨by decide, ⟨_, _, rfl⟩, q1300, qs24, q1298⟩ rfl) (fmE (ceV 7 e3 e4 yl_X7_countRaces ⟨by decide, ⟨_, _, rfl⟩, q1784, q1785, q1783⟩ rfl) (fmE (ceV 7 e3 e4 yl_X7_rings ⟨by decide, ⟨_, _, rfl⟩, q1800, q1801, q1799⟩ rfl) (fmz))))))) (fun z => Bool.noConfusion z) rfl (pkP ki (by
    intro K e1 e2 e3 e4; subst e1; subst e2
    exact fmP (pe_X1_isIn hG e3 e4 ⟨q809, Or.inl q1175⟩ rfl rfl) (fmz)))
theorem r_X1_threads_0 {K : JC} {l : Launch} {G : JG} {Q : Int → MH → Prop} {E : Nat → Int → MH → Prop} {h0 : MH} (ki : KI K l G yX1_threads cX1_threads 2 (some .int) [] 16 444 0 Q E h0) (hG : gO G = true) {v1 : Int} {h : MH} (H :
    S_X1_must l G [(0, (if (hv h 1 2) = 0 then 0 else 1 : Int))] h (fun _ h2 =>
    S_X1_index l G [(0, (if (isin v1 0 2) = 0 then (if (isin v1 8 15) = 0 then 0 else 1 : Int) else 1 : Int))] h2 (fun _ h4 =>
    S_X1_know l G [(2001, 1)] h4 (fun _ h6 =>
    ((¬ v1 = 0 →
      ((¬ v1 = 1 →
        ((¬ v1 = 2 →
          (0 ≤ (w32 (v1 - 8))) ∧
          ((w32 (v1 - 8)) < 8) ∧
          Q (hv h6 301 (w32 (v1 - 8))) h6) ∧
        (v1 = 2 →
          S_X7_rings l G [(2007, 296)] h6 (fun z7 h8 =>
          Q z7 h8) E))) ∧
      (v1 = 1 →
        S_X7_countRaces l G [(2007, 296), (0, (-1))] h6 (fun z9 h10 =>
        Q z9 h10) E))) ∧
    (v1 = 0 →
      Q (hv h6 296 3) h6))) E) E) E) : JW K 0 [(2001, 1), (0, v1)] [] h := by
  have e1 := ki.2.2.2.2.1
  have e2 := ki.2.2.2.2.2.1
  subst e1; subst e2
  exact run_ok (dia := [(4, 12), (24, 46)]) (cnr := []) (cuts := []) ki.1 (pk_X1_threads ki hG) ok_X1_threads (by decide) 30 true _ _ _ _ H
abbrev k_X1_race : List (Nat × List (Nat × Instr)) := [(48, [(0, .aload_n 0), (1, .getfield 83), (4, .ifnull 7), (7, .iconst 1), (8, .goto 4), (11, .iconst 0), (12, .invokestatic 66), (15, .iload_n 1), (16, .ifCond .lt 19), (19, .iload_n 2), (20, .i2l), (21, .lconst 0), (22, .ldc2_w 212), (25, .invokestatic 54), (28, .ifCond .eq 7), (31, .iconst 1), (32, .goto 4), (35, .iconst 0), (36, .invokestatic 103), (39, .aload_n 0), (40, .invokevirtual 164), (43, .iload_n 1), (44, .aload_n 0), (45, .getfield 32)]),
  (97, [(48, .iconst (-1)), (49, .invokevirtual 294), (52, .if_icmp .ge 7), (55, .iconst 1), (56, .goto 4), (59, .iconst 0), (60, .invokestatic 103), (63, .aload_n 0), (64, .getfield 32), (67, .iload_n 1), (68, .invokevirtual 294), (71, .istore_n 3), (72, .iload_n 2), (73, .iconst 2), (74, .if_icmp .ge 13), (77, .aload_n 0), (78, .getfield 32), (81, .getfield 304), (84, .goto 10), (87, .aload_n 0), (88, .getfield 32), (91, .getfield 307), (94, .istore 4), (96, .aload_n 0)]),
  (144, [(97, .getfield 83), (100, .getfield 310), (103, .iload 4), (105, .iaload), (106, .istore 5), (108, .iload_n 2), (109, .iconst 2), (110, .irem), (111, .ifCond .ne 8), (114, .iload 5), (116, .goto 19), (119, .iload 4), (121, .aload_n 0), (122, .getfield 83), (125, .getfield 93), (128, .iload 5), (130, .aaload), (131, .getfield 180), (134, .isub), (135, .ireturn)])]
theorem ok_X1_race : CodeOK cX1_race k_X1_race := okw 0 (by decide +kernel) (okw 48 (by decide +kernel) (okw 97 (by decide +kernel) (okn)))
abbrev p_X1_race (l : Launch) (G : JG) : JP := (true, [(32, 1, 5, 2007, 295), (83, 1, 2, 16, 0), (93, 12, 6, 128, 0), (180, 14, 14, 0, 0), (304, 7, 15, 0, 0), (307, 7, 16, 0, 0), (310, 12, 11, 104, 0)], [], [(212, 3)], [], [], [], [(66, 0, [0], 700, S_X1_must l G), (103, 0, [0], 700, S_X1_index l G), (164, 1, [2001], 700, S_X1_know l G), (294, 1, [0, 2007], 0, S_X7_countRaces l G)], false, 0, [(54, e_X1_isIn)])
theorem pk_X1_race {K : JC} {l : Launch} {G : JG} {Q : Int → MH → Prop} {E : Nat → Int → MH → Prop} {h0 : MH} (ki : KI K l G yX1_race cX1_race 6 (some .int) [] 16 444 0 Q E h0) (hG : gO G = true) : POK K RX1 (p_X1_race l G) :=
  POKi (y := yX1_race) ki hG (rfs rf_X1_ok (by decide +kernel)) fmz (subs (by decide +kernel) rl_X1_ok) fmz fmz fmz
  (pkE ki (by
    intro K e1 e2 e3 e4; subst e1; subst e2
    exact fmE (ceS e3 e4 yl_X1_must ⟨q1211, Or.inl q1210⟩ rfl) (fmE (ceS e3 e4 yl_X1_index ⟨q1272, Or.inl q1271⟩ rfl) (fmE (ceV 1 e3 e4 yl_X1_know ⟨by decide, ⟨_, _, rfl⟩, q1300, qs24, q1298⟩ rfl) (fmE (ceV 7 e3 e4 yl_X7_countRaces ⟨by decide, ⟨_, _, rfl⟩, q1784, q1785, q1783⟩ rfl) (fmz)))))) (fun z => Bool.noConfusion z) rfl (pkP ki (by
    intro K e1 e2 e3 e4; subst e1; subst e2
    exact fmP (pe_X1_isIn hG e3 e4 ⟨q809, Or.inl q1175⟩ rfl rfl) (fmz)))
theorem r_X1_race_0 {K : JC} {l : Launch} {G : JG} {Q : Int → MH → Prop} {E : Nat → Int → MH → Prop} {h0 : MH} (ki : KI K l G yX1_race cX1_race 6 (some .int) [] 16 444 0 Q E h0) (hG : gO G = true) {v1 v2 : Int} {h : MH} (H :
    S_X1_must l G [(0, (if (hv h 1 2) = 0 then 0 else 1 : Int))] h (fun _ h2 =>
    S_X1_index l G [(0, (if v1 < 0 then 0 else (if (isin v2 0 3) = 0 then 0 else 1 : Int) : Int))] h2 (fun _ h4 =>
    S_X1_know l G [(2001, 1)] h4 (fun _ h6 =>
    S_X7_countRaces l G [(2007, 296), (0, (-1))] h6 (fun z7 h8 =>
    S_X1_index l G [(0, (if v1 < z7 then 1 else 0 : Int))] h8 (fun _ h10 =>
    S_X7_countRaces l G [(2007, 296), (0, v1)] h10 (fun z11 h12 =>
    (∀ x3_13 : Int, x3_13 = z11 →
    (∀ x4_14 : Int, x4_14 = (if v2 < 2 then (hv h12 296 15) else (hv h12 296 16) : Int) →
    ((hv h12 1 2) ≠ 0) ∧
    ((hv h12 (hv h12 1 2) 11) ≠ 0) ∧
    (0 ≤ x4_14) ∧
    (x4_14 < (hn h12 (hv h12 (hv h12 1 2) 11))) ∧
    (∀ x5_15 : Int, x5_15 = (hv h12 (hv h12 (hv h12 1 2) 11) x4_14) →
    (¬ (2 : Int) = 0) ∧
    ((¬ (i_rem v2 2) = 0 → ((hv h12 1 2) ≠ 0) ∧ ((hv h12 (hv h12 1 2) 6) ≠ 0) ∧ (0 ≤ x5_15) ∧ (x5_15 < (hn h12 (hv h12 (hv h12 1 2) 6))) ∧ (hv h12 (hv h12 (hv h12 1 2) 6) x5_15) ≠ 0)) ∧
    Q (if (i_rem v2 2) = 0 then x5_15 else (w32 (x4_14 - (hv h12 (hv h12 (hv h12 (hv h12 1 2) 6) x5_15) 14))) : Int) h12)))) E) E) E) E) E) E) : JW K 0 [(2001, 1), (0, v1), (0, v2), (5000, 0), (5000, 0), (5000, 0)] [] h := by
  have e1 := ki.2.2.2.2.1
  have e2 := ki.2.2.2.2.2.1
  subst e1; subst e2
  exact run_ok (dia := [(4, 12), (16, 36), (52, 60), (74, 94), (111, 135)]) (cnr := []) (cuts := []) ki.1 (pk_X1_race ki hG) ok_X1_race (by decide) 37 true _ _ _ _ H
abbrev k_X1_runs : List (Nat × List (Nat × Instr)) := [(46, [(0, .aload_n 0), (1, .getfield 83), (4, .ifnull 7), (7, .iconst 1), (8, .goto 4), (11, .iconst 0), (12, .invokestatic 66), (15, .aload_n 0), (16, .invokevirtual 164), (19, .iload_n 1), (20, .i2l), (21, .lconst 0), (22, .aload_n 0), (23, .getfield 32), (26, .getfield 291), (29, .iconst 1), (30, .isub), (31, .i2l), (32, .invokestatic 54), (35, .invokestatic 103), (38, .aload_n 0), (39, .getfield 32), (42, .getfield 313), (45, .iload_n 1)]),
  (56, [(46, .laload), (47, .lreturn)])]
theorem ok_X1_runs : CodeOK cX1_runs k_X1_runs := okw 0 (by decide +kernel) (okw 46 (by decide +kernel) (okn))
abbrev p_X1_runs (l : Launch) (G : JG) : JP := (true, [(32, 1, 5, 2007, 295), (83, 1, 2, 16, 0), (291, 7, 3, 0, 0), (313, 7, 4, 2501101, 2)], [], [], [], [], [], [(66, 0, [0], 700, S_X1_must l G), (103, 0, [0], 700, S_X1_index l G), (164, 1, [2001], 700, S_X1_know l G)], false, 1, [(54, e_X1_isIn)])
theorem pk_X1_runs {K : JC} {l : Launch} {G : JG} {Q : Int → MH → Prop} {E : Nat → Int → MH → Prop} {h0 : MH} (ki : KI K l G yX1_runs cX1_runs 2 (some .long) [] 16 444 1 Q E h0) (hG : gO G = true) : POK K RX1 (p_X1_runs l G) :=
  POKi (y := yX1_runs) ki hG (rfs rf_X1_ok (by decide +kernel)) fmz fmz fmz fmz fmz
  (pkE ki (by
    intro K e1 e2 e3 e4; subst e1; subst e2
    exact fmE (ceS e3 e4 yl_X1_must ⟨q1211, Or.inl q1210⟩ rfl) (fmE (ceS e3 e4 yl_X1_index ⟨q1272, Or.inl q1271⟩ rfl) (fmE (ceV 1 e3 e4 yl_X1_know ⟨by decide, ⟨_, _, rfl⟩, q1300, qs24, q1298⟩ rfl) (fmz))))) (fun z => Bool.noConfusion z) rfl (pkP ki (by
    intro K e1 e2 e3 e4; subst e1; subst e2
    exact fmP (pe_X1_isIn hG e3 e4 ⟨q809, Or.inl q1175⟩ rfl rfl) (fmz)))
theorem r_X1_runs_0 {K : JC} {l : Launch} {G : JG} {Q : Int → MH → Prop} {E : Nat → Int → MH → Prop} {h0 : MH} (ki : KI K l G yX1_runs cX1_runs 2 (some .long) [] 16 444 1 Q E h0) (hG : gO G = true) {v1 : Int} {h : MH} (H :
    S_X1_must l G [(0, (if (hv h 1 2) = 0 then 0 else 1 : Int))] h (fun _ h2 =>
    S_X1_know l G [(2001, 1)] h2 (fun _ h4 =>
    S_X1_index l G [(0, (isin v1 0 (w32 ((hv h4 296 3) - 1))))] h4 (fun _ h6 =>
    (0 ≤ v1) ∧
    (v1 < 1501) ∧
    Q (hv h6 298 v1) h6) E) E) E) : JW K 0 [(2001, 1), (0, v1)] [] h := by
  have e1 := ki.2.2.2.2.1
  have e2 := ki.2.2.2.2.2.1
  subst e1; subst e2
  exact run_ok (dia := [(4, 12)]) (cnr := []) (cuts := []) ki.1 (pk_X1_runs ki hG) ok_X1_runs (by decide) 24 true _ _ _ _ H
abbrev k_X1_input : List (Nat × List (Nat × Instr)) := [(38, [(0, .aload_n 0), (1, .getfield 39), (4, .getfield 124), (7, .sipush 200), (10, .if_icmp .ge 7), (13, .iconst 1), (14, .goto 4), (17, .iconst 0), (18, .invokestatic 66), (21, .aload_n 0), (22, .getfield 39), (25, .iload_n 1), (26, .invokevirtual 316), (29, .ireturn)])]
theorem ok_X1_input : CodeOK cX1_input k_X1_input := okw 0 (by decide +kernel) (okn)
abbrev p_X1_input (l : Launch) (G : JG) : JP := (true, [(39, 1, 6, 2008, 345), (124, 8, 25, 0, 0)], [], [], [], [], [], [(66, 0, [0], 700, S_X1_must l G), (316, 1, [0, 2008], 0, S_X8_input l G)], false, 0, [])
theorem pk_X1_input {K : JC} {l : Launch} {G : JG} {Q : Int → MH → Prop} {E : Nat → Int → MH → Prop} {h0 : MH} (ki : KI K l G yX1_input cX1_input 2 (some .int) [] 12 339 0 Q E h0) (hG : gO G = true) : POK K RX1 (p_X1_input l G) :=
  POKi (y := yX1_input) ki hG (rfs rf_X1_ok (by decide +kernel)) fmz fmz fmz fmz fmz
  (pkE ki (by
    intro K e1 e2 e3 e4; subst e1; subst e2
    exact fmE (ceS e3 e4 yl_X1_must ⟨q1211, Or.inl q1210⟩ rfl) (fmE (ceV 8 e3 e4 yl_X8_input ⟨by decide, ⟨_, _, rfl⟩, q1826, q1827, q1825⟩ rfl) (fmz)))) (fun z => Bool.noConfusion z) rfl (pkP ki (by
    intro K e1 e2 e3 e4; subst e1; subst e2
    exact fmz))
theorem r_X1_input_0 {K : JC} {l : Launch} {G : JG} {Q : Int → MH → Prop} {E : Nat → Int → MH → Prop} {h0 : MH} (ki : KI K l G yX1_input cX1_input 2 (some .int) [] 12 339 0 Q E h0) (hG : gO G = true) {v1 : Int} {h : MH} (H :
    S_X1_must l G [(0, (if (hv h 346 25) < 200 then 1 else 0 : Int))] h (fun _ h2 =>
    S_X8_input l G [(2008, 346), (0, v1)] h2 (fun z3 h4 =>
    Q z3 h4) E) E) : JW K 0 [(2001, 1), (0, v1)] [] h := by
  have e1 := ki.2.2.2.2.1
  have e2 := ki.2.2.2.2.2.1
  subst e1; subst e2
  exact run_ok (dia := [(10, 18)]) (cnr := []) (cuts := []) ki.1 (pk_X1_input ki hG) ok_X1_input (by decide) 12 true _ _ _ _ H
abbrev k_X1_walk : List (Nat × List (Nat × Instr)) := [(48, [(0, .aload_n 0), (1, .getfield 83), (4, .ifnull 7), (7, .iconst 1), (8, .goto 4), (11, .iconst 0), (12, .invokestatic 66), (15, .aload_n 0), (16, .iload_n 1), (17, .invokevirtual 99), (20, .invokestatic 103), (23, .iload_n 2), (24, .i2l), (25, .lconst 1), (26, .ldc2_w 319), (29, .invokestatic 54), (32, .ifCond .eq 19), (35, .iload_n 3), (36, .i2l), (37, .lconst 1), (38, .ldc2_w 321), (41, .invokestatic 54), (44, .ifCond .eq 7), (47, .iconst 1)]),
  (90, [(48, .goto 4), (51, .iconst 0), (52, .invokestatic 58), (55, .aload_n 0), (56, .getfield 83), (59, .getfield 111), (62, .iload_n 1), (63, .baload), (64, .invokestatic 66), (67, .aload_n 0), (68, .getfield 39), (71, .aload_n 0), (72, .getfield 83), (75, .iload_n 1), (76, .iload_n 2), (77, .iload_n 3), (78, .invokevirtual 323), (81, .ireturn)])]
theorem ok_X1_walk : CodeOK cX1_walk k_X1_walk := okw 0 (by decide +kernel) (okw 48 (by decide +kernel) (okn))
abbrev p_X1_walk (l : Launch) (G : JG) : JP := (true, [(39, 1, 6, 2008, 345), (83, 1, 2, 16, 0), (111, 12, 13, 106, 0)], [], [(319, 50), (321, 5000)], [], [], [], [(58, 0, [0], 700, S_X1_want l G), (66, 0, [0], 700, S_X1_must l G), (99, 1, [0, 2001], 2, S_X1_hasMethod l G), (103, 0, [0], 700, S_X1_index l G), (323, 1, [0, 0, 0, 16, 2008], 0, S_X8_walk l G)], false, 0, [(54, e_X1_isIn)])
theorem pk_X1_walk {K : JC} {l : Launch} {G : JG} {Q : Int → MH → Prop} {E : Nat → Int → MH → Prop} {h0 : MH} (ki : KI K l G yX1_walk cX1_walk 4 (some .int) [] 12 363 0 Q E h0) (hG : gO G = true) : POK K RX1 (p_X1_walk l G) :=
  POKi (y := yX1_walk) ki hG (rfs rf_X1_ok (by decide +kernel)) fmz (subs (by decide +kernel) rl_X1_ok) fmz fmz fmz
  (pkE ki (by
    intro K e1 e2 e3 e4; subst e1; subst e2
    exact fmE (ceS e3 e4 yl_X1_want ⟨q1187, Or.inl q1186⟩ rfl) (fmE (ceS e3 e4 yl_X1_must ⟨q1211, Or.inl q1210⟩ rfl) (fmE (ceV 1 e3 e4 yl_X1_hasMethod ⟨by decide, ⟨_, _, rfl⟩, q1269, qs23, q1267⟩ rfl) (fmE (ceS e3 e4 yl_X1_index ⟨q1272, Or.inl q1271⟩ rfl) (fmE (ceV 8 e3 e4 yl_X8_walk ⟨by decide, ⟨_, _, rfl⟩, q1839, q1840, q1838⟩ rfl) (fmz))))))) (fun z => Bool.noConfusion z) rfl (pkP ki (by
    intro K e1 e2 e3 e4; subst e1; subst e2
    exact fmP (pe_X1_isIn hG e3 e4 ⟨q809, Or.inl q1175⟩ rfl rfl) (fmz)))
theorem r_X1_walk_0 {K : JC} {l : Launch} {G : JG} {Q : Int → MH → Prop} {E : Nat → Int → MH → Prop} {h0 : MH} (ki : KI K l G yX1_walk cX1_walk 4 (some .int) [] 12 363 0 Q E h0) (hG : gO G = true) {v1 v2 v3 : Int} {h : MH} (H :
    S_X1_must l G [(0, (if (hv h 1 2) = 0 then 0 else 1 : Int))] h (fun _ h2 =>
    S_X1_hasMethod l G [(2001, 1), (0, v1)] h2 (fun z3 h4 =>
    S_X1_index l G [(0, z3)] h4 (fun _ h6 =>
    S_X1_want l G [(0, (if (isin v2 1 50) = 0 then 0 else (if (isin v3 1 5000) = 0 then 0 else 1 : Int) : Int))] h6 (fun _ h8 =>
    ((hv h8 1 2) ≠ 0) ∧
    ((hv h8 (hv h8 1 2) 13) ≠ 0) ∧
    (0 ≤ v1) ∧
    (v1 < (hn h8 (hv h8 (hv h8 1 2) 13))) ∧
    S_X1_must l G [(0, (hv h8 (hv h8 (hv h8 1 2) 13) v1))] h8 (fun _ h10 =>
    S_X8_walk l G [(2008, 346), (16, (hv h10 1 2)), (0, v1), (0, v2), (0, v3)] h10 (fun z11 h12 =>
    Q z11 h12) E) E) E) E) E) E) : JW K 0 [(2001, 1), (0, v1), (0, v2), (0, v3)] [] h := by
  have e1 := ki.2.2.2.2.1
  have e2 := ki.2.2.2.2.2.1
  subst e1; subst e2
  exact run_ok (dia := [(4, 12), (32, 52)]) (cnr := []) (cuts := []) ki.1 (pk_X1_walk ki hG) ok_X1_walk (by decide) 31 true _ _ _ _ H
abbrev k_X1_walked : List (Nat × List (Nat × Instr)) := [(39, [(0, .iload_n 1), (1, .i2l), (2, .lconst 0), (3, .ldc2_w 52), (6, .invokestatic 54), (9, .invokestatic 103), (12, .iload_n 1), (13, .bipush 8), (15, .if_icmp .ne 7), (18, .iconst 0), (19, .goto 11), (22, .aload_n 0), (23, .getfield 39), (26, .iload_n 1), (27, .invokevirtual 327), (30, .ireturn)])]
theorem ok_X1_walked : CodeOK cX1_walked k_X1_walked := okw 0 (by decide +kernel) (okn)
abbrev p_X1_walked (l : Launch) (G : JG) : JP := (true, [(39, 1, 6, 2008, 345)], [], [(52, 8)], [], [], [], [(103, 0, [0], 700, S_X1_index l G), (327, 1, [0, 2008], 0, S_X8_about l G)], false, 0, [(54, e_X1_isIn)])
theorem pk_X1_walked {K : JC} {l : Launch} {G : JG} {Q : Int → MH → Prop} {E : Nat → Int → MH → Prop} {h0 : MH} (ki : KI K l G yX1_walked cX1_walked 2 (some .int) [] 12 339 0 Q E h0) (hG : gO G = true) : POK K RX1 (p_X1_walked l G) :=
  POKi (y := yX1_walked) ki hG (rfs rf_X1_ok (by decide +kernel)) fmz (subs (by decide +kernel) rl_X1_ok) fmz fmz fmz
  (pkE ki (by
    intro K e1 e2 e3 e4; subst e1; subst e2
    exact fmE (ceS e3 e4 yl_X1_index ⟨q1272, Or.inl q1271⟩ rfl) (fmE (ceV 8 e3 e4 yl_X8_about ⟨by decide, ⟨_, _, rfl⟩, q1966, q1967, q1965⟩ rfl) (fmz)))) (fun z => Bool.noConfusion z) rfl (pkP ki (by
    intro K e1 e2 e3 e4; subst e1; subst e2
    exact fmP (pe_X1_isIn hG e3 e4 ⟨q809, Or.inl q1175⟩ rfl rfl) (fmz)))
theorem r_X1_walked_0 {K : JC} {l : Launch} {G : JG} {Q : Int → MH → Prop} {E : Nat → Int → MH → Prop} {h0 : MH} (ki : KI K l G yX1_walked cX1_walked 2 (some .int) [] 12 339 0 Q E h0) (hG : gO G = true) {v1 : Int} {h : MH} (H :
    S_X1_index l G [(0, (isin v1 0 8))] h (fun _ h2 =>
    ((¬ v1 = 8 →
      S_X8_about l G [(2008, 346), (0, v1)] h2 (fun z3 h4 =>
      Q z3 h4) E) ∧
    (v1 = 8 →
      Q 0 h2))) E) : JW K 0 [(2001, 1), (0, v1)] [] h := by
  have e1 := ki.2.2.2.2.1
  have e2 := ki.2.2.2.2.2.1
  subst e1; subst e2
  exact run_ok (dia := []) (cnr := []) (cuts := []) ki.1 (pk_X1_walked ki hG) ok_X1_walked (by decide) 15 true _ _ _ _ H
abbrev k_X1_output : List (Nat × List (Nat × Instr)) := [(44, [(0, .iload_n 1), (1, .i2l), (2, .lconst 0), (3, .aload_n 0), (4, .getfield 39), (7, .getfield 329), (10, .sipush 200), (13, .invokestatic 332), (16, .iconst 1), (17, .isub), (18, .i2l), (19, .invokestatic 54), (22, .ifCond .eq 17), (25, .iload_n 2), (26, .i2l), (27, .lconst 0), (28, .lconst 1), (29, .invokestatic 54), (32, .ifCond .eq 7), (35, .iconst 1), (36, .goto 4), (39, .iconst 0), (40, .invokestatic 103), (43, .iload_n 2)]),
  (77, [(44, .ifCond .ne 15), (47, .aload_n 0), (48, .getfield 39), (51, .getfield 337), (54, .iload_n 1), (55, .iaload), (56, .goto 12), (59, .aload_n 0), (60, .getfield 39), (63, .getfield 339), (66, .iload_n 1), (67, .iaload), (68, .ireturn)])]
theorem ok_X1_output : CodeOK cX1_output k_X1_output := okw 0 (by decide +kernel) (okw 44 (by decide +kernel) (okn))
abbrev p_X1_output (l : Launch) (G : JG) : JP := (true, [(39, 1, 6, 2008, 345), (329, 8, 23, 0, 0), (337, 8, 21, 1200100, 45), (339, 8, 22, 1200100, 46)], [], [], [], [], [], [(103, 0, [0], 700, S_X1_index l G)], false, 0, [(54, e_X1_isIn), (332, e_J8_min)])
theorem pk_X1_output {K : JC} {l : Launch} {G : JG} {Q : Int → MH → Prop} {E : Nat → Int → MH → Prop} {h0 : MH} (ki : KI K l G yX1_output cX1_output 3 (some .int) [] 12 339 0 Q E h0) (hG : gO G = true) : POK K RX1 (p_X1_output l G) :=
  POKi (y := yX1_output) ki hG (rfs rf_X1_ok (by decide +kernel)) fmz fmz fmz fmz fmz
  (pkE ki (by
    intro K e1 e2 e3 e4; subst e1; subst e2
    exact fmE (ceS e3 e4 yl_X1_index ⟨q1272, Or.inl q1271⟩ rfl) (fmz))) (fun z => Bool.noConfusion z) rfl (pkP ki (by
    intro K e1 e2 e3 e4; subst e1; subst e2
    exact fmP (pe_X1_isIn hG e3 e4 ⟨q809, Or.inl q1175⟩ rfl rfl) (fmP (pe_J8_min hG e3 e4 ⟨q1370, Or.inl q1976⟩ rfl rfl) (fmz))))
theorem r_X1_output_0 {K : JC} {l : Launch} {G : JG} {Q : Int → MH → Prop} {E : Nat → Int → MH → Prop} {h0 : MH} (ki : KI K l G yX1_output cX1_output 3 (some .int) [] 12 339 0 Q E h0) (hG : gO G = true) {v1 v2 : Int} {h : MH} (H :
    S_X1_index l G [(0, (if (isin v1 0 (w32 ((min (hv h 346 23) 200) - 1))) = 0 then 0 else (if (isin v2 0 1) = 0 then 0 else 1 : Int) : Int))] h (fun _ h2 =>
    ((¬ v2 = 0 → (0 ≤ v1) ∧ v1 < 200)) ∧
    ((v2 = 0 → (0 ≤ v1) ∧ v1 < 200)) ∧
    Q (if v2 = 0 then (hv h2 391 v1) else (hv h2 392 v1) : Int) h2) E) : JW K 0 [(2001, 1), (0, v1), (0, v2)] [] h := by
  have e1 := ki.2.2.2.2.1
  have e2 := ki.2.2.2.2.2.1
  subst e1; subst e2
  exact run_ok (dia := [(22, 40), (44, 68)]) (cnr := []) (cuts := []) ki.1 (pk_X1_output ki hG) ok_X1_output (by decide) 18 true _ _ _ _ H
abbrev k_X1_met : List (Nat × List (Nat × Instr)) := [(23, [(0, .aload_n 0), (1, .getfield 39), (4, .getfield 342), (7, .aload_n 0), (8, .iload_n 1), (9, .iload_n 2), (10, .invokevirtual 183), (13, .laload), (14, .lreturn)])]
theorem ok_X1_met : CodeOK cX1_met k_X1_met := okw 0 (by decide +kernel) (okn)
abbrev p_X1_met (l : Launch) (G : JG) : JP := (true, [(39, 1, 6, 2008, 345), (342, 8, 26, 2500101, 48)], [], [], [], [], [], [(183, 1, [0, 0, 2001], 0, S_X1_placeOf l G)], false, 1, [])
theorem pk_X1_met {K : JC} {l : Launch} {G : JG} {Q : Int → MH → Prop} {E : Nat → Int → MH → Prop} {h0 : MH} (ki : KI K l G yX1_met cX1_met 3 (some .long) [] 17 466 1 Q E h0) (hG : gO G = true) : POK K RX1 (p_X1_met l G) :=
  POKi (y := yX1_met) ki hG (rfs rf_X1_ok (by decide +kernel)) fmz fmz fmz fmz fmz
  (pkE ki (by
    intro K e1 e2 e3 e4; subst e1; subst e2
    exact fmE (ceV 1 e3 e4 yl_X1_placeOf ⟨by decide, ⟨_, _, rfl⟩, q1677, qs73, q1675⟩ rfl) (fmz))) (fun z => Bool.noConfusion z) rfl (pkP ki (by
    intro K e1 e2 e3 e4; subst e1; subst e2
    exact fmz))
theorem r_X1_met_0 {K : JC} {l : Launch} {G : JG} {Q : Int → MH → Prop} {E : Nat → Int → MH → Prop} {h0 : MH} (ki : KI K l G yX1_met cX1_met 3 (some .long) [] 17 466 1 Q E h0) (hG : gO G = true) {v1 v2 : Int} {h : MH} (H :
    S_X1_placeOf l G [(2001, 1), (0, v1), (0, v2)] h (fun z1 h2 =>
    (0 ≤ z1) ∧
    (z1 < 1500) ∧
    Q (hv h2 394 z1) h2) E) : JW K 0 [(2001, 1), (0, v1), (0, v2)] [] h := by
  have e1 := ki.2.2.2.2.1
  have e2 := ki.2.2.2.2.2.1
  subst e1; subst e2
  exact run_ok (dia := []) (cnr := []) (cuts := []) ki.1 (pk_X1_met ki hG) ok_X1_met (by decide) 10 true _ _ _ _ H
