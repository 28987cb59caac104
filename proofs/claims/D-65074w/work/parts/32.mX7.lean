/-! by gen/mkall.py -/
set_option maxRecDepth 100000
abbrev k_X7_init : List (Nat × List (Nat × Instr)) := [(8, [(0, .aload_n 0), (1, .invokespecial 3), (4, .aload_n 0), (5, .sipush 1501)]),
  (10, [(8, .newarray .int)]),
  (17, [(10, .putfield 9), (13, .aload_n 0), (14, .sipush 1501)]),
  (19, [(17, .newarray .long)]),
  (26, [(19, .putfield 15), (22, .aload_n 0), (23, .sipush 1500)]),
  (28, [(26, .newarray .int)]),
  (34, [(28, .putfield 19), (31, .aload_n 0), (32, .bipush 40)]),
  (36, [(34, .newarray .int)]),
  (42, [(36, .putfield 22), (39, .aload_n 0), (40, .bipush 8)]),
  (44, [(42, .newarray .int)]),
  (50, [(44, .putfield 25), (47, .aload_n 0), (48, .bipush 40)]),
  (52, [(50, .newarray .long)]),
  (58, [(52, .putfield 28), (55, .aload_n 0), (56, .bipush 40)]),
  (60, [(58, .newarray .long)]),
  (66, [(60, .putfield 31), (63, .aload_n 0), (64, .bipush 8)]),
  (68, [(66, .newarray .int)]),
  (76, [(68, .putfield 34), (71, .aload_n 0), (72, .bipush 40), (74, .bipush 40)]),
  (80, [(76, .multianewarray 37 2)]),
  (92, [(80, .putfield 39), (83, .return_)])]
theorem ok_X7_init : CodeOK cX7_init k_X7_init := okw 0 (by decide +kernel) (okc (by decide +kernel) (okw 10 (by decide +kernel) (okc (by decide +kernel) (okw 19 (by decide +kernel) (okc (by decide +kernel) (okw 28 (by decide +kernel) (okc (by decide +kernel) (okw 36 (by decide +kernel) (okc (by decide +kernel) (okw 44 (by decide +kernel) (okc (by decide +kernel) (okw 52 (by decide +kernel) (okc (by decide +kernel) (okw 60 (by decide +kernel) (okc (by decide +kernel) (okw 68 (by decide +kernel) (okc (by decide +kernel) (okw 80 (by decide +kernel) (okn)))))))))))))))))))
abbrev p_X7_init (l : Launch) (G : JG) : JP := (false, [], [], [], [(9, 7, 2, 104), (15, 7, 4, 105), (19, 7, 5, 104), (22, 7, 6, 104), (25, 7, 7, 104), (28, 7, 8, 105), (31, 7, 9, 105), (34, 7, 10, 104)], [], [], [(3, 3, [], 700, fun _ _ _ _ => True)], true, 700, [])
theorem pk_X7_init {K : JC} {l : Launch} {G : JG} {Q : Int → MH → Prop} {E : Nat → Int → MH → Prop} {h0 : MH} (ki : KI K l G yX7_init cX7_init 1 none [] 5 170 700 Q E h0) (hG : gO G = false) : POK K RX7 (p_X7_init l G) :=
  POKi (y := yX7_init) ki hG fmz fmz fmz (rps rp_X7_ok (by decide +kernel)) fmz fmz
  (pkE ki (by
    intro K e1 e2 e3 e4; subst e1; subst e2
    exact fmE (ceO e3 e4 q471 rfl) (fmz))) (fun _ => rfl) rfl (pkP ki (by
    intro K e1 e2 e3 e4; subst e1; subst e2
    exact fmz))
theorem r_X7_init_0 {K : JC} {l : Launch} {G : JG} {Q : Int → MH → Prop} {E : Nat → Int → MH → Prop} {h0 : MH} (ki : KI K l G yX7_init cX7_init 1 none [] 5 170 700 Q E h0) (hG : gO G = false) {v0 : Int} {h : MH} (H :
    (0 ≤ (1501 : Int)) ∧
    (hz h + 1 ≤ LIMC) ∧
    (hs h + 1501 ≤ LIMS) ∧
    (∀ h1, h1 = hnew h 100 1501 1501 →
    (∀ h2, h2 = hset h1 v0 2 (hz h + 1) →
    (0 ≤ (1501 : Int)) ∧
    (hz h2 + 1 ≤ LIMC) ∧
    (hs h2 + 1501 ≤ LIMS) ∧
    (∀ h3, h3 = hnew h2 101 1501 1501 →
    (∀ h4, h4 = hset h3 v0 4 (hz h2 + 1) →
    (0 ≤ (1500 : Int)) ∧
    (hz h4 + 1 ≤ LIMC) ∧
    (hs h4 + 1500 ≤ LIMS) ∧
    (∀ h5, h5 = hnew h4 100 1500 1500 →
    (∀ h6, h6 = hset h5 v0 5 (hz h4 + 1) →
    (0 ≤ (40 : Int)) ∧
    (hz h6 + 1 ≤ LIMC) ∧
    (hs h6 + 40 ≤ LIMS) ∧
    (∀ h7, h7 = hnew h6 100 40 40 →
    (∀ h8, h8 = hset h7 v0 6 (hz h6 + 1) →
    (0 ≤ (8 : Int)) ∧
    (hz h8 + 1 ≤ LIMC) ∧
    (hs h8 + 8 ≤ LIMS) ∧
    (∀ h9, h9 = hnew h8 100 8 8 →
    (∀ h10, h10 = hset h9 v0 7 (hz h8 + 1) →
    (0 ≤ (40 : Int)) ∧
    (hz h10 + 1 ≤ LIMC) ∧
    (hs h10 + 40 ≤ LIMS) ∧
    (∀ h11, h11 = hnew h10 101 40 40 →
    (∀ h12, h12 = hset h11 v0 8 (hz h10 + 1) →
    (0 ≤ (40 : Int)) ∧
    (hz h12 + 1 ≤ LIMC) ∧
    (hs h12 + 40 ≤ LIMS) ∧
    (∀ h13, h13 = hnew h12 101 40 40 →
    (∀ h14, h14 = hset h13 v0 9 (hz h12 + 1) →
    (0 ≤ (8 : Int)) ∧
    (hz h14 + 1 ≤ LIMC) ∧
    (hs h14 + 8 ≤ LIMS) ∧
    (∀ h15, h15 = hnew h14 100 8 8 →
    (∀ h16, h16 = hset h15 v0 10 (hz h14 + 1) →
    JW K 76 [(2007, v0)] [(0, 40), (0, 40), (2007, v0)] h16))))))))))))))))) : JW K 0 [(2007, v0)] [] h := by
  have e1 := ki.2.2.2.2.1
  have e2 := ki.2.2.2.2.2.1
  subst e1; subst e2
  exact run_ok (dia := []) (cnr := []) (cuts := []) ki.1 (pk_X7_init ki hG) ok_X7_init (by decide) 39 true _ _ _ _ H
abbrev k_X7_find : List (Nat × List (Nat × Instr)) := [(44, [(0, .aload_n 0), (1, .aload_n 1), (2, .putfield 42), (5, .aload_n 0), (6, .aload_n 2), (7, .putfield 46), (10, .aload_n 0), (11, .invokevirtual 50), (14, .aload_n 0), (15, .invokevirtual 53), (18, .aload_n 0), (19, .invokevirtual 56), (22, .aload_n 0), (23, .invokevirtual 59), (26, .aload_n 0), (27, .aload_n 3), (28, .invokevirtual 62), (31, .iconst 0), (32, .istore 4), (34, .iload 4), (36, .aload_n 0), (37, .getfield 42), (40, .getfield 66), (43, .arraylength)]),
  (94, [(44, .if_icmp .ge 49), (47, .iconst 0), (48, .istore 5), (50, .iload 5), (52, .aload_n 0), (53, .getfield 42), (56, .getfield 66), (59, .arraylength), (60, .if_icmp .ge 27), (63, .aload_n 0), (64, .getfield 39), (67, .iload 4), (69, .aaload), (70, .iload 5), (72, .aload_n 0), (73, .iload 4), (75, .iload 5), (77, .invokevirtual 72), (80, .bastore), (81, .iinc 5 1), (84, .goto (-34)), (87, .iinc 4 1), (90, .goto (-56)), (93, .aload_n 0)]),
  (107, [(94, .iconst (-1)), (95, .putfield 76), (98, .return_)])]
theorem ok_X7_find : CodeOK cX7_find k_X7_find := okw 0 (by decide +kernel) (okw 44 (by decide +kernel) (okw 94 (by decide +kernel) (okn)))
abbrev p_X7_find (l : Launch) (G : JG) : JP := (true, [(39, 7, 13, 1040131, 9), (42, 7, 0, 16, 0), (66, 12, 6, 128, 0)], [], [], [(42, 7, 0, 16), (46, 7, 1, 6), (76, 7, 14, 0)], [], [], [(50, 1, [2007], 700, S_X7_findCalls l G), (53, 1, [2007], 700, S_X7_findOrigins l G), (56, 1, [2007], 700, S_X7_findRings l G), (59, 1, [2007], 700, S_X7_findLive l G), (62, 1, [16, 2007], 700, S_X7_findTouched l G), (72, 1, [0, 0, 2007], 2, S_X7_together l G)], false, 700, [])
theorem pk_X7_find {K : JC} {l : Launch} {G : JG} {Q : Int → MH → Prop} {E : Nat → Int → MH → Prop} {h0 : MH} (ki : KI K l G yX7_find cX7_find 6 none [] 10 302 700 Q E h0) (hG : gO G = true) : POK K RX7 (p_X7_find l G) :=
  POKi (y := yX7_find) ki hG (rfs rf_X7_ok (by decide +kernel)) fmz fmz (rps rp_X7_ok (by decide +kernel)) fmz fmz
  (pkE ki (by
    intro K e1 e2 e3 e4; subst e1; subst e2
    exact fmE (ceV 7 e3 e4 yl_X7_findCalls ⟨by decide, ⟨_, _, rfl⟩, q1598, qs60, q1596⟩ rfl) (fmE (ceV 7 e3 e4 yl_X7_findOrigins ⟨by decide, ⟨_, _, rfl⟩, q1610, qs63, q1608⟩ rfl) (fmE (ceV 7 e3 e4 yl_X7_findRings ⟨by decide, ⟨_, _, rfl⟩, q1618, qs65, q1616⟩ rfl) (fmE (ceV 7 e3 e4 yl_X7_findLive ⟨by decide, ⟨_, _, rfl⟩, q1626, qs67, q1624⟩ rfl) (fmE (ceV 7 e3 e4 yl_X7_findTouched ⟨by decide, ⟨_, _, rfl⟩, q1648, qs70, q1646⟩ rfl) (fmE (ceV 7 e3 e4 yl_X7_together ⟨by decide, ⟨_, _, rfl⟩, q1655, qs71, q1653⟩ rfl) (fmz)))))))) (fun z => Bool.noConfusion z) rfl (pkP ki (by
    intro K e1 e2 e3 e4; subst e1; subst e2
    exact fmz))
theorem r_X7_find_0 {K : JC} {l : Launch} {G : JG} {Q : Int → MH → Prop} {E : Nat → Int → MH → Prop} {h0 : MH} (ki : KI K l G yX7_find cX7_find 6 none [] 10 302 700 Q E h0) (hG : gO G = true) {v1 v2 v3 : Int} {h : MH} (H :
    (∀ h1, h1 = hset h 296 0 v1 →
    (∀ h2, h2 = hset h1 296 1 v2 →
    S_X7_findCalls l G [(2007, 296)] h2 (fun _ h4 =>
    S_X7_findOrigins l G [(2007, 296)] h4 (fun _ h6 =>
    S_X7_findRings l G [(2007, 296)] h6 (fun _ h8 =>
    S_X7_findLive l G [(2007, 296)] h8 (fun _ h10 =>
    S_X7_findTouched l G [(2007, 296), (16, v3)] h10 (fun _ h12 =>
    (∀ x4_13 : Int, x4_13 = 0 →
    JW K 34 [(2007, 296), (16, v1), (6, v2), (16, v3), (0, x4_13), (5000, 0)] [] h12)) E) E) E) E) E))) : JW K 0 [(2007, 296), (16, v1), (6, v2), (16, v3), (5000, 0), (5000, 0)] [] h := by
  have e1 := ki.2.2.2.2.1
  have e2 := ki.2.2.2.2.2.1
  subst e1; subst e2
  exact run_ok (dia := []) (cnr := []) (cuts := [(34, [2007, 16, 6, 16, 0, 5000], []), (50, [2007, 16, 6, 16, 0, 0], [])]) ki.1 (pk_X7_find ki hG) ok_X7_find (by decide) 21 true _ _ _ _ H
theorem r_X7_find_34 {K : JC} {l : Launch} {G : JG} {Q : Int → MH → Prop} {E : Nat → Int → MH → Prop} {h0 : MH} (ki : KI K l G yX7_find cX7_find 6 none [] 10 302 700 Q E h0) (hG : gO G = true) {v1 v2 v3 v4 : Int} {h : MH} (H :
    ((hv h 296 0) ≠ 0) ∧
    ((hv h (hv h 296 0) 6) ≠ 0) ∧
    (((hn h (hv h (hv h 296 0) 6)) ≤ v4 →
      (∀ h1, h1 = hset h 296 14 (-1) →
      Q 0 h1)) ∧
    (v4 < (hn h (hv h (hv h 296 0) 6)) →
      (∀ x5_2 : Int, x5_2 = 0 →
      JW K 50 [(2007, 296), (16, v1), (6, v2), (16, v3), (0, v4), (0, x5_2)] [] h)))) : JW K 34 [(2007, 296), (16, v1), (6, v2), (16, v3), (0, v4), (5000, 0)] [] h := by
  have e1 := ki.2.2.2.2.1
  have e2 := ki.2.2.2.2.2.1
  subst e1; subst e2
  exact run_ok (dia := []) (cnr := []) (cuts := [(34, [2007, 16, 6, 16, 0, 5000], []), (50, [2007, 16, 6, 16, 0, 0], [])]) ki.1 (pk_X7_find ki hG) ok_X7_find (by decide) 11 true _ _ _ _ H
theorem r_X7_find_50 {K : JC} {l : Launch} {G : JG} {Q : Int → MH → Prop} {E : Nat → Int → MH → Prop} {h0 : MH} (ki : KI K l G yX7_find cX7_find 6 none [] 10 302 700 Q E h0) (hG : gO G = true) {v1 v2 v3 v4 v5 : Int} {h : MH} (H :
    ((hv h 296 0) ≠ 0) ∧
    ((hv h (hv h 296 0) 6) ≠ 0) ∧
    (((hn h (hv h (hv h 296 0) 6)) ≤ v5 →
      (∀ x4_1 : Int, x4_1 = w32 (v4 + 1) →
      JW K 34 [(2007, 296), (16, v1), (6, v2), (16, v3), (0, x4_1), (5000, 0)] [] h)) ∧
    (v5 < (hn h (hv h (hv h 296 0) 6)) →
      (0 ≤ v4) ∧
      (v4 < 40) ∧
      S_X7_together l G [(2007, 296), (0, v4), (0, v5)] h (fun z2 h3 =>
      ((hv h 305 v4) ≠ 0) ∧
      (0 ≤ v5) ∧
      (v5 < (hn h3 (hv h 305 v4))) ∧
      (z2 = 0 ∨ z2 = 1) ∧
      (∀ h4, h4 = hset h3 (hv h 305 v4) v5 z2 →
      (∀ x5_5 : Int, x5_5 = w32 (v5 + 1) →
      JW K 50 [(2007, 296), (16, v1), (6, v2), (16, v3), (0, v4), (0, x5_5)] [] h4))) E))) : JW K 50 [(2007, 296), (16, v1), (6, v2), (16, v3), (0, v4), (0, v5)] [] h := by
  have e1 := ki.2.2.2.2.1
  have e2 := ki.2.2.2.2.2.1
  subst e1; subst e2
  exact run_ok (dia := []) (cnr := []) (cuts := [(34, [2007, 16, 6, 16, 0, 5000], []), (50, [2007, 16, 6, 16, 0, 0], [])]) ki.1 (pk_X7_find ki hG) ok_X7_find (by decide) 20 true _ _ _ _ H
abbrev k_X7_findCalls : List (Nat × List (Nat × Instr)) := [(43, [(0, .iconst 0), (1, .istore_n 1), (2, .iload_n 1), (3, .bipush 40), (5, .if_icmp .ge 16), (8, .aload_n 0), (9, .getfield 28), (12, .iload_n 1), (13, .lconst 0), (14, .lastore), (15, .iinc 1 1), (18, .goto (-16)), (21, .iconst 0), (22, .istore_n 1), (23, .iload_n 1), (24, .aload_n 0), (25, .getfield 42), (28, .getfield 106), (31, .if_icmp .ge 53), (34, .aload_n 0), (35, .iload_n 1), (36, .invokevirtual 109), (39, .ifCond .eq 39), (42, .aload_n 0)]),
  (93, [(43, .iload_n 1), (44, .invokevirtual 113), (47, .bipush 36), (49, .if_icmp .eq 29), (52, .aload_n 0), (53, .getfield 28), (56, .aload_n 0), (57, .getfield 42), (60, .getfield 80), (63, .iload_n 1), (64, .iaload), (65, .dup2), (66, .laload), (67, .aload_n 0), (68, .getfield 46), (71, .getfield 117), (74, .iload_n 1), (75, .laload), (76, .lor), (77, .lastore), (78, .iinc 1 1), (81, .goto (-58)), (84, .return_)])]
theorem ok_X7_findCalls : CodeOK cX7_findCalls k_X7_findCalls := okw 0 (by decide +kernel) (okw 43 (by decide +kernel) (okn))
abbrev p_X7_findCalls (l : Launch) (G : JG) : JP := (true, [(28, 7, 8, 1040101, 6), (42, 7, 0, 16, 0), (46, 7, 1, 6, 0), (80, 12, 11, 104, 0), (106, 12, 7, 0, 0), (117, 2, 8, 2500101, 71)], [], [], [], [], [], [(109, 1, [0, 2007], 2, S_X7_isReached l G), (113, 1, [0, 2007], 0, S_X7_op l G)], false, 700, [])
theorem pk_X7_findCalls {K : JC} {l : Launch} {G : JG} {Q : Int → MH → Prop} {E : Nat → Int → MH → Prop} {h0 : MH} (ki : KI K l G yX7_findCalls cX7_findCalls 2 none [] 5 172 700 Q E h0) (hG : gO G = true) : POK K RX7 (p_X7_findCalls l G) :=
  POKi (y := yX7_findCalls) ki hG (rfs rf_X7_ok (by decide +kernel)) fmz fmz fmz fmz fmz
  (pkE ki (by
    intro K e1 e2 e3 e4; subst e1; subst e2
    exact fmE (ceV 7 e3 e4 yl_X7_isReached ⟨by decide, ⟨_, _, rfl⟩, q1602, qs61, q1600⟩ rfl) (fmE (ceV 7 e3 e4 yl_X7_op ⟨by decide, ⟨_, _, rfl⟩, q1606, qs62, q1604⟩ rfl) (fmz)))) (fun z => Bool.noConfusion z) rfl (pkP ki (by
    intro K e1 e2 e3 e4; subst e1; subst e2
    exact fmz))
theorem r_X7_findCalls_0 {K : JC} {l : Launch} {G : JG} {Q : Int → MH → Prop} {E : Nat → Int → MH → Prop} {h0 : MH} (ki : KI K l G yX7_findCalls cX7_findCalls 2 none [] 5 172 700 Q E h0) (hG : gO G = true) {h : MH} (H :
    (∀ x1_1 : Int, x1_1 = 0 →
    JW K 2 [(2007, 296), (0, x1_1)] [] h)) : JW K 0 [(2007, 296), (5000, 0)] [] h := by
  have e1 := ki.2.2.2.2.1
  have e2 := ki.2.2.2.2.2.1
  subst e1; subst e2
  exact run_ok (dia := []) (cnr := []) (cuts := [(2, [2007, 0], []), (23, [2007, 0], [])]) ki.1 (pk_X7_findCalls ki hG) ok_X7_findCalls (by decide) 4 true _ _ _ _ H
theorem r_X7_findCalls_2 {K : JC} {l : Launch} {G : JG} {Q : Int → MH → Prop} {E : Nat → Int → MH → Prop} {h0 : MH} (ki : KI K l G yX7_findCalls cX7_findCalls 2 none [] 5 172 700 Q E h0) (hG : gO G = true) {v1 : Int} {h : MH} (H :
    ((40 ≤ v1 →
      (∀ x1_1 : Int, x1_1 = 0 →
      JW K 23 [(2007, 296), (0, x1_1)] [] h)) ∧
    (v1 < 40 →
      (0 ≤ v1) ∧
      (v1 < 40) ∧
      (∀ h2, h2 = hset h 302 v1 0 →
      (∀ x1_3 : Int, x1_3 = w32 (v1 + 1) →
      JW K 2 [(2007, 296), (0, x1_3)] [] h2))))) : JW K 2 [(2007, 296), (0, v1)] [] h := by
  have e1 := ki.2.2.2.2.1
  have e2 := ki.2.2.2.2.2.1
  subst e1; subst e2
  exact run_ok (dia := []) (cnr := []) (cuts := [(2, [2007, 0], []), (23, [2007, 0], [])]) ki.1 (pk_X7_findCalls ki hG) ok_X7_findCalls (by decide) 12 true _ _ _ _ H
theorem r_X7_findCalls_23 {K : JC} {l : Launch} {G : JG} {Q : Int → MH → Prop} {E : Nat → Int → MH → Prop} {h0 : MH} (ki : KI K l G yX7_findCalls cX7_findCalls 2 none [] 5 172 700 Q E h0) (hG : gO G = true) {v1 : Int} {h : MH} (H :
    ((hv h 296 0) ≠ 0) ∧
    (((hv h (hv h 296 0) 7) ≤ v1 →
      Q 0 h) ∧
    (v1 < (hv h (hv h 296 0) 7) →
      S_X7_isReached l G [(2007, 296), (0, v1)] h (fun z1 h2 =>
      ((z1 = 0 →
        (∀ x1_3 : Int, x1_3 = w32 (v1 + 1) →
        JW K 23 [(2007, 296), (0, x1_3)] [] h2)) ∧
      (¬ z1 = 0 →
        S_X7_op l G [(2007, 296), (0, v1)] h2 (fun z4 h5 =>
        ((z4 = 36 →
          (∀ x1_6 : Int, x1_6 = w32 (v1 + 1) →
          JW K 23 [(2007, 296), (0, x1_6)] [] h5)) ∧
        (¬ z4 = 36 →
          ((hv h5 296 0) ≠ 0) ∧
          ((hv h5 (hv h5 296 0) 11) ≠ 0) ∧
          (0 ≤ v1) ∧
          (v1 < (hn h5 (hv h5 (hv h5 296 0) 11))) ∧
          (0 ≤ (hv h5 (hv h5 (hv h5 296 0) 11) v1)) ∧
          ((hv h5 (hv h5 (hv h5 296 0) 11) v1) < 40) ∧
          ((hv h5 296 1) ≠ 0) ∧
          (0 ≤ v1) ∧
          (v1 < 1500) ∧
          (0 ≤ (hv h5 (hv h5 (hv h5 296 0) 11) v1)) ∧
          ((hv h5 (hv h5 (hv h5 296 0) 11) v1) < 40) ∧
          (∀ h7, h7 = hset h5 302 (hv h5 (hv h5 (hv h5 296 0) 11) v1) (l_or (hv h5 302 (hv h5 (hv h5 (hv h5 296 0) 11) v1)) (hv h5 ((hv h5 296 1) + 71) v1)) →
          (∀ x1_8 : Int, x1_8 = w32 (v1 + 1) →
          JW K 23 [(2007, 296), (0, x1_8)] [] h7))))) E))) E))) : JW K 23 [(2007, 296), (0, v1)] [] h := by
  have e1 := ki.2.2.2.2.1
  have e2 := ki.2.2.2.2.2.1
  subst e1; subst e2
  exact run_ok (dia := []) (cnr := []) (cuts := [(2, [2007, 0], []), (23, [2007, 0], [])]) ki.1 (pk_X7_findCalls ki hG) ok_X7_findCalls (by decide) 34 true _ _ _ _ H
abbrev k_X7_isReached : List (Nat × List (Nat × Instr)) := [(21, [(0, .aload_n 0), (1, .getfield 46), (4, .getfield 94), (7, .iload_n 1), (8, .aaload), (9, .getfield 100), (12, .ireturn)])]
theorem ok_X7_isReached : CodeOK cX7_isReached k_X7_isReached := okw 0 (by decide +kernel) (okn)
abbrev p_X7_isReached (l : Launch) (G : JG) : JP := (true, [(46, 7, 1, 6, 0), (94, 2, 1, 2500113, 1), (100, 3, 0, 0, 0)], [], [], [], [], [], [], false, 2, [])
theorem pk_X7_isReached {K : JC} {l : Launch} {G : JG} {Q : Int → MH → Prop} {E : Nat → Int → MH → Prop} {h0 : MH} (ki : KI K l G yX7_isReached cX7_isReached 2 (some .boolean) [] 4 150 2 Q E h0) (hG : gO G = true) : POK K RX7 (p_X7_isReached l G) :=
  POKi (y := yX7_isReached) ki hG (rfs rf_X7_ok (by decide +kernel)) fmz fmz fmz fmz fmz
  (pkE ki (by
    intro K e1 e2 e3 e4; subst e1; subst e2
    exact fmz)) (fun z => Bool.noConfusion z) rfl (pkP ki (by
    intro K e1 e2 e3 e4; subst e1; subst e2
    exact fmz))
theorem r_X7_isReached_0 {K : JC} {l : Launch} {G : JG} {Q : Int → MH → Prop} {E : Nat → Int → MH → Prop} {h0 : MH} (ki : KI K l G yX7_isReached cX7_isReached 2 (some .boolean) [] 4 150 2 Q E h0) (hG : gO G = true) {v1 : Int} {h : MH} (H :
    ((hv h 296 1) ≠ 0) ∧
    (0 ≤ v1) ∧
    (v1 < 1500) ∧
    ((hv h ((hv h 296 1) + 1) v1) ≠ 0) ∧
    (((hv h (hv h ((hv h 296 1) + 1) v1) 0) = 0 ∨ (hv h (hv h ((hv h 296 1) + 1) v1) 0) = 1) ∧ Q (hv h (hv h ((hv h 296 1) + 1) v1) 0) h)) : JW K 0 [(2007, 296), (0, v1)] [] h := by
  have e1 := ki.2.2.2.2.1
  have e2 := ki.2.2.2.2.2.1
  subst e1; subst e2
  exact run_ok (dia := []) (cnr := []) (cuts := []) ki.1 (pk_X7_isReached ki hG) ok_X7_isReached (by decide) 8 true _ _ _ _ H
abbrev k_X7_op : List (Nat × List (Nat × Instr)) := [(38, [(0, .aload_n 0), (1, .getfield 42), (4, .getfield 66), (7, .aload_n 0), (8, .getfield 42), (11, .getfield 80), (14, .iload_n 1), (15, .iaload), (16, .aaload), (17, .astore_n 2), (18, .aload_n 2), (19, .getfield 83), (22, .iload_n 1), (23, .aload_n 2), (24, .getfield 88), (27, .isub), (28, .iaload), (29, .ireturn)])]
theorem ok_X7_op : CodeOK cX7_op k_X7_op := okw 0 (by decide +kernel) (okn)
abbrev p_X7_op (l : Launch) (G : JG) : JP := (true, [(42, 7, 0, 16, 0), (66, 12, 6, 128, 0), (80, 12, 11, 104, 0), (83, 14, 7, 104, 0), (88, 14, 14, 0, 0)], [], [], [], [], [], [], false, 0, [])
theorem pk_X7_op {K : JC} {l : Launch} {G : JG} {Q : Int → MH → Prop} {E : Nat → Int → MH → Prop} {h0 : MH} (ki : KI K l G yX7_op cX7_op 3 (some .int) [] 4 150 0 Q E h0) (hG : gO G = true) : POK K RX7 (p_X7_op l G) :=
  POKi (y := yX7_op) ki hG (rfs rf_X7_ok (by decide +kernel)) fmz fmz fmz fmz fmz
  (pkE ki (by
    intro K e1 e2 e3 e4; subst e1; subst e2
    exact fmz)) (fun z => Bool.noConfusion z) rfl (pkP ki (by
    intro K e1 e2 e3 e4; subst e1; subst e2
    exact fmz))
theorem r_X7_op_0 {K : JC} {l : Launch} {G : JG} {Q : Int → MH → Prop} {E : Nat → Int → MH → Prop} {h0 : MH} (ki : KI K l G yX7_op cX7_op 3 (some .int) [] 4 150 0 Q E h0) (hG : gO G = true) {v1 : Int} {h : MH} (H :
    ((hv h 296 0) ≠ 0) ∧
    ((hv h 296 0) ≠ 0) ∧
    ((hv h (hv h 296 0) 11) ≠ 0) ∧
    (0 ≤ v1) ∧
    (v1 < (hn h (hv h (hv h 296 0) 11))) ∧
    ((hv h (hv h 296 0) 6) ≠ 0) ∧
    (0 ≤ (hv h (hv h (hv h 296 0) 11) v1)) ∧
    ((hv h (hv h (hv h 296 0) 11) v1) < (hn h (hv h (hv h 296 0) 6))) ∧
    (∀ x2_1 : Int, x2_1 = (hv h (hv h (hv h 296 0) 6) (hv h (hv h (hv h 296 0) 11) v1)) →
    (x2_1 ≠ 0) ∧
    (x2_1 ≠ 0) ∧
    ((hv h x2_1 7) ≠ 0) ∧
    (0 ≤ (w32 (v1 - (hv h x2_1 14)))) ∧
    ((w32 (v1 - (hv h x2_1 14))) < (hn h (hv h x2_1 7))) ∧
    Q (hv h (hv h x2_1 7) (w32 (v1 - (hv h x2_1 14)))) h)) : JW K 0 [(2007, 296), (0, v1), (5000, 0)] [] h := by
  have e1 := ki.2.2.2.2.1
  have e2 := ki.2.2.2.2.2.1
  subst e1; subst e2
  exact run_ok (dia := []) (cnr := []) (cuts := []) ki.1 (pk_X7_op ki hG) ok_X7_op (by decide) 19 true _ _ _ _ H
abbrev k_X7_findOrigins : List (Nat × List (Nat × Instr)) := [(40, [(0, .lconst 0), (1, .lstore_n 1), (2, .iconst 0), (3, .istore_n 3), (4, .iload_n 3), (5, .aload_n 0), (6, .getfield 42), (9, .getfield 66), (12, .arraylength), (13, .if_icmp .ge 27), (16, .aload_n 0), (17, .getfield 42), (20, .getfield 120), (23, .iload_n 3), (24, .baload), (25, .ifCond .eq 9), (28, .lload_n 1), (29, .lconst 1), (30, .iload_n 3), (31, .lshl), (32, .lor), (33, .lstore_n 1), (34, .iinc 3 1), (37, .goto (-33))]),
  (82, [(40, .aload_n 0), (41, .iconst 1), (42, .putfield 124), (45, .aload_n 0), (46, .getfield 15), (49, .iconst 0), (50, .aload_n 0), (51, .lload_n 1), (52, .invokevirtual 127), (55, .lastore), (56, .iconst 0), (57, .istore_n 3), (58, .iload_n 3), (59, .aload_n 0), (60, .getfield 42), (63, .getfield 106), (66, .if_icmp .ge 69), (69, .aload_n 0), (70, .iload_n 3), (71, .invokevirtual 109), (74, .ifCond .eq 55), (77, .aload_n 0), (78, .iload_n 3), (79, .invokevirtual 113)]),
  (125, [(82, .bipush 36), (84, .if_icmp .eq 6), (87, .goto 42), (90, .aload_n 0), (91, .getfield 9), (94, .aload_n 0), (95, .getfield 124), (98, .iload_n 3), (99, .iastore), (100, .aload_n 0), (101, .getfield 15), (104, .aload_n 0), (105, .dup), (106, .getfield 124), (109, .dup_x1), (110, .iconst 1), (111, .iadd), (112, .putfield 124), (115, .aload_n 0), (116, .aload_n 0), (117, .getfield 46), (120, .getfield 117), (123, .iload_n 3), (124, .laload)]),
  (144, [(125, .invokevirtual 127), (128, .lastore), (129, .iinc 3 1), (132, .goto (-74)), (135, .return_)])]
theorem ok_X7_findOrigins : CodeOK cX7_findOrigins k_X7_findOrigins := okw 0 (by decide +kernel) (okw 40 (by decide +kernel) (okw 82 (by decide +kernel) (okw 125 (by decide +kernel) (okn))))
abbrev p_X7_findOrigins (l : Launch) (G : JG) : JP := (true, [(9, 7, 2, 2501100, 1), (15, 7, 4, 2501101, 2), (42, 7, 0, 16, 0), (46, 7, 1, 6, 0), (66, 12, 6, 128, 0), (106, 12, 7, 0, 0), (117, 2, 8, 2500101, 71), (120, 12, 13, 106, 0), (124, 7, 3, 0, 0)], [], [], [(124, 7, 3, 0)], [], [], [(109, 1, [0, 2007], 2, S_X7_isReached l G), (113, 1, [0, 2007], 0, S_X7_op l G), (127, 1, [1, 2007], 1, S_X7_closure l G)], false, 700, [])
theorem pk_X7_findOrigins {K : JC} {l : Launch} {G : JG} {Q : Int → MH → Prop} {E : Nat → Int → MH → Prop} {h0 : MH} (ki : KI K l G yX7_findOrigins cX7_findOrigins 4 none [] 5 177 700 Q E h0) (hG : gO G = true) : POK K RX7 (p_X7_findOrigins l G) :=
  POKi (y := yX7_findOrigins) ki hG (rfs rf_X7_ok (by decide +kernel)) fmz fmz (rps rp_X7_ok (by decide +kernel)) fmz fmz
  (pkE ki (by
    intro K e1 e2 e3 e4; subst e1; subst e2
    exact fmE (ceV 7 e3 e4 yl_X7_isReached ⟨by decide, ⟨_, _, rfl⟩, q1602, qs61, q1600⟩ rfl) (fmE (ceV 7 e3 e4 yl_X7_op ⟨by decide, ⟨_, _, rfl⟩, q1606, qs62, q1604⟩ rfl) (fmE (ceV 7 e3 e4 yl_X7_closure ⟨by decide, ⟨_, _, rfl⟩, q1614, qs64, q1612⟩ rfl) (fmz))))) (fun z => Bool.noConfusion z) rfl (pkP ki (by
    intro K e1 e2 e3 e4; subst e1; subst e2
    exact fmz))
theorem r_X7_findOrigins_0 {K : JC} {l : Launch} {G : JG} {Q : Int → MH → Prop} {E : Nat → Int → MH → Prop} {h0 : MH} (ki : KI K l G yX7_findOrigins cX7_findOrigins 4 none [] 5 177 700 Q E h0) (hG : gO G = true) {h : MH} (H :
    (∀ x1_1 : Int, x1_1 = 0 →
    (∀ x3_2 : Int, x3_2 = 0 →
    JW K 4 [(2007, 296), (1, x1_1), (5000, 0), (0, x3_2)] [] h))) : JW K 0 [(2007, 296), (5000, 0), (5000, 0), (5000, 0)] [] h := by
  have e1 := ki.2.2.2.2.1
  have e2 := ki.2.2.2.2.2.1
  subst e1; subst e2
  exact run_ok (dia := []) (cnr := []) (cuts := [(4, [2007, 1, 5000, 0], []), (58, [2007, 1, 5000, 0], [])]) ki.1 (pk_X7_findOrigins ki hG) ok_X7_findOrigins (by decide) 6 true _ _ _ _ H
theorem r_X7_findOrigins_4 {K : JC} {l : Launch} {G : JG} {Q : Int → MH → Prop} {E : Nat → Int → MH → Prop} {h0 : MH} (ki : KI K l G yX7_findOrigins cX7_findOrigins 4 none [] 5 177 700 Q E h0) (hG : gO G = true) {v1 v3 : Int} {h : MH} (H :
    ((hv h 296 0) ≠ 0) ∧
    ((hv h (hv h 296 0) 6) ≠ 0) ∧
    (((hn h (hv h (hv h 296 0) 6)) ≤ v3 →
      (∀ h1, h1 = hset h 296 3 1 →
      S_X7_closure l G [(2007, 296), (1, v1)] h1 (fun z2 h3 =>
      (0 ≤ (0 : Int)) ∧
      ((0 : Int) < 1501) ∧
      (∀ h4, h4 = hset h3 298 0 z2 →
      (∀ x3_5 : Int, x3_5 = 0 →
      JW K 58 [(2007, 296), (1, v1), (5000, 0), (0, x3_5)] [] h4))) E)) ∧
    (v3 < (hn h (hv h (hv h 296 0) 6)) →
      ((hv h 296 0) ≠ 0) ∧
      ((hv h (hv h 296 0) 13) ≠ 0) ∧
      (0 ≤ v3) ∧
      (v3 < (hn h (hv h (hv h 296 0) 13))) ∧
      (((hv h (hv h (hv h 296 0) 13) v3) = 0 →
        (∀ x3_6 : Int, x3_6 = w32 (v3 + 1) →
        JW K 4 [(2007, 296), (1, v1), (5000, 0), (0, x3_6)] [] h)) ∧
      (¬ (hv h (hv h (hv h 296 0) 13) v3) = 0 →
        (∀ x1_7 : Int, x1_7 = (l_or v1 (l_shl 1 v3)) →
        (∀ x3_8 : Int, x3_8 = w32 (v3 + 1) →
        JW K 4 [(2007, 296), (1, x1_7), (5000, 0), (0, x3_8)] [] h))))))) : JW K 4 [(2007, 296), (1, v1), (5000, 0), (0, v3)] [] h := by
  have e1 := ki.2.2.2.2.1
  have e2 := ki.2.2.2.2.2.1
  subst e1; subst e2
  exact run_ok (dia := []) (cnr := []) (cuts := [(4, [2007, 1, 5000, 0], []), (58, [2007, 1, 5000, 0], [])]) ki.1 (pk_X7_findOrigins ki hG) ok_X7_findOrigins (by decide) 22 true _ _ _ _ H
theorem r_X7_findOrigins_58 {K : JC} {l : Launch} {G : JG} {Q : Int → MH → Prop} {E : Nat → Int → MH → Prop} {h0 : MH} (ki : KI K l G yX7_findOrigins cX7_findOrigins 4 none [] 5 177 700 Q E h0) (hG : gO G = true) {v1 v3 : Int} {h : MH} (H :
    ((hv h 296 0) ≠ 0) ∧
    (((hv h (hv h 296 0) 7) ≤ v3 →
      Q 0 h) ∧
    (v3 < (hv h (hv h 296 0) 7) →
      S_X7_isReached l G [(2007, 296), (0, v3)] h (fun z1 h2 =>
      ((z1 = 0 →
        (∀ x3_3 : Int, x3_3 = w32 (v3 + 1) →
        JW K 58 [(2007, 296), (1, v1), (5000, 0), (0, x3_3)] [] h2)) ∧
      (¬ z1 = 0 →
        S_X7_op l G [(2007, 296), (0, v3)] h2 (fun z4 h5 =>
        ((z4 = 36 →
          (0 ≤ (hv h5 296 3)) ∧
          ((hv h5 296 3) < 1501) ∧
          (∀ h6, h6 = hset h5 297 (hv h5 296 3) v3 →
          (∀ h7, h7 = hset h6 296 3 (w32 ((hv h6 296 3) + 1)) →
          ((hv h7 296 1) ≠ 0) ∧
          (0 ≤ v3) ∧
          (v3 < 1500) ∧
          S_X7_closure l G [(2007, 296), (1, (hv h7 ((hv h7 296 1) + 71) v3))] h7 (fun z8 h9 =>
          (0 ≤ (hv h6 296 3)) ∧
          ((hv h6 296 3) < 1501) ∧
          (∀ h10, h10 = hset h9 298 (hv h6 296 3) z8 →
          (∀ x3_11 : Int, x3_11 = w32 (v3 + 1) →
          JW K 58 [(2007, 296), (1, v1), (5000, 0), (0, x3_11)] [] h10))) E))) ∧
        (¬ z4 = 36 →
          (∀ x3_12 : Int, x3_12 = w32 (v3 + 1) →
          JW K 58 [(2007, 296), (1, v1), (5000, 0), (0, x3_12)] [] h5)))) E))) E))) : JW K 58 [(2007, 296), (1, v1), (5000, 0), (0, v3)] [] h := by
  have e1 := ki.2.2.2.2.1
  have e2 := ki.2.2.2.2.2.1
  subst e1; subst e2
  exact run_ok (dia := []) (cnr := []) (cuts := [(4, [2007, 1, 5000, 0], []), (58, [2007, 1, 5000, 0], [])]) ki.1 (pk_X7_findOrigins ki hG) ok_X7_findOrigins (by decide) 41 true _ _ _ _ H
abbrev k_X7_closure : List (Nat × List (Nat × Instr)) := [(38, [(0, .lload_n 1), (1, .lstore_n 3), (2, .lconst 0), (3, .lstore 5), (5, .lload 5), (7, .lload_n 3), (8, .lcmp), (9, .ifCond .eq 52), (12, .lload_n 3), (13, .lstore 5), (15, .iconst 0), (16, .istore 7), (18, .iload 7), (20, .aload_n 0), (21, .getfield 42), (24, .getfield 66), (27, .arraylength), (28, .if_icmp .ge 30), (31, .lload_n 3), (32, .iload 7), (34, .lshr), (35, .lconst 1), (36, .land), (37, .lconst 1)]),
  (71, [(38, .lcmp), (39, .ifCond .ne 13), (42, .lload_n 3), (43, .aload_n 0), (44, .getfield 28), (47, .iload 7), (49, .laload), (50, .lor), (51, .lstore_n 3), (52, .iinc 7 1), (55, .goto (-37)), (58, .goto (-53)), (61, .lload_n 3), (62, .lreturn)])]
theorem ok_X7_closure : CodeOK cX7_closure k_X7_closure := okw 0 (by decide +kernel) (okw 38 (by decide +kernel) (okn))
abbrev p_X7_closure (l : Launch) (G : JG) : JP := (true, [(28, 7, 8, 1040101, 6), (42, 7, 0, 16, 0), (66, 12, 6, 128, 0)], [], [], [], [], [], [], false, 1, [])
theorem pk_X7_closure {K : JC} {l : Launch} {G : JG} {Q : Int → MH → Prop} {E : Nat → Int → MH → Prop} {h0 : MH} (ki : KI K l G yX7_closure cX7_closure 8 (some .long) [] 4 150 1 Q E h0) (hG : gO G = true) : POK K RX7 (p_X7_closure l G) :=
  POKi (y := yX7_closure) ki hG (rfs rf_X7_ok (by decide +kernel)) fmz fmz fmz fmz fmz
  (pkE ki (by
    intro K e1 e2 e3 e4; subst e1; subst e2
    exact fmz)) (fun z => Bool.noConfusion z) rfl (pkP ki (by
    intro K e1 e2 e3 e4; subst e1; subst e2
    exact fmz))
theorem r_X7_closure_0 {K : JC} {l : Launch} {G : JG} {Q : Int → MH → Prop} {E : Nat → Int → MH → Prop} {h0 : MH} (ki : KI K l G yX7_closure cX7_closure 8 (some .long) [] 4 150 1 Q E h0) (hG : gO G = true) {v1 : Int} {h : MH} (H :
    (∀ x3_1 : Int, x3_1 = v1 →
    (∀ x5_2 : Int, x5_2 = 0 →
    JW K 5 [(2007, 296), (1, v1), (5000, 0), (1, x3_1), (5000, 0), (1, x5_2), (5000, 0), (5000, 0)] [] h))) : JW K 0 [(2007, 296), (1, v1), (5000, 0), (5000, 0), (5000, 0), (5000, 0), (5000, 0), (5000, 0)] [] h := by
  have e1 := ki.2.2.2.2.1
  have e2 := ki.2.2.2.2.2.1
  subst e1; subst e2
  exact run_ok (dia := []) (cnr := []) (cuts := [(5, [2007, 1, 5000, 1, 5000, 1, 5000, 5000], []), (18, [2007, 1, 5000, 1, 5000, 1, 5000, 0], [])]) ki.1 (pk_X7_closure ki hG) ok_X7_closure (by decide) 6 true _ _ _ _ H
theorem r_X7_closure_5 {K : JC} {l : Launch} {G : JG} {Q : Int → MH → Prop} {E : Nat → Int → MH → Prop} {h0 : MH} (ki : KI K l G yX7_closure cX7_closure 8 (some .long) [] 4 150 1 Q E h0) (hG : gO G = true) {v1 v3 v5 : Int} {h : MH} (H :
    (((lc v5 v3) = 0 →
      Q v3 h) ∧
    (¬ (lc v5 v3) = 0 →
      (∀ x5_1 : Int, x5_1 = v3 →
      (∀ x7_2 : Int, x7_2 = 0 →
      JW K 18 [(2007, 296), (1, v1), (5000, 0), (1, v3), (5000, 0), (1, x5_1), (5000, 0), (0, x7_2)] [] h))))) : JW K 5 [(2007, 296), (1, v1), (5000, 0), (1, v3), (5000, 0), (1, v5), (5000, 0), (5000, 0)] [] h := by
  have e1 := ki.2.2.2.2.1
  have e2 := ki.2.2.2.2.2.1
  subst e1; subst e2
  exact run_ok (dia := []) (cnr := []) (cuts := [(5, [2007, 1, 5000, 1, 5000, 1, 5000, 5000], []), (18, [2007, 1, 5000, 1, 5000, 1, 5000, 0], [])]) ki.1 (pk_X7_closure ki hG) ok_X7_closure (by decide) 10 true _ _ _ _ H
theorem r_X7_closure_18 {K : JC} {l : Launch} {G : JG} {Q : Int → MH → Prop} {E : Nat → Int → MH → Prop} {h0 : MH} (ki : KI K l G yX7_closure cX7_closure 8 (some .long) [] 4 150 1 Q E h0) (hG : gO G = true) {v1 v3 v5 v7 : Int} {h : MH} (H :
    ((hv h 296 0) ≠ 0) ∧
    ((hv h (hv h 296 0) 6) ≠ 0) ∧
    (((hn h (hv h (hv h 296 0) 6)) ≤ v7 →
      JW K 5 [(2007, 296), (1, v1), (5000, 0), (1, v3), (5000, 0), (1, v5), (5000, 0), (5000, 0)] [] h) ∧
    (v7 < (hn h (hv h (hv h 296 0) 6)) →
      ((¬ (lc (l_and (l_shr v3 v7) 1) 1) = 0 →
        (∀ x7_1 : Int, x7_1 = w32 (v7 + 1) →
        JW K 18 [(2007, 296), (1, v1), (5000, 0), (1, v3), (5000, 0), (1, v5), (5000, 0), (0, x7_1)] [] h)) ∧
      ((lc (l_and (l_shr v3 v7) 1) 1) = 0 →
        (0 ≤ v7) ∧
        (v7 < 40) ∧
        (∀ x3_2 : Int, x3_2 = (l_or v3 (hv h 302 v7)) →
        (∀ x7_3 : Int, x7_3 = w32 (v7 + 1) →
        JW K 18 [(2007, 296), (1, v1), (5000, 0), (1, x3_2), (5000, 0), (1, v5), (5000, 0), (0, x7_3)] [] h))))))) : JW K 18 [(2007, 296), (1, v1), (5000, 0), (1, v3), (5000, 0), (1, v5), (5000, 0), (0, v7)] [] h := by
  have e1 := ki.2.2.2.2.1
  have e2 := ki.2.2.2.2.2.1
  subst e1; subst e2
  exact run_ok (dia := []) (cnr := []) (cuts := [(5, [2007, 1, 5000, 1, 5000, 1, 5000, 5000], []), (18, [2007, 1, 5000, 1, 5000, 1, 5000, 0], [])]) ki.1 (pk_X7_closure ki hG) ok_X7_closure (by decide) 25 true _ _ _ _ H
abbrev k_X7_findRings : List (Nat × List (Nat × Instr)) := [(43, [(0, .iconst 0), (1, .istore_n 1), (2, .iload_n 1), (3, .bipush 8), (5, .if_icmp .ge 16), (8, .aload_n 0), (9, .getfield 25), (12, .iload_n 1), (13, .iconst 0), (14, .iastore), (15, .iinc 1 1), (18, .goto (-16)), (21, .iconst 0), (22, .istore_n 1), (23, .iload_n 1), (24, .aload_n 0), (25, .getfield 42), (28, .getfield 106), (31, .if_icmp .ge 62), (34, .aload_n 0), (35, .iload_n 1), (36, .invokevirtual 109), (39, .ifCond .eq 48), (42, .aload_n 0)]),
  (84, [(43, .iload_n 1), (44, .invokevirtual 113), (47, .bipush 34), (49, .if_icmp .ne 38), (52, .aload_n 0), (53, .getfield 25), (56, .aload_n 0), (57, .iload_n 1), (58, .invokevirtual 131), (61, .dup2), (62, .iaload), (63, .aload_n 0), (64, .getfield 46), (67, .getfield 94), (70, .iload_n 1), (71, .aaload), (72, .getfield 134), (75, .iconst 1), (76, .aload_n 0), (77, .iload_n 1), (78, .invokevirtual 131), (81, .ishl), (82, .iconst (-1)), (83, .ixor)]),
  (102, [(84, .iand), (85, .ior), (86, .iastore), (87, .iinc 1 1), (90, .goto (-67)), (93, .return_)])]
theorem ok_X7_findRings : CodeOK cX7_findRings k_X7_findRings := okw 0 (by decide +kernel) (okw 43 (by decide +kernel) (okw 84 (by decide +kernel) (okn)))
abbrev p_X7_findRings (l : Launch) (G : JG) : JP := (true, [(25, 7, 7, 1008100, 5), (42, 7, 0, 16, 0), (46, 7, 1, 6, 0), (94, 2, 1, 2500113, 1), (106, 12, 7, 0, 0), (134, 3, 3, 0, 0)], [], [], [], [], [], [(109, 1, [0, 2007], 2, S_X7_isReached l G), (113, 1, [0, 2007], 0, S_X7_op l G), (131, 1, [0, 2007], 0, S_X7_x l G)], false, 700, [])
theorem pk_X7_findRings {K : JC} {l : Launch} {G : JG} {Q : Int → MH → Prop} {E : Nat → Int → MH → Prop} {h0 : MH} (ki : KI K l G yX7_findRings cX7_findRings 2 none [] 5 172 700 Q E h0) (hG : gO G = true) : POK K RX7 (p_X7_findRings l G) :=
  POKi (y := yX7_findRings) ki hG (rfs rf_X7_ok (by decide +kernel)) fmz fmz fmz fmz fmz
  (pkE ki (by
    intro K e1 e2 e3 e4; subst e1; subst e2
    exact fmE (ceV 7 e3 e4 yl_X7_isReached ⟨by decide, ⟨_, _, rfl⟩, q1602, qs61, q1600⟩ rfl) (fmE (ceV 7 e3 e4 yl_X7_op ⟨by decide, ⟨_, _, rfl⟩, q1606, qs62, q1604⟩ rfl) (fmE (ceV 7 e3 e4 yl_X7_x ⟨by decide, ⟨_, _, rfl⟩, q1622, qs66, q1620⟩ rfl) (fmz))))) (fun z => Bool.noConfusion z) rfl (pkP ki (by
    intro K e1 e2 e3 e4; subst e1; subst e2
    exact fmz))
theorem r_X7_findRings_0 {K : JC} {l : Launch} {G : JG} {Q : Int → MH → Prop} {E : Nat → Int → MH → Prop} {h0 : MH} (ki : KI K l G yX7_findRings cX7_findRings 2 none [] 5 172 700 Q E h0) (hG : gO G = true) {h : MH} (H :
    (∀ x1_1 : Int, x1_1 = 0 →
    JW K 2 [(2007, 296), (0, x1_1)] [] h)) : JW K 0 [(2007, 296), (5000, 0)] [] h := by
  have e1 := ki.2.2.2.2.1
  have e2 := ki.2.2.2.2.2.1
  subst e1; subst e2
  exact run_ok (dia := []) (cnr := []) (cuts := [(2, [2007, 0], []), (23, [2007, 0], [])]) ki.1 (pk_X7_findRings ki hG) ok_X7_findRings (by decide) 4 true _ _ _ _ H
theorem r_X7_findRings_2 {K : JC} {l : Launch} {G : JG} {Q : Int → MH → Prop} {E : Nat → Int → MH → Prop} {h0 : MH} (ki : KI K l G yX7_findRings cX7_findRings 2 none [] 5 172 700 Q E h0) (hG : gO G = true) {v1 : Int} {h : MH} (H :
    ((8 ≤ v1 →
      (∀ x1_1 : Int, x1_1 = 0 →
      JW K 23 [(2007, 296), (0, x1_1)] [] h)) ∧
    (v1 < 8 →
      (0 ≤ v1) ∧
      (v1 < 8) ∧
      (∀ h2, h2 = hset h 301 v1 0 →
      (∀ x1_3 : Int, x1_3 = w32 (v1 + 1) →
      JW K 2 [(2007, 296), (0, x1_3)] [] h2))))) : JW K 2 [(2007, 296), (0, v1)] [] h := by
  have e1 := ki.2.2.2.2.1
  have e2 := ki.2.2.2.2.2.1
  subst e1; subst e2
  exact run_ok (dia := []) (cnr := []) (cuts := [(2, [2007, 0], []), (23, [2007, 0], [])]) ki.1 (pk_X7_findRings ki hG) ok_X7_findRings (by decide) 12 true _ _ _ _ H
theorem r_X7_findRings_23 {K : JC} {l : Launch} {G : JG} {Q : Int → MH → Prop} {E : Nat → Int → MH → Prop} {h0 : MH} (ki : KI K l G yX7_findRings cX7_findRings 2 none [] 5 172 700 Q E h0) (hG : gO G = true) {v1 : Int} {h : MH} (H :
    ((hv h 296 0) ≠ 0) ∧
    (((hv h (hv h 296 0) 7) ≤ v1 →
      Q 0 h) ∧
    (v1 < (hv h (hv h 296 0) 7) →
      S_X7_isReached l G [(2007, 296), (0, v1)] h (fun z1 h2 =>
      ((z1 = 0 →
        (∀ x1_3 : Int, x1_3 = w32 (v1 + 1) →
        JW K 23 [(2007, 296), (0, x1_3)] [] h2)) ∧
      (¬ z1 = 0 →
        S_X7_op l G [(2007, 296), (0, v1)] h2 (fun z4 h5 =>
        ((¬ z4 = 34 →
          (∀ x1_6 : Int, x1_6 = w32 (v1 + 1) →
          JW K 23 [(2007, 296), (0, x1_6)] [] h5)) ∧
        (z4 = 34 →
          S_X7_x l G [(2007, 296), (0, v1)] h5 (fun z7 h8 =>
          (0 ≤ z7) ∧
          (z7 < 8) ∧
          ((hv h8 296 1) ≠ 0) ∧
          (0 ≤ v1) ∧
          (v1 < 1500) ∧
          ((hv h8 ((hv h8 296 1) + 1) v1) ≠ 0) ∧
          S_X7_x l G [(2007, 296), (0, v1)] h8 (fun z9 h10 =>
          (0 ≤ z7) ∧
          (z7 < 8) ∧
          (∀ h11, h11 = hset h10 301 z7 (i_or (hv h8 301 z7) (i_and (hv h8 (hv h8 ((hv h8 296 1) + 1) v1) 3) (i_xor (i_shl 1 z9) (-1)))) →
          (∀ x1_12 : Int, x1_12 = w32 (v1 + 1) →
          JW K 23 [(2007, 296), (0, x1_12)] [] h11))) E) E))) E))) E))) : JW K 23 [(2007, 296), (0, v1)] [] h := by
  have e1 := ki.2.2.2.2.1
  have e2 := ki.2.2.2.2.2.1
  subst e1; subst e2
  exact run_ok (dia := []) (cnr := []) (cuts := [(2, [2007, 0], []), (23, [2007, 0], [])]) ki.1 (pk_X7_findRings ki hG) ok_X7_findRings (by decide) 41 true _ _ _ _ H
abbrev k_X7_x : List (Nat × List (Nat × Instr)) := [(38, [(0, .aload_n 0), (1, .getfield 42), (4, .getfield 66), (7, .aload_n 0), (8, .getfield 42), (11, .getfield 80), (14, .iload_n 1), (15, .iaload), (16, .aaload), (17, .astore_n 2), (18, .aload_n 2), (19, .getfield 91), (22, .iload_n 1), (23, .aload_n 2), (24, .getfield 88), (27, .isub), (28, .iaload), (29, .ireturn)])]
theorem ok_X7_x : CodeOK cX7_x k_X7_x := okw 0 (by decide +kernel) (okn)
abbrev p_X7_x (l : Launch) (G : JG) : JP := (true, [(42, 7, 0, 16, 0), (66, 12, 6, 128, 0), (80, 12, 11, 104, 0), (88, 14, 14, 0, 0), (91, 14, 8, 104, 0)], [], [], [], [], [], [], false, 0, [])
theorem pk_X7_x {K : JC} {l : Launch} {G : JG} {Q : Int → MH → Prop} {E : Nat → Int → MH → Prop} {h0 : MH} (ki : KI K l G yX7_x cX7_x 3 (some .int) [] 4 150 0 Q E h0) (hG : gO G = true) : POK K RX7 (p_X7_x l G) :=
  POKi (y := yX7_x) ki hG (rfs rf_X7_ok (by decide +kernel)) fmz fmz fmz fmz fmz
  (pkE ki (by
    intro K e1 e2 e3 e4; subst e1; subst e2
    exact fmz)) (fun z => Bool.noConfusion z) rfl (pkP ki (by
    intro K e1 e2 e3 e4; subst e1; subst e2
    exact fmz))
theorem r_X7_x_0 {K : JC} {l : Launch} {G : JG} {Q : Int → MH → Prop} {E : Nat → Int → MH → Prop} {h0 : MH} (ki : KI K l G yX7_x cX7_x 3 (some .int) [] 4 150 0 Q E h0) (hG : gO G = true) {v1 : Int} {h : MH} (H :
    ((hv h 296 0) ≠ 0) ∧
    ((hv h 296 0) ≠ 0) ∧
    ((hv h (hv h 296 0) 11) ≠ 0) ∧
    (0 ≤ v1) ∧
    (v1 < (hn h (hv h (hv h 296 0) 11))) ∧
    ((hv h (hv h 296 0) 6) ≠ 0) ∧
    (0 ≤ (hv h (hv h (hv h 296 0) 11) v1)) ∧
    ((hv h (hv h (hv h 296 0) 11) v1) < (hn h (hv h (hv h 296 0) 6))) ∧
    (∀ x2_1 : Int, x2_1 = (hv h (hv h (hv h 296 0) 6) (hv h (hv h (hv h 296 0) 11) v1)) →
    (x2_1 ≠ 0) ∧
    (x2_1 ≠ 0) ∧
    ((hv h x2_1 8) ≠ 0) ∧
    (0 ≤ (w32 (v1 - (hv h x2_1 14)))) ∧
    ((w32 (v1 - (hv h x2_1 14))) < (hn h (hv h x2_1 8))) ∧
    Q (hv h (hv h x2_1 8) (w32 (v1 - (hv h x2_1 14)))) h)) : JW K 0 [(2007, 296), (0, v1), (5000, 0)] [] h := by
  have e1 := ki.2.2.2.2.1
  have e2 := ki.2.2.2.2.2.1
  subst e1; subst e2
  exact run_ok (dia := []) (cnr := []) (cuts := []) ki.1 (pk_X7_x ki hG) ok_X7_x (by decide) 19 true _ _ _ _ H
abbrev k_X7_findLive : List (Nat × List (Nat × Instr)) := [(42, [(0, .iconst 0), (1, .istore_n 1), (2, .iload_n 1), (3, .aload_n 0), (4, .getfield 42), (7, .getfield 106), (10, .if_icmp .ge 16), (13, .aload_n 0), (14, .getfield 19), (17, .iload_n 1), (18, .iconst 0), (19, .iastore), (20, .iinc 1 1), (23, .goto (-21)), (26, .iconst 0), (27, .istore_n 1), (28, .iload_n 1), (29, .aload_n 0), (30, .getfield 42), (33, .getfield 66), (36, .arraylength), (37, .if_icmp .ge 22), (40, .aload_n 0), (41, .aload_n 0)]),
  (68, [(42, .getfield 42), (45, .getfield 66), (48, .iload_n 1), (49, .aaload), (50, .invokevirtual 178), (53, .iinc 1 1), (56, .goto (-28)), (59, .return_)])]
theorem ok_X7_findLive : CodeOK cX7_findLive k_X7_findLive := okw 0 (by decide +kernel) (okw 42 (by decide +kernel) (okn))
abbrev p_X7_findLive (l : Launch) (G : JG) : JP := (true, [(19, 7, 5, 2500100, 3), (42, 7, 0, 16, 0), (66, 12, 6, 128, 0), (106, 12, 7, 0, 0)], [], [], [], [], [], [(178, 1, [18, 2007], 700, S_X7_findLive_2 l G)], false, 700, [])
theorem pk_X7_findLive {K : JC} {l : Launch} {G : JG} {Q : Int → MH → Prop} {E : Nat → Int → MH → Prop} {h0 : MH} (ki : KI K l G yX7_findLive cX7_findLive 2 none [] 9 281 700 Q E h0) (hG : gO G = true) : POK K RX7 (p_X7_findLive l G) :=
  POKi (y := yX7_findLive) ki hG (rfs rf_X7_ok (by decide +kernel)) fmz fmz fmz fmz fmz
  (pkE ki (by
    intro K e1 e2 e3 e4; subst e1; subst e2
    exact fmE (ceV 7 e3 e4 yl_X7_findLive_2 ⟨by decide, ⟨_, _, rfl⟩, q1630, qs68, q1628⟩ rfl) (fmz))) (fun z => Bool.noConfusion z) rfl (pkP ki (by
    intro K e1 e2 e3 e4; subst e1; subst e2
    exact fmz))
theorem r_X7_findLive_0 {K : JC} {l : Launch} {G : JG} {Q : Int → MH → Prop} {E : Nat → Int → MH → Prop} {h0 : MH} (ki : KI K l G yX7_findLive cX7_findLive 2 none [] 9 281 700 Q E h0) (hG : gO G = true) {h : MH} (H :
    (∀ x1_1 : Int, x1_1 = 0 →
    JW K 2 [(2007, 296), (0, x1_1)] [] h)) : JW K 0 [(2007, 296), (5000, 0)] [] h := by
  have e1 := ki.2.2.2.2.1
  have e2 := ki.2.2.2.2.2.1
  subst e1; subst e2
  exact run_ok (dia := []) (cnr := []) (cuts := [(2, [2007, 0], []), (28, [2007, 0], [])]) ki.1 (pk_X7_findLive ki hG) ok_X7_findLive (by decide) 4 true _ _ _ _ H
theorem r_X7_findLive_2 {K : JC} {l : Launch} {G : JG} {Q : Int → MH → Prop} {E : Nat → Int → MH → Prop} {h0 : MH} (ki : KI K l G yX7_findLive cX7_findLive 2 none [] 9 281 700 Q E h0) (hG : gO G = true) {v1 : Int} {h : MH} (H :
    ((hv h 296 0) ≠ 0) ∧
    (((hv h (hv h 296 0) 7) ≤ v1 →
      (∀ x1_1 : Int, x1_1 = 0 →
      JW K 28 [(2007, 296), (0, x1_1)] [] h)) ∧
    (v1 < (hv h (hv h 296 0) 7) →
      (0 ≤ v1) ∧
      (v1 < 1500) ∧
      (∀ h2, h2 = hset h 299 v1 0 →
      (∀ x1_3 : Int, x1_3 = w32 (v1 + 1) →
      JW K 2 [(2007, 296), (0, x1_3)] [] h2))))) : JW K 2 [(2007, 296), (0, v1)] [] h := by
  have e1 := ki.2.2.2.2.1
  have e2 := ki.2.2.2.2.2.1
  subst e1; subst e2
  exact run_ok (dia := []) (cnr := []) (cuts := [(2, [2007, 0], []), (28, [2007, 0], [])]) ki.1 (pk_X7_findLive ki hG) ok_X7_findLive (by decide) 14 true _ _ _ _ H
theorem r_X7_findLive_28 {K : JC} {l : Launch} {G : JG} {Q : Int → MH → Prop} {E : Nat → Int → MH → Prop} {h0 : MH} (ki : KI K l G yX7_findLive cX7_findLive 2 none [] 9 281 700 Q E h0) (hG : gO G = true) {v1 : Int} {h : MH} (H :
    ((hv h 296 0) ≠ 0) ∧
    ((hv h (hv h 296 0) 6) ≠ 0) ∧
    (((hn h (hv h (hv h 296 0) 6)) ≤ v1 →
      Q 0 h) ∧
    (v1 < (hn h (hv h (hv h 296 0) 6)) →
      ((hv h 296 0) ≠ 0) ∧
      ((hv h (hv h 296 0) 6) ≠ 0) ∧
      (0 ≤ v1) ∧
      (v1 < (hn h (hv h (hv h 296 0) 6))) ∧
      S_X7_findLive_2 l G [(2007, 296), (18, (hv h (hv h (hv h 296 0) 6) v1))] h (fun _ h2 =>
      (∀ x1_3 : Int, x1_3 = w32 (v1 + 1) →
      JW K 28 [(2007, 296), (0, x1_3)] [] h2)) E))) : JW K 28 [(2007, 296), (0, v1)] [] h := by
  have e1 := ki.2.2.2.2.1
  have e2 := ki.2.2.2.2.2.1
  subst e1; subst e2
  exact run_ok (dia := []) (cnr := []) (cuts := [(2, [2007, 0], []), (28, [2007, 0], [])]) ki.1 (pk_X7_findLive ki hG) ok_X7_findLive (by decide) 17 true _ _ _ _ H
abbrev k_X7_findLive_2 : List (Nat × List (Nat × Instr)) := [(40, [(0, .iconst 1), (1, .istore_n 2), (2, .iload_n 2), (3, .ifCond .eq 136), (6, .iconst 0), (7, .istore_n 2), (8, .aload_n 1), (9, .invokevirtual 170), (12, .iconst 1), (13, .isub), (14, .istore_n 3), (15, .iload_n 3), (16, .ifCond .lt 120), (19, .aload_n 1), (20, .getfield 88), (23, .iload_n 3), (24, .iadd), (25, .istore 4), (27, .aload_n 0), (28, .iload 4), (30, .invokevirtual 109), (33, .ifCond .ne 6), (36, .goto 94), (39, .aload_n 1)]),
  (79, [(40, .getfield 83), (43, .iload_n 3), (44, .iaload), (45, .iconst 3), (46, .if_icmp .ne 14), (49, .iconst 1), (50, .aload_n 1), (51, .getfield 91), (54, .iload_n 3), (55, .iaload), (56, .ishl), (57, .goto 4), (60, .iconst 0), (61, .istore 5), (63, .aload_n 1), (64, .getfield 83), (67, .iload_n 3), (68, .iaload), (69, .aload_n 1), (70, .getfield 91), (73, .iload_n 3), (74, .iaload), (75, .invokestatic 181), (78, .aload_n 0)]),
  (115, [(79, .aload_n 1), (80, .iload_n 3), (81, .iconst 0), (82, .invokevirtual 185), (85, .iload 5), (87, .iconst (-1)), (88, .ixor), (89, .iand), (90, .ior), (91, .aload_n 0), (92, .aload_n 1), (93, .iload_n 3), (94, .iconst 1), (95, .invokevirtual 185), (98, .ior), (99, .istore 6), (101, .iload_n 2), (102, .iload 6), (104, .aload_n 0), (105, .getfield 19), (108, .iload 4), (110, .iaload), (111, .if_icmp .eq 7), (114, .iconst 1)]),
  (159, [(115, .goto 4), (118, .iconst 0), (119, .ior), (120, .istore_n 2), (121, .aload_n 0), (122, .getfield 19), (125, .iload 4), (127, .iload 6), (129, .iastore), (130, .iinc 3 (-1)), (133, .goto (-118)), (136, .goto (-134)), (139, .aload_n 0), (140, .getfield 22), (143, .aload_n 1), (144, .getfield 189), (147, .iconst 0), (148, .iastore), (149, .iconst 0), (150, .istore_n 3), (151, .iload_n 3), (152, .aload_n 1), (153, .invokevirtual 170), (156, .if_icmp .ge 64)]),
  (197, [(159, .aload_n 1), (160, .getfield 83), (163, .iload_n 3), (164, .iaload), (165, .iconst 3), (166, .if_icmp .ne 48), (169, .aload_n 0), (170, .aload_n 1), (171, .getfield 88), (174, .iload_n 3), (175, .iadd), (176, .invokevirtual 109), (179, .ifCond .eq 35), (182, .aload_n 0), (183, .aload_n 1), (184, .iload_n 3), (185, .iconst 0), (186, .invokevirtual 185), (189, .aload_n 1), (190, .getfield 91), (193, .iload_n 3), (194, .iaload), (195, .ishr), (196, .iconst 1)]),
  (229, [(197, .iand), (198, .ifCond .ne 16), (201, .aload_n 0), (202, .getfield 22), (205, .aload_n 1), (206, .getfield 189), (209, .dup2), (210, .iaload), (211, .iconst 1), (212, .iadd), (213, .iastore), (214, .iinc 3 1), (217, .goto (-66)), (220, .return_)])]
theorem ok_X7_findLive_2 : CodeOK cX7_findLive_2 k_X7_findLive_2 := okw 0 (by decide +kernel) (okw 40 (by decide +kernel) (okw 79 (by decide +kernel) (okw 115 (by decide +kernel) (okw 159 (by decide +kernel) (okw 197 (by decide +kernel) (okn))))))
abbrev p_X7_findLive_2 (l : Launch) (G : JG) : JP := (true, [(19, 7, 5, 2500100, 3), (22, 7, 6, 1040100, 4), (83, 14, 7, 104, 0), (88, 14, 14, 0, 0), (91, 14, 8, 104, 0), (189, 14, 0, 0, 0)], [], [], [], [], [], [(109, 1, [0, 2007], 2, S_X7_isReached l G), (170, 1, [2014], 0, S_X14_size l G), (185, 1, [0, 0, 18, 2007], 0, S_X7_liveBehind l G)], false, 700, [(181, e_X7_reads)])
theorem pk_X7_findLive_2 {K : JC} {l : Launch} {G : JG} {Q : Int → MH → Prop} {E : Nat → Int → MH → Prop} {h0 : MH} (ki : KI K l G yX7_findLive_2 cX7_findLive_2 7 none [] 8 255 700 Q E h0) (hG : gO G = true) : POK K RX7 (p_X7_findLive_2 l G) :=
  POKi (y := yX7_findLive_2) ki hG (rfs rf_X7_ok (by decide +kernel)) fmz fmz fmz fmz fmz
  (pkE ki (by
    intro K e1 e2 e3 e4; subst e1; subst e2
    exact fmE (ceV 7 e3 e4 yl_X7_isReached ⟨by decide, ⟨_, _, rfl⟩, q1602, qs61, q1600⟩ rfl) (fmE (ceV 14 e3 e4 yl_X14_size ⟨by decide, ⟨_, _, rfl⟩, q1040, q1041, q1632⟩ rfl) (fmE (ceV 7 e3 e4 yl_X7_liveBehind ⟨by decide, ⟨_, _, rfl⟩, q1638, qs69, q1636⟩ rfl) (fmz))))) (fun z => Bool.noConfusion z) rfl (pkP ki (by
    intro K e1 e2 e3 e4; subst e1; subst e2
    exact fmP (pe_X7_reads hG e3 e4 ⟨q1634, Or.inl q1633⟩ rfl rfl) (fmz)))
theorem r_X7_findLive_2_0 {K : JC} {l : Launch} {G : JG} {Q : Int → MH → Prop} {E : Nat → Int → MH → Prop} {h0 : MH} (ki : KI K l G yX7_findLive_2 cX7_findLive_2 7 none [] 8 255 700 Q E h0) (hG : gO G = true) {v1 : Int} {h : MH} (H :
    (∀ x2_1 : Int, x2_1 = 1 →
    JW K 2 [(2007, 296), (18, v1), (0, x2_1), (5000, 0), (5000, 0), (5000, 0), (5000, 0)] [] h)) : JW K 0 [(2007, 296), (18, v1), (5000, 0), (5000, 0), (5000, 0), (5000, 0), (5000, 0)] [] h := by
  have e1 := ki.2.2.2.2.1
  have e2 := ki.2.2.2.2.2.1
  subst e1; subst e2
  exact run_ok (dia := [(46, 61), (111, 119)]) (cnr := []) (cuts := [(2, [2007, 18, 0, 5000, 5000, 5000, 5000], []), (15, [2007, 18, 0, 0, 5000, 5000, 5000], []), (151, [2007, 18, 0, 0, 5000, 5000, 5000], [])]) ki.1 (pk_X7_findLive_2 ki hG) ok_X7_findLive_2 (by decide) 4 true _ _ _ _ H
theorem r_X7_findLive_2_2 {K : JC} {l : Launch} {G : JG} {Q : Int → MH → Prop} {E : Nat → Int → MH → Prop} {h0 : MH} (ki : KI K l G yX7_findLive_2 cX7_findLive_2 7 none [] 8 255 700 Q E h0) (hG : gO G = true) {v1 v2 : Int} {h : MH} (H :
    ((v2 = 0 →
      (v1 ≠ 0) ∧
      (0 ≤ (hv h v1 0)) ∧
      ((hv h v1 0) < 40) ∧
      (∀ h1, h1 = hset h 300 (hv h v1 0) 0 →
      (∀ x3_2 : Int, x3_2 = 0 →
      JW K 151 [(2007, 296), (18, v1), (0, v2), (0, x3_2), (5000, 0), (5000, 0), (5000, 0)] [] h1))) ∧
    (¬ v2 = 0 →
      (∀ x2_3 : Int, x2_3 = 0 →
      (v1 ≠ 0) ∧
      S_X14_size l G [(2014, v1)] h (fun z4 h5 =>
      (∀ x3_6 : Int, x3_6 = (w32 (z4 - 1)) →
      JW K 15 [(2007, 296), (18, v1), (0, x2_3), (0, x3_6), (5000, 0), (5000, 0), (5000, 0)] [] h5)) E)))) : JW K 2 [(2007, 296), (18, v1), (0, v2), (5000, 0), (5000, 0), (5000, 0), (5000, 0)] [] h := by
  have e1 := ki.2.2.2.2.1
  have e2 := ki.2.2.2.2.2.1
  subst e1; subst e2
  exact run_ok (dia := [(46, 61), (111, 119)]) (cnr := []) (cuts := [(2, [2007, 18, 0, 5000, 5000, 5000, 5000], []), (15, [2007, 18, 0, 0, 5000, 5000, 5000], []), (151, [2007, 18, 0, 0, 5000, 5000, 5000], [])]) ki.1 (pk_X7_findLive_2 ki hG) ok_X7_findLive_2 (by decide) 12 true _ _ _ _ H
theorem r_X7_findLive_2_15 {K : JC} {l : Launch} {G : JG} {Q : Int → MH → Prop} {E : Nat → Int → MH → Prop} {h0 : MH} (ki : KI K l G yX7_findLive_2 cX7_findLive_2 7 none [] 8 255 700 Q E h0) (hG : gO G = true) {v1 v2 v3 : Int} {h : MH} (H :
    ((v3 < 0 →
      JW K 2 [(2007, 296), (18, v1), (0, v2), (5000, 0), (5000, 0), (5000, 0), (5000, 0)] [] h) ∧
    (0 ≤ v3 →
      (v1 ≠ 0) ∧
      (∀ x4_1 : Int, x4_1 = (w32 ((hv h v1 14) + v3)) →
      S_X7_isReached l G [(2007, 296), (0, x4_1)] h (fun z2 h3 =>
      ((¬ z2 = 0 →
        (v1 ≠ 0) ∧
        ((hv h3 v1 7) ≠ 0) ∧
        (0 ≤ v3) ∧
        (v3 < (hn h3 (hv h3 v1 7))) ∧
        (((hv h3 (hv h3 v1 7) v3) = 3 → (v1 ≠ 0) ∧ ((hv h3 v1 8) ≠ 0) ∧ (0 ≤ v3) ∧ v3 < (hn h3 (hv h3 v1 8)))) ∧
        (∀ x5_4 : Int, x5_4 = (if (hv h3 (hv h3 v1 7) v3) = 3 then (i_shl 1 (hv h3 (hv h3 v1 8) v3)) else 0 : Int) →
        (v1 ≠ 0) ∧
        ((hv h3 v1 7) ≠ 0) ∧
        (0 ≤ v3) ∧
        (v3 < (hn h3 (hv h3 v1 7))) ∧
        (v1 ≠ 0) ∧
        ((hv h3 v1 8) ≠ 0) ∧
        (0 ≤ v3) ∧
        (v3 < (hn h3 (hv h3 v1 8))) ∧
        S_X7_liveBehind l G [(2007, 296), (18, v1), (0, v3), (0, 0)] h3 (fun z5 h6 =>
        S_X7_liveBehind l G [(2007, 296), (18, v1), (0, v3), (0, 1)] h6 (fun z7 h8 =>
        (∀ x6_9 : Int, x6_9 = (i_or (i_or (readsf (hv h3 (hv h3 v1 7) v3) (hv h3 (hv h3 v1 8) v3)) (i_and z5 (i_xor x5_4 (-1)))) z7) →
        (0 ≤ x4_1) ∧
        (x4_1 < 1500) ∧
        (∀ x2_10 : Int, x2_10 = (i_or v2 (if x6_9 = (hv h8 299 x4_1) then 0 else 1 : Int)) →
        (0 ≤ x4_1) ∧
        (x4_1 < 1500) ∧
        (∀ h11, h11 = hset h8 299 x4_1 x6_9 →
        (∀ x3_12 : Int, x3_12 = w32 (v3 + (-1)) →
        JW K 15 [(2007, 296), (18, v1), (0, x2_10), (0, x3_12), (5000, 0), (5000, 0), (5000, 0)] [] h11))))) E) E)) ∧
      (z2 = 0 →
        (∀ x3_13 : Int, x3_13 = w32 (v3 + (-1)) →
        JW K 15 [(2007, 296), (18, v1), (0, v2), (0, x3_13), (5000, 0), (5000, 0), (5000, 0)] [] h3)))) E)))) : JW K 15 [(2007, 296), (18, v1), (0, v2), (0, v3), (5000, 0), (5000, 0), (5000, 0)] [] h := by
  have e1 := ki.2.2.2.2.1
  have e2 := ki.2.2.2.2.2.1
  subst e1; subst e2
  exact run_ok (dia := [(46, 61), (111, 119)]) (cnr := []) (cuts := [(2, [2007, 18, 0, 5000, 5000, 5000, 5000], []), (15, [2007, 18, 0, 0, 5000, 5000, 5000], []), (151, [2007, 18, 0, 0, 5000, 5000, 5000], [])]) ki.1 (pk_X7_findLive_2 ki hG) ok_X7_findLive_2 (by decide) 62 true _ _ _ _ H
theorem r_X7_findLive_2_151 {K : JC} {l : Launch} {G : JG} {Q : Int → MH → Prop} {E : Nat → Int → MH → Prop} {h0 : MH} (ki : KI K l G yX7_findLive_2 cX7_findLive_2 7 none [] 8 255 700 Q E h0) (hG : gO G = true) {v1 v2 v3 : Int} {h : MH} (H :
    (v1 ≠ 0) ∧
    S_X14_size l G [(2014, v1)] h (fun z1 h2 =>
    ((z1 ≤ v3 →
      Q 0 h2) ∧
    (v3 < z1 →
      (v1 ≠ 0) ∧
      ((hv h2 v1 7) ≠ 0) ∧
      (0 ≤ v3) ∧
      (v3 < (hn h2 (hv h2 v1 7))) ∧
      ((¬ (hv h2 (hv h2 v1 7) v3) = 3 →
        (∀ x3_3 : Int, x3_3 = w32 (v3 + 1) →
        JW K 151 [(2007, 296), (18, v1), (0, v2), (0, x3_3), (5000, 0), (5000, 0), (5000, 0)] [] h2)) ∧
      ((hv h2 (hv h2 v1 7) v3) = 3 →
        (v1 ≠ 0) ∧
        S_X7_isReached l G [(2007, 296), (0, (w32 ((hv h2 v1 14) + v3)))] h2 (fun z4 h5 =>
        ((z4 = 0 →
          (∀ x3_6 : Int, x3_6 = w32 (v3 + 1) →
          JW K 151 [(2007, 296), (18, v1), (0, v2), (0, x3_6), (5000, 0), (5000, 0), (5000, 0)] [] h5)) ∧
        (¬ z4 = 0 →
          S_X7_liveBehind l G [(2007, 296), (18, v1), (0, v3), (0, 0)] h5 (fun z7 h8 =>
          (v1 ≠ 0) ∧
          ((hv h8 v1 8) ≠ 0) ∧
          (0 ≤ v3) ∧
          (v3 < (hn h8 (hv h8 v1 8))) ∧
          ((¬ (i_and (i_shr z7 (hv h8 (hv h8 v1 8) v3)) 1) = 0 →
            (∀ x3_9 : Int, x3_9 = w32 (v3 + 1) →
            JW K 151 [(2007, 296), (18, v1), (0, v2), (0, x3_9), (5000, 0), (5000, 0), (5000, 0)] [] h8)) ∧
          ((i_and (i_shr z7 (hv h8 (hv h8 v1 8) v3)) 1) = 0 →
            (v1 ≠ 0) ∧
            (0 ≤ (hv h8 v1 0)) ∧
            ((hv h8 v1 0) < 40) ∧
            (0 ≤ (hv h8 v1 0)) ∧
            ((hv h8 v1 0) < 40) ∧
            (∀ h10, h10 = hset h8 300 (hv h8 v1 0) (w32 ((hv h8 300 (hv h8 v1 0)) + 1)) →
            (∀ x3_11 : Int, x3_11 = w32 (v3 + 1) →
            JW K 151 [(2007, 296), (18, v1), (0, v2), (0, x3_11), (5000, 0), (5000, 0), (5000, 0)] [] h10))))) E))) E))))) E) : JW K 151 [(2007, 296), (18, v1), (0, v2), (0, v3), (5000, 0), (5000, 0), (5000, 0)] [] h := by
  have e1 := ki.2.2.2.2.1
  have e2 := ki.2.2.2.2.2.1
  subst e1; subst e2
  exact run_ok (dia := [(46, 61), (111, 119)]) (cnr := []) (cuts := [(2, [2007, 18, 0, 5000, 5000, 5000, 5000], []), (15, [2007, 18, 0, 0, 5000, 5000, 5000], []), (151, [2007, 18, 0, 0, 5000, 5000, 5000], [])]) ki.1 (pk_X7_findLive_2 ki hG) ok_X7_findLive_2 (by decide) 43 true _ _ _ _ H
abbrev k_X7_liveBehind : List (Nat × List (Nat × Instr)) := [(43, [(0, .aload_n 1), (1, .getfield 88), (4, .iload_n 2), (5, .iadd), (6, .istore 4), (8, .iconst 0), (9, .istore 5), (11, .iload_n 3), (12, .ifCond .eq 127), (15, .aload_n 0), (16, .getfield 46), (19, .getfield 143), (22, .iload 4), (24, .laload), (25, .lstore 6), (27, .aload_n 1), (28, .getfield 146), (31, .astore 8), (33, .aload 8), (35, .arraylength), (36, .istore 9), (38, .iconst 0), (39, .istore 10), (41, .iload 10)]),
  (96, [(43, .iload 9), (45, .if_icmp .ge 91), (48, .aload 8), (50, .iload 10), (52, .aaload), (53, .astore 11), (55, .iload_n 2), (56, .aload 11), (58, .getfield 150), (61, .if_icmp .lt 69), (64, .iload_n 2), (65, .aload 11), (67, .getfield 155), (70, .if_icmp .lt 6), (73, .goto 57), (76, .aload_n 0), (77, .getfield 42), (80, .lload 6), (82, .aload 11), (84, .getfield 158), (87, .invokevirtual 161), (90, .lstore 12), (92, .lload 6), (94, .lload 12)]),
  (140, [(96, .ldc2_w 165), (99, .lxor), (100, .land), (101, .lstore 6), (103, .lload 12), (105, .lconst 0), (106, .lcmp), (107, .ifCond .eq 23), (110, .iload 5), (112, .aload_n 0), (113, .getfield 19), (116, .aload_n 1), (117, .getfield 88), (120, .aload 11), (122, .getfield 167), (125, .iadd), (126, .iaload), (127, .ior), (128, .istore 5), (130, .iinc 10 1), (133, .goto (-92)), (136, .iload 5), (138, .ireturn), (139, .iconst 0)]),
  (188, [(140, .istore 6), (142, .iload 6), (144, .aload_n 1), (145, .invokevirtual 170), (148, .if_icmp .ge 40), (151, .aload_n 0), (152, .getfield 46), (155, .aload_n 1), (156, .iload_n 2), (157, .iload 6), (159, .invokevirtual 174), (162, .ifCond .eq 20), (165, .iload 5), (167, .aload_n 0), (168, .getfield 19), (171, .aload_n 1), (172, .getfield 88), (175, .iload 6), (177, .iadd), (178, .iaload), (179, .ior), (180, .istore 5), (182, .iinc 6 1), (185, .goto (-43))]),
  (199, [(188, .iload 5), (190, .ireturn)])]
theorem ok_X7_liveBehind : CodeOK cX7_liveBehind k_X7_liveBehind := okw 0 (by decide +kernel) (okw 43 (by decide +kernel) (okw 96 (by decide +kernel) (okw 140 (by decide +kernel) (okw 188 (by decide +kernel) (okn)))))
abbrev p_X7_liveBehind (l : Launch) (G : JG) : JP := (true, [(19, 7, 5, 2500100, 3), (42, 7, 0, 16, 0), (46, 7, 1, 6, 0), (88, 14, 14, 0, 0), (143, 2, 7, 2500101, 70), (146, 14, 13, 129, 0), (150, 15, 0, 0, 0), (155, 15, 1, 0, 0), (158, 15, 3, 0, 0), (167, 15, 2, 0, 0)], [], [(165, (-1))], [], [], [], [(161, 1, [0, 1, 2012], 1, S_X12_ofClass l G), (170, 1, [2014], 0, S_X14_size l G), (174, 1, [0, 0, 18, 2002], 2, S_X2_goes l G)], false, 0, [])
theorem pk_X7_liveBehind {K : JC} {l : Launch} {G : JG} {Q : Int → MH → Prop} {E : Nat → Int → MH → Prop} {h0 : MH} (ki : KI K l G yX7_liveBehind cX7_liveBehind 14 (some .int) [] 7 222 0 Q E h0) (hG : gO G = true) : POK K RX7 (p_X7_liveBehind l G) :=
  POKi (y := yX7_liveBehind) ki hG (rfs rf_X7_ok (by decide +kernel)) fmz (subs (by decide +kernel) rl_X7_ok) fmz fmz fmz
  (pkE ki (by
    intro K e1 e2 e3 e4; subst e1; subst e2
    exact fmE (ceV 12 e3 e4 yl_X12_ofClass ⟨by decide, ⟨_, _, rfl⟩, q1438, q1439, q1640⟩ rfl) (fmE (ceV 14 e3 e4 yl_X14_size ⟨by decide, ⟨_, _, rfl⟩, q1040, q1041, q1632⟩ rfl) (fmE (ceV 2 e3 e4 yl_X2_goes ⟨by decide, ⟨_, _, rfl⟩, q1643, q1644, q1642⟩ rfl) (fmz))))) (fun z => Bool.noConfusion z) rfl (pkP ki (by
    intro K e1 e2 e3 e4; subst e1; subst e2
    exact fmz))
theorem r_X7_liveBehind_0 {K : JC} {l : Launch} {G : JG} {Q : Int → MH → Prop} {E : Nat → Int → MH → Prop} {h0 : MH} (ki : KI K l G yX7_liveBehind cX7_liveBehind 14 (some .int) [] 7 222 0 Q E h0) (hG : gO G = true) {v1 v2 v3 : Int} {h : MH} (H :
    (v1 ≠ 0) ∧
    (∀ x4_1 : Int, x4_1 = (w32 ((hv h v1 14) + v2)) →
    (∀ x5_2 : Int, x5_2 = 0 →
    ((v3 = 0 →
      (∀ x6_3 : Int, x6_3 = 0 →
      JW K 142 [(2007, 296), (18, v1), (0, v2), (0, v3), (0, x4_1), (0, x5_2), (0, x6_3), (5000, 0), (5000, 0), (5000, 0), (5000, 0), (5000, 0), (5000, 0), (5000, 0)] [] h)) ∧
    (¬ v3 = 0 →
      ((hv h 296 1) ≠ 0) ∧
      (0 ≤ x4_1) ∧
      (x4_1 < 1500) ∧
      (∀ x6_4 : Int, x6_4 = (hv h ((hv h 296 1) + 70) x4_1) →
      (v1 ≠ 0) ∧
      (∀ x8_5 : Int, x8_5 = (hv h v1 13) →
      (x8_5 ≠ 0) ∧
      (∀ x9_6 : Int, x9_6 = (hn h x8_5) →
      (∀ x10_7 : Int, x10_7 = 0 →
      JW K 41 [(2007, 296), (18, v1), (0, v2), (0, v3), (0, x4_1), (0, x5_2), (1, x6_4), (5000, 0), (129, x8_5), (0, x9_6), (0, x10_7), (5000, 0), (5000, 0), (5000, 0)] [] h))))))))) : JW K 0 [(2007, 296), (18, v1), (0, v2), (0, v3), (5000, 0), (5000, 0), (5000, 0), (5000, 0), (5000, 0), (5000, 0), (5000, 0), (5000, 0), (5000, 0), (5000, 0)] [] h := by
  have e1 := ki.2.2.2.2.1
  have e2 := ki.2.2.2.2.2.1
  subst e1; subst e2
  exact run_ok (dia := []) (cnr := []) (cuts := [(41, [2007, 18, 0, 0, 0, 0, 1, 5000, 129, 0, 0, 5000, 5000, 5000], []), (142, [2007, 18, 0, 0, 0, 0, 0, 5000, 5000, 5000, 5000, 5000, 5000, 5000], [])]) ki.1 (pk_X7_liveBehind ki hG) ok_X7_liveBehind (by decide) 25 true _ _ _ _ H
theorem r_X7_liveBehind_41 {K : JC} {l : Launch} {G : JG} {Q : Int → MH → Prop} {E : Nat → Int → MH → Prop} {h0 : MH} (ki : KI K l G yX7_liveBehind cX7_liveBehind 14 (some .int) [] 7 222 0 Q E h0) (hG : gO G = true) {v1 v2 v3 v4 v5 v6 v8 v9 v10 : Int} {h : MH} (H :
    ((v9 ≤ v10 →
      Q v5 h) ∧
    (v10 < v9 →
      (v8 ≠ 0) ∧
      (0 ≤ v10) ∧
      (v10 < (hn h v8)) ∧
      (∀ x11_1 : Int, x11_1 = (hv h v8 v10) →
      (x11_1 ≠ 0) ∧
      ((v2 < (hv h x11_1 0) →
        (∀ x10_2 : Int, x10_2 = w32 (v10 + 1) →
        JW K 41 [(2007, 296), (18, v1), (0, v2), (0, v3), (0, v4), (0, v5), (1, v6), (5000, 0), (129, v8), (0, v9), (0, x10_2), (5000, 0), (5000, 0), (5000, 0)] [] h)) ∧
      ((hv h x11_1 0) ≤ v2 →
        (x11_1 ≠ 0) ∧
        ((v2 < (hv h x11_1 1) →
          (x11_1 ≠ 0) ∧
          ((hv h 296 0) ≠ 0) ∧
          S_X12_ofClass l G [(2012, (hv h 296 0)), (1, v6), (0, (hv h x11_1 3))] h (fun z3 h4 =>
          (∀ x12_5 : Int, x12_5 = z3 →
          (∀ x6_6 : Int, x6_6 = (l_and v6 (l_xor x12_5 (-1))) →
          (((lc x12_5 0) = 0 →
            (∀ x10_7 : Int, x10_7 = w32 (v10 + 1) →
            JW K 41 [(2007, 296), (18, v1), (0, v2), (0, v3), (0, v4), (0, v5), (1, x6_6), (5000, 0), (129, v8), (0, v9), (0, x10_7), (5000, 0), (5000, 0), (5000, 0)] [] h4)) ∧
          (¬ (lc x12_5 0) = 0 →
            (v1 ≠ 0) ∧
            (x11_1 ≠ 0) ∧
            (0 ≤ (w32 ((hv h4 v1 14) + (hv h4 x11_1 2)))) ∧
            ((w32 ((hv h4 v1 14) + (hv h4 x11_1 2))) < 1500) ∧
            (∀ x5_8 : Int, x5_8 = (i_or v5 (hv h4 299 (w32 ((hv h4 v1 14) + (hv h4 x11_1 2))))) →
            (∀ x10_9 : Int, x10_9 = w32 (v10 + 1) →
            JW K 41 [(2007, 296), (18, v1), (0, v2), (0, v3), (0, v4), (0, x5_8), (1, x6_6), (5000, 0), (129, v8), (0, v9), (0, x10_9), (5000, 0), (5000, 0), (5000, 0)] [] h4))))))) E) ∧
        ((hv h x11_1 1) ≤ v2 →
          (∀ x10_10 : Int, x10_10 = w32 (v10 + 1) →
          JW K 41 [(2007, 296), (18, v1), (0, v2), (0, v3), (0, v4), (0, v5), (1, v6), (5000, 0), (129, v8), (0, v9), (0, x10_10), (5000, 0), (5000, 0), (5000, 0)] [] h))))))))) : JW K 41 [(2007, 296), (18, v1), (0, v2), (0, v3), (0, v4), (0, v5), (1, v6), (5000, 0), (129, v8), (0, v9), (0, v10), (5000, 0), (5000, 0), (5000, 0)] [] h := by
  have e1 := ki.2.2.2.2.1
  have e2 := ki.2.2.2.2.2.1
  subst e1; subst e2
  exact run_ok (dia := []) (cnr := []) (cuts := [(41, [2007, 18, 0, 0, 0, 0, 1, 5000, 129, 0, 0, 5000, 5000, 5000], []), (142, [2007, 18, 0, 0, 0, 0, 0, 5000, 5000, 5000, 5000, 5000, 5000, 5000], [])]) ki.1 (pk_X7_liveBehind ki hG) ok_X7_liveBehind (by decide) 47 true _ _ _ _ H
theorem r_X7_liveBehind_142 {K : JC} {l : Launch} {G : JG} {Q : Int → MH → Prop} {E : Nat → Int → MH → Prop} {h0 : MH} (ki : KI K l G yX7_liveBehind cX7_liveBehind 14 (some .int) [] 7 222 0 Q E h0) (hG : gO G = true) {v1 v2 v3 v4 v5 v6 : Int} {h : MH} (H :
    (v1 ≠ 0) ∧
    S_X14_size l G [(2014, v1)] h (fun z1 h2 =>
    ((z1 ≤ v6 →
      Q v5 h2) ∧
    (v6 < z1 →
      ((hv h2 296 1) ≠ 0) ∧
      S_X2_goes l G [(2002, (hv h2 296 1)), (18, v1), (0, v2), (0, v6)] h2 (fun z3 h4 =>
      ((z3 = 0 →
        (∀ x6_5 : Int, x6_5 = w32 (v6 + 1) →
        JW K 142 [(2007, 296), (18, v1), (0, v2), (0, v3), (0, v4), (0, v5), (0, x6_5), (5000, 0), (5000, 0), (5000, 0), (5000, 0), (5000, 0), (5000, 0), (5000, 0)] [] h4)) ∧
      (¬ z3 = 0 →
        (v1 ≠ 0) ∧
        (0 ≤ (w32 ((hv h4 v1 14) + v6))) ∧
        ((w32 ((hv h4 v1 14) + v6)) < 1500) ∧
        (∀ x5_6 : Int, x5_6 = (i_or v5 (hv h4 299 (w32 ((hv h4 v1 14) + v6)))) →
        (∀ x6_7 : Int, x6_7 = w32 (v6 + 1) →
        JW K 142 [(2007, 296), (18, v1), (0, v2), (0, v3), (0, v4), (0, x5_6), (0, x6_7), (5000, 0), (5000, 0), (5000, 0), (5000, 0), (5000, 0), (5000, 0), (5000, 0)] [] h4))))) E))) E) : JW K 142 [(2007, 296), (18, v1), (0, v2), (0, v3), (0, v4), (0, v5), (0, v6), (5000, 0), (5000, 0), (5000, 0), (5000, 0), (5000, 0), (5000, 0), (5000, 0)] [] h := by
  have e1 := ki.2.2.2.2.1
  have e2 := ki.2.2.2.2.2.1
  subst e1; subst e2
  exact run_ok (dia := []) (cnr := []) (cuts := [(41, [2007, 18, 0, 0, 0, 0, 1, 5000, 129, 0, 0, 5000, 5000, 5000], []), (142, [2007, 18, 0, 0, 0, 0, 0, 5000, 5000, 5000, 5000, 5000, 5000, 5000], [])]) ki.1 (pk_X7_liveBehind ki hG) ok_X7_liveBehind (by decide) 25 true _ _ _ _ H
abbrev k_X7_findTouched : List (Nat × List (Nat × Instr)) := [(40, [(0, .aload_n 0), (1, .lconst 0), (2, .putfield 198), (5, .iconst 0), (6, .istore_n 2), (7, .iload_n 2), (8, .aload_n 0), (9, .getfield 42), (12, .getfield 66), (15, .arraylength), (16, .if_icmp .ge 33), (19, .aload_n 0), (20, .getfield 42), (23, .aload_n 1), (24, .iload_n 2), (25, .invokestatic 202), (28, .ifCond .ne 15), (31, .aload_n 0), (32, .dup), (33, .getfield 198), (36, .lconst 1), (37, .iload_n 2), (38, .lshl), (39, .lor)]),
  (85, [(40, .putfield 198), (43, .iinc 2 1), (46, .goto (-39)), (49, .iconst 0), (50, .istore_n 2), (51, .iload_n 2), (52, .bipush 40), (54, .if_icmp .ge 16), (57, .aload_n 0), (58, .getfield 31), (61, .iload_n 2), (62, .lconst 0), (63, .lastore), (64, .iinc 2 1), (67, .goto (-16)), (70, .iconst 0), (71, .istore_n 2), (72, .iload_n 2), (73, .aload_n 0), (74, .getfield 42), (77, .getfield 106), (80, .if_icmp .ge 43), (83, .aload_n 0), (84, .iload_n 2)]),
  (131, [(85, .invokevirtual 109), (88, .ifCond .eq 29), (91, .aload_n 0), (92, .getfield 31), (95, .aload_n 0), (96, .getfield 42), (99, .getfield 80), (102, .iload_n 2), (103, .iaload), (104, .dup2), (105, .laload), (106, .aload_n 0), (107, .getfield 46), (110, .getfield 117), (113, .iload_n 2), (114, .laload), (115, .lor), (116, .lastore), (117, .iinc 2 1), (120, .goto (-48)), (123, .aload_n 0), (124, .aload_n 0), (125, .getfield 198), (128, .putfield 206)]),
  (174, [(131, .lconst 0), (132, .lstore_n 2), (133, .lload_n 2), (134, .aload_n 0), (135, .getfield 206), (138, .lcmp), (139, .ifCond .eq 63), (142, .aload_n 0), (143, .getfield 206), (146, .lstore_n 2), (147, .iconst 0), (148, .istore 4), (150, .iload 4), (152, .aload_n 0), (153, .getfield 42), (156, .getfield 66), (159, .arraylength), (160, .if_icmp .ge 39), (163, .aload_n 0), (164, .getfield 31), (167, .iload 4), (169, .laload), (170, .aload_n 0), (171, .getfield 206)]),
  (211, [(174, .land), (175, .lconst 0), (176, .lcmp), (177, .ifCond .eq 16), (180, .aload_n 0), (181, .dup), (182, .getfield 206), (185, .lconst 1), (186, .iload 4), (188, .lshl), (189, .lor), (190, .putfield 206), (193, .iinc 4 1), (196, .goto (-46)), (199, .goto (-66)), (202, .return_)])]
theorem ok_X7_findTouched : CodeOK cX7_findTouched k_X7_findTouched := okw 0 (by decide +kernel) (okw 40 (by decide +kernel) (okw 85 (by decide +kernel) (okw 131 (by decide +kernel) (okw 174 (by decide +kernel) (okn)))))
abbrev p_X7_findTouched (l : Launch) (G : JG) : JP := (true, [(31, 7, 9, 1040101, 7), (42, 7, 0, 16, 0), (46, 7, 1, 6, 0), (66, 12, 6, 128, 0), (80, 12, 11, 104, 0), (106, 12, 7, 0, 0), (117, 2, 8, 2500101, 71), (198, 7, 11, 1, 0), (206, 7, 12, 1, 0)], [], [], [(198, 7, 11, 1), (206, 7, 12, 1)], [], [], [(109, 1, [0, 2007], 2, S_X7_isReached l G), (202, 0, [0, 16, 16], 2, S_X7_areSame l G)], false, 700, [])
theorem pk_X7_findTouched {K : JC} {l : Launch} {G : JG} {Q : Int → MH → Prop} {E : Nat → Int → MH → Prop} {h0 : MH} (ki : KI K l G yX7_findTouched cX7_findTouched 5 none [] 5 176 700 Q E h0) (hG : gO G = true) : POK K RX7 (p_X7_findTouched l G) :=
  POKi (y := yX7_findTouched) ki hG (rfs rf_X7_ok (by decide +kernel)) fmz fmz (rps rp_X7_ok (by decide +kernel)) fmz fmz
  (pkE ki (by
    intro K e1 e2 e3 e4; subst e1; subst e2
    exact fmE (ceV 7 e3 e4 yl_X7_isReached ⟨by decide, ⟨_, _, rfl⟩, q1602, qs61, q1600⟩ rfl) (fmE (ceS e3 e4 yl_X7_areSame ⟨q1651, Or.inl q1650⟩ rfl) (fmz)))) (fun z => Bool.noConfusion z) rfl (pkP ki (by
    intro K e1 e2 e3 e4; subst e1; subst e2
    exact fmz))
theorem r_X7_findTouched_0 {K : JC} {l : Launch} {G : JG} {Q : Int → MH → Prop} {E : Nat → Int → MH → Prop} {h0 : MH} (ki : KI K l G yX7_findTouched cX7_findTouched 5 none [] 5 176 700 Q E h0) (hG : gO G = true) {v1 : Int} {h : MH} (H :
    (∀ h1, h1 = hset h 296 11 0 →
    (∀ x2_2 : Int, x2_2 = 0 →
    JW K 7 [(2007, 296), (16, v1), (0, x2_2), (5000, 0), (5000, 0)] [] h1))) : JW K 0 [(2007, 296), (16, v1), (5000, 0), (5000, 0), (5000, 0)] [] h := by
  have e1 := ki.2.2.2.2.1
  have e2 := ki.2.2.2.2.2.1
  subst e1; subst e2
  exact run_ok (dia := []) (cnr := []) (cuts := [(7, [2007, 16, 0, 5000, 5000], []), (51, [2007, 16, 0, 5000, 5000], []), (72, [2007, 16, 0, 5000, 5000], []), (133, [2007, 16, 1, 5000, 5000], []), (150, [2007, 16, 1, 5000, 0], [])]) ki.1 (pk_X7_findTouched ki hG) ok_X7_findTouched (by decide) 7 true _ _ _ _ H
theorem r_X7_findTouched_7 {K : JC} {l : Launch} {G : JG} {Q : Int → MH → Prop} {E : Nat → Int → MH → Prop} {h0 : MH} (ki : KI K l G yX7_findTouched cX7_findTouched 5 none [] 5 176 700 Q E h0) (hG : gO G = true) {v1 v2 : Int} {h : MH} (H :
    ((hv h 296 0) ≠ 0) ∧
    ((hv h (hv h 296 0) 6) ≠ 0) ∧
    (((hn h (hv h (hv h 296 0) 6)) ≤ v2 →
      (∀ x2_1 : Int, x2_1 = 0 →
      JW K 51 [(2007, 296), (16, v1), (0, x2_1), (5000, 0), (5000, 0)] [] h)) ∧
    (v2 < (hn h (hv h (hv h 296 0) 6)) →
      S_X7_areSame l G [(16, (hv h 296 0)), (16, v1), (0, v2)] h (fun z2 h3 =>
      ((¬ z2 = 0 →
        (∀ x2_4 : Int, x2_4 = w32 (v2 + 1) →
        JW K 7 [(2007, 296), (16, v1), (0, x2_4), (5000, 0), (5000, 0)] [] h3)) ∧
      (z2 = 0 →
        (∀ h5, h5 = hset h3 296 11 (l_or (hv h3 296 11) (l_shl 1 v2)) →
        (∀ x2_6 : Int, x2_6 = w32 (v2 + 1) →
        JW K 7 [(2007, 296), (16, v1), (0, x2_6), (5000, 0), (5000, 0)] [] h5))))) E))) : JW K 7 [(2007, 296), (16, v1), (0, v2), (5000, 0), (5000, 0)] [] h := by
  have e1 := ki.2.2.2.2.1
  have e2 := ki.2.2.2.2.2.1
  subst e1; subst e2
  exact run_ok (dia := []) (cnr := []) (cuts := [(7, [2007, 16, 0, 5000, 5000], []), (51, [2007, 16, 0, 5000, 5000], []), (72, [2007, 16, 0, 5000, 5000], []), (133, [2007, 16, 1, 5000, 5000], []), (150, [2007, 16, 1, 5000, 0], [])]) ki.1 (pk_X7_findTouched ki hG) ok_X7_findTouched (by decide) 24 true _ _ _ _ H
theorem r_X7_findTouched_51 {K : JC} {l : Launch} {G : JG} {Q : Int → MH → Prop} {E : Nat → Int → MH → Prop} {h0 : MH} (ki : KI K l G yX7_findTouched cX7_findTouched 5 none [] 5 176 700 Q E h0) (hG : gO G = true) {v1 v2 : Int} {h : MH} (H :
    ((40 ≤ v2 →
      (∀ x2_1 : Int, x2_1 = 0 →
      JW K 72 [(2007, 296), (16, v1), (0, x2_1), (5000, 0), (5000, 0)] [] h)) ∧
    (v2 < 40 →
      (0 ≤ v2) ∧
      (v2 < 40) ∧
      (∀ h2, h2 = hset h 303 v2 0 →
      (∀ x2_3 : Int, x2_3 = w32 (v2 + 1) →
      JW K 51 [(2007, 296), (16, v1), (0, x2_3), (5000, 0), (5000, 0)] [] h2))))) : JW K 51 [(2007, 296), (16, v1), (0, v2), (5000, 0), (5000, 0)] [] h := by
  have e1 := ki.2.2.2.2.1
  have e2 := ki.2.2.2.2.2.1
  subst e1; subst e2
  exact run_ok (dia := []) (cnr := []) (cuts := [(7, [2007, 16, 0, 5000, 5000], []), (51, [2007, 16, 0, 5000, 5000], []), (72, [2007, 16, 0, 5000, 5000], []), (133, [2007, 16, 1, 5000, 5000], []), (150, [2007, 16, 1, 5000, 0], [])]) ki.1 (pk_X7_findTouched ki hG) ok_X7_findTouched (by decide) 12 true _ _ _ _ H
theorem r_X7_findTouched_72 {K : JC} {l : Launch} {G : JG} {Q : Int → MH → Prop} {E : Nat → Int → MH → Prop} {h0 : MH} (ki : KI K l G yX7_findTouched cX7_findTouched 5 none [] 5 176 700 Q E h0) (hG : gO G = true) {v1 v2 : Int} {h : MH} (H :
    ((hv h 296 0) ≠ 0) ∧
    (((hv h (hv h 296 0) 7) ≤ v2 →
      (∀ h1, h1 = hset h 296 12 (hv h 296 11) →
      (∀ x2_2 : Int, x2_2 = 0 →
      JW K 133 [(2007, 296), (16, v1), (1, x2_2), (5000, 0), (5000, 0)] [] h1))) ∧
    (v2 < (hv h (hv h 296 0) 7) →
      S_X7_isReached l G [(2007, 296), (0, v2)] h (fun z3 h4 =>
      ((z3 = 0 →
        (∀ x2_5 : Int, x2_5 = w32 (v2 + 1) →
        JW K 72 [(2007, 296), (16, v1), (0, x2_5), (5000, 0), (5000, 0)] [] h4)) ∧
      (¬ z3 = 0 →
        ((hv h4 296 0) ≠ 0) ∧
        ((hv h4 (hv h4 296 0) 11) ≠ 0) ∧
        (0 ≤ v2) ∧
        (v2 < (hn h4 (hv h4 (hv h4 296 0) 11))) ∧
        (0 ≤ (hv h4 (hv h4 (hv h4 296 0) 11) v2)) ∧
        ((hv h4 (hv h4 (hv h4 296 0) 11) v2) < 40) ∧
        ((hv h4 296 1) ≠ 0) ∧
        (0 ≤ v2) ∧
        (v2 < 1500) ∧
        (0 ≤ (hv h4 (hv h4 (hv h4 296 0) 11) v2)) ∧
        ((hv h4 (hv h4 (hv h4 296 0) 11) v2) < 40) ∧
        (∀ h6, h6 = hset h4 303 (hv h4 (hv h4 (hv h4 296 0) 11) v2) (l_or (hv h4 303 (hv h4 (hv h4 (hv h4 296 0) 11) v2)) (hv h4 ((hv h4 296 1) + 71) v2)) →
        (∀ x2_7 : Int, x2_7 = w32 (v2 + 1) →
        JW K 72 [(2007, 296), (16, v1), (0, x2_7), (5000, 0), (5000, 0)] [] h6))))) E))) : JW K 72 [(2007, 296), (16, v1), (0, v2), (5000, 0), (5000, 0)] [] h := by
  have e1 := ki.2.2.2.2.1
  have e2 := ki.2.2.2.2.2.1
  subst e1; subst e2
  exact run_ok (dia := []) (cnr := []) (cuts := [(7, [2007, 16, 0, 5000, 5000], []), (51, [2007, 16, 0, 5000, 5000], []), (72, [2007, 16, 0, 5000, 5000], []), (133, [2007, 16, 1, 5000, 5000], []), (150, [2007, 16, 1, 5000, 0], [])]) ki.1 (pk_X7_findTouched ki hG) ok_X7_findTouched (by decide) 29 true _ _ _ _ H
theorem r_X7_findTouched_133 {K : JC} {l : Launch} {G : JG} {Q : Int → MH → Prop} {E : Nat → Int → MH → Prop} {h0 : MH} (ki : KI K l G yX7_findTouched cX7_findTouched 5 none [] 5 176 700 Q E h0) (hG : gO G = true) {v1 v2 : Int} {h : MH} (H :
    (((lc v2 (hv h 296 12)) = 0 →
      Q 0 h) ∧
    (¬ (lc v2 (hv h 296 12)) = 0 →
      (∀ x2_1 : Int, x2_1 = (hv h 296 12) →
      (∀ x4_2 : Int, x4_2 = 0 →
      JW K 150 [(2007, 296), (16, v1), (1, x2_1), (5000, 0), (0, x4_2)] [] h))))) : JW K 133 [(2007, 296), (16, v1), (1, v2), (5000, 0), (5000, 0)] [] h := by
  have e1 := ki.2.2.2.2.1
  have e2 := ki.2.2.2.2.2.1
  subst e1; subst e2
  exact run_ok (dia := []) (cnr := []) (cuts := [(7, [2007, 16, 0, 5000, 5000], []), (51, [2007, 16, 0, 5000, 5000], []), (72, [2007, 16, 0, 5000, 5000], []), (133, [2007, 16, 1, 5000, 5000], []), (150, [2007, 16, 1, 5000, 0], [])]) ki.1 (pk_X7_findTouched ki hG) ok_X7_findTouched (by decide) 12 true _ _ _ _ H
theorem r_X7_findTouched_150 {K : JC} {l : Launch} {G : JG} {Q : Int → MH → Prop} {E : Nat → Int → MH → Prop} {h0 : MH} (ki : KI K l G yX7_findTouched cX7_findTouched 5 none [] 5 176 700 Q E h0) (hG : gO G = true) {v1 v2 v4 : Int} {h : MH} (H :
    ((hv h 296 0) ≠ 0) ∧
    ((hv h (hv h 296 0) 6) ≠ 0) ∧
    (((hn h (hv h (hv h 296 0) 6)) ≤ v4 →
      JW K 133 [(2007, 296), (16, v1), (1, v2), (5000, 0), (5000, 0)] [] h) ∧
    (v4 < (hn h (hv h (hv h 296 0) 6)) →
      (0 ≤ v4) ∧
      (v4 < 40) ∧
      (((lc (l_and (hv h 303 v4) (hv h 296 12)) 0) = 0 →
        (∀ x4_1 : Int, x4_1 = w32 (v4 + 1) →
        JW K 150 [(2007, 296), (16, v1), (1, v2), (5000, 0), (0, x4_1)] [] h)) ∧
      (¬ (lc (l_and (hv h 303 v4) (hv h 296 12)) 0) = 0 →
        (∀ h2, h2 = hset h 296 12 (l_or (hv h 296 12) (l_shl 1 v4)) →
        (∀ x4_3 : Int, x4_3 = w32 (v4 + 1) →
        JW K 150 [(2007, 296), (16, v1), (1, v2), (5000, 0), (0, x4_3)] [] h2))))))) : JW K 150 [(2007, 296), (16, v1), (1, v2), (5000, 0), (0, v4)] [] h := by
  have e1 := ki.2.2.2.2.1
  have e2 := ki.2.2.2.2.2.1
  subst e1; subst e2
  exact run_ok (dia := []) (cnr := []) (cuts := [(7, [2007, 16, 0, 5000, 5000], []), (51, [2007, 16, 0, 5000, 5000], []), (72, [2007, 16, 0, 5000, 5000], []), (133, [2007, 16, 1, 5000, 5000], []), (150, [2007, 16, 1, 5000, 0], [])]) ki.1 (pk_X7_findTouched ki hG) ok_X7_findTouched (by decide) 28 true _ _ _ _ H
abbrev k_X7_areSame : List (Nat × List (Nat × Instr)) := [(39, [(0, .aload_n 1), (1, .ifnull 12), (4, .iload_n 2), (5, .aload_n 1), (6, .getfield 66), (9, .arraylength), (10, .if_icmp .lt 5), (13, .iconst 0), (14, .ireturn), (15, .aload_n 0), (16, .getfield 66), (19, .iload_n 2), (20, .aaload), (21, .astore_n 3), (22, .aload_n 1), (23, .getfield 66), (26, .iload_n 2), (27, .aaload), (28, .astore 4), (30, .aload_n 3), (31, .getfield 192), (34, .aload_n 3), (35, .getfield 193), (38, .isub)]),
  (87, [(39, .aload 4), (41, .getfield 192), (44, .aload 4), (46, .getfield 193), (49, .isub), (50, .if_icmp .ne 7), (53, .iconst 1), (54, .goto 4), (57, .iconst 0), (58, .istore 5), (60, .iconst 0), (61, .istore 6), (63, .iload 5), (65, .ifCond .eq 58), (68, .iload 6), (70, .aload_n 3), (71, .getfield 192), (74, .aload_n 3), (75, .getfield 193), (78, .isub), (79, .if_icmp .ge 44), (82, .aload_n 0), (83, .getfield 194), (86, .aload_n 3)]),
  (134, [(87, .getfield 193), (90, .iload 6), (92, .iadd), (93, .baload), (94, .aload_n 1), (95, .getfield 194), (98, .aload 4), (100, .getfield 193), (103, .iload 6), (105, .iadd), (106, .baload), (107, .if_icmp .ne 7), (110, .iconst 1), (111, .goto 4), (114, .iconst 0), (115, .istore 5), (117, .iinc 6 1), (120, .goto (-57)), (123, .iload 5), (125, .ireturn)])]
theorem ok_X7_areSame : CodeOK cX7_areSame k_X7_areSame := okw 0 (by decide +kernel) (okw 39 (by decide +kernel) (okw 87 (by decide +kernel) (okn)))
abbrev p_X7_areSame (l : Launch) (G : JG) : JP := (true, [(66, 12, 6, 128, 0), (192, 14, 16, 0, 0), (193, 14, 15, 0, 0), (194, 12, 0, 107, 0)], [], [], [], [], [], [], false, 2, [])
theorem pk_X7_areSame {K : JC} {l : Launch} {G : JG} {Q : Int → MH → Prop} {E : Nat → Int → MH → Prop} {h0 : MH} (ki : KI K l G yX7_areSame cX7_areSame 7 (some .boolean) [] 4 150 2 Q E h0) (hG : gO G = true) : POK K RX7 (p_X7_areSame l G) :=
  POKi (y := yX7_areSame) ki hG (rfs rf_X7_ok (by decide +kernel)) fmz fmz fmz fmz fmz
  (pkE ki (by
    intro K e1 e2 e3 e4; subst e1; subst e2
    exact fmz)) (fun z => Bool.noConfusion z) rfl (pkP ki (by
    intro K e1 e2 e3 e4; subst e1; subst e2
    exact fmz))
theorem r_X7_areSame_0 {K : JC} {l : Launch} {G : JG} {Q : Int → MH → Prop} {E : Nat → Int → MH → Prop} {h0 : MH} (ki : KI K l G yX7_areSame cX7_areSame 7 (some .boolean) [] 4 150 2 Q E h0) (hG : gO G = true) {v0 v1 v2 : Int} {h : MH} (H :
    ((¬ v1 = 0 → (v1 ≠ 0) ∧ (hv h v1 6) ≠ 0)) ∧
    (((v1 = 0 ∨ (hn h (hv h v1 6)) ≤ v2) →
      (((0 : Int) = 0 ∨ (0 : Int) = 1) ∧ Q 0 h)) ∧
    (¬ (v1 = 0 ∨ (hn h (hv h v1 6)) ≤ v2) →
      (v0 ≠ 0) ∧
      ((hv h v0 6) ≠ 0) ∧
      (0 ≤ v2) ∧
      (v2 < (hn h (hv h v0 6))) ∧
      (∀ x3_1 : Int, x3_1 = (hv h (hv h v0 6) v2) →
      (v1 ≠ 0) ∧
      ((hv h v1 6) ≠ 0) ∧
      (0 ≤ v2) ∧
      (v2 < (hn h (hv h v1 6))) ∧
      (∀ x4_2 : Int, x4_2 = (hv h (hv h v1 6) v2) →
      (x3_1 ≠ 0) ∧
      (x3_1 ≠ 0) ∧
      (x4_2 ≠ 0) ∧
      (x4_2 ≠ 0) ∧
      (∀ x5_3 : Int, x5_3 = (if (w32 ((hv h x3_1 16) - (hv h x3_1 15))) = (w32 ((hv h x4_2 16) - (hv h x4_2 15))) then 1 else 0 : Int) →
      (∀ x6_4 : Int, x6_4 = 0 →
      JW K 63 [(16, v0), (16, v1), (0, v2), (18, x3_1), (18, x4_2), (0, x5_3), (0, x6_4)] [] h))))))) : JW K 0 [(16, v0), (16, v1), (0, v2), (5000, 0), (5000, 0), (5000, 0), (5000, 0)] [] h := by
  have e1 := ki.2.2.2.2.1
  have e2 := ki.2.2.2.2.2.1
  subst e1; subst e2
  exact run_ok (dia := [(50, 58), (107, 115)]) (cnr := [(1, 13, 15), (65, 82, 123)]) (cuts := [(63, [16, 16, 0, 18, 18, 0, 0], [])]) ki.1 (pk_X7_areSame ki hG) ok_X7_areSame (by decide) 28 true _ _ _ _ H
theorem r_X7_areSame_63 {K : JC} {l : Launch} {G : JG} {Q : Int → MH → Prop} {E : Nat → Int → MH → Prop} {h0 : MH} (ki : KI K l G yX7_areSame cX7_areSame 7 (some .boolean) [] 4 150 2 Q E h0) (hG : gO G = true) {v0 v1 v2 v3 v4 v5 v6 : Int} {h : MH} (H :
    ((¬ v5 = 0 → (v3 ≠ 0) ∧ v3 ≠ 0)) ∧
    (((¬ v5 = 0 ∧ v6 < (w32 ((hv h v3 16) - (hv h v3 15)))) →
      (v0 ≠ 0) ∧
      (v3 ≠ 0) ∧
      ((hv h v0 0) ≠ 0) ∧
      (0 ≤ (w32 ((hv h v3 15) + v6))) ∧
      ((w32 ((hv h v3 15) + v6)) < (hn h (hv h v0 0))) ∧
      (v1 ≠ 0) ∧
      (v4 ≠ 0) ∧
      ((hv h v1 0) ≠ 0) ∧
      (0 ≤ (w32 ((hv h v4 15) + v6))) ∧
      ((w32 ((hv h v4 15) + v6)) < (hn h (hv h v1 0))) ∧
      (∀ x5_1 : Int, x5_1 = (if (hv h (hv h v0 0) (w32 ((hv h v3 15) + v6))) = (hv h (hv h v1 0) (w32 ((hv h v4 15) + v6))) then 1 else 0 : Int) →
      (∀ x6_2 : Int, x6_2 = w32 (v6 + 1) →
      JW K 63 [(16, v0), (16, v1), (0, v2), (18, v3), (18, v4), (0, x5_1), (0, x6_2)] [] h))) ∧
    (¬ (¬ v5 = 0 ∧ v6 < (w32 ((hv h v3 16) - (hv h v3 15)))) →
      ((v5 = 0 ∨ v5 = 1) ∧ Q v5 h)))) : JW K 63 [(16, v0), (16, v1), (0, v2), (18, v3), (18, v4), (0, v5), (0, v6)] [] h := by
  have e1 := ki.2.2.2.2.1
  have e2 := ki.2.2.2.2.2.1
  subst e1; subst e2
  exact run_ok (dia := [(50, 58), (107, 115)]) (cnr := [(1, 13, 15), (65, 82, 123)]) (cuts := [(63, [16, 16, 0, 18, 18, 0, 0], [])]) ki.1 (pk_X7_areSame ki hG) ok_X7_areSame (by decide) 22 true _ _ _ _ H
abbrev k_X7_together : List (Nat × List (Nat × Instr)) := [(41, [(0, .iconst 0), (1, .istore_n 3), (2, .iload_n 3), (3, .aload_n 0), (4, .getfield 124), (7, .if_icmp .ge 70), (10, .iconst 0), (11, .istore 4), (13, .iload 4), (15, .aload_n 0), (16, .getfield 124), (19, .if_icmp .ge 52), (22, .iload_n 3), (23, .iload 4), (25, .if_icmp .ne 7), (28, .iload_n 3), (29, .ifCond .le 36), (32, .aload_n 0), (33, .getfield 15), (36, .iload_n 3), (37, .laload), (38, .iload_n 1), (39, .lshr), (40, .lconst 1)]),
  (87, [(41, .land), (42, .lconst 1), (43, .lcmp), (44, .ifCond .ne 21), (47, .aload_n 0), (48, .getfield 15), (51, .iload 4), (53, .laload), (54, .iload_n 2), (55, .lshr), (56, .lconst 1), (57, .land), (58, .lconst 1), (59, .lcmp), (60, .ifCond .ne 5), (63, .iconst 1), (64, .ireturn), (65, .iinc 4 1), (68, .goto (-55)), (71, .iinc 3 1), (74, .goto (-72)), (77, .iconst 0), (78, .ireturn)])]
theorem ok_X7_together : CodeOK cX7_together k_X7_together := okw 0 (by decide +kernel) (okw 41 (by decide +kernel) (okn))
abbrev p_X7_together (l : Launch) (G : JG) : JP := (true, [(15, 7, 4, 2501101, 2), (124, 7, 3, 0, 0)], [], [], [], [], [], [], false, 2, [])
theorem pk_X7_together {K : JC} {l : Launch} {G : JG} {Q : Int → MH → Prop} {E : Nat → Int → MH → Prop} {h0 : MH} (ki : KI K l G yX7_together cX7_together 5 (some .boolean) [] 4 150 2 Q E h0) (hG : gO G = true) : POK K RX7 (p_X7_together l G) :=
  POKi (y := yX7_together) ki hG (rfs rf_X7_ok (by decide +kernel)) fmz fmz fmz fmz fmz
  (pkE ki (by
    intro K e1 e2 e3 e4; subst e1; subst e2
    exact fmz)) (fun z => Bool.noConfusion z) rfl (pkP ki (by
    intro K e1 e2 e3 e4; subst e1; subst e2
    exact fmz))
theorem r_X7_together_0 {K : JC} {l : Launch} {G : JG} {Q : Int → MH → Prop} {E : Nat → Int → MH → Prop} {h0 : MH} (ki : KI K l G yX7_together cX7_together 5 (some .boolean) [] 4 150 2 Q E h0) (hG : gO G = true) {v1 v2 : Int} {h : MH} (H :
    (∀ x3_1 : Int, x3_1 = 0 →
    JW K 2 [(2007, 296), (0, v1), (0, v2), (0, x3_1), (5000, 0)] [] h)) : JW K 0 [(2007, 296), (0, v1), (0, v2), (5000, 0), (5000, 0)] [] h := by
  have e1 := ki.2.2.2.2.1
  have e2 := ki.2.2.2.2.2.1
  subst e1; subst e2
  exact run_ok (dia := []) (cnr := [(25, 63, 65)]) (cuts := [(2, [2007, 0, 0, 0, 5000], []), (13, [2007, 0, 0, 0, 0], [])]) ki.1 (pk_X7_together ki hG) ok_X7_together (by decide) 4 true _ _ _ _ H
theorem r_X7_together_2 {K : JC} {l : Launch} {G : JG} {Q : Int → MH → Prop} {E : Nat → Int → MH → Prop} {h0 : MH} (ki : KI K l G yX7_together cX7_together 5 (some .boolean) [] 4 150 2 Q E h0) (hG : gO G = true) {v1 v2 v3 : Int} {h : MH} (H :
    (((hv h 296 3) ≤ v3 →
      (((0 : Int) = 0 ∨ (0 : Int) = 1) ∧ Q 0 h)) ∧
    (v3 < (hv h 296 3) →
      (∀ x4_1 : Int, x4_1 = 0 →
      JW K 13 [(2007, 296), (0, v1), (0, v2), (0, v3), (0, x4_1)] [] h)))) : JW K 2 [(2007, 296), (0, v1), (0, v2), (0, v3), (5000, 0)] [] h := by
  have e1 := ki.2.2.2.2.1
  have e2 := ki.2.2.2.2.2.1
  subst e1; subst e2
  exact run_ok (dia := []) (cnr := [(25, 63, 65)]) (cuts := [(2, [2007, 0, 0, 0, 5000], []), (13, [2007, 0, 0, 0, 0], [])]) ki.1 (pk_X7_together ki hG) ok_X7_together (by decide) 8 true _ _ _ _ H
theorem r_X7_together_13 {K : JC} {l : Launch} {G : JG} {Q : Int → MH → Prop} {E : Nat → Int → MH → Prop} {h0 : MH} (ki : KI K l G yX7_together cX7_together 5 (some .boolean) [] 4 150 2 Q E h0) (hG : gO G = true) {v1 v2 v3 v4 : Int} {h : MH} (H :
    (((hv h 296 3) ≤ v4 →
      (∀ x3_1 : Int, x3_1 = w32 (v3 + 1) →
      JW K 2 [(2007, 296), (0, v1), (0, v2), (0, x3_1), (5000, 0)] [] h)) ∧
    (v4 < (hv h 296 3) →
      ((¬ v3 = v4 → (0 ≤ v3) ∧ (v3 < 1501) ∧ ((lc (l_and (l_shr (hv h 298 v3) v1) 1) 1) = 0 → (0 ≤ v4) ∧ v4 < 1501))) ∧
      ((v3 = v4 → (0 < v3 → (0 ≤ v3) ∧ (v3 < 1501) ∧ ((lc (l_and (l_shr (hv h 298 v3) v1) 1) 1) = 0 → (0 ≤ v4) ∧ v4 < 1501)))) ∧
      ((((¬ v3 = v4 ∧ ((lc (l_and (l_shr (hv h 298 v3) v1) 1) 1) = 0 ∧ (lc (l_and (l_shr (hv h 298 v4) v2) 1) 1) = 0)) ∨ (v3 = v4 ∧ (0 < v3 ∧ ((lc (l_and (l_shr (hv h 298 v3) v1) 1) 1) = 0 ∧ (lc (l_and (l_shr (hv h 298 v4) v2) 1) 1) = 0)))) →
        (((1 : Int) = 0 ∨ (1 : Int) = 1) ∧ Q 1 h)) ∧
      (¬ ((¬ v3 = v4 ∧ ((lc (l_and (l_shr (hv h 298 v3) v1) 1) 1) = 0 ∧ (lc (l_and (l_shr (hv h 298 v4) v2) 1) 1) = 0)) ∨ (v3 = v4 ∧ (0 < v3 ∧ ((lc (l_and (l_shr (hv h 298 v3) v1) 1) 1) = 0 ∧ (lc (l_and (l_shr (hv h 298 v4) v2) 1) 1) = 0)))) →
        (∀ x4_2 : Int, x4_2 = w32 (v4 + 1) →
        JW K 13 [(2007, 296), (0, v1), (0, v2), (0, v3), (0, x4_2)] [] h)))))) : JW K 13 [(2007, 296), (0, v1), (0, v2), (0, v3), (0, v4)] [] h := by
  have e1 := ki.2.2.2.2.1
  have e2 := ki.2.2.2.2.2.1
  subst e1; subst e2
  exact run_ok (dia := []) (cnr := [(25, 63, 65)]) (cuts := [(2, [2007, 0, 0, 0, 5000], []), (13, [2007, 0, 0, 0, 0], [])]) ki.1 (pk_X7_together ki hG) ok_X7_together (by decide) 11 true _ _ _ _ H
abbrev k_X7_countRaces : List (Nat × List (Nat × Instr)) := [(44, [(0, .iload_n 1), (1, .iconst (-1)), (2, .if_icmp .ne 16), (5, .aload_n 0), (6, .getfield 76), (9, .iconst (-1)), (10, .if_icmp .eq 8), (13, .aload_n 0), (14, .getfield 76), (17, .ireturn), (18, .iconst 0), (19, .istore_n 2), (20, .iconst 0), (21, .istore_n 3), (22, .iload_n 3), (23, .aload_n 0), (24, .getfield 42), (27, .getfield 106), (30, .if_icmp .ge 141), (33, .aload_n 0), (34, .iload_n 3), (35, .invokevirtual 218), (38, .ifCond .ne 6), (41, .goto 124)]),
  (92, [(44, .iload_n 3), (45, .istore 4), (47, .iload 4), (49, .aload_n 0), (50, .getfield 42), (53, .getfield 106), (56, .if_icmp .ge 109), (59, .aload_n 0), (60, .iload 4), (62, .invokevirtual 218), (65, .ifCond .eq 94), (68, .aload_n 0), (69, .getfield 39), (72, .aload_n 0), (73, .getfield 42), (76, .getfield 80), (79, .iload_n 3), (80, .iaload), (81, .aaload), (82, .aload_n 0), (83, .getfield 42), (86, .getfield 80), (89, .iload 4), (91, .iaload)]),
  (140, [(92, .baload), (93, .ifCond .eq 66), (96, .aload_n 0), (97, .getfield 46), (100, .getfield 94), (103, .iload_n 3), (104, .aaload), (105, .getfield 221), (108, .aload_n 0), (109, .getfield 46), (112, .getfield 94), (115, .iload 4), (117, .aaload), (118, .getfield 221), (121, .iand), (122, .ifCond .ne 37), (125, .aload_n 0), (126, .iload_n 3), (127, .iload 4), (129, .invokevirtual 224), (132, .ifCond .ne 6), (135, .goto 24), (138, .iload_n 2), (139, .iload_n 1)]),
  (186, [(140, .if_icmp .ne 16), (143, .aload_n 0), (144, .iload_n 3), (145, .putfield 227), (148, .aload_n 0), (149, .iload 4), (151, .putfield 230), (154, .iload_n 2), (155, .ireturn), (156, .iinc 2 1), (159, .iinc 4 1), (162, .goto (-115)), (165, .iinc 3 1), (168, .goto (-146)), (171, .aload_n 0), (172, .iload_n 2), (173, .putfield 76), (176, .iload_n 2), (177, .ireturn)])]
theorem ok_X7_countRaces : CodeOK cX7_countRaces k_X7_countRaces := okw 0 (by decide +kernel) (okw 44 (by decide +kernel) (okw 92 (by decide +kernel) (okw 140 (by decide +kernel) (okn))))
abbrev p_X7_countRaces (l : Launch) (G : JG) : JP := (true, [(39, 7, 13, 1040131, 9), (42, 7, 0, 16, 0), (46, 7, 1, 6, 0), (76, 7, 14, 0, 0), (80, 12, 11, 104, 0), (94, 2, 1, 2500113, 1), (106, 12, 7, 0, 0), (221, 3, 2, 0, 0)], [], [], [(76, 7, 14, 0), (227, 7, 15, 0), (230, 7, 16, 0)], [], [], [(218, 1, [0, 2007], 2, S_X7_isUse l G), (224, 1, [0, 0, 2007], 2, S_X7_meet l G)], false, 0, [])
theorem pk_X7_countRaces {K : JC} {l : Launch} {G : JG} {Q : Int → MH → Prop} {E : Nat → Int → MH → Prop} {h0 : MH} (ki : KI K l G yX7_countRaces cX7_countRaces 5 (some .int) [] 6 198 0 Q E h0) (hG : gO G = true) : POK K RX7 (p_X7_countRaces l G) :=
  POKi (y := yX7_countRaces) ki hG (rfs rf_X7_ok (by decide +kernel)) fmz fmz (rps rp_X7_ok (by decide +kernel)) fmz fmz
  (pkE ki (by
    intro K e1 e2 e3 e4; subst e1; subst e2
    exact fmE (ceV 7 e3 e4 yl_X7_isUse ⟨by decide, ⟨_, _, rfl⟩, q1789, qs74, q1787⟩ rfl) (fmE (ceV 7 e3 e4 yl_X7_meet ⟨by decide, ⟨_, _, rfl⟩, q1793, qs75, q1791⟩ rfl) (fmz)))) (fun z => Bool.noConfusion z) rfl (pkP ki (by
    intro K e1 e2 e3 e4; subst e1; subst e2
    exact fmz))
theorem r_X7_countRaces_0 {K : JC} {l : Launch} {G : JG} {Q : Int → MH → Prop} {E : Nat → Int → MH → Prop} {h0 : MH} (ki : KI K l G yX7_countRaces cX7_countRaces 5 (some .int) [] 6 198 0 Q E h0) (hG : gO G = true) {v1 : Int} {h : MH} (H :
    (((v1 = (-1) ∧ ¬ (hv h 296 14) = (-1)) →
      Q (hv h 296 14) h) ∧
    (¬ (v1 = (-1) ∧ ¬ (hv h 296 14) = (-1)) →
      (∀ x2_1 : Int, x2_1 = 0 →
      (∀ x3_2 : Int, x3_2 = 0 →
      JW K 22 [(2007, 296), (0, v1), (0, x2_1), (0, x3_2), (5000, 0)] [] h))))) : JW K 0 [(2007, 296), (0, v1), (5000, 0), (5000, 0), (5000, 0)] [] h := by
  have e1 := ki.2.2.2.2.1
  have e2 := ki.2.2.2.2.2.1
  subst e1; subst e2
  exact run_ok (dia := []) (cnr := [(2, 13, 18), (65, 125, 159)]) (cuts := [(22, [2007, 0, 0, 0, 5000], []), (47, [2007, 0, 0, 0, 0], [])]) ki.1 (pk_X7_countRaces ki hG) ok_X7_countRaces (by decide) 9 true _ _ _ _ H
theorem r_X7_countRaces_22 {K : JC} {l : Launch} {G : JG} {Q : Int → MH → Prop} {E : Nat → Int → MH → Prop} {h0 : MH} (ki : KI K l G yX7_countRaces cX7_countRaces 5 (some .int) [] 6 198 0 Q E h0) (hG : gO G = true) {v1 v2 v3 : Int} {h : MH} (H :
    ((hv h 296 0) ≠ 0) ∧
    (((hv h (hv h 296 0) 7) ≤ v3 →
      (∀ h1, h1 = hset h 296 14 v2 →
      Q v2 h1)) ∧
    (v3 < (hv h (hv h 296 0) 7) →
      S_X7_isUse l G [(2007, 296), (0, v3)] h (fun z2 h3 =>
      ((¬ z2 = 0 →
        (∀ x4_4 : Int, x4_4 = v3 →
        JW K 47 [(2007, 296), (0, v1), (0, v2), (0, v3), (0, x4_4)] [] h3)) ∧
      (z2 = 0 →
        (∀ x3_5 : Int, x3_5 = w32 (v3 + 1) →
        JW K 22 [(2007, 296), (0, v1), (0, v2), (0, x3_5), (5000, 0)] [] h3)))) E))) : JW K 22 [(2007, 296), (0, v1), (0, v2), (0, v3), (5000, 0)] [] h := by
  have e1 := ki.2.2.2.2.1
  have e2 := ki.2.2.2.2.2.1
  subst e1; subst e2
  exact run_ok (dia := []) (cnr := [(2, 13, 18), (65, 125, 159)]) (cuts := [(22, [2007, 0, 0, 0, 5000], []), (47, [2007, 0, 0, 0, 0], [])]) ki.1 (pk_X7_countRaces ki hG) ok_X7_countRaces (by decide) 14 true _ _ _ _ H
theorem r_X7_countRaces_47 {K : JC} {l : Launch} {G : JG} {Q : Int → MH → Prop} {E : Nat → Int → MH → Prop} {h0 : MH} (ki : KI K l G yX7_countRaces cX7_countRaces 5 (some .int) [] 6 198 0 Q E h0) (hG : gO G = true) {v1 v2 v3 v4 : Int} {h : MH} (H :
    ((hv h 296 0) ≠ 0) ∧
    (((hv h (hv h 296 0) 7) ≤ v4 →
      (∀ x3_1 : Int, x3_1 = w32 (v3 + 1) →
      JW K 22 [(2007, 296), (0, v1), (0, v2), (0, x3_1), (5000, 0)] [] h)) ∧
    (v4 < (hv h (hv h 296 0) 7) →
      S_X7_isUse l G [(2007, 296), (0, v4)] h (fun z2 h3 =>
      ((¬ z2 = 0 → ((hv h3 296 0) ≠ 0) ∧ ((hv h3 (hv h3 296 0) 11) ≠ 0) ∧ (0 ≤ v3) ∧ (v3 < (hn h3 (hv h3 (hv h3 296 0) 11))) ∧ (0 ≤ (hv h3 (hv h3 (hv h3 296 0) 11) v3)) ∧ ((hv h3 (hv h3 (hv h3 296 0) 11) v3) < 40) ∧ ((hv h3 296 0) ≠ 0) ∧ ((hv h3 (hv h3 296 0) 11) ≠ 0) ∧ (0 ≤ v4) ∧ (v4 < (hn h3 (hv h3 (hv h3 296 0) 11))) ∧ ((hv h3 305 (hv h3 (hv h3 (hv h3 296 0) 11) v3)) ≠ 0) ∧ (0 ≤ (hv h3 (hv h3 (hv h3 296 0) 11) v4)) ∧ ((hv h3 (hv h3 (hv h3 296 0) 11) v4) < (hn h3 (hv h3 305 (hv h3 (hv h3 (hv h3 296 0) 11) v3)))) ∧ (¬ (hv h3 (hv h3 305 (hv h3 (hv h3 (hv h3 296 0) 11) v3)) (hv h3 (hv h3 (hv h3 296 0) 11) v4)) = 0 → ((hv h3 296 1) ≠ 0) ∧ (0 ≤ v3) ∧ (v3 < 1500) ∧ ((hv h3 ((hv h3 296 1) + 1) v3) ≠ 0) ∧ ((hv h3 296 1) ≠ 0) ∧ (0 ≤ v4) ∧ (v4 < 1500) ∧ (hv h3 ((hv h3 296 1) + 1) v4) ≠ 0))) ∧
      (((¬ z2 = 0 ∧ (¬ (hv h3 (hv h3 305 (hv h3 (hv h3 (hv h3 296 0) 11) v3)) (hv h3 (hv h3 (hv h3 296 0) 11) v4)) = 0 ∧ (i_and (hv h3 (hv h3 ((hv h3 296 1) + 1) v3) 2) (hv h3 (hv h3 ((hv h3 296 1) + 1) v4) 2)) = 0)) →
        S_X7_meet l G [(2007, 296), (0, v3), (0, v4)] h3 (fun z4 h5 =>
        ((¬ z4 = 0 →
          ((¬ v2 = v1 →
            (∀ x2_6 : Int, x2_6 = w32 (v2 + 1) →
            (∀ x4_7 : Int, x4_7 = w32 (v4 + 1) →
            JW K 47 [(2007, 296), (0, v1), (0, x2_6), (0, v3), (0, x4_7)] [] h5))) ∧
          (v2 = v1 →
            (∀ h8, h8 = hset h5 296 15 v3 →
            (∀ h9, h9 = hset h8 296 16 v4 →
            Q v2 h9))))) ∧
        (z4 = 0 →
          (∀ x4_10 : Int, x4_10 = w32 (v4 + 1) →
          JW K 47 [(2007, 296), (0, v1), (0, v2), (0, v3), (0, x4_10)] [] h5)))) E) ∧
      (¬ (¬ z2 = 0 ∧ (¬ (hv h3 (hv h3 305 (hv h3 (hv h3 (hv h3 296 0) 11) v3)) (hv h3 (hv h3 (hv h3 296 0) 11) v4)) = 0 ∧ (i_and (hv h3 (hv h3 ((hv h3 296 1) + 1) v3) 2) (hv h3 (hv h3 ((hv h3 296 1) + 1) v4) 2)) = 0)) →
        (∀ x4_11 : Int, x4_11 = w32 (v4 + 1) →
        JW K 47 [(2007, 296), (0, v1), (0, v2), (0, v3), (0, x4_11)] [] h3)))) E))) : JW K 47 [(2007, 296), (0, v1), (0, v2), (0, v3), (0, v4)] [] h := by
  have e1 := ki.2.2.2.2.1
  have e2 := ki.2.2.2.2.2.1
  subst e1; subst e2
  exact run_ok (dia := []) (cnr := [(2, 13, 18), (65, 125, 159)]) (cuts := [(22, [2007, 0, 0, 0, 5000], []), (47, [2007, 0, 0, 0, 0], [])]) ki.1 (pk_X7_countRaces ki hG) ok_X7_countRaces (by decide) 26 true _ _ _ _ H
abbrev k_X7_isUse : List (Nat × List (Nat × Instr)) := [(42, [(0, .aload_n 0), (1, .iload_n 1), (2, .invokevirtual 109), (5, .ifCond .eq 27), (8, .aload_n 0), (9, .iload_n 1), (10, .invokevirtual 113), (13, .bipush 23), (15, .if_icmp .lt 17), (18, .aload_n 0), (19, .iload_n 1), (20, .invokevirtual 113), (23, .bipush 28), (25, .if_icmp .gt 7), (28, .iconst 1), (29, .goto 4), (32, .iconst 0), (33, .ireturn)])]
theorem ok_X7_isUse : CodeOK cX7_isUse k_X7_isUse := okw 0 (by decide +kernel) (okn)
abbrev p_X7_isUse (l : Launch) (G : JG) : JP := (true, [], [], [], [], [], [], [(109, 1, [0, 2007], 2, S_X7_isReached l G), (113, 1, [0, 2007], 0, S_X7_op l G)], false, 2, [])
theorem pk_X7_isUse {K : JC} {l : Launch} {G : JG} {Q : Int → MH → Prop} {E : Nat → Int → MH → Prop} {h0 : MH} (ki : KI K l G yX7_isUse cX7_isUse 2 (some .boolean) [] 5 172 2 Q E h0) (hG : gO G = true) : POK K RX7 (p_X7_isUse l G) :=
  POKi (y := yX7_isUse) ki hG fmz fmz fmz fmz fmz fmz
  (pkE ki (by
    intro K e1 e2 e3 e4; subst e1; subst e2
    exact fmE (ceV 7 e3 e4 yl_X7_isReached ⟨by decide, ⟨_, _, rfl⟩, q1602, qs61, q1600⟩ rfl) (fmE (ceV 7 e3 e4 yl_X7_op ⟨by decide, ⟨_, _, rfl⟩, q1606, qs62, q1604⟩ rfl) (fmz)))) (fun z => Bool.noConfusion z) rfl (pkP ki (by
    intro K e1 e2 e3 e4; subst e1; subst e2
    exact fmz))
theorem r_X7_isUse_0 {K : JC} {l : Launch} {G : JG} {Q : Int → MH → Prop} {E : Nat → Int → MH → Prop} {h0 : MH} (ki : KI K l G yX7_isUse cX7_isUse 2 (some .boolean) [] 5 172 2 Q E h0) (hG : gO G = true) {v1 : Int} {h : MH} (H :
    S_X7_isReached l G [(2007, 296), (0, v1)] h (fun z1 h2 =>
    ((z1 = 0 →
      (((0 : Int) = 0 ∨ (0 : Int) = 1) ∧ Q 0 h2)) ∧
    (¬ z1 = 0 →
      S_X7_op l G [(2007, 296), (0, v1)] h2 (fun z3 h4 =>
      ((z3 < 23 →
        (((0 : Int) = 0 ∨ (0 : Int) = 1) ∧ Q 0 h4)) ∧
      (23 ≤ z3 →
        S_X7_op l G [(2007, 296), (0, v1)] h4 (fun z5 h6 =>
        (((if 28 < z5 then 0 else 1 : Int) = 0 ∨ (if 28 < z5 then 0 else 1 : Int) = 1) ∧ Q (if 28 < z5 then 0 else 1 : Int) h6)) E))) E))) E) : JW K 0 [(2007, 296), (0, v1)] [] h := by
  have e1 := ki.2.2.2.2.1
  have e2 := ki.2.2.2.2.2.1
  subst e1; subst e2
  exact run_ok (dia := [(25, 33)]) (cnr := []) (cuts := []) ki.1 (pk_X7_isUse ki hG) ok_X7_isUse (by decide) 16 true _ _ _ _ H
abbrev k_X7_meet : List (Nat × List (Nat × Instr)) := [(47, [(0, .aload_n 0), (1, .iload_n 1), (2, .invokevirtual 113), (5, .istore_n 3), (6, .aload_n 0), (7, .iload_n 2), (8, .invokevirtual 113), (11, .istore 4), (13, .iload_n 3), (14, .bipush 24), (16, .if_icmp .eq 38), (19, .iload_n 3), (20, .bipush 26), (22, .if_icmp .eq 32), (25, .iload_n 3), (26, .bipush 28), (28, .if_icmp .eq 26), (31, .iload 4), (33, .bipush 24), (35, .if_icmp .eq 19), (38, .iload 4), (40, .bipush 26), (42, .if_icmp .eq 12), (45, .iload 4)]),
  (94, [(47, .bipush 28), (49, .if_icmp .eq 5), (52, .iconst 0), (53, .ireturn), (54, .iload_n 3), (55, .bipush 27), (57, .if_icmp .eq 9), (60, .iload_n 3), (61, .bipush 28), (63, .if_icmp .ne 36), (66, .iload 4), (68, .bipush 27), (70, .if_icmp .eq 10), (73, .iload 4), (75, .bipush 28), (77, .if_icmp .ne 20), (80, .aload_n 0), (81, .iload_n 1), (82, .invokevirtual 131), (85, .aload_n 0), (86, .iload_n 2), (87, .invokevirtual 131), (90, .if_icmp .ne 7), (93, .iconst 1)]),
  (138, [(94, .goto 4), (97, .iconst 0), (98, .ireturn), (99, .iload_n 3), (100, .bipush 23), (102, .if_icmp .eq 9), (105, .iload_n 3), (106, .bipush 24), (108, .if_icmp .ne 39), (111, .iload 4), (113, .bipush 23), (115, .if_icmp .eq 10), (118, .iload 4), (120, .bipush 24), (122, .if_icmp .ne 23), (125, .aload_n 0), (126, .iload_n 1), (127, .invokevirtual 212), (130, .aload_n 0), (131, .iload_n 2), (132, .invokevirtual 212), (135, .land), (136, .lconst 0), (137, .lcmp)]),
  (183, [(138, .ifCond .eq 7), (141, .iconst 1), (142, .goto 4), (145, .iconst 0), (146, .ireturn), (147, .aload_n 0), (148, .getfield 42), (151, .getfield 66), (154, .aload_n 0), (155, .getfield 42), (158, .getfield 80), (161, .iload_n 1), (162, .iaload), (163, .aaload), (164, .astore 5), (166, .aload_n 0), (167, .getfield 42), (170, .getfield 66), (173, .aload_n 0), (174, .getfield 42), (177, .getfield 80), (180, .iload_n 2), (181, .iaload), (182, .aaload)]),
  (230, [(183, .astore 6), (185, .iload 4), (187, .bipush 25), (189, .if_icmp .eq 10), (192, .iload 4), (194, .bipush 26), (196, .if_icmp .ne 52), (199, .aload 5), (201, .getfield 215), (204, .iload_n 1), (205, .aload 5), (207, .getfield 88), (210, .isub), (211, .iaload), (212, .aload 6), (214, .getfield 215), (217, .iload_n 2), (218, .aload 6), (220, .getfield 88), (223, .isub), (224, .iaload), (225, .if_icmp .ne 23), (228, .aload_n 0), (229, .iload_n 1)]),
  (258, [(230, .invokevirtual 212), (233, .aload_n 0), (234, .iload_n 2), (235, .invokevirtual 212), (238, .land), (239, .lconst 0), (240, .lcmp), (241, .ifCond .eq 7), (244, .iconst 1), (245, .goto 4), (248, .iconst 0), (249, .ireturn)])]
theorem ok_X7_meet : CodeOK cX7_meet k_X7_meet := okw 0 (by decide +kernel) (okw 47 (by decide +kernel) (okw 94 (by decide +kernel) (okw 138 (by decide +kernel) (okw 183 (by decide +kernel) (okw 230 (by decide +kernel) (okn))))))
abbrev p_X7_meet (l : Launch) (G : JG) : JP := (true, [(42, 7, 0, 16, 0), (66, 12, 6, 128, 0), (80, 12, 11, 104, 0), (88, 14, 14, 0, 0), (215, 14, 9, 104, 0)], [], [], [], [], [], [(113, 1, [0, 2007], 0, S_X7_op l G), (131, 1, [0, 2007], 0, S_X7_x l G), (212, 1, [0, 2007], 1, S_X7_uses l G)], false, 2, [])
theorem pk_X7_meet {K : JC} {l : Launch} {G : JG} {Q : Int → MH → Prop} {E : Nat → Int → MH → Prop} {h0 : MH} (ki : KI K l G yX7_meet cX7_meet 7 (some .boolean) [] 5 172 2 Q E h0) (hG : gO G = true) : POK K RX7 (p_X7_meet l G) :=
  POKi (y := yX7_meet) ki hG (rfs rf_X7_ok (by decide +kernel)) fmz fmz fmz fmz fmz
  (pkE ki (by
    intro K e1 e2 e3 e4; subst e1; subst e2
    exact fmE (ceV 7 e3 e4 yl_X7_op ⟨by decide, ⟨_, _, rfl⟩, q1606, qs62, q1604⟩ rfl) (fmE (ceV 7 e3 e4 yl_X7_x ⟨by decide, ⟨_, _, rfl⟩, q1622, qs66, q1620⟩ rfl) (fmE (ceV 7 e3 e4 yl_X7_uses ⟨by decide, ⟨_, _, rfl⟩, q1797, qs76, q1795⟩ rfl) (fmz))))) (fun z => Bool.noConfusion z) rfl (pkP ki (by
    intro K e1 e2 e3 e4; subst e1; subst e2
    exact fmz))
theorem r_X7_meet_0 {K : JC} {l : Launch} {G : JG} {Q : Int → MH → Prop} {E : Nat → Int → MH → Prop} {h0 : MH} (ki : KI K l G yX7_meet cX7_meet 7 (some .boolean) [] 5 172 2 Q E h0) (hG : gO G = true) {v1 v2 : Int} {h : MH} (H :
    S_X7_op l G [(2007, 296), (0, v1)] h (fun z1 h2 =>
    (∀ x3_3 : Int, x3_3 = z1 →
    S_X7_op l G [(2007, 296), (0, v2)] h2 (fun z4 h5 =>
    (∀ x4_6 : Int, x4_6 = z4 →
    (((¬ x3_3 = 24 ∧ (¬ x3_3 = 26 ∧ (¬ x3_3 = 28 ∧ (¬ x4_6 = 24 ∧ (¬ x4_6 = 26 ∧ ¬ x4_6 = 28))))) →
      (((0 : Int) = 0 ∨ (0 : Int) = 1) ∧ Q 0 h5)) ∧
    (¬ (¬ x3_3 = 24 ∧ (¬ x3_3 = 26 ∧ (¬ x3_3 = 28 ∧ (¬ x4_6 = 24 ∧ (¬ x4_6 = 26 ∧ ¬ x4_6 = 28))))) →
      (((x3_3 = 27 ∨ x3_3 = 28) →
        (((x4_6 = 27 ∨ x4_6 = 28) →
          S_X7_x l G [(2007, 296), (0, v1)] h5 (fun z7 h8 =>
          S_X7_x l G [(2007, 296), (0, v2)] h8 (fun z9 h10 =>
          (((if z7 = z9 then 1 else 0 : Int) = 0 ∨ (if z7 = z9 then 1 else 0 : Int) = 1) ∧ Q (if z7 = z9 then 1 else 0 : Int) h10)) E) E) ∧
        (¬ (x4_6 = 27 ∨ x4_6 = 28) →
          (((0 : Int) = 0 ∨ (0 : Int) = 1) ∧ Q 0 h5)))) ∧
      (¬ (x3_3 = 27 ∨ x3_3 = 28) →
        (((x3_3 = 23 ∨ x3_3 = 24) →
          (((x4_6 = 23 ∨ x4_6 = 24) →
            S_X7_uses l G [(2007, 296), (0, v1)] h5 (fun z11 h12 =>
            S_X7_uses l G [(2007, 296), (0, v2)] h12 (fun z13 h14 =>
            (((if (lc (l_and z11 z13) 0) = 0 then 0 else 1 : Int) = 0 ∨ (if (lc (l_and z11 z13) 0) = 0 then 0 else 1 : Int) = 1) ∧ Q (if (lc (l_and z11 z13) 0) = 0 then 0 else 1 : Int) h14)) E) E) ∧
          (¬ (x4_6 = 23 ∨ x4_6 = 24) →
            (((0 : Int) = 0 ∨ (0 : Int) = 1) ∧ Q 0 h5)))) ∧
        (¬ (x3_3 = 23 ∨ x3_3 = 24) →
          ((hv h5 296 0) ≠ 0) ∧
          ((hv h5 296 0) ≠ 0) ∧
          ((hv h5 (hv h5 296 0) 11) ≠ 0) ∧
          (0 ≤ v1) ∧
          (v1 < (hn h5 (hv h5 (hv h5 296 0) 11))) ∧
          ((hv h5 (hv h5 296 0) 6) ≠ 0) ∧
          (0 ≤ (hv h5 (hv h5 (hv h5 296 0) 11) v1)) ∧
          ((hv h5 (hv h5 (hv h5 296 0) 11) v1) < (hn h5 (hv h5 (hv h5 296 0) 6))) ∧
          (∀ x5_15 : Int, x5_15 = (hv h5 (hv h5 (hv h5 296 0) 6) (hv h5 (hv h5 (hv h5 296 0) 11) v1)) →
          ((hv h5 296 0) ≠ 0) ∧
          ((hv h5 296 0) ≠ 0) ∧
          ((hv h5 (hv h5 296 0) 11) ≠ 0) ∧
          (0 ≤ v2) ∧
          (v2 < (hn h5 (hv h5 (hv h5 296 0) 11))) ∧
          ((hv h5 (hv h5 296 0) 6) ≠ 0) ∧
          (0 ≤ (hv h5 (hv h5 (hv h5 296 0) 11) v2)) ∧
          ((hv h5 (hv h5 (hv h5 296 0) 11) v2) < (hn h5 (hv h5 (hv h5 296 0) 6))) ∧
          (∀ x6_16 : Int, x6_16 = (hv h5 (hv h5 (hv h5 296 0) 6) (hv h5 (hv h5 (hv h5 296 0) 11) v2)) →
          ((x4_6 = 25 → (x5_15 ≠ 0) ∧ (x5_15 ≠ 0) ∧ ((hv h5 x5_15 9) ≠ 0) ∧ (0 ≤ (w32 (v1 - (hv h5 x5_15 14)))) ∧ ((w32 (v1 - (hv h5 x5_15 14))) < (hn h5 (hv h5 x5_15 9))) ∧ (x6_16 ≠ 0) ∧ (x6_16 ≠ 0) ∧ ((hv h5 x6_16 9) ≠ 0) ∧ (0 ≤ (w32 (v2 - (hv h5 x6_16 14)))) ∧ (w32 (v2 - (hv h5 x6_16 14))) < (hn h5 (hv h5 x6_16 9)))) ∧
          ((¬ x4_6 = 25 → (x4_6 = 26 → (x5_15 ≠ 0) ∧ (x5_15 ≠ 0) ∧ ((hv h5 x5_15 9) ≠ 0) ∧ (0 ≤ (w32 (v1 - (hv h5 x5_15 14)))) ∧ ((w32 (v1 - (hv h5 x5_15 14))) < (hn h5 (hv h5 x5_15 9))) ∧ (x6_16 ≠ 0) ∧ (x6_16 ≠ 0) ∧ ((hv h5 x6_16 9) ≠ 0) ∧ (0 ≤ (w32 (v2 - (hv h5 x6_16 14)))) ∧ (w32 (v2 - (hv h5 x6_16 14))) < (hn h5 (hv h5 x6_16 9))))) ∧
          ((((x4_6 = 25 ∧ (hv h5 (hv h5 x5_15 9) (w32 (v1 - (hv h5 x5_15 14)))) = (hv h5 (hv h5 x6_16 9) (w32 (v2 - (hv h5 x6_16 14))))) ∨ (¬ x4_6 = 25 ∧ (x4_6 = 26 ∧ (hv h5 (hv h5 x5_15 9) (w32 (v1 - (hv h5 x5_15 14)))) = (hv h5 (hv h5 x6_16 9) (w32 (v2 - (hv h5 x6_16 14))))))) →
            S_X7_uses l G [(2007, 296), (0, v1)] h5 (fun z17 h18 =>
            S_X7_uses l G [(2007, 296), (0, v2)] h18 (fun z19 h20 =>
            (((if (lc (l_and z17 z19) 0) = 0 then 0 else 1 : Int) = 0 ∨ (if (lc (l_and z17 z19) 0) = 0 then 0 else 1 : Int) = 1) ∧ Q (if (lc (l_and z17 z19) 0) = 0 then 0 else 1 : Int) h20)) E) E) ∧
          (¬ ((x4_6 = 25 ∧ (hv h5 (hv h5 x5_15 9) (w32 (v1 - (hv h5 x5_15 14)))) = (hv h5 (hv h5 x6_16 9) (w32 (v2 - (hv h5 x6_16 14))))) ∨ (¬ x4_6 = 25 ∧ (x4_6 = 26 ∧ (hv h5 (hv h5 x5_15 9) (w32 (v1 - (hv h5 x5_15 14)))) = (hv h5 (hv h5 x6_16 9) (w32 (v2 - (hv h5 x6_16 14))))))) →
            (((0 : Int) = 0 ∨ (0 : Int) = 1) ∧ Q 0 h5))))))))))))) E)) E) : JW K 0 [(2007, 296), (0, v1), (0, v2), (5000, 0), (5000, 0), (5000, 0), (5000, 0)] [] h := by
  have e1 := ki.2.2.2.2.1
  have e2 := ki.2.2.2.2.2.1
  subst e1; subst e2
  exact run_ok (dia := [(90, 98), (138, 146), (241, 249)]) (cnr := [(16, 52, 54), (57, 66, 99), (70, 80, 97), (102, 111, 147), (115, 125, 145), (189, 228, 248)]) (cuts := []) ki.1 (pk_X7_meet ki hG) ok_X7_meet (by decide) 52 true _ _ _ _ H
abbrev k_X7_uses : List (Nat × List (Nat × Instr)) := [(18, [(0, .aload_n 0), (1, .getfield 46), (4, .getfield 209), (7, .iload_n 1), (8, .laload), (9, .lreturn)])]
theorem ok_X7_uses : CodeOK cX7_uses k_X7_uses := okw 0 (by decide +kernel) (okn)
abbrev p_X7_uses (l : Launch) (G : JG) : JP := (true, [(46, 7, 1, 6, 0), (209, 2, 11, 2500101, 74)], [], [], [], [], [], [], false, 1, [])
theorem pk_X7_uses {K : JC} {l : Launch} {G : JG} {Q : Int → MH → Prop} {E : Nat → Int → MH → Prop} {h0 : MH} (ki : KI K l G yX7_uses cX7_uses 2 (some .long) [] 4 150 1 Q E h0) (hG : gO G = true) : POK K RX7 (p_X7_uses l G) :=
  POKi (y := yX7_uses) ki hG (rfs rf_X7_ok (by decide +kernel)) fmz fmz fmz fmz fmz
  (pkE ki (by
    intro K e1 e2 e3 e4; subst e1; subst e2
    exact fmz)) (fun z => Bool.noConfusion z) rfl (pkP ki (by
    intro K e1 e2 e3 e4; subst e1; subst e2
    exact fmz))
theorem r_X7_uses_0 {K : JC} {l : Launch} {G : JG} {Q : Int → MH → Prop} {E : Nat → Int → MH → Prop} {h0 : MH} (ki : KI K l G yX7_uses cX7_uses 2 (some .long) [] 4 150 1 Q E h0) (hG : gO G = true) {v1 : Int} {h : MH} (H :
    ((hv h 296 1) ≠ 0) ∧
    (0 ≤ v1) ∧
    (v1 < 1500) ∧
    Q (hv h ((hv h 296 1) + 74) v1) h) : JW K 0 [(2007, 296), (0, v1)] [] h := by
  have e1 := ki.2.2.2.2.1
  have e2 := ki.2.2.2.2.2.1
  subst e1; subst e2
  exact run_ok (dia := []) (cnr := []) (cuts := []) ki.1 (pk_X7_uses ki hG) ok_X7_uses (by decide) 7 true _ _ _ _ H
abbrev k_X7_rings : List (Nat × List (Nat × Instr)) := [(39, [(0, .aload_n 0), (1, .getfield 25), (4, .iconst 0), (5, .aload_n 0), (6, .getfield 34), (9, .iconst 0), (10, .bipush 8), (12, .invokestatic 137), (15, .iconst 0), (16, .istore_n 1), (17, .iload_n 1), (18, .bipush 8), (20, .if_icmp .ge 52), (23, .iconst 0), (24, .istore_n 2), (25, .iload_n 2), (26, .bipush 8), (28, .if_icmp .ge 38), (31, .aload_n 0), (32, .getfield 34), (35, .iload_n 2), (36, .iaload), (37, .iload_n 1), (38, .ishr)]),
  (77, [(39, .iconst 1), (40, .iand), (41, .iconst 1), (42, .if_icmp .ne 18), (45, .aload_n 0), (46, .getfield 34), (49, .iload_n 2), (50, .dup2), (51, .iaload), (52, .aload_n 0), (53, .getfield 34), (56, .iload_n 1), (57, .iaload), (58, .ior), (59, .iastore), (60, .iinc 2 1), (63, .goto (-38)), (66, .iinc 1 1), (69, .goto (-52)), (72, .iconst 0), (73, .istore_n 1), (74, .iconst 0), (75, .istore_n 2), (76, .iload_n 2)]),
  (111, [(77, .bipush 8), (79, .if_icmp .ge 22), (82, .iload_n 1), (83, .aload_n 0), (84, .getfield 34), (87, .iload_n 2), (88, .iaload), (89, .iconst 1), (90, .iload_n 2), (91, .ishl), (92, .iand), (93, .ior), (94, .istore_n 1), (95, .iinc 2 1), (98, .goto (-22)), (101, .iload_n 1), (102, .ireturn)])]
theorem ok_X7_rings : CodeOK cX7_rings k_X7_rings := okw 0 (by decide +kernel) (okw 39 (by decide +kernel) (okw 77 (by decide +kernel) (okn)))
abbrev p_X7_rings (l : Launch) (G : JG) : JP := (true, [(25, 7, 7, 1008100, 5), (34, 7, 10, 1008100, 8)], [], [], [], [], [], [], false, 0, [])
theorem pk_X7_rings {K : JC} {l : Launch} {G : JG} {Q : Int → MH → Prop} {E : Nat → Int → MH → Prop} {h0 : MH} (ki : KI K l G yX7_rings cX7_rings 3 (some .int) [] 7 239 0 Q E h0) (hG : gO G = true) : POK K RX7 (p_X7_rings l G) :=
  POKi (y := yX7_rings) ki hG (rfs rf_X7_ok (by decide +kernel)) fmz fmz fmz fmz fmz
  (pkE ki (by
    intro K e1 e2 e3 e4; subst e1; subst e2
    exact fmz)) (fun z => Bool.noConfusion z) rfl (pkP ki (by
    intro K e1 e2 e3 e4; subst e1; subst e2
    exact fmz))
theorem r_X7_rings_0 {K : JC} {l : Launch} {G : JG} {Q : Int → MH → Prop} {E : Nat → Int → MH → Prop} {h0 : MH} (ki : KI K l G yX7_rings cX7_rings 3 (some .int) [] 7 239 0 Q E h0) (hG : gO G = true) {h : MH} (H :
    JW K 12 [(2007, 296), (5000, 0), (5000, 0)] [(0, 8), (0, 0), (1008100, 304), (0, 0), (1008100, 301)] h) : JW K 0 [(2007, 296), (5000, 0), (5000, 0)] [] h := by
  have e1 := ki.2.2.2.2.1
  have e2 := ki.2.2.2.2.2.1
  subst e1; subst e2
  exact run_ok (dia := []) (cnr := []) (cuts := [(17, [2007, 0, 5000], []), (25, [2007, 0, 0], []), (76, [2007, 0, 0], [])]) ki.1 (pk_X7_rings ki hG) ok_X7_rings (by decide) 9 true _ _ _ _ H
theorem r_X7_rings_17 {K : JC} {l : Launch} {G : JG} {Q : Int → MH → Prop} {E : Nat → Int → MH → Prop} {h0 : MH} (ki : KI K l G yX7_rings cX7_rings 3 (some .int) [] 7 239 0 Q E h0) (hG : gO G = true) {v1 : Int} {h : MH} (H :
    ((8 ≤ v1 →
      (∀ x1_1 : Int, x1_1 = 0 →
      (∀ x2_2 : Int, x2_2 = 0 →
      JW K 76 [(2007, 296), (0, x1_1), (0, x2_2)] [] h))) ∧
    (v1 < 8 →
      (∀ x2_3 : Int, x2_3 = 0 →
      JW K 25 [(2007, 296), (0, v1), (0, x2_3)] [] h)))) : JW K 17 [(2007, 296), (0, v1), (5000, 0)] [] h := by
  have e1 := ki.2.2.2.2.1
  have e2 := ki.2.2.2.2.2.1
  subst e1; subst e2
  exact run_ok (dia := []) (cnr := []) (cuts := [(17, [2007, 0, 5000], []), (25, [2007, 0, 0], []), (76, [2007, 0, 0], [])]) ki.1 (pk_X7_rings ki hG) ok_X7_rings (by decide) 9 true _ _ _ _ H
theorem r_X7_rings_25 {K : JC} {l : Launch} {G : JG} {Q : Int → MH → Prop} {E : Nat → Int → MH → Prop} {h0 : MH} (ki : KI K l G yX7_rings cX7_rings 3 (some .int) [] 7 239 0 Q E h0) (hG : gO G = true) {v1 v2 : Int} {h : MH} (H :
    ((8 ≤ v2 →
      (∀ x1_1 : Int, x1_1 = w32 (v1 + 1) →
      JW K 17 [(2007, 296), (0, x1_1), (5000, 0)] [] h)) ∧
    (v2 < 8 →
      (0 ≤ v2) ∧
      (v2 < 8) ∧
      ((¬ (i_and (i_shr (hv h 304 v2) v1) 1) = 1 →
        (∀ x2_2 : Int, x2_2 = w32 (v2 + 1) →
        JW K 25 [(2007, 296), (0, v1), (0, x2_2)] [] h)) ∧
      ((i_and (i_shr (hv h 304 v2) v1) 1) = 1 →
        (0 ≤ v2) ∧
        (v2 < 8) ∧
        (0 ≤ v1) ∧
        (v1 < 8) ∧
        (0 ≤ v2) ∧
        (v2 < 8) ∧
        (∀ h3, h3 = hset h 304 v2 (i_or (hv h 304 v2) (hv h 304 v1)) →
        (∀ x2_4 : Int, x2_4 = w32 (v2 + 1) →
        JW K 25 [(2007, 296), (0, v1), (0, x2_4)] [] h3))))))) : JW K 25 [(2007, 296), (0, v1), (0, v2)] [] h := by
  have e1 := ki.2.2.2.2.1
  have e2 := ki.2.2.2.2.2.1
  subst e1; subst e2
  exact run_ok (dia := []) (cnr := []) (cuts := [(17, [2007, 0, 5000], []), (25, [2007, 0, 0], []), (76, [2007, 0, 0], [])]) ki.1 (pk_X7_rings ki hG) ok_X7_rings (by decide) 28 true _ _ _ _ H
theorem r_X7_rings_76 {K : JC} {l : Launch} {G : JG} {Q : Int → MH → Prop} {E : Nat → Int → MH → Prop} {h0 : MH} (ki : KI K l G yX7_rings cX7_rings 3 (some .int) [] 7 239 0 Q E h0) (hG : gO G = true) {v1 v2 : Int} {h : MH} (H :
    ((8 ≤ v2 →
      Q v1 h) ∧
    (v2 < 8 →
      (0 ≤ v2) ∧
      (v2 < 8) ∧
      (∀ x1_1 : Int, x1_1 = (i_or v1 (i_and (hv h 304 v2) (i_shl 1 v2))) →
      (∀ x2_2 : Int, x2_2 = w32 (v2 + 1) →
      JW K 76 [(2007, 296), (0, x1_1), (0, x2_2)] [] h))))) : JW K 76 [(2007, 296), (0, v1), (0, v2)] [] h := by
  have e1 := ki.2.2.2.2.1
  have e2 := ki.2.2.2.2.2.1
  subst e1; subst e2
  exact run_ok (dia := []) (cnr := []) (cuts := [(17, [2007, 0, 5000], []), (25, [2007, 0, 0], []), (76, [2007, 0, 0], [])]) ki.1 (pk_X7_rings ki hG) ok_X7_rings (by decide) 18 true _ _ _ _ H
