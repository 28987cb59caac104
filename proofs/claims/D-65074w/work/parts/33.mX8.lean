/-! by gen/mkall.py -/
set_option maxRecDepth 100000
abbrev k_X8_init : List (Nat × List (Nat × Instr)) := [(8, [(0, .aload_n 0), (1, .invokespecial 3), (4, .aload_n 0), (5, .sipush 407)]),
  (10, [(8, .newarray .int)]),
  (17, [(10, .putfield 11), (13, .aload_n 0), (14, .sipush 407)]),
  (19, [(17, .newarray .int)]),
  (26, [(19, .putfield 15), (22, .aload_n 0), (23, .sipush 407)]),
  (28, [(26, .newarray .int)]),
  (35, [(28, .putfield 18), (31, .aload_n 0), (32, .sipush 256)]),
  (37, [(35, .newarray .int)]),
  (43, [(37, .putfield 21), (40, .aload_n 0), (41, .bipush 8)]),
  (45, [(43, .newarray .int)]),
  (51, [(45, .putfield 24), (48, .aload_n 0), (49, .bipush 8)]),
  (53, [(51, .newarray .int)]),
  (59, [(53, .putfield 27), (56, .aload_n 0), (57, .bipush 8)]),
  (61, [(59, .newarray .int)]),
  (69, [(61, .putfield 30), (64, .aload_n 0), (65, .bipush 8), (67, .bipush 30)]),
  (73, [(69, .multianewarray 33 2)]),
  (81, [(73, .putfield 35), (76, .aload_n 0), (77, .bipush 8), (79, .bipush 30)]),
  (85, [(81, .multianewarray 38 2)]),
  (93, [(85, .putfield 40), (88, .aload_n 0), (89, .bipush 8), (91, .bipush 30)]),
  (97, [(93, .multianewarray 38 2)]),
  (106, [(97, .putfield 43), (100, .aload_n 0), (101, .bipush 8), (103, .sipush 480)]),
  (110, [(106, .multianewarray 38 2)]),
  (116, [(110, .putfield 46), (113, .aload_n 0), (114, .bipush 8)]),
  (118, [(116, .newarray .int)]),
  (125, [(118, .putfield 49), (121, .aload_n 0), (122, .sipush 200)]),
  (127, [(125, .newarray .int)]),
  (134, [(127, .putfield 52), (130, .aload_n 0), (131, .sipush 200)]),
  (136, [(134, .newarray .int)]),
  (143, [(136, .putfield 55), (139, .aload_n 0), (140, .sipush 200)]),
  (145, [(143, .newarray .int)]),
  (152, [(145, .putfield 58), (148, .aload_n 0), (149, .sipush 1500)]),
  (154, [(152, .newarray .long)]),
  (166, [(154, .putfield 61), (157, .return_)])]
theorem ok_X8_init : CodeOK cX8_init k_X8_init := okw 0 (by decide +kernel) (okc (by decide +kernel) (okw 10 (by decide +kernel) (okc (by decide +kernel) (okw 19 (by decide +kernel) (okc (by decide +kernel) (okw 28 (by decide +kernel) (okc (by decide +kernel) (okw 37 (by decide +kernel) (okc (by decide +kernel) (okw 45 (by decide +kernel) (okc (by decide +kernel) (okw 53 (by decide +kernel) (okc (by decide +kernel) (okw 61 (by decide +kernel) (okc (by decide +kernel) (okw 73 (by decide +kernel) (okc (by decide +kernel) (okw 85 (by decide +kernel) (okc (by decide +kernel) (okw 97 (by decide +kernel) (okc (by decide +kernel) (okw 110 (by decide +kernel) (okc (by decide +kernel) (okw 118 (by decide +kernel) (okc (by decide +kernel) (okw 127 (by decide +kernel) (okc (by decide +kernel) (okw 136 (by decide +kernel) (okc (by decide +kernel) (okw 145 (by decide +kernel) (okc (by decide +kernel) (okw 154 (by decide +kernel) (okn)))))))))))))))))))))))))))))))))
abbrev p_X8_init (l : Launch) (G : JG) : JP := (false, [], [], [], [(11, 8, 1, 104), (15, 8, 2, 104), (18, 8, 3, 104), (21, 8, 5, 104), (24, 8, 7, 104), (27, 8, 8, 104), (30, 8, 9, 104)], [], [], [(3, 3, [], 700, fun _ _ _ _ => True)], true, 700, [])
theorem pk_X8_init {K : JC} {l : Launch} {G : JG} {Q : Int → MH → Prop} {E : Nat → Int → MH → Prop} {h0 : MH} (ki : KI K l G yX8_init cX8_init 1 none [] 5 170 700 Q E h0) (hG : gO G = false) : POK K RX8 (p_X8_init l G) :=
  POKi (y := yX8_init) ki hG fmz fmz fmz (rps rp_X8_ok (by decide +kernel)) fmz fmz
  (pkE ki (by
    intro K e1 e2 e3 e4; subst e1; subst e2
    exact fmE (ceO e3 e4 q540 rfl) (fmz))) (fun _ => rfl) rfl (pkP ki (by
    intro K e1 e2 e3 e4; subst e1; subst e2
    exact fmz))
theorem r_X8_init_0 {K : JC} {l : Launch} {G : JG} {Q : Int → MH → Prop} {E : Nat → Int → MH → Prop} {h0 : MH} (ki : KI K l G yX8_init cX8_init 1 none [] 5 170 700 Q E h0) (hG : gO G = false) {v0 : Int} {h : MH} (H :
    (0 ≤ (407 : Int)) ∧
    (hz h + 1 ≤ LIMC) ∧
    (hs h + 407 ≤ LIMS) ∧
    (∀ h1, h1 = hnew h 100 407 407 →
    (∀ h2, h2 = hset h1 v0 1 (hz h + 1) →
    (0 ≤ (407 : Int)) ∧
    (hz h2 + 1 ≤ LIMC) ∧
    (hs h2 + 407 ≤ LIMS) ∧
    (∀ h3, h3 = hnew h2 100 407 407 →
    (∀ h4, h4 = hset h3 v0 2 (hz h2 + 1) →
    (0 ≤ (407 : Int)) ∧
    (hz h4 + 1 ≤ LIMC) ∧
    (hs h4 + 407 ≤ LIMS) ∧
    (∀ h5, h5 = hnew h4 100 407 407 →
    (∀ h6, h6 = hset h5 v0 3 (hz h4 + 1) →
    (0 ≤ (256 : Int)) ∧
    (hz h6 + 1 ≤ LIMC) ∧
    (hs h6 + 256 ≤ LIMS) ∧
    (∀ h7, h7 = hnew h6 100 256 256 →
    (∀ h8, h8 = hset h7 v0 5 (hz h6 + 1) →
    (0 ≤ (8 : Int)) ∧
    (hz h8 + 1 ≤ LIMC) ∧
    (hs h8 + 8 ≤ LIMS) ∧
    (∀ h9, h9 = hnew h8 100 8 8 →
    (∀ h10, h10 = hset h9 v0 7 (hz h8 + 1) →
    (0 ≤ (8 : Int)) ∧
    (hz h10 + 1 ≤ LIMC) ∧
    (hs h10 + 8 ≤ LIMS) ∧
    (∀ h11, h11 = hnew h10 100 8 8 →
    (∀ h12, h12 = hset h11 v0 8 (hz h10 + 1) →
    (0 ≤ (8 : Int)) ∧
    (hz h12 + 1 ≤ LIMC) ∧
    (hs h12 + 8 ≤ LIMS) ∧
    (∀ h13, h13 = hnew h12 100 8 8 →
    (∀ h14, h14 = hset h13 v0 9 (hz h12 + 1) →
    JW K 69 [(2008, v0)] [(0, 30), (0, 8), (2008, v0)] h14))))))))))))))) : JW K 0 [(2008, v0)] [] h := by
  have e1 := ki.2.2.2.2.1
  have e2 := ki.2.2.2.2.2.1
  subst e1; subst e2
  exact run_ok (dia := []) (cnr := []) (cuts := []) ki.1 (pk_X8_init ki hG) ok_X8_init (by decide) 35 true _ _ _ _ H
abbrev k_X8_forget : List (Nat × List (Nat × Instr)) := [(40, [(0, .aload_n 0), (1, .iconst 0), (2, .putfield 82), (5, .aload_n 0), (6, .iconst 0), (7, .putfield 76), (10, .aload_n 0), (11, .iconst 0), (12, .putfield 79), (15, .aload_n 0), (16, .iconst 0), (17, .putfield 69), (20, .aload_n 0), (21, .iconst 0), (22, .putfield 94), (25, .aload_n 0), (26, .iconst 0), (27, .putfield 85), (30, .aload_n 0), (31, .iconst 0), (32, .putfield 88), (35, .aload_n 0), (36, .iconst 0), (37, .putfield 91)]),
  (76, [(40, .aload_n 0), (41, .iconst 0), (42, .putfield 101), (45, .iconst 0), (46, .istore_n 1), (47, .iload_n 1), (48, .sipush 1500), (51, .if_icmp .ge 16), (54, .aload_n 0), (55, .getfield 61), (58, .iload_n 1), (59, .lconst 0), (60, .lastore), (61, .iinc 1 1), (64, .goto (-17)), (67, .return_)])]
theorem ok_X8_forget : CodeOK cX8_forget k_X8_forget := okw 0 (by decide +kernel) (okw 40 (by decide +kernel) (okn))
abbrev p_X8_forget (l : Launch) (G : JG) : JP := (true, [(61, 8, 26, 2500101, 48)], [], [], [(69, 8, 4, 0), (76, 8, 15, 0), (79, 8, 16, 0), (82, 8, 17, 0), (85, 8, 18, 0), (88, 8, 19, 0), (91, 8, 20, 0), (94, 8, 23, 0), (101, 8, 25, 0)], [], [], [], false, 700, [])
theorem pk_X8_forget {K : JC} {l : Launch} {G : JG} {Q : Int → MH → Prop} {E : Nat → Int → MH → Prop} {h0 : MH} (ki : KI K l G yX8_forget cX8_forget 2 none [] 4 150 700 Q E h0) (hG : gO G = true) : POK K RX8 (p_X8_forget l G) :=
  POKi (y := yX8_forget) ki hG (rfs rf_X8_ok (by decide +kernel)) fmz fmz (rps rp_X8_ok (by decide +kernel)) fmz fmz
  (pkE ki (by
    intro K e1 e2 e3 e4; subst e1; subst e2
    exact fmz)) (fun z => Bool.noConfusion z) rfl (pkP ki (by
    intro K e1 e2 e3 e4; subst e1; subst e2
    exact fmz))
theorem r_X8_forget_0 {K : JC} {l : Launch} {G : JG} {Q : Int → MH → Prop} {E : Nat → Int → MH → Prop} {h0 : MH} (ki : KI K l G yX8_forget cX8_forget 2 none [] 4 150 700 Q E h0) (hG : gO G = true) {h : MH} (H :
    (∀ h1, h1 = hset h 346 17 0 →
    (∀ h2, h2 = hset h1 346 15 0 →
    (∀ h3, h3 = hset h2 346 16 0 →
    (∀ h4, h4 = hset h3 346 4 0 →
    (∀ h5, h5 = hset h4 346 23 0 →
    (∀ h6, h6 = hset h5 346 18 0 →
    (∀ h7, h7 = hset h6 346 19 0 →
    (∀ h8, h8 = hset h7 346 20 0 →
    (∀ h9, h9 = hset h8 346 25 0 →
    (∀ x1_10 : Int, x1_10 = 0 →
    JW K 47 [(2008, 346), (0, x1_10)] [] h9))))))))))) : JW K 0 [(2008, 346), (5000, 0)] [] h := by
  have e1 := ki.2.2.2.2.1
  have e2 := ki.2.2.2.2.2.1
  subst e1; subst e2
  exact run_ok (dia := []) (cnr := []) (cuts := [(47, [2008, 0], [])]) ki.1 (pk_X8_forget ki hG) ok_X8_forget (by decide) 31 true _ _ _ _ H
theorem r_X8_forget_47 {K : JC} {l : Launch} {G : JG} {Q : Int → MH → Prop} {E : Nat → Int → MH → Prop} {h0 : MH} (ki : KI K l G yX8_forget cX8_forget 2 none [] 4 150 700 Q E h0) (hG : gO G = true) {v1 : Int} {h : MH} (H :
    ((1500 ≤ v1 →
      Q 0 h) ∧
    (v1 < 1500 →
      (0 ≤ v1) ∧
      (v1 < 1500) ∧
      (∀ h1, h1 = hset h 394 v1 0 →
      (∀ x1_2 : Int, x1_2 = w32 (v1 + 1) →
      JW K 47 [(2008, 346), (0, x1_2)] [] h1))))) : JW K 47 [(2008, 346), (0, v1)] [] h := by
  have e1 := ki.2.2.2.2.1
  have e2 := ki.2.2.2.2.2.1
  subst e1; subst e2
  exact run_ok (dia := []) (cnr := []) (cuts := [(47, [2008, 0], [])]) ki.1 (pk_X8_forget ki hG) ok_X8_forget (by decide) 12 true _ _ _ _ H
abbrev k_X8_input : List (Nat × List (Nat × Instr)) := [(30, [(0, .aload_n 0), (1, .getfield 58), (4, .aload_n 0), (5, .dup), (6, .getfield 101), (9, .dup_x1), (10, .iconst 1), (11, .iadd), (12, .putfield 101), (15, .iload_n 1), (16, .iastore), (17, .aload_n 0), (18, .getfield 101), (21, .ireturn)])]
theorem ok_X8_input : CodeOK cX8_input k_X8_input := okw 0 (by decide +kernel) (okn)
abbrev p_X8_input (l : Launch) (G : JG) : JP := (true, [(58, 8, 24, 1200100, 47), (101, 8, 25, 0, 0)], [], [], [(101, 8, 25, 0)], [], [], [], false, 0, [])
theorem pk_X8_input {K : JC} {l : Launch} {G : JG} {Q : Int → MH → Prop} {E : Nat → Int → MH → Prop} {h0 : MH} (ki : KI K l G yX8_input cX8_input 2 (some .int) [] 4 150 0 Q E h0) (hG : gO G = true) : POK K RX8 (p_X8_input l G) :=
  POKi (y := yX8_input) ki hG (rfs rf_X8_ok (by decide +kernel)) fmz fmz (rps rp_X8_ok (by decide +kernel)) fmz fmz
  (pkE ki (by
    intro K e1 e2 e3 e4; subst e1; subst e2
    exact fmz)) (fun z => Bool.noConfusion z) rfl (pkP ki (by
    intro K e1 e2 e3 e4; subst e1; subst e2
    exact fmz))
theorem r_X8_input_0 {K : JC} {l : Launch} {G : JG} {Q : Int → MH → Prop} {E : Nat → Int → MH → Prop} {h0 : MH} (ki : KI K l G yX8_input cX8_input 2 (some .int) [] 4 150 0 Q E h0) (hG : gO G = true) {v1 : Int} {h : MH} (H :
    (∀ h1, h1 = hset h 346 25 (w32 ((hv h 346 25) + 1)) →
    (0 ≤ (hv h 346 25)) ∧
    ((hv h 346 25) < 200) ∧
    (∀ h2, h2 = hset h1 393 (hv h 346 25) v1 →
    Q (hv h2 346 25) h2))) : JW K 0 [(2008, 346), (0, v1)] [] h := by
  have e1 := ki.2.2.2.2.1
  have e2 := ki.2.2.2.2.2.1
  subst e1; subst e2
  exact run_ok (dia := []) (cnr := []) (cuts := []) ki.1 (pk_X8_input ki hG) ok_X8_input (by decide) 15 true _ _ _ _ H
abbrev k_X8_walk : List (Nat × List (Nat × Instr)) := [(45, [(0, .aload_n 0), (1, .aload_n 1), (2, .invokevirtual 121), (5, .aload_n 0), (6, .getfield 65), (9, .getfield 125), (12, .iload_n 2), (13, .aaload), (14, .astore 5), (16, .aload_n 0), (17, .aload 5), (19, .invokevirtual 130), (22, .iconst 0), (23, .istore 6), (25, .iload 6), (27, .aload 5), (29, .getfield 133), (32, .if_icmp .ge 37), (35, .aload_n 0), (36, .getfield 46), (39, .iconst 0), (40, .aaload), (41, .iload 6), (43, .aload 5)]),
  (94, [(45, .getfield 138), (48, .iload 6), (50, .iaload), (51, .ifCond .ne 10), (54, .aload_n 0), (55, .invokevirtual 141), (58, .goto 4), (61, .iconst 0), (62, .iastore), (63, .iinc 6 1), (66, .goto (-41)), (69, .aload_n 0), (70, .iload_n 3), (71, .iload 4), (73, .invokevirtual 145), (76, .istore 6), (78, .aload_n 0), (79, .iconst 0), (80, .putfield 101), (83, .iload 6), (85, .ireturn)])]
theorem ok_X8_walk : CodeOK cX8_walk k_X8_walk := okw 0 (by decide +kernel) (okw 45 (by decide +kernel) (okn))
abbrev p_X8_walk (l : Launch) (G : JG) : JP := (true, [(46, 8, 13, 1008130, 35), (65, 8, 0, 16, 0), (125, 12, 6, 128, 0), (133, 14, 3, 0, 0), (138, 14, 5, 104, 0)], [], [], [(101, 8, 25, 0)], [], [], [(121, 1, [16, 2008], 700, S_X8_begin l G), (130, 1, [18, 2008], 700, S_X8_addThread l G), (141, 1, [2008], 0, S_X8_nextInput l G), (145, 1, [0, 0, 2008], 0, S_X8_turns l G)], false, 0, [])
theorem pk_X8_walk {K : JC} {l : Launch} {G : JG} {Q : Int → MH → Prop} {E : Nat → Int → MH → Prop} {h0 : MH} (ki : KI K l G yX8_walk cX8_walk 7 (some .int) [] 11 337 0 Q E h0) (hG : gO G = true) : POK K RX8 (p_X8_walk l G) :=
  POKi (y := yX8_walk) ki hG (rfs rf_X8_ok (by decide +kernel)) fmz fmz (rps rp_X8_ok (by decide +kernel)) fmz fmz
  (pkE ki (by
    intro K e1 e2 e3 e4; subst e1; subst e2
    exact fmE (ceV 8 e3 e4 yl_X8_begin ⟨by decide, ⟨_, _, rfl⟩, q1844, qs77, q1842⟩ rfl) (fmE (ceV 8 e3 e4 yl_X8_addThread ⟨by decide, ⟨_, _, rfl⟩, q1848, qs78, q1846⟩ rfl) (fmE (ceV 8 e3 e4 yl_X8_nextInput ⟨by decide, ⟨_, _, rfl⟩, q1856, qs80, q1854⟩ rfl) (fmE (ceV 8 e3 e4 yl_X8_turns ⟨by decide, ⟨_, _, rfl⟩, q1860, qs81, q1858⟩ rfl) (fmz)))))) (fun z => Bool.noConfusion z) rfl (pkP ki (by
    intro K e1 e2 e3 e4; subst e1; subst e2
    exact fmz))
theorem r_X8_walk_0 {K : JC} {l : Launch} {G : JG} {Q : Int → MH → Prop} {E : Nat → Int → MH → Prop} {h0 : MH} (ki : KI K l G yX8_walk cX8_walk 7 (some .int) [] 11 337 0 Q E h0) (hG : gO G = true) {v1 v2 v3 v4 : Int} {h : MH} (H :
    S_X8_begin l G [(2008, 346), (16, v1)] h (fun _ h2 =>
    ((hv h2 346 0) ≠ 0) ∧
    ((hv h2 (hv h2 346 0) 6) ≠ 0) ∧
    (0 ≤ v2) ∧
    (v2 < (hn h2 (hv h2 (hv h2 346 0) 6))) ∧
    (∀ x5_3 : Int, x5_3 = (hv h2 (hv h2 (hv h2 346 0) 6) v2) →
    S_X8_addThread l G [(2008, 346), (18, x5_3)] h2 (fun _ h5 =>
    (∀ x6_6 : Int, x6_6 = 0 →
    JW K 25 [(2008, 346), (16, v1), (0, v2), (0, v3), (0, v4), (18, x5_3), (0, x6_6)] [] h5)) E)) E) : JW K 0 [(2008, 346), (16, v1), (0, v2), (0, v3), (0, v4), (5000, 0), (5000, 0)] [] h := by
  have e1 := ki.2.2.2.2.1
  have e2 := ki.2.2.2.2.2.1
  subst e1; subst e2
  exact run_ok (dia := []) (cnr := []) (cuts := [(25, [2008, 16, 0, 0, 0, 18, 0], [])]) ki.1 (pk_X8_walk ki hG) ok_X8_walk (by decide) 16 true _ _ _ _ H
theorem r_X8_walk_25 {K : JC} {l : Launch} {G : JG} {Q : Int → MH → Prop} {E : Nat → Int → MH → Prop} {h0 : MH} (ki : KI K l G yX8_walk cX8_walk 7 (some .int) [] 11 337 0 Q E h0) (hG : gO G = true) {v1 v2 v3 v4 v5 v6 : Int} {h : MH} (H :
    (v5 ≠ 0) ∧
    (((hv h v5 3) ≤ v6 →
      S_X8_turns l G [(2008, 346), (0, v3), (0, v4)] h (fun z1 h2 =>
      (∀ x6_3 : Int, x6_3 = z1 →
      (∀ h4, h4 = hset h2 346 25 0 →
      Q x6_3 h4))) E) ∧
    (v6 < (hv h v5 3) →
      (0 ≤ (0 : Int)) ∧
      ((0 : Int) < 8) ∧
      (v5 ≠ 0) ∧
      ((hv h v5 5) ≠ 0) ∧
      (0 ≤ v6) ∧
      (v6 < (hn h (hv h v5 5))) ∧
      ((¬ (hv h (hv h v5 5) v6) = 0 →
        ((hv h 381 0) ≠ 0) ∧
        (0 ≤ v6) ∧
        (v6 < (hn h (hv h 381 0))) ∧
        (∀ h5, h5 = hset h (hv h 381 0) v6 0 →
        (∀ x6_6 : Int, x6_6 = w32 (v6 + 1) →
        JW K 25 [(2008, 346), (16, v1), (0, v2), (0, v3), (0, v4), (18, v5), (0, x6_6)] [] h5))) ∧
      ((hv h (hv h v5 5) v6) = 0 →
        S_X8_nextInput l G [(2008, 346)] h (fun z7 h8 =>
        ((hv h 381 0) ≠ 0) ∧
        (0 ≤ v6) ∧
        (v6 < (hn h8 (hv h 381 0))) ∧
        (∀ h9, h9 = hset h8 (hv h 381 0) v6 z7 →
        (∀ x6_10 : Int, x6_10 = w32 (v6 + 1) →
        JW K 25 [(2008, 346), (16, v1), (0, v2), (0, v3), (0, v4), (18, v5), (0, x6_10)] [] h9))) E))))) : JW K 25 [(2008, 346), (16, v1), (0, v2), (0, v3), (0, v4), (18, v5), (0, v6)] [] h := by
  have e1 := ki.2.2.2.2.1
  have e2 := ki.2.2.2.2.2.1
  subst e1; subst e2
  exact run_ok (dia := []) (cnr := []) (cuts := [(25, [2008, 16, 0, 0, 0, 18, 0], [])]) ki.1 (pk_X8_walk ki hG) ok_X8_walk (by decide) 22 true _ _ _ _ H
abbrev k_X8_begin : List (Nat × List (Nat × Instr)) := [(38, [(0, .aload_n 0), (1, .aload_n 1), (2, .putfield 65), (5, .aload_n 0), (6, .bipush 7), (8, .putfield 69), (11, .aload_n 0), (12, .iconst 0), (13, .putfield 73), (16, .iconst 1), (17, .istore_n 2), (18, .iload_n 2), (19, .bipush 7), (21, .if_icmp .ge 30), (24, .aload_n 0), (25, .getfield 11), (28, .iload_n 2), (29, .iload_n 2), (30, .iastore), (31, .aload_n 0), (32, .getfield 15), (35, .iload_n 2), (36, .iconst 0), (37, .iastore)]),
  (80, [(38, .aload_n 0), (39, .getfield 18), (42, .iload_n 2), (43, .iconst 0), (44, .iastore), (45, .iinc 2 1), (48, .goto (-30)), (51, .iconst 0), (52, .istore_n 2), (53, .iload_n 2), (54, .bipush 8), (56, .if_icmp .ge 16), (59, .aload_n 0), (60, .getfield 24), (63, .iload_n 2), (64, .iconst 0), (65, .iastore), (66, .iinc 2 1), (69, .goto (-16)), (72, .iconst 0), (73, .istore_n 2), (74, .iload_n 2), (75, .bipush 8), (77, .if_icmp .ge 16)]),
  (120, [(80, .aload_n 0), (81, .getfield 27), (84, .iload_n 2), (85, .iconst (-1)), (86, .iastore), (87, .iinc 2 1), (90, .goto (-16)), (93, .aload_n 0), (94, .iconst 0), (95, .putfield 76), (98, .aload_n 0), (99, .iconst 0), (100, .putfield 79), (103, .aload_n 0), (104, .iconst 0), (105, .putfield 82), (108, .aload_n 0), (109, .iconst 0), (110, .putfield 85), (113, .aload_n 0), (114, .iconst 0), (115, .putfield 88), (118, .aload_n 0), (119, .iconst 0)]),
  (142, [(120, .putfield 91), (123, .aload_n 0), (124, .iconst 0), (125, .putfield 94), (128, .aload_n 0), (129, .iconst 0), (130, .putfield 97), (133, .return_)])]
theorem ok_X8_begin : CodeOK cX8_begin k_X8_begin := okw 0 (by decide +kernel) (okw 38 (by decide +kernel) (okw 80 (by decide +kernel) (okw 120 (by decide +kernel) (okn))))
abbrev p_X8_begin (l : Launch) (G : JG) : JP := (true, [(11, 8, 1, 1407100, 1), (15, 8, 2, 1407100, 2), (18, 8, 3, 1407100, 3), (24, 8, 7, 1008100, 5), (27, 8, 8, 1008100, 6)], [], [], [(65, 8, 0, 16), (69, 8, 4, 0), (73, 8, 6, 0), (76, 8, 15, 0), (79, 8, 16, 0), (82, 8, 17, 0), (85, 8, 18, 0), (88, 8, 19, 0), (91, 8, 20, 0), (94, 8, 23, 0), (97, 8, 31, 2)], [], [], [], false, 700, [])
theorem pk_X8_begin {K : JC} {l : Launch} {G : JG} {Q : Int → MH → Prop} {E : Nat → Int → MH → Prop} {h0 : MH} (ki : KI K l G yX8_begin cX8_begin 3 none [] 4 150 700 Q E h0) (hG : gO G = true) : POK K RX8 (p_X8_begin l G) :=
  POKi (y := yX8_begin) ki hG (rfs rf_X8_ok (by decide +kernel)) fmz fmz (rps rp_X8_ok (by decide +kernel)) fmz fmz
  (pkE ki (by
    intro K e1 e2 e3 e4; subst e1; subst e2
    exact fmz)) (fun z => Bool.noConfusion z) rfl (pkP ki (by
    intro K e1 e2 e3 e4; subst e1; subst e2
    exact fmz))
theorem r_X8_begin_0 {K : JC} {l : Launch} {G : JG} {Q : Int → MH → Prop} {E : Nat → Int → MH → Prop} {h0 : MH} (ki : KI K l G yX8_begin cX8_begin 3 none [] 4 150 700 Q E h0) (hG : gO G = true) {v1 : Int} {h : MH} (H :
    (∀ h1, h1 = hset h 346 0 v1 →
    (∀ h2, h2 = hset h1 346 4 7 →
    (∀ h3, h3 = hset h2 346 6 0 →
    (∀ x2_4 : Int, x2_4 = 1 →
    JW K 18 [(2008, 346), (16, v1), (0, x2_4)] [] h3))))) : JW K 0 [(2008, 346), (16, v1), (5000, 0)] [] h := by
  have e1 := ki.2.2.2.2.1
  have e2 := ki.2.2.2.2.2.1
  subst e1; subst e2
  exact run_ok (dia := []) (cnr := []) (cuts := [(18, [2008, 16, 0], []), (53, [2008, 16, 0], []), (74, [2008, 16, 0], [])]) ki.1 (pk_X8_begin ki hG) ok_X8_begin (by decide) 13 true _ _ _ _ H
theorem r_X8_begin_18 {K : JC} {l : Launch} {G : JG} {Q : Int → MH → Prop} {E : Nat → Int → MH → Prop} {h0 : MH} (ki : KI K l G yX8_begin cX8_begin 3 none [] 4 150 700 Q E h0) (hG : gO G = true) {v1 v2 : Int} {h : MH} (H :
    ((7 ≤ v2 →
      (∀ x2_1 : Int, x2_1 = 0 →
      JW K 53 [(2008, 346), (16, v1), (0, x2_1)] [] h)) ∧
    (v2 < 7 →
      (0 ≤ v2) ∧
      (v2 < 407) ∧
      (∀ h2, h2 = hset h 347 v2 v2 →
      (0 ≤ v2) ∧
      (v2 < 407) ∧
      (∀ h3, h3 = hset h2 348 v2 0 →
      (0 ≤ v2) ∧
      (v2 < 407) ∧
      (∀ h4, h4 = hset h3 349 v2 0 →
      (∀ x2_5 : Int, x2_5 = w32 (v2 + 1) →
      JW K 18 [(2008, 346), (16, v1), (0, x2_5)] [] h4))))))) : JW K 18 [(2008, 346), (16, v1), (0, v2)] [] h := by
  have e1 := ki.2.2.2.2.1
  have e2 := ki.2.2.2.2.2.1
  subst e1; subst e2
  exact run_ok (dia := []) (cnr := []) (cuts := [(18, [2008, 16, 0], []), (53, [2008, 16, 0], []), (74, [2008, 16, 0], [])]) ki.1 (pk_X8_begin ki hG) ok_X8_begin (by decide) 22 true _ _ _ _ H
theorem r_X8_begin_53 {K : JC} {l : Launch} {G : JG} {Q : Int → MH → Prop} {E : Nat → Int → MH → Prop} {h0 : MH} (ki : KI K l G yX8_begin cX8_begin 3 none [] 4 150 700 Q E h0) (hG : gO G = true) {v1 v2 : Int} {h : MH} (H :
    ((8 ≤ v2 →
      (∀ x2_1 : Int, x2_1 = 0 →
      JW K 74 [(2008, 346), (16, v1), (0, x2_1)] [] h)) ∧
    (v2 < 8 →
      (0 ≤ v2) ∧
      (v2 < 8) ∧
      (∀ h2, h2 = hset h 351 v2 0 →
      (∀ x2_3 : Int, x2_3 = w32 (v2 + 1) →
      JW K 53 [(2008, 346), (16, v1), (0, x2_3)] [] h2))))) : JW K 53 [(2008, 346), (16, v1), (0, v2)] [] h := by
  have e1 := ki.2.2.2.2.1
  have e2 := ki.2.2.2.2.2.1
  subst e1; subst e2
  exact run_ok (dia := []) (cnr := []) (cuts := [(18, [2008, 16, 0], []), (53, [2008, 16, 0], []), (74, [2008, 16, 0], [])]) ki.1 (pk_X8_begin ki hG) ok_X8_begin (by decide) 12 true _ _ _ _ H
theorem r_X8_begin_74 {K : JC} {l : Launch} {G : JG} {Q : Int → MH → Prop} {E : Nat → Int → MH → Prop} {h0 : MH} (ki : KI K l G yX8_begin cX8_begin 3 none [] 4 150 700 Q E h0) (hG : gO G = true) {v1 v2 : Int} {h : MH} (H :
    ((8 ≤ v2 →
      (∀ h1, h1 = hset h 346 15 0 →
      (∀ h2, h2 = hset h1 346 16 0 →
      (∀ h3, h3 = hset h2 346 17 0 →
      (∀ h4, h4 = hset h3 346 18 0 →
      (∀ h5, h5 = hset h4 346 19 0 →
      (∀ h6, h6 = hset h5 346 20 0 →
      (∀ h7, h7 = hset h6 346 23 0 →
      ((0 : Int) = 0 ∨ (0 : Int) = 1) ∧
      (∀ h8, h8 = hset h7 346 31 0 →
      Q 0 h8))))))))) ∧
    (v2 < 8 →
      (0 ≤ v2) ∧
      (v2 < 8) ∧
      (∀ h9, h9 = hset h 352 v2 (-1) →
      (∀ x2_10 : Int, x2_10 = w32 (v2 + 1) →
      JW K 74 [(2008, 346), (16, v1), (0, x2_10)] [] h9))))) : JW K 74 [(2008, 346), (16, v1), (0, v2)] [] h := by
  have e1 := ki.2.2.2.2.1
  have e2 := ki.2.2.2.2.2.1
  subst e1; subst e2
  exact run_ok (dia := []) (cnr := []) (cuts := [(18, [2008, 16, 0], []), (53, [2008, 16, 0], []), (74, [2008, 16, 0], [])]) ki.1 (pk_X8_begin ki hG) ok_X8_begin (by decide) 29 true _ _ _ _ H
abbrev k_X8_addThread : List (Nat × List (Nat × Instr)) := [(39, [(0, .aload_n 0), (1, .aload_n 0), (2, .dup), (3, .getfield 76), (6, .dup_x1), (7, .iconst 1), (8, .iadd), (9, .putfield 76), (12, .putfield 104), (15, .aload_n 0), (16, .getfield 30), (19, .aload_n 0), (20, .getfield 104), (23, .iconst 0), (24, .iastore), (25, .aload_n 0), (26, .aload_n 1), (27, .invokevirtual 107), (30, .return_)])]
theorem ok_X8_addThread : CodeOK cX8_addThread k_X8_addThread := okw 0 (by decide +kernel) (okn)
abbrev p_X8_addThread (l : Launch) (G : JG) : JP := (true, [(30, 8, 9, 1008100, 7), (76, 8, 15, 0, 0), (104, 8, 27, 0, 0)], [], [], [(76, 8, 15, 0), (104, 8, 27, 0)], [], [], [(107, 1, [18, 2008], 700, S_X8_pushFrame l G)], false, 700, [])
theorem pk_X8_addThread {K : JC} {l : Launch} {G : JG} {Q : Int → MH → Prop} {E : Nat → Int → MH → Prop} {h0 : MH} (ki : KI K l G yX8_addThread cX8_addThread 2 none [] 5 173 700 Q E h0) (hG : gO G = true) : POK K RX8 (p_X8_addThread l G) :=
  POKi (y := yX8_addThread) ki hG (rfs rf_X8_ok (by decide +kernel)) fmz fmz (rps rp_X8_ok (by decide +kernel)) fmz fmz
  (pkE ki (by
    intro K e1 e2 e3 e4; subst e1; subst e2
    exact fmE (ceV 8 e3 e4 yl_X8_pushFrame ⟨by decide, ⟨_, _, rfl⟩, q1852, qs79, q1850⟩ rfl) (fmz))) (fun z => Bool.noConfusion z) rfl (pkP ki (by
    intro K e1 e2 e3 e4; subst e1; subst e2
    exact fmz))
theorem r_X8_addThread_0 {K : JC} {l : Launch} {G : JG} {Q : Int → MH → Prop} {E : Nat → Int → MH → Prop} {h0 : MH} (ki : KI K l G yX8_addThread cX8_addThread 2 none [] 5 173 700 Q E h0) (hG : gO G = true) {v1 : Int} {h : MH} (H :
    (∀ h1, h1 = hset h 346 15 (w32 ((hv h 346 15) + 1)) →
    (∀ h2, h2 = hset h1 346 27 (hv h 346 15) →
    (0 ≤ (hv h2 346 27)) ∧
    ((hv h2 346 27) < 8) ∧
    (∀ h3, h3 = hset h2 353 (hv h2 346 27) 0 →
    S_X8_pushFrame l G [(2008, 346), (18, v1)] h3 (fun _ h5 =>
    Q 0 h5) E)))) : JW K 0 [(2008, 346), (18, v1)] [] h := by
  have e1 := ki.2.2.2.2.1
  have e2 := ki.2.2.2.2.2.1
  subst e1; subst e2
  exact run_ok (dia := []) (cnr := []) (cuts := []) ki.1 (pk_X8_addThread ki hG) ok_X8_addThread (by decide) 20 true _ _ _ _ H
abbrev k_X8_pushFrame : List (Nat × List (Nat × Instr)) := [(36, [(0, .aload_n 0), (1, .getfield 30), (4, .aload_n 0), (5, .getfield 104), (8, .dup2), (9, .iaload), (10, .dup_x2), (11, .iconst 1), (12, .iadd), (13, .iastore), (14, .istore_n 2), (15, .aload_n 0), (16, .getfield 35), (19, .aload_n 0), (20, .getfield 104), (23, .aaload), (24, .iload_n 2), (25, .aload_n 1), (26, .aastore), (27, .aload_n 0), (28, .getfield 40), (31, .aload_n 0), (32, .getfield 104), (35, .aaload)]),
  (72, [(36, .iload_n 2), (37, .iconst 0), (38, .iastore), (39, .aload_n 0), (40, .getfield 43), (43, .aload_n 0), (44, .getfield 104), (47, .aaload), (48, .iload_n 2), (49, .iconst 0), (50, .iastore), (51, .aload_n 0), (52, .bipush 16), (54, .iload_n 2), (55, .imul), (56, .putfield 111), (59, .iconst 0), (60, .istore_n 3), (61, .iload_n 3), (62, .bipush 16), (64, .if_icmp .ge 26), (67, .aload_n 0), (68, .getfield 46), (71, .aload_n 0)]),
  (109, [(72, .getfield 104), (75, .aaload), (76, .aload_n 0), (77, .getfield 111), (80, .iload_n 3), (81, .iadd), (82, .iconst 0), (83, .iastore), (84, .iinc 3 1), (87, .goto (-26)), (90, .aload_n 0), (91, .aload_n 1), (92, .putfield 114), (95, .aload_n 0), (96, .iconst 0), (97, .putfield 118), (100, .return_)])]
theorem ok_X8_pushFrame : CodeOK cX8_pushFrame k_X8_pushFrame := okw 0 (by decide +kernel) (okw 36 (by decide +kernel) (okw 72 (by decide +kernel) (okn)))
abbrev p_X8_pushFrame (l : Launch) (G : JG) : JP := (true, [(30, 8, 9, 1008100, 7), (35, 8, 10, 1008133, 8), (40, 8, 11, 1008130, 17), (43, 8, 12, 1008130, 26), (46, 8, 13, 1008130, 35), (104, 8, 27, 0, 0), (111, 8, 29, 0, 0)], [], [], [(111, 8, 29, 0), (114, 8, 28, 18), (118, 8, 30, 0)], [], [], [], false, 700, [])
theorem pk_X8_pushFrame {K : JC} {l : Launch} {G : JG} {Q : Int → MH → Prop} {E : Nat → Int → MH → Prop} {h0 : MH} (ki : KI K l G yX8_pushFrame cX8_pushFrame 4 none [] 4 150 700 Q E h0) (hG : gO G = true) : POK K RX8 (p_X8_pushFrame l G) :=
  POKi (y := yX8_pushFrame) ki hG (rfs rf_X8_ok (by decide +kernel)) fmz fmz (rps rp_X8_ok (by decide +kernel)) fmz fmz
  (pkE ki (by
    intro K e1 e2 e3 e4; subst e1; subst e2
    exact fmz)) (fun z => Bool.noConfusion z) rfl (pkP ki (by
    intro K e1 e2 e3 e4; subst e1; subst e2
    exact fmz))
theorem r_X8_pushFrame_0 {K : JC} {l : Launch} {G : JG} {Q : Int → MH → Prop} {E : Nat → Int → MH → Prop} {h0 : MH} (ki : KI K l G yX8_pushFrame cX8_pushFrame 4 none [] 4 150 700 Q E h0) (hG : gO G = true) {v1 : Int} {h : MH} (H :
    (0 ≤ (hv h 346 27)) ∧
    ((hv h 346 27) < 8) ∧
    (0 ≤ (hv h 346 27)) ∧
    ((hv h 346 27) < 8) ∧
    (∀ h1, h1 = hset h 353 (hv h 346 27) (w32 ((hv h 353 (hv h 346 27)) + 1)) →
    (∀ x2_2 : Int, x2_2 = (hv h 353 (hv h 346 27)) →
    (0 ≤ (hv h1 346 27)) ∧
    ((hv h1 346 27) < 8) ∧
    ((hv h1 354 (hv h1 346 27)) ≠ 0) ∧
    (0 ≤ x2_2) ∧
    (x2_2 < (hn h1 (hv h1 354 (hv h1 346 27)))) ∧
    (v1 ≠ 0) ∧
    (∀ h3, h3 = hset h1 (hv h1 354 (hv h1 346 27)) x2_2 v1 →
    (0 ≤ (hv h3 346 27)) ∧
    ((hv h3 346 27) < 8) ∧
    ((hv h3 363 (hv h3 346 27)) ≠ 0) ∧
    (0 ≤ x2_2) ∧
    (x2_2 < (hn h3 (hv h3 363 (hv h3 346 27)))) ∧
    (∀ h4, h4 = hset h3 (hv h3 363 (hv h3 346 27)) x2_2 0 →
    (0 ≤ (hv h4 346 27)) ∧
    ((hv h4 346 27) < 8) ∧
    ((hv h4 372 (hv h4 346 27)) ≠ 0) ∧
    (0 ≤ x2_2) ∧
    (x2_2 < (hn h4 (hv h4 372 (hv h4 346 27)))) ∧
    (∀ h5, h5 = hset h4 (hv h4 372 (hv h4 346 27)) x2_2 0 →
    (∀ h6, h6 = hset h5 346 29 (w32 (16 * x2_2)) →
    (∀ x3_7 : Int, x3_7 = 0 →
    JW K 61 [(2008, 346), (18, v1), (0, x2_2), (0, x3_7)] [] h6)))))))) : JW K 0 [(2008, 346), (18, v1), (5000, 0), (5000, 0)] [] h := by
  have e1 := ki.2.2.2.2.1
  have e2 := ki.2.2.2.2.2.1
  subst e1; subst e2
  exact run_ok (dia := []) (cnr := []) (cuts := [(61, [2008, 18, 0, 0], [])]) ki.1 (pk_X8_pushFrame ki hG) ok_X8_pushFrame (by decide) 44 true _ _ _ _ H
theorem r_X8_pushFrame_61 {K : JC} {l : Launch} {G : JG} {Q : Int → MH → Prop} {E : Nat → Int → MH → Prop} {h0 : MH} (ki : KI K l G yX8_pushFrame cX8_pushFrame 4 none [] 4 150 700 Q E h0) (hG : gO G = true) {v1 v2 v3 : Int} {h : MH} (H :
    ((16 ≤ v3 →
      (∀ h1, h1 = hset h 346 28 v1 →
      (∀ h2, h2 = hset h1 346 30 0 →
      Q 0 h2))) ∧
    (v3 < 16 →
      (0 ≤ (hv h 346 27)) ∧
      ((hv h 346 27) < 8) ∧
      ((hv h 381 (hv h 346 27)) ≠ 0) ∧
      (0 ≤ (w32 ((hv h 346 29) + v3))) ∧
      ((w32 ((hv h 346 29) + v3)) < (hn h (hv h 381 (hv h 346 27)))) ∧
      (∀ h3, h3 = hset h (hv h 381 (hv h 346 27)) (w32 ((hv h 346 29) + v3)) 0 →
      (∀ x3_4 : Int, x3_4 = w32 (v3 + 1) →
      JW K 61 [(2008, 346), (18, v1), (0, v2), (0, x3_4)] [] h3))))) : JW K 61 [(2008, 346), (18, v1), (0, v2), (0, v3)] [] h := by
  have e1 := ki.2.2.2.2.1
  have e2 := ki.2.2.2.2.2.1
  subst e1; subst e2
  exact run_ok (dia := []) (cnr := []) (cuts := [(61, [2008, 18, 0, 0], [])]) ki.1 (pk_X8_pushFrame ki hG) ok_X8_pushFrame (by decide) 18 true _ _ _ _ H
abbrev k_X8_nextInput : List (Nat × List (Nat × Instr)) := [(40, [(0, .aload_n 0), (1, .getfield 85), (4, .aload_n 0), (5, .getfield 101), (8, .if_icmp .ge 22), (11, .aload_n 0), (12, .getfield 58), (15, .aload_n 0), (16, .dup), (17, .getfield 85), (20, .dup_x1), (21, .iconst 1), (22, .iadd), (23, .putfield 85), (26, .iaload), (27, .goto 4), (30, .iconst 0), (31, .ireturn)])]
theorem ok_X8_nextInput : CodeOK cX8_nextInput k_X8_nextInput := okw 0 (by decide +kernel) (okn)
abbrev p_X8_nextInput (l : Launch) (G : JG) : JP := (true, [(58, 8, 24, 1200100, 47), (85, 8, 18, 0, 0), (101, 8, 25, 0, 0)], [], [], [(85, 8, 18, 0)], [], [], [], false, 0, [])
theorem pk_X8_nextInput {K : JC} {l : Launch} {G : JG} {Q : Int → MH → Prop} {E : Nat → Int → MH → Prop} {h0 : MH} (ki : KI K l G yX8_nextInput cX8_nextInput 1 (some .int) [] 4 150 0 Q E h0) (hG : gO G = true) : POK K RX8 (p_X8_nextInput l G) :=
  POKi (y := yX8_nextInput) ki hG (rfs rf_X8_ok (by decide +kernel)) fmz fmz (rps rp_X8_ok (by decide +kernel)) fmz fmz
  (pkE ki (by
    intro K e1 e2 e3 e4; subst e1; subst e2
    exact fmz)) (fun z => Bool.noConfusion z) rfl (pkP ki (by
    intro K e1 e2 e3 e4; subst e1; subst e2
    exact fmz))
theorem r_X8_nextInput_0 {K : JC} {l : Launch} {G : JG} {Q : Int → MH → Prop} {E : Nat → Int → MH → Prop} {h0 : MH} (ki : KI K l G yX8_nextInput cX8_nextInput 1 (some .int) [] 4 150 0 Q E h0) (hG : gO G = true) {h : MH} (H :
    (((hv h 346 25) ≤ (hv h 346 18) →
      Q 0 h) ∧
    ((hv h 346 18) < (hv h 346 25) →
      (∀ h1, h1 = hset h 346 18 (w32 ((hv h 346 18) + 1)) →
      (0 ≤ (hv h 346 18)) ∧
      ((hv h 346 18) < 200) ∧
      Q (hv h1 393 (hv h 346 18)) h1)))) : JW K 0 [(2008, 346)] [] h := by
  have e1 := ki.2.2.2.2.1
  have e2 := ki.2.2.2.2.2.1
  subst e1; subst e2
  exact run_ok (dia := []) (cnr := []) (cuts := []) ki.1 (pk_X8_nextInput ki hG) ok_X8_nextInput (by decide) 18 true _ _ _ _ H
abbrev k_X8_turns : List (Nat × List (Nat × Instr)) := [(43, [(0, .iconst 0), (1, .istore_n 3), (2, .iconst 0), (3, .istore 4), (5, .aload_n 0), (6, .getfield 79), (9, .aload_n 0), (10, .getfield 76), (13, .if_icmp .ge 134), (16, .aload_n 0), (17, .getfield 82), (20, .iload_n 2), (21, .if_icmp .ne 5), (24, .iconst 1), (25, .ireturn), (26, .aload_n 0), (27, .iload_n 3), (28, .putfield 104), (31, .iinc 3 1), (34, .iconst 0), (35, .istore 5), (37, .iload 5), (39, .iload_n 1), (40, .if_icmp .ge 49)]),
  (94, [(43, .aload_n 0), (44, .getfield 30), (47, .aload_n 0), (48, .getfield 104), (51, .iaload), (52, .ifCond .le 37), (55, .aload_n 0), (56, .getfield 82), (59, .iload_n 2), (60, .if_icmp .ge 29), (63, .aload_n 0), (64, .invokevirtual 149), (67, .ifCond .eq 22), (70, .aload_n 0), (71, .invokevirtual 153), (74, .aload_n 0), (75, .getfield 97), (78, .ifCond .eq 5), (81, .iconst 3), (82, .ireturn), (83, .iinc 5 1), (86, .goto (-49)), (89, .iload 5), (91, .ifCond .gt 11)]),
  (139, [(94, .aload_n 0), (95, .getfield 82), (98, .iload_n 2), (99, .if_icmp .ne 7), (102, .iconst 0), (103, .goto 7), (106, .iload 4), (108, .iconst 1), (109, .iadd), (110, .istore 4), (112, .iload_n 3), (113, .aload_n 0), (114, .getfield 76), (117, .if_icmp .lt 5), (120, .iconst 0), (121, .istore_n 3), (122, .iload 4), (124, .aload_n 0), (125, .getfield 76), (128, .if_icmp .le 16), (131, .aload_n 0), (132, .getfield 79), (135, .aload_n 0), (136, .getfield 76)]),
  (157, [(139, .if_icmp .ge 5), (142, .iconst 2), (143, .ireturn), (144, .goto (-139)), (147, .iconst 0), (148, .ireturn)])]
theorem ok_X8_turns : CodeOK cX8_turns k_X8_turns := okw 0 (by decide +kernel) (okw 43 (by decide +kernel) (okw 94 (by decide +kernel) (okw 139 (by decide +kernel) (okn))))
abbrev p_X8_turns (l : Launch) (G : JG) : JP := (true, [(30, 8, 9, 1008100, 7), (76, 8, 15, 0, 0), (79, 8, 16, 0, 0), (82, 8, 17, 0, 0), (97, 8, 31, 0, 0), (104, 8, 27, 0, 0)], [], [], [(104, 8, 27, 0)], [], [], [(149, 1, [2008], 2, S_X8_canGo l G), (153, 1, [2008], 700, S_X8_step l G)], false, 0, [])
theorem pk_X8_turns {K : JC} {l : Launch} {G : JG} {Q : Int → MH → Prop} {E : Nat → Int → MH → Prop} {h0 : MH} (ki : KI K l G yX8_turns cX8_turns 6 (some .int) [] 10 312 0 Q E h0) (hG : gO G = true) : POK K RX8 (p_X8_turns l G) :=
  POKi (y := yX8_turns) ki hG (rfs rf_X8_ok (by decide +kernel)) fmz fmz (rps rp_X8_ok (by decide +kernel)) fmz fmz
  (pkE ki (by
    intro K e1 e2 e3 e4; subst e1; subst e2
    exact fmE (ceV 8 e3 e4 yl_X8_canGo ⟨by decide, ⟨_, _, rfl⟩, q1864, qs82, q1862⟩ rfl) (fmE (ceV 8 e3 e4 yl_X8_step ⟨by decide, ⟨_, _, rfl⟩, q1876, qs85, q1874⟩ rfl) (fmz)))) (fun z => Bool.noConfusion z) rfl (pkP ki (by
    intro K e1 e2 e3 e4; subst e1; subst e2
    exact fmz))
theorem r_X8_turns_0 {K : JC} {l : Launch} {G : JG} {Q : Int → MH → Prop} {E : Nat → Int → MH → Prop} {h0 : MH} (ki : KI K l G yX8_turns cX8_turns 6 (some .int) [] 10 312 0 Q E h0) (hG : gO G = true) {v1 v2 : Int} {h : MH} (H :
    (∀ x3_1 : Int, x3_1 = 0 →
    (∀ x4_2 : Int, x4_2 = 0 →
    JW K 5 [(2008, 346), (0, v1), (0, v2), (0, x3_1), (0, x4_2), (5000, 0)] [] h))) : JW K 0 [(2008, 346), (0, v1), (0, v2), (5000, 0), (5000, 0), (5000, 0)] [] h := by
  have e1 := ki.2.2.2.2.1
  have e2 := ki.2.2.2.2.2.1
  subst e1; subst e2
  exact run_ok (dia := [(91, 110)]) (cnr := [(40, 63, 89), (128, 142, 144)]) (cuts := [(5, [2008, 0, 0, 0, 0, 5000], []), (37, [2008, 0, 0, 0, 0, 0], [])]) ki.1 (pk_X8_turns ki hG) ok_X8_turns (by decide) 6 true _ _ _ _ H
theorem r_X8_turns_5 {K : JC} {l : Launch} {G : JG} {Q : Int → MH → Prop} {E : Nat → Int → MH → Prop} {h0 : MH} (ki : KI K l G yX8_turns cX8_turns 6 (some .int) [] 10 312 0 Q E h0) (hG : gO G = true) {v1 v2 v3 v4 : Int} {h : MH} (H :
    (((hv h 346 15) ≤ (hv h 346 16) →
      Q 0 h) ∧
    ((hv h 346 16) < (hv h 346 15) →
      ((¬ (hv h 346 17) = v2 →
        (∀ h1, h1 = hset h 346 27 v3 →
        (∀ x3_2 : Int, x3_2 = w32 (v3 + 1) →
        (∀ x5_3 : Int, x5_3 = 0 →
        JW K 37 [(2008, 346), (0, v1), (0, v2), (0, x3_2), (0, v4), (0, x5_3)] [] h1)))) ∧
      ((hv h 346 17) = v2 →
        Q 1 h))))) : JW K 5 [(2008, 346), (0, v1), (0, v2), (0, v3), (0, v4), (5000, 0)] [] h := by
  have e1 := ki.2.2.2.2.1
  have e2 := ki.2.2.2.2.2.1
  subst e1; subst e2
  exact run_ok (dia := [(91, 110)]) (cnr := [(40, 63, 89), (128, 142, 144)]) (cuts := [(5, [2008, 0, 0, 0, 0, 5000], []), (37, [2008, 0, 0, 0, 0, 0], [])]) ki.1 (pk_X8_turns ki hG) ok_X8_turns (by decide) 17 true _ _ _ _ H
theorem r_X8_turns_37 {K : JC} {l : Launch} {G : JG} {Q : Int → MH → Prop} {E : Nat → Int → MH → Prop} {h0 : MH} (ki : KI K l G yX8_turns cX8_turns 6 (some .int) [] 10 312 0 Q E h0) (hG : gO G = true) {v1 v2 v3 v4 v5 : Int} {h : MH} (H :
    ((v5 < v1 → (0 ≤ (hv h 346 27)) ∧ (hv h 346 27) < 8)) ∧
    (((v5 < v1 ∧ (0 < (hv h 353 (hv h 346 27)) ∧ (hv h 346 17) < v2)) →
      S_X8_canGo l G [(2008, 346)] h (fun z1 h2 =>
      ((z1 = 0 →
        (∀ x4_3 : Int, x4_3 = (if 0 < v5 then 0 else (if (hv h2 346 17) = v2 then 0 else (w32 (v4 + 1)) : Int) : Int) →
        ((v3 < (hv h2 346 15) →
          ((((hv h2 346 15) < x4_3 ∧ (hv h2 346 16) < (hv h2 346 15)) →
            Q 2 h2) ∧
          (¬ ((hv h2 346 15) < x4_3 ∧ (hv h2 346 16) < (hv h2 346 15)) →
            JW K 5 [(2008, 346), (0, v1), (0, v2), (0, v3), (0, x4_3), (5000, 0)] [] h2))) ∧
        ((hv h2 346 15) ≤ v3 →
          (∀ x3_4 : Int, x3_4 = 0 →
          ((((hv h2 346 15) < x4_3 ∧ (hv h2 346 16) < (hv h2 346 15)) →
            Q 2 h2) ∧
          (¬ ((hv h2 346 15) < x4_3 ∧ (hv h2 346 16) < (hv h2 346 15)) →
            JW K 5 [(2008, 346), (0, v1), (0, v2), (0, x3_4), (0, x4_3), (5000, 0)] [] h2))))))) ∧
      (¬ z1 = 0 →
        S_X8_step l G [(2008, 346)] h2 (fun _ h6 =>
        (((hv h6 346 31) = 0 →
          (∀ x5_7 : Int, x5_7 = w32 (v5 + 1) →
          JW K 37 [(2008, 346), (0, v1), (0, v2), (0, v3), (0, v4), (0, x5_7)] [] h6)) ∧
        (¬ (hv h6 346 31) = 0 →
          Q 3 h6))) E))) E) ∧
    (¬ (v5 < v1 ∧ (0 < (hv h 353 (hv h 346 27)) ∧ (hv h 346 17) < v2)) →
      (∀ x4_8 : Int, x4_8 = (if 0 < v5 then 0 else (if (hv h 346 17) = v2 then 0 else (w32 (v4 + 1)) : Int) : Int) →
      ((v3 < (hv h 346 15) →
        ((((hv h 346 15) < x4_8 ∧ (hv h 346 16) < (hv h 346 15)) →
          Q 2 h) ∧
        (¬ ((hv h 346 15) < x4_8 ∧ (hv h 346 16) < (hv h 346 15)) →
          JW K 5 [(2008, 346), (0, v1), (0, v2), (0, v3), (0, x4_8), (5000, 0)] [] h))) ∧
      ((hv h 346 15) ≤ v3 →
        (∀ x3_9 : Int, x3_9 = 0 →
        ((((hv h 346 15) < x4_8 ∧ (hv h 346 16) < (hv h 346 15)) →
          Q 2 h) ∧
        (¬ ((hv h 346 15) < x4_8 ∧ (hv h 346 16) < (hv h 346 15)) →
          JW K 5 [(2008, 346), (0, v1), (0, v2), (0, x3_9), (0, x4_8), (5000, 0)] [] h))))))))) : JW K 37 [(2008, 346), (0, v1), (0, v2), (0, v3), (0, v4), (0, v5)] [] h := by
  have e1 := ki.2.2.2.2.1
  have e2 := ki.2.2.2.2.2.1
  subst e1; subst e2
  exact run_ok (dia := [(91, 110)]) (cnr := [(40, 63, 89), (128, 142, 144)]) (cuts := [(5, [2008, 0, 0, 0, 0, 5000], []), (37, [2008, 0, 0, 0, 0, 0], [])]) ki.1 (pk_X8_turns ki hG) ok_X8_turns (by decide) 22 true _ _ _ _ H
abbrev k_X8_canGo : List (Nat × List (Nat × Instr)) := [(41, [(0, .aload_n 0), (1, .invokevirtual 156), (4, .aload_n 0), (5, .invokevirtual 159), (8, .istore_n 1), (9, .aload_n 0), (10, .getfield 114), (13, .getfield 162), (16, .iload_n 1), (17, .iaload), (18, .bipush 34), (20, .if_icmp .eq 5), (23, .iconst 1), (24, .ireturn), (25, .aload_n 0), (26, .getfield 27), (29, .aload_n 0), (30, .getfield 114), (33, .getfield 165), (36, .iload_n 1), (37, .iaload), (38, .iaload), (39, .istore_n 2), (40, .iload_n 2)]),
  (67, [(41, .iconst (-1)), (42, .if_icmp .eq 11), (45, .iload_n 2), (46, .aload_n 0), (47, .getfield 104), (50, .if_icmp .ne 7), (53, .iconst 1), (54, .goto 4), (57, .iconst 0), (58, .ireturn)])]
theorem ok_X8_canGo : CodeOK cX8_canGo k_X8_canGo := okw 0 (by decide +kernel) (okw 41 (by decide +kernel) (okn))
abbrev p_X8_canGo (l : Launch) (G : JG) : JP := (true, [(27, 8, 8, 1008100, 6), (104, 8, 27, 0, 0), (114, 8, 28, 18, 0), (162, 14, 7, 104, 0), (165, 14, 8, 104, 0)], [], [], [], [], [], [(156, 1, [2008], 700, S_X8_load l G), (159, 1, [2008], 0, S_X8_at l G)], false, 2, [])
theorem pk_X8_canGo {K : JC} {l : Launch} {G : JG} {Q : Int → MH → Prop} {E : Nat → Int → MH → Prop} {h0 : MH} (ki : KI K l G yX8_canGo cX8_canGo 3 (some .boolean) [] 5 171 2 Q E h0) (hG : gO G = true) : POK K RX8 (p_X8_canGo l G) :=
  POKi (y := yX8_canGo) ki hG (rfs rf_X8_ok (by decide +kernel)) fmz fmz fmz fmz fmz
  (pkE ki (by
    intro K e1 e2 e3 e4; subst e1; subst e2
    exact fmE (ceV 8 e3 e4 yl_X8_load ⟨by decide, ⟨_, _, rfl⟩, q1868, qs83, q1866⟩ rfl) (fmE (ceV 8 e3 e4 yl_X8_at ⟨by decide, ⟨_, _, rfl⟩, q1872, qs84, q1870⟩ rfl) (fmz)))) (fun z => Bool.noConfusion z) rfl (pkP ki (by
    intro K e1 e2 e3 e4; subst e1; subst e2
    exact fmz))
theorem r_X8_canGo_0 {K : JC} {l : Launch} {G : JG} {Q : Int → MH → Prop} {E : Nat → Int → MH → Prop} {h0 : MH} (ki : KI K l G yX8_canGo cX8_canGo 3 (some .boolean) [] 5 171 2 Q E h0) (hG : gO G = true) {h : MH} (H :
    S_X8_load l G [(2008, 346)] h (fun _ h2 =>
    S_X8_at l G [(2008, 346)] h2 (fun z3 h4 =>
    (∀ x1_5 : Int, x1_5 = z3 →
    ((hv h4 346 28) ≠ 0) ∧
    ((hv h4 (hv h4 346 28) 7) ≠ 0) ∧
    (0 ≤ x1_5) ∧
    (x1_5 < (hn h4 (hv h4 (hv h4 346 28) 7))) ∧
    (((hv h4 (hv h4 (hv h4 346 28) 7) x1_5) = 34 →
      ((hv h4 346 28) ≠ 0) ∧
      ((hv h4 (hv h4 346 28) 8) ≠ 0) ∧
      (0 ≤ x1_5) ∧
      (x1_5 < (hn h4 (hv h4 (hv h4 346 28) 8))) ∧
      (0 ≤ (hv h4 (hv h4 (hv h4 346 28) 8) x1_5)) ∧
      ((hv h4 (hv h4 (hv h4 346 28) 8) x1_5) < 8) ∧
      (∀ x2_6 : Int, x2_6 = (hv h4 352 (hv h4 (hv h4 (hv h4 346 28) 8) x1_5)) →
      (((if x2_6 = (-1) then 1 else (if x2_6 = (hv h4 346 27) then 1 else 0 : Int) : Int) = 0 ∨ (if x2_6 = (-1) then 1 else (if x2_6 = (hv h4 346 27) then 1 else 0 : Int) : Int) = 1) ∧ Q (if x2_6 = (-1) then 1 else (if x2_6 = (hv h4 346 27) then 1 else 0 : Int) : Int) h4))) ∧
    (¬ (hv h4 (hv h4 (hv h4 346 28) 7) x1_5) = 34 →
      (((1 : Int) = 0 ∨ (1 : Int) = 1) ∧ Q 1 h4))))) E) E) : JW K 0 [(2008, 346), (5000, 0), (5000, 0)] [] h := by
  have e1 := ki.2.2.2.2.1
  have e2 := ki.2.2.2.2.2.1
  subst e1; subst e2
  exact run_ok (dia := [(42, 58)]) (cnr := []) (cuts := []) ki.1 (pk_X8_canGo ki hG) ok_X8_canGo (by decide) 26 true _ _ _ _ H
abbrev k_X8_load : List (Nat × List (Nat × Instr)) := [(37, [(0, .aload_n 0), (1, .getfield 30), (4, .aload_n 0), (5, .getfield 104), (8, .iaload), (9, .iconst 1), (10, .isub), (11, .istore_n 1), (12, .aload_n 0), (13, .aload_n 0), (14, .getfield 35), (17, .aload_n 0), (18, .getfield 104), (21, .aaload), (22, .iload_n 1), (23, .aaload), (24, .putfield 114), (27, .aload_n 0), (28, .bipush 16), (30, .iload_n 1), (31, .imul), (32, .putfield 111), (35, .aload_n 0), (36, .aload_n 0)]),
  (59, [(37, .getfield 43), (40, .aload_n 0), (41, .getfield 104), (44, .aaload), (45, .iload_n 1), (46, .iaload), (47, .putfield 118), (50, .return_)])]
theorem ok_X8_load : CodeOK cX8_load k_X8_load := okw 0 (by decide +kernel) (okw 37 (by decide +kernel) (okn))
abbrev p_X8_load (l : Launch) (G : JG) : JP := (true, [(30, 8, 9, 1008100, 7), (35, 8, 10, 1008133, 8), (43, 8, 12, 1008130, 26), (104, 8, 27, 0, 0)], [], [], [(111, 8, 29, 0), (114, 8, 28, 18), (118, 8, 30, 0)], [], [], [], false, 700, [])
theorem pk_X8_load {K : JC} {l : Launch} {G : JG} {Q : Int → MH → Prop} {E : Nat → Int → MH → Prop} {h0 : MH} (ki : KI K l G yX8_load cX8_load 2 none [] 4 150 700 Q E h0) (hG : gO G = true) : POK K RX8 (p_X8_load l G) :=
  POKi (y := yX8_load) ki hG (rfs rf_X8_ok (by decide +kernel)) fmz fmz (rps rp_X8_ok (by decide +kernel)) fmz fmz
  (pkE ki (by
    intro K e1 e2 e3 e4; subst e1; subst e2
    exact fmz)) (fun z => Bool.noConfusion z) rfl (pkP ki (by
    intro K e1 e2 e3 e4; subst e1; subst e2
    exact fmz))
theorem r_X8_load_0 {K : JC} {l : Launch} {G : JG} {Q : Int → MH → Prop} {E : Nat → Int → MH → Prop} {h0 : MH} (ki : KI K l G yX8_load cX8_load 2 none [] 4 150 700 Q E h0) (hG : gO G = true) {h : MH} (H :
    (0 ≤ (hv h 346 27)) ∧
    ((hv h 346 27) < 8) ∧
    (∀ x1_1 : Int, x1_1 = (w32 ((hv h 353 (hv h 346 27)) - 1)) →
    (0 ≤ (hv h 346 27)) ∧
    ((hv h 346 27) < 8) ∧
    ((hv h 354 (hv h 346 27)) ≠ 0) ∧
    (0 ≤ x1_1) ∧
    (x1_1 < (hn h (hv h 354 (hv h 346 27)))) ∧
    (∀ h2, h2 = hset h 346 28 (hv h (hv h 354 (hv h 346 27)) x1_1) →
    (∀ h3, h3 = hset h2 346 29 (w32 (16 * x1_1)) →
    (0 ≤ (hv h3 346 27)) ∧
    ((hv h3 346 27) < 8) ∧
    ((hv h3 372 (hv h3 346 27)) ≠ 0) ∧
    (0 ≤ x1_1) ∧
    (x1_1 < (hn h3 (hv h3 372 (hv h3 346 27)))) ∧
    (∀ h4, h4 = hset h3 346 30 (hv h3 (hv h3 372 (hv h3 346 27)) x1_1) →
    Q 0 h4))))) : JW K 0 [(2008, 346), (5000, 0)] [] h := by
  have e1 := ki.2.2.2.2.1
  have e2 := ki.2.2.2.2.2.1
  subst e1; subst e2
  exact run_ok (dia := []) (cnr := []) (cuts := []) ki.1 (pk_X8_load ki hG) ok_X8_load (by decide) 33 true _ _ _ _ H
abbrev k_X8_at : List (Nat × List (Nat × Instr)) := [(30, [(0, .aload_n 0), (1, .getfield 40), (4, .aload_n 0), (5, .getfield 104), (8, .aaload), (9, .aload_n 0), (10, .getfield 30), (13, .aload_n 0), (14, .getfield 104), (17, .iaload), (18, .iconst 1), (19, .isub), (20, .iaload), (21, .ireturn)])]
theorem ok_X8_at : CodeOK cX8_at k_X8_at := okw 0 (by decide +kernel) (okn)
abbrev p_X8_at (l : Launch) (G : JG) : JP := (true, [(30, 8, 9, 1008100, 7), (40, 8, 11, 1008130, 17), (104, 8, 27, 0, 0)], [], [], [], [], [], [], false, 0, [])
theorem pk_X8_at {K : JC} {l : Launch} {G : JG} {Q : Int → MH → Prop} {E : Nat → Int → MH → Prop} {h0 : MH} (ki : KI K l G yX8_at cX8_at 1 (some .int) [] 4 150 0 Q E h0) (hG : gO G = true) : POK K RX8 (p_X8_at l G) :=
  POKi (y := yX8_at) ki hG (rfs rf_X8_ok (by decide +kernel)) fmz fmz fmz fmz fmz
  (pkE ki (by
    intro K e1 e2 e3 e4; subst e1; subst e2
    exact fmz)) (fun z => Bool.noConfusion z) rfl (pkP ki (by
    intro K e1 e2 e3 e4; subst e1; subst e2
    exact fmz))
theorem r_X8_at_0 {K : JC} {l : Launch} {G : JG} {Q : Int → MH → Prop} {E : Nat → Int → MH → Prop} {h0 : MH} (ki : KI K l G yX8_at cX8_at 1 (some .int) [] 4 150 0 Q E h0) (hG : gO G = true) {h : MH} (H :
    (0 ≤ (hv h 346 27)) ∧
    ((hv h 346 27) < 8) ∧
    (0 ≤ (hv h 346 27)) ∧
    ((hv h 346 27) < 8) ∧
    ((hv h 363 (hv h 346 27)) ≠ 0) ∧
    (0 ≤ (w32 ((hv h 353 (hv h 346 27)) - 1))) ∧
    ((w32 ((hv h 353 (hv h 346 27)) - 1)) < (hn h (hv h 363 (hv h 346 27)))) ∧
    Q (hv h (hv h 363 (hv h 346 27)) (w32 ((hv h 353 (hv h 346 27)) - 1))) h) : JW K 0 [(2008, 346)] [] h := by
  have e1 := ki.2.2.2.2.1
  have e2 := ki.2.2.2.2.2.1
  subst e1; subst e2
  exact run_ok (dia := []) (cnr := []) (cuts := []) ki.1 (pk_X8_at ki hG) ok_X8_at (by decide) 15 true _ _ _ _ H
abbrev k_X8_step : List (Nat × List (Nat × Instr)) := [(41, [(0, .aload_n 0), (1, .dup), (2, .getfield 82), (5, .iconst 1), (6, .iadd), (7, .putfield 82), (10, .aload_n 0), (11, .invokevirtual 159), (14, .istore_n 1), (15, .aload_n 0), (16, .getfield 114), (19, .getfield 162), (22, .iload_n 1), (23, .iaload), (24, .istore_n 2), (25, .iload_n 2), (26, .bipush 7), (28, .if_icmp .ge 30), (31, .aload_n 0), (32, .iload_n 1), (33, .iload_n 2), (34, .aload_n 0), (35, .getfield 114), (38, .getfield 165)]),
  (84, [(41, .iload_n 1), (42, .iaload), (43, .aload_n 0), (44, .getfield 114), (47, .getfield 168), (50, .iload_n 1), (51, .iaload), (52, .invokevirtual 171), (55, .goto 150), (58, .iload_n 2), (59, .bipush 15), (61, .if_icmp .ge 30), (64, .aload_n 0), (65, .iload_n 1), (66, .iload_n 2), (67, .aload_n 0), (68, .getfield 114), (71, .getfield 165), (74, .iload_n 1), (75, .iaload), (76, .aload_n 0), (77, .getfield 114), (80, .getfield 168), (83, .iload_n 1)]),
  (130, [(84, .iaload), (85, .invokevirtual 175), (88, .goto 117), (91, .iload_n 2), (92, .bipush 20), (94, .if_icmp .ge 30), (97, .aload_n 0), (98, .iload_n 1), (99, .iload_n 2), (100, .aload_n 0), (101, .getfield 114), (104, .getfield 165), (107, .iload_n 1), (108, .iaload), (109, .aload_n 0), (110, .getfield 114), (113, .getfield 168), (116, .iload_n 1), (117, .iaload), (118, .invokevirtual 177), (121, .goto 84), (124, .iload_n 2), (125, .bipush 29), (127, .if_icmp .ge 30)]),
  (173, [(130, .aload_n 0), (131, .iload_n 1), (132, .iload_n 2), (133, .aload_n 0), (134, .getfield 114), (137, .getfield 165), (140, .iload_n 1), (141, .iaload), (142, .aload_n 0), (143, .getfield 114), (146, .getfield 168), (149, .iload_n 1), (150, .iaload), (151, .invokevirtual 180), (154, .goto 51), (157, .iload_n 2), (158, .bipush 34), (160, .if_icmp .ge 30), (163, .aload_n 0), (164, .iload_n 1), (165, .iload_n 2), (166, .aload_n 0), (167, .getfield 114), (170, .getfield 165)]),
  (214, [(173, .iload_n 1), (174, .iaload), (175, .aload_n 0), (176, .getfield 114), (179, .getfield 168), (182, .iload_n 1), (183, .iaload), (184, .invokevirtual 183), (187, .goto 18), (190, .aload_n 0), (191, .iload_n 1), (192, .iload_n 2), (193, .aload_n 0), (194, .getfield 114), (197, .getfield 165), (200, .iload_n 1), (201, .iaload), (202, .invokevirtual 186), (205, .return_)])]
theorem ok_X8_step : CodeOK cX8_step k_X8_step := okw 0 (by decide +kernel) (okw 41 (by decide +kernel) (okw 84 (by decide +kernel) (okw 130 (by decide +kernel) (okw 173 (by decide +kernel) (okn)))))
abbrev p_X8_step (l : Launch) (G : JG) : JP := (true, [(82, 8, 17, 0, 0), (114, 8, 28, 18, 0), (162, 14, 7, 104, 0), (165, 14, 8, 104, 0), (168, 14, 9, 104, 0)], [], [], [(82, 8, 17, 0)], [], [], [(159, 1, [2008], 0, S_X8_at l G), (171, 1, [0, 0, 0, 0, 2008], 700, S_X8_simple l G), (175, 1, [0, 0, 0, 0, 2008], 700, S_X8_numbers l G), (177, 1, [0, 0, 0, 0, 2008], 700, S_X8_jumps l G), (180, 1, [0, 0, 0, 0, 2008], 700, S_X8_objectActs l G), (183, 1, [0, 0, 0, 0, 2008], 700, S_X8_calls l G), (186, 1, [0, 0, 0, 2008], 700, S_X8_locks l G)], false, 700, [])
theorem pk_X8_step {K : JC} {l : Launch} {G : JG} {Q : Int → MH → Prop} {E : Nat → Int → MH → Prop} {h0 : MH} (ki : KI K l G yX8_step cX8_step 3 none [] 9 290 700 Q E h0) (hG : gO G = true) : POK K RX8 (p_X8_step l G) :=
  POKi (y := yX8_step) ki hG (rfs rf_X8_ok (by decide +kernel)) fmz fmz (rps rp_X8_ok (by decide +kernel)) fmz fmz
  (pkE ki (by
    intro K e1 e2 e3 e4; subst e1; subst e2
    exact fmE (ceV 8 e3 e4 yl_X8_at ⟨by decide, ⟨_, _, rfl⟩, q1872, qs84, q1870⟩ rfl) (fmE (ceV 8 e3 e4 yl_X8_simple ⟨by decide, ⟨_, _, rfl⟩, q1880, qs86, q1878⟩ rfl) (fmE (ceV 8 e3 e4 yl_X8_numbers ⟨by decide, ⟨_, _, rfl⟩, q1896, qs90, q1894⟩ rfl) (fmE (ceV 8 e3 e4 yl_X8_jumps ⟨by decide, ⟨_, _, rfl⟩, q1908, qs92, q1906⟩ rfl) (fmE (ceV 8 e3 e4 yl_X8_objectActs ⟨by decide, ⟨_, _, rfl⟩, q1916, qs93, q1914⟩ rfl) (fmE (ceV 8 e3 e4 yl_X8_calls ⟨by decide, ⟨_, _, rfl⟩, q1938, qs98, q1936⟩ rfl) (fmE (ceV 8 e3 e4 yl_X8_locks ⟨by decide, ⟨_, _, rfl⟩, q1952, qs101, q1950⟩ rfl) (fmz))))))))) (fun z => Bool.noConfusion z) rfl (pkP ki (by
    intro K e1 e2 e3 e4; subst e1; subst e2
    exact fmz))
theorem r_X8_step_0 {K : JC} {l : Launch} {G : JG} {Q : Int → MH → Prop} {E : Nat → Int → MH → Prop} {h0 : MH} (ki : KI K l G yX8_step cX8_step 3 none [] 9 290 700 Q E h0) (hG : gO G = true) {h : MH} (H :
    (∀ h1, h1 = hset h 346 17 (w32 ((hv h 346 17) + 1)) →
    S_X8_at l G [(2008, 346)] h1 (fun z2 h3 =>
    (∀ x1_4 : Int, x1_4 = z2 →
    ((hv h3 346 28) ≠ 0) ∧
    ((hv h3 (hv h3 346 28) 7) ≠ 0) ∧
    (0 ≤ x1_4) ∧
    (x1_4 < (hn h3 (hv h3 (hv h3 346 28) 7))) ∧
    (∀ x2_5 : Int, x2_5 = (hv h3 (hv h3 (hv h3 346 28) 7) x1_4) →
    ((7 ≤ x2_5 →
      ((15 ≤ x2_5 →
        ((20 ≤ x2_5 →
          ((29 ≤ x2_5 →
            ((34 ≤ x2_5 →
              ((hv h3 346 28) ≠ 0) ∧
              ((hv h3 (hv h3 346 28) 8) ≠ 0) ∧
              (0 ≤ x1_4) ∧
              (x1_4 < (hn h3 (hv h3 (hv h3 346 28) 8))) ∧
              S_X8_locks l G [(2008, 346), (0, x1_4), (0, x2_5), (0, (hv h3 (hv h3 (hv h3 346 28) 8) x1_4))] h3 (fun _ h7 =>
              Q 0 h7) E) ∧
            (x2_5 < 34 →
              ((hv h3 346 28) ≠ 0) ∧
              ((hv h3 (hv h3 346 28) 8) ≠ 0) ∧
              (0 ≤ x1_4) ∧
              (x1_4 < (hn h3 (hv h3 (hv h3 346 28) 8))) ∧
              ((hv h3 346 28) ≠ 0) ∧
              ((hv h3 (hv h3 346 28) 9) ≠ 0) ∧
              (0 ≤ x1_4) ∧
              (x1_4 < (hn h3 (hv h3 (hv h3 346 28) 9))) ∧
              S_X8_calls l G [(2008, 346), (0, x1_4), (0, x2_5), (0, (hv h3 (hv h3 (hv h3 346 28) 8) x1_4)), (0, (hv h3 (hv h3 (hv h3 346 28) 9) x1_4))] h3 (fun _ h9 =>
              Q 0 h9) E))) ∧
          (x2_5 < 29 →
            ((hv h3 346 28) ≠ 0) ∧
            ((hv h3 (hv h3 346 28) 8) ≠ 0) ∧
            (0 ≤ x1_4) ∧
            (x1_4 < (hn h3 (hv h3 (hv h3 346 28) 8))) ∧
            ((hv h3 346 28) ≠ 0) ∧
            ((hv h3 (hv h3 346 28) 9) ≠ 0) ∧
            (0 ≤ x1_4) ∧
            (x1_4 < (hn h3 (hv h3 (hv h3 346 28) 9))) ∧
            S_X8_objectActs l G [(2008, 346), (0, x1_4), (0, x2_5), (0, (hv h3 (hv h3 (hv h3 346 28) 8) x1_4)), (0, (hv h3 (hv h3 (hv h3 346 28) 9) x1_4))] h3 (fun _ h11 =>
            Q 0 h11) E))) ∧
        (x2_5 < 20 →
          ((hv h3 346 28) ≠ 0) ∧
          ((hv h3 (hv h3 346 28) 8) ≠ 0) ∧
          (0 ≤ x1_4) ∧
          (x1_4 < (hn h3 (hv h3 (hv h3 346 28) 8))) ∧
          ((hv h3 346 28) ≠ 0) ∧
          ((hv h3 (hv h3 346 28) 9) ≠ 0) ∧
          (0 ≤ x1_4) ∧
          (x1_4 < (hn h3 (hv h3 (hv h3 346 28) 9))) ∧
          S_X8_jumps l G [(2008, 346), (0, x1_4), (0, x2_5), (0, (hv h3 (hv h3 (hv h3 346 28) 8) x1_4)), (0, (hv h3 (hv h3 (hv h3 346 28) 9) x1_4))] h3 (fun _ h13 =>
          Q 0 h13) E))) ∧
      (x2_5 < 15 →
        ((hv h3 346 28) ≠ 0) ∧
        ((hv h3 (hv h3 346 28) 8) ≠ 0) ∧
        (0 ≤ x1_4) ∧
        (x1_4 < (hn h3 (hv h3 (hv h3 346 28) 8))) ∧
        ((hv h3 346 28) ≠ 0) ∧
        ((hv h3 (hv h3 346 28) 9) ≠ 0) ∧
        (0 ≤ x1_4) ∧
        (x1_4 < (hn h3 (hv h3 (hv h3 346 28) 9))) ∧
        S_X8_numbers l G [(2008, 346), (0, x1_4), (0, x2_5), (0, (hv h3 (hv h3 (hv h3 346 28) 8) x1_4)), (0, (hv h3 (hv h3 (hv h3 346 28) 9) x1_4))] h3 (fun _ h15 =>
        Q 0 h15) E))) ∧
    (x2_5 < 7 →
      ((hv h3 346 28) ≠ 0) ∧
      ((hv h3 (hv h3 346 28) 8) ≠ 0) ∧
      (0 ≤ x1_4) ∧
      (x1_4 < (hn h3 (hv h3 (hv h3 346 28) 8))) ∧
      ((hv h3 346 28) ≠ 0) ∧
      ((hv h3 (hv h3 346 28) 9) ≠ 0) ∧
      (0 ≤ x1_4) ∧
      (x1_4 < (hn h3 (hv h3 (hv h3 346 28) 9))) ∧
      S_X8_simple l G [(2008, 346), (0, x1_4), (0, x2_5), (0, (hv h3 (hv h3 (hv h3 346 28) 8) x1_4)), (0, (hv h3 (hv h3 (hv h3 346 28) 9) x1_4))] h3 (fun _ h17 =>
      Q 0 h17) E))))) E)) : JW K 0 [(2008, 346), (5000, 0), (5000, 0)] [] h := by
  have e1 := ki.2.2.2.2.1
  have e2 := ki.2.2.2.2.2.1
  subst e1; subst e2
  exact run_ok (dia := []) (cnr := []) (cuts := []) ki.1 (pk_X8_step ki hG) ok_X8_step (by decide) 47 true _ _ _ _ H
abbrev k_X8_simple : List (Nat × List (Nat × Instr)) := [(45, [(0, .iload_n 2), (1, .ifCond .ne 12), (4, .aload_n 0), (5, .iload 4), (7, .invokevirtual 190), (10, .goto 119), (13, .iload_n 2), (14, .iconst 1), (15, .if_icmp .ne 11), (18, .aload_n 0), (19, .iconst 0), (20, .invokevirtual 190), (23, .goto 106), (26, .iload_n 2), (27, .iconst 2), (28, .if_icmp .ne 26), (31, .aload_n 0), (32, .aload_n 0), (33, .getfield 46), (36, .aload_n 0), (37, .getfield 104), (40, .aaload), (41, .aload_n 0), (42, .getfield 111)]),
  (88, [(45, .iload_n 3), (46, .iadd), (47, .iaload), (48, .invokevirtual 190), (51, .goto 78), (54, .iload_n 2), (55, .iconst 3), (56, .if_icmp .ne 26), (59, .aload_n 0), (60, .getfield 46), (63, .aload_n 0), (64, .getfield 104), (67, .aaload), (68, .aload_n 0), (69, .getfield 111), (72, .iload_n 3), (73, .iadd), (74, .aload_n 0), (75, .invokevirtual 194), (78, .iastore), (79, .goto 50), (82, .aload_n 0), (83, .invokevirtual 194), (86, .istore 5)]),
  (132, [(88, .iload_n 2), (89, .iconst 5), (90, .if_icmp .ne 15), (93, .aload_n 0), (94, .iload 5), (96, .invokevirtual 190), (99, .aload_n 0), (100, .iload 5), (102, .invokevirtual 190), (105, .iload_n 2), (106, .bipush 6), (108, .if_icmp .ne 21), (111, .aload_n 0), (112, .invokevirtual 194), (115, .istore 6), (117, .aload_n 0), (118, .iload 5), (120, .invokevirtual 190), (123, .aload_n 0), (124, .iload 6), (126, .invokevirtual 190), (129, .aload_n 0), (130, .iload_n 1), (131, .iconst 1)]),
  (145, [(132, .iadd), (133, .invokevirtual 197), (136, .return_)])]
theorem ok_X8_simple : CodeOK cX8_simple k_X8_simple := okw 0 (by decide +kernel) (okw 45 (by decide +kernel) (okw 88 (by decide +kernel) (okw 132 (by decide +kernel) (okn))))
abbrev p_X8_simple (l : Launch) (G : JG) : JP := (true, [(46, 8, 13, 1008130, 35), (104, 8, 27, 0, 0), (111, 8, 29, 0, 0)], [], [], [], [], [], [(190, 1, [0, 2008], 700, S_X8_put l G), (194, 1, [2008], 0, S_X8_take l G), (197, 1, [0, 2008], 700, S_X8_goOn l G)], false, 700, [])
theorem pk_X8_simple {K : JC} {l : Launch} {G : JG} {Q : Int → MH → Prop} {E : Nat → Int → MH → Prop} {h0 : MH} (ki : KI K l G yX8_simple cX8_simple 7 none [] 5 172 700 Q E h0) (hG : gO G = true) : POK K RX8 (p_X8_simple l G) :=
  POKi (y := yX8_simple) ki hG (rfs rf_X8_ok (by decide +kernel)) fmz fmz fmz fmz fmz
  (pkE ki (by
    intro K e1 e2 e3 e4; subst e1; subst e2
    exact fmE (ceV 8 e3 e4 yl_X8_put ⟨by decide, ⟨_, _, rfl⟩, q1884, qs87, q1882⟩ rfl) (fmE (ceV 8 e3 e4 yl_X8_take ⟨by decide, ⟨_, _, rfl⟩, q1888, qs88, q1886⟩ rfl) (fmE (ceV 8 e3 e4 yl_X8_goOn ⟨by decide, ⟨_, _, rfl⟩, q1892, qs89, q1890⟩ rfl) (fmz))))) (fun z => Bool.noConfusion z) rfl (pkP ki (by
    intro K e1 e2 e3 e4; subst e1; subst e2
    exact fmz))
theorem r_X8_simple_0 {K : JC} {l : Launch} {G : JG} {Q : Int → MH → Prop} {E : Nat → Int → MH → Prop} {h0 : MH} (ki : KI K l G yX8_simple cX8_simple 7 none [] 5 172 700 Q E h0) (hG : gO G = true) {v1 v2 v3 v4 : Int} {h : MH} (H :
    ((¬ v2 = 0 →
      ((¬ v2 = 1 →
        ((¬ v2 = 2 →
          ((¬ v2 = 3 →
            S_X8_take l G [(2008, 346)] h (fun z1 h2 =>
            (∀ x5_3 : Int, x5_3 = z1 →
            ((¬ v2 = 5 →
              ((¬ v2 = 6 →
                S_X8_goOn l G [(2008, 346), (0, (w32 (v1 + 1)))] h2 (fun _ h5 =>
                Q 0 h5) E) ∧
              (v2 = 6 →
                S_X8_take l G [(2008, 346)] h2 (fun z6 h7 =>
                (∀ x6_8 : Int, x6_8 = z6 →
                S_X8_put l G [(2008, 346), (0, x5_3)] h7 (fun _ h10 =>
                S_X8_put l G [(2008, 346), (0, x6_8)] h10 (fun _ h12 =>
                S_X8_goOn l G [(2008, 346), (0, (w32 (v1 + 1)))] h12 (fun _ h14 =>
                Q 0 h14) E) E) E)) E))) ∧
            (v2 = 5 →
              S_X8_put l G [(2008, 346), (0, x5_3)] h2 (fun _ h16 =>
              S_X8_put l G [(2008, 346), (0, x5_3)] h16 (fun _ h18 =>
              ((¬ v2 = 6 →
                S_X8_goOn l G [(2008, 346), (0, (w32 (v1 + 1)))] h18 (fun _ h20 =>
                Q 0 h20) E) ∧
              (v2 = 6 →
                S_X8_take l G [(2008, 346)] h18 (fun z21 h22 =>
                (∀ x6_23 : Int, x6_23 = z21 →
                S_X8_put l G [(2008, 346), (0, x5_3)] h22 (fun _ h25 =>
                S_X8_put l G [(2008, 346), (0, x6_23)] h25 (fun _ h27 =>
                S_X8_goOn l G [(2008, 346), (0, (w32 (v1 + 1)))] h27 (fun _ h29 =>
                Q 0 h29) E) E) E)) E))) E) E)))) E) ∧
          (v2 = 3 →
            (0 ≤ (hv h 346 27)) ∧
            ((hv h 346 27) < 8) ∧
            S_X8_take l G [(2008, 346)] h (fun z30 h31 =>
            ((hv h 381 (hv h 346 27)) ≠ 0) ∧
            (0 ≤ (w32 ((hv h 346 29) + v3))) ∧
            ((w32 ((hv h 346 29) + v3)) < (hn h31 (hv h 381 (hv h 346 27)))) ∧
            (∀ h32, h32 = hset h31 (hv h 381 (hv h 346 27)) (w32 ((hv h 346 29) + v3)) z30 →
            S_X8_goOn l G [(2008, 346), (0, (w32 (v1 + 1)))] h32 (fun _ h34 =>
            Q 0 h34) E)) E))) ∧
        (v2 = 2 →
          (0 ≤ (hv h 346 27)) ∧
          ((hv h 346 27) < 8) ∧
          ((hv h 381 (hv h 346 27)) ≠ 0) ∧
          (0 ≤ (w32 ((hv h 346 29) + v3))) ∧
          ((w32 ((hv h 346 29) + v3)) < (hn h (hv h 381 (hv h 346 27)))) ∧
          S_X8_put l G [(2008, 346), (0, (hv h (hv h 381 (hv h 346 27)) (w32 ((hv h 346 29) + v3))))] h (fun _ h36 =>
          S_X8_goOn l G [(2008, 346), (0, (w32 (v1 + 1)))] h36 (fun _ h38 =>
          Q 0 h38) E) E))) ∧
      (v2 = 1 →
        S_X8_put l G [(2008, 346), (0, 0)] h (fun _ h40 =>
        S_X8_goOn l G [(2008, 346), (0, (w32 (v1 + 1)))] h40 (fun _ h42 =>
        Q 0 h42) E) E))) ∧
    (v2 = 0 →
      S_X8_put l G [(2008, 346), (0, v4)] h (fun _ h44 =>
      S_X8_goOn l G [(2008, 346), (0, (w32 (v1 + 1)))] h44 (fun _ h46 =>
      Q 0 h46) E) E))) : JW K 0 [(2008, 346), (0, v1), (0, v2), (0, v3), (0, v4), (5000, 0), (5000, 0)] [] h := by
  have e1 := ki.2.2.2.2.1
  have e2 := ki.2.2.2.2.2.1
  subst e1; subst e2
  exact run_ok (dia := []) (cnr := []) (cuts := []) ki.1 (pk_X8_simple ki hG) ok_X8_simple (by decide) 42 true _ _ _ _ H
abbrev k_X8_put : List (Nat × List (Nat × Instr)) := [(39, [(0, .aload_n 0), (1, .getfield 46), (4, .aload_n 0), (5, .getfield 104), (8, .aaload), (9, .aload_n 0), (10, .getfield 111), (13, .bipush 8), (15, .iadd), (16, .aload_n 0), (17, .dup), (18, .getfield 118), (21, .dup_x1), (22, .iconst 1), (23, .iadd), (24, .putfield 118), (27, .iadd), (28, .iload_n 1), (29, .iastore), (30, .return_)])]
theorem ok_X8_put : CodeOK cX8_put k_X8_put := okw 0 (by decide +kernel) (okn)
abbrev p_X8_put (l : Launch) (G : JG) : JP := (true, [(46, 8, 13, 1008130, 35), (104, 8, 27, 0, 0), (111, 8, 29, 0, 0), (118, 8, 30, 0, 0)], [], [], [(118, 8, 30, 0)], [], [], [], false, 700, [])
theorem pk_X8_put {K : JC} {l : Launch} {G : JG} {Q : Int → MH → Prop} {E : Nat → Int → MH → Prop} {h0 : MH} (ki : KI K l G yX8_put cX8_put 2 none [] 4 150 700 Q E h0) (hG : gO G = true) : POK K RX8 (p_X8_put l G) :=
  POKi (y := yX8_put) ki hG (rfs rf_X8_ok (by decide +kernel)) fmz fmz (rps rp_X8_ok (by decide +kernel)) fmz fmz
  (pkE ki (by
    intro K e1 e2 e3 e4; subst e1; subst e2
    exact fmz)) (fun z => Bool.noConfusion z) rfl (pkP ki (by
    intro K e1 e2 e3 e4; subst e1; subst e2
    exact fmz))
theorem r_X8_put_0 {K : JC} {l : Launch} {G : JG} {Q : Int → MH → Prop} {E : Nat → Int → MH → Prop} {h0 : MH} (ki : KI K l G yX8_put cX8_put 2 none [] 4 150 700 Q E h0) (hG : gO G = true) {v1 : Int} {h : MH} (H :
    (0 ≤ (hv h 346 27)) ∧
    ((hv h 346 27) < 8) ∧
    (∀ h1, h1 = hset h 346 30 (w32 ((hv h 346 30) + 1)) →
    ((hv h 381 (hv h 346 27)) ≠ 0) ∧
    (0 ≤ (w32 ((w32 ((hv h 346 29) + 8)) + (hv h 346 30)))) ∧
    ((w32 ((w32 ((hv h 346 29) + 8)) + (hv h 346 30))) < (hn h1 (hv h 381 (hv h 346 27)))) ∧
    (∀ h2, h2 = hset h1 (hv h 381 (hv h 346 27)) (w32 ((w32 ((hv h 346 29) + 8)) + (hv h 346 30))) v1 →
    Q 0 h2))) : JW K 0 [(2008, 346), (0, v1)] [] h := by
  have e1 := ki.2.2.2.2.1
  have e2 := ki.2.2.2.2.2.1
  subst e1; subst e2
  exact run_ok (dia := []) (cnr := []) (cuts := []) ki.1 (pk_X8_put ki hG) ok_X8_put (by decide) 21 true _ _ _ _ H
abbrev k_X8_take : List (Nat × List (Nat × Instr)) := [(38, [(0, .aload_n 0), (1, .getfield 46), (4, .aload_n 0), (5, .getfield 104), (8, .aaload), (9, .aload_n 0), (10, .getfield 111), (13, .bipush 8), (15, .iadd), (16, .aload_n 0), (17, .dup), (18, .getfield 118), (21, .iconst 1), (22, .isub), (23, .dup_x1), (24, .putfield 118), (27, .iadd), (28, .iaload), (29, .ireturn)])]
theorem ok_X8_take : CodeOK cX8_take k_X8_take := okw 0 (by decide +kernel) (okn)
abbrev p_X8_take (l : Launch) (G : JG) : JP := (true, [(46, 8, 13, 1008130, 35), (104, 8, 27, 0, 0), (111, 8, 29, 0, 0), (118, 8, 30, 0, 0)], [], [], [(118, 8, 30, 0)], [], [], [], false, 0, [])
theorem pk_X8_take {K : JC} {l : Launch} {G : JG} {Q : Int → MH → Prop} {E : Nat → Int → MH → Prop} {h0 : MH} (ki : KI K l G yX8_take cX8_take 1 (some .int) [] 4 150 0 Q E h0) (hG : gO G = true) : POK K RX8 (p_X8_take l G) :=
  POKi (y := yX8_take) ki hG (rfs rf_X8_ok (by decide +kernel)) fmz fmz (rps rp_X8_ok (by decide +kernel)) fmz fmz
  (pkE ki (by
    intro K e1 e2 e3 e4; subst e1; subst e2
    exact fmz)) (fun z => Bool.noConfusion z) rfl (pkP ki (by
    intro K e1 e2 e3 e4; subst e1; subst e2
    exact fmz))
theorem r_X8_take_0 {K : JC} {l : Launch} {G : JG} {Q : Int → MH → Prop} {E : Nat → Int → MH → Prop} {h0 : MH} (ki : KI K l G yX8_take cX8_take 1 (some .int) [] 4 150 0 Q E h0) (hG : gO G = true) {h : MH} (H :
    (0 ≤ (hv h 346 27)) ∧
    ((hv h 346 27) < 8) ∧
    (∀ h1, h1 = hset h 346 30 (w32 ((hv h 346 30) - 1)) →
    ((hv h 381 (hv h 346 27)) ≠ 0) ∧
    (0 ≤ (w32 ((w32 ((hv h 346 29) + 8)) + (w32 ((hv h 346 30) - 1))))) ∧
    ((w32 ((w32 ((hv h 346 29) + 8)) + (w32 ((hv h 346 30) - 1)))) < (hn h1 (hv h 381 (hv h 346 27)))) ∧
    Q (hv h1 (hv h 381 (hv h 346 27)) (w32 ((w32 ((hv h 346 29) + 8)) + (w32 ((hv h 346 30) - 1))))) h1)) : JW K 0 [(2008, 346)] [] h := by
  have e1 := ki.2.2.2.2.1
  have e2 := ki.2.2.2.2.2.1
  subst e1; subst e2
  exact run_ok (dia := []) (cnr := []) (cuts := []) ki.1 (pk_X8_take ki hG) ok_X8_take (by decide) 20 true _ _ _ _ H
abbrev k_X8_goOn : List (Nat × List (Nat × Instr)) := [(38, [(0, .aload_n 0), (1, .getfield 30), (4, .aload_n 0), (5, .getfield 104), (8, .iaload), (9, .iconst 1), (10, .isub), (11, .istore_n 2), (12, .aload_n 0), (13, .getfield 40), (16, .aload_n 0), (17, .getfield 104), (20, .aaload), (21, .iload_n 2), (22, .iload_n 1), (23, .iastore), (24, .aload_n 0), (25, .getfield 43), (28, .aload_n 0), (29, .getfield 104), (32, .aaload), (33, .iload_n 2), (34, .aload_n 0), (35, .getfield 118)]),
  (48, [(38, .iastore), (39, .return_)])]
theorem ok_X8_goOn : CodeOK cX8_goOn k_X8_goOn := okw 0 (by decide +kernel) (okw 38 (by decide +kernel) (okn))
abbrev p_X8_goOn (l : Launch) (G : JG) : JP := (true, [(30, 8, 9, 1008100, 7), (40, 8, 11, 1008130, 17), (43, 8, 12, 1008130, 26), (104, 8, 27, 0, 0), (118, 8, 30, 0, 0)], [], [], [], [], [], [], false, 700, [])
theorem pk_X8_goOn {K : JC} {l : Launch} {G : JG} {Q : Int → MH → Prop} {E : Nat → Int → MH → Prop} {h0 : MH} (ki : KI K l G yX8_goOn cX8_goOn 3 none [] 4 150 700 Q E h0) (hG : gO G = true) : POK K RX8 (p_X8_goOn l G) :=
  POKi (y := yX8_goOn) ki hG (rfs rf_X8_ok (by decide +kernel)) fmz fmz fmz fmz fmz
  (pkE ki (by
    intro K e1 e2 e3 e4; subst e1; subst e2
    exact fmz)) (fun z => Bool.noConfusion z) rfl (pkP ki (by
    intro K e1 e2 e3 e4; subst e1; subst e2
    exact fmz))
theorem r_X8_goOn_0 {K : JC} {l : Launch} {G : JG} {Q : Int → MH → Prop} {E : Nat → Int → MH → Prop} {h0 : MH} (ki : KI K l G yX8_goOn cX8_goOn 3 none [] 4 150 700 Q E h0) (hG : gO G = true) {v1 : Int} {h : MH} (H :
    (0 ≤ (hv h 346 27)) ∧
    ((hv h 346 27) < 8) ∧
    (∀ x2_1 : Int, x2_1 = (w32 ((hv h 353 (hv h 346 27)) - 1)) →
    (0 ≤ (hv h 346 27)) ∧
    ((hv h 346 27) < 8) ∧
    ((hv h 363 (hv h 346 27)) ≠ 0) ∧
    (0 ≤ x2_1) ∧
    (x2_1 < (hn h (hv h 363 (hv h 346 27)))) ∧
    (∀ h2, h2 = hset h (hv h 363 (hv h 346 27)) x2_1 v1 →
    (0 ≤ (hv h2 346 27)) ∧
    ((hv h2 346 27) < 8) ∧
    ((hv h2 372 (hv h2 346 27)) ≠ 0) ∧
    (0 ≤ x2_1) ∧
    (x2_1 < (hn h2 (hv h2 372 (hv h2 346 27)))) ∧
    (∀ h3, h3 = hset h2 (hv h2 372 (hv h2 346 27)) x2_1 (hv h2 346 30) →
    Q 0 h3)))) : JW K 0 [(2008, 346), (0, v1), (5000, 0)] [] h := by
  have e1 := ki.2.2.2.2.1
  have e2 := ki.2.2.2.2.2.1
  subst e1; subst e2
  exact run_ok (dia := []) (cnr := []) (cuts := []) ki.1 (pk_X8_goOn ki hG) ok_X8_goOn (by decide) 27 true _ _ _ _ H
abbrev k_X8_numbers : List (Nat × List (Nat × Instr)) := [(37, [(0, .iload_n 2), (1, .bipush 13), (3, .if_icmp .ne 47), (6, .aload_n 0), (7, .getfield 114), (10, .getfield 200), (13, .iload_n 1), (14, .iaload), (15, .i2l), (16, .iload 4), (18, .i2l), (19, .lsub), (20, .lconst 1), (21, .ladd), (22, .lstore 5), (24, .aload_n 0), (25, .iload 4), (27, .i2l), (28, .aload_n 0), (29, .invokevirtual 141), (32, .i2l), (33, .iload 4), (35, .i2l), (36, .lsub)]),
  (86, [(37, .lload 5), (39, .invokestatic 203), (42, .ladd), (43, .l2i), (44, .invokevirtual 190), (47, .goto 171), (50, .iload_n 2), (51, .bipush 14), (53, .if_icmp .ne 53), (56, .aload_n 0), (57, .invokevirtual 194), (60, .istore 5), (62, .aload_n 0), (63, .getfield 94), (66, .sipush 200), (69, .if_icmp .ge 24), (72, .aload_n 0), (73, .getfield 52), (76, .aload_n 0), (77, .getfield 94), (80, .iload_n 3), (81, .iastore), (82, .aload_n 0), (83, .getfield 55)]),
  (131, [(86, .aload_n 0), (87, .getfield 94), (90, .iload 5), (92, .iastore), (93, .aload_n 0), (94, .dup), (95, .getfield 94), (98, .iconst 1), (99, .iadd), (100, .putfield 94), (103, .goto 115), (106, .iload_n 2), (107, .bipush 12), (109, .if_icmp .ne 15), (112, .aload_n 0), (113, .aload_n 0), (114, .invokevirtual 194), (117, .ineg), (118, .invokevirtual 190), (121, .goto 97), (124, .aload_n 0), (125, .invokevirtual 194), (128, .istore 5), (130, .aload_n 0)]),
  (178, [(131, .invokevirtual 194), (134, .istore 6), (136, .iload_n 2), (137, .bipush 10), (139, .if_icmp .lt 14), (142, .iload 5), (144, .ifCond .ne 9), (147, .aload_n 0), (148, .iconst 4), (149, .invokevirtual 209), (152, .return_), (153, .aload_n 0), (154, .iload_n 2), (155, .bipush 7), (157, .if_icmp .ne 11), (160, .iload 6), (162, .iload 5), (164, .iadd), (165, .goto 50), (168, .iload_n 2), (169, .bipush 8), (171, .if_icmp .ne 11), (174, .iload 6), (176, .iload 5)]),
  (222, [(178, .isub), (179, .goto 36), (182, .iload_n 2), (183, .bipush 9), (185, .if_icmp .ne 11), (188, .iload 6), (190, .iload 5), (192, .imul), (193, .goto 22), (196, .iload_n 2), (197, .bipush 10), (199, .if_icmp .ne 11), (202, .iload 6), (204, .iload 5), (206, .idiv), (207, .goto 8), (210, .iload 6), (212, .iload 5), (214, .irem), (215, .invokevirtual 190), (218, .aload_n 0), (219, .iload_n 1), (220, .iconst 1), (221, .iadd)]),
  (234, [(222, .invokevirtual 197), (225, .return_)])]
theorem ok_X8_numbers : CodeOK cX8_numbers k_X8_numbers := okw 0 (by decide +kernel) (okw 37 (by decide +kernel) (okw 86 (by decide +kernel) (okw 131 (by decide +kernel) (okw 178 (by decide +kernel) (okw 222 (by decide +kernel) (okn))))))
abbrev p_X8_numbers (l : Launch) (G : JG) : JP := (true, [(52, 8, 21, 1200100, 45), (55, 8, 22, 1200100, 46), (94, 8, 23, 0, 0), (114, 8, 28, 18, 0), (200, 14, 10, 104, 0)], [], [], [(94, 8, 23, 0)], [], [], [(141, 1, [2008], 0, S_X8_nextInput l G), (190, 1, [0, 2008], 700, S_X8_put l G), (194, 1, [2008], 0, S_X8_take l G), (197, 1, [0, 2008], 700, S_X8_goOn l G), (203, 0, [1, 1], 1, S_J8_floorMod l G), (209, 1, [0, 2008], 700, S_X8_hurl l G)], false, 700, [])
theorem pk_X8_numbers {K : JC} {l : Launch} {G : JG} {Q : Int → MH → Prop} {E : Nat → Int → MH → Prop} {h0 : MH} (ki : KI K l G yX8_numbers cX8_numbers 7 none [] 7 222 700 Q E h0) (hG : gO G = true) : POK K RX8 (p_X8_numbers l G) :=
  POKi (y := yX8_numbers) ki hG (rfs rf_X8_ok (by decide +kernel)) fmz fmz (rps rp_X8_ok (by decide +kernel)) fmz fmz
  (pkE ki (by
    intro K e1 e2 e3 e4; subst e1; subst e2
    exact fmE (ceV 8 e3 e4 yl_X8_nextInput ⟨by decide, ⟨_, _, rfl⟩, q1856, qs80, q1854⟩ rfl) (fmE (ceV 8 e3 e4 yl_X8_put ⟨by decide, ⟨_, _, rfl⟩, q1884, qs87, q1882⟩ rfl) (fmE (ceV 8 e3 e4 yl_X8_take ⟨by decide, ⟨_, _, rfl⟩, q1888, qs88, q1886⟩ rfl) (fmE (ceV 8 e3 e4 yl_X8_goOn ⟨by decide, ⟨_, _, rfl⟩, q1892, qs89, q1890⟩ rfl) (fmE (ceS e3 e4 yl_J8_floorMod ⟨q1899, Or.inl q1898⟩ rfl) (fmE (ceV 8 e3 e4 yl_X8_hurl ⟨by decide, ⟨_, _, rfl⟩, q1903, qs91, q1901⟩ rfl) (fmz)))))))) (fun z => Bool.noConfusion z) rfl (pkP ki (by
    intro K e1 e2 e3 e4; subst e1; subst e2
    exact fmz))
theorem r_X8_numbers_0 {K : JC} {l : Launch} {G : JG} {Q : Int → MH → Prop} {E : Nat → Int → MH → Prop} {h0 : MH} (ki : KI K l G yX8_numbers cX8_numbers 7 none [] 7 222 700 Q E h0) (hG : gO G = true) {v1 v2 v3 v4 : Int} {h : MH} (H :
    ((¬ v2 = 13 →
      ((¬ v2 = 14 →
        ((¬ v2 = 12 →
          S_X8_take l G [(2008, 346)] h (fun z1 h2 =>
          (∀ x5_3 : Int, x5_3 = z1 →
          S_X8_take l G [(2008, 346)] h2 (fun z4 h5 =>
          (∀ x6_6 : Int, x6_6 = z4 →
          (((10 ≤ v2 ∧ x5_3 = 0) →
            S_X8_hurl l G [(2008, 346), (0, 4)] h5 (fun _ h8 =>
            Q 0 h8) E) ∧
          (¬ (10 ≤ v2 ∧ x5_3 = 0) →
            ((¬ v2 = 7 → (¬ v2 = 8 → (¬ v2 = 9 → ((¬ v2 = 10 → ¬ x5_3 = 0)) ∧ (v2 = 10 → ¬ x5_3 = 0))))) ∧
            S_X8_put l G [(2008, 346), (0, (if v2 = 7 then (w32 (x6_6 + x5_3)) else (if v2 = 8 then (w32 (x6_6 - x5_3)) else (if v2 = 9 then (w32 (x6_6 * x5_3)) else (if v2 = 10 then (i_div x6_6 x5_3) else (i_rem x6_6 x5_3) : Int) : Int) : Int) : Int))] h5 (fun _ h10 =>
            S_X8_goOn l G [(2008, 346), (0, (w32 (v1 + 1)))] h10 (fun _ h12 =>
            Q 0 h12) E) E)))) E)) E) ∧
        (v2 = 12 →
          S_X8_take l G [(2008, 346)] h (fun z13 h14 =>
          S_X8_put l G [(2008, 346), (0, (w32 (-z13)))] h14 (fun _ h16 =>
          S_X8_goOn l G [(2008, 346), (0, (w32 (v1 + 1)))] h16 (fun _ h18 =>
          Q 0 h18) E) E) E))) ∧
      (v2 = 14 →
        S_X8_take l G [(2008, 346)] h (fun z19 h20 =>
        (∀ x5_21 : Int, x5_21 = z19 →
        ((200 ≤ (hv h20 346 23) →
          (∀ h22, h22 = hset h20 346 23 (w32 ((hv h20 346 23) + 1)) →
          S_X8_goOn l G [(2008, 346), (0, (w32 (v1 + 1)))] h22 (fun _ h24 =>
          Q 0 h24) E)) ∧
        ((hv h20 346 23) < 200 →
          (0 ≤ (hv h20 346 23)) ∧
          ((hv h20 346 23) < 200) ∧
          (∀ h25, h25 = hset h20 391 (hv h20 346 23) v3 →
          (0 ≤ (hv h25 346 23)) ∧
          ((hv h25 346 23) < 200) ∧
          (∀ h26, h26 = hset h25 392 (hv h25 346 23) x5_21 →
          (∀ h27, h27 = hset h26 346 23 (w32 ((hv h26 346 23) + 1)) →
          S_X8_goOn l G [(2008, 346), (0, (w32 (v1 + 1)))] h27 (fun _ h29 =>
          Q 0 h29) E))))))) E))) ∧
    (v2 = 13 →
      ((hv h 346 28) ≠ 0) ∧
      ((hv h (hv h 346 28) 10) ≠ 0) ∧
      (0 ≤ v1) ∧
      (v1 < (hn h (hv h (hv h 346 28) 10))) ∧
      (∀ x5_30 : Int, x5_30 = (w64 ((w64 ((hv h (hv h (hv h 346 28) 10) v1) - v4)) + 1)) →
      S_X8_nextInput l G [(2008, 346)] h (fun z31 h32 =>
      S_J8_floorMod l G [(1, (w64 (z31 - v4))), (1, x5_30)] h32 (fun z33 h34 =>
      S_X8_put l G [(2008, 346), (0, (w32 (w64 (v4 + z33))))] h34 (fun _ h36 =>
      S_X8_goOn l G [(2008, 346), (0, (w32 (v1 + 1)))] h36 (fun _ h38 =>
      Q 0 h38) E) E) E) E)))) : JW K 0 [(2008, 346), (0, v1), (0, v2), (0, v3), (0, v4), (5000, 0), (5000, 0)] [] h := by
  have e1 := ki.2.2.2.2.1
  have e2 := ki.2.2.2.2.2.1
  subst e1; subst e2
  exact run_ok (dia := [(157, 215)]) (cnr := [(139, 147, 153)]) (cuts := []) ki.1 (pk_X8_numbers ki hG) ok_X8_numbers (by decide) 39 true _ _ _ _ H
abbrev k_X8_hurl : List (Nat × List (Nat × Instr)) := [(38, [(0, .aload_n 0), (1, .invokevirtual 159), (4, .istore_n 2), (5, .aload_n 0), (6, .getfield 61), (9, .aload_n 0), (10, .getfield 114), (13, .getfield 236), (16, .iload_n 2), (17, .iadd), (18, .dup2), (19, .laload), (20, .lconst 1), (21, .aload_n 0), (22, .getfield 11), (25, .iload_n 1), (26, .iaload), (27, .lshl), (28, .lor), (29, .lastore), (30, .aload_n 0), (31, .getfield 114), (34, .getfield 277), (37, .astore_n 3)]),
  (84, [(38, .aload_n 3), (39, .arraylength), (40, .istore 4), (42, .iconst 0), (43, .istore 5), (45, .iload 5), (47, .iload 4), (49, .if_icmp .ge 77), (52, .aload_n 3), (53, .iload 5), (55, .aaload), (56, .astore 6), (58, .iload_n 2), (59, .aload 6), (61, .getfield 281), (64, .if_icmp .lt 56), (67, .iload_n 2), (68, .aload 6), (70, .getfield 286), (73, .if_icmp .ge 47), (76, .aload_n 0), (77, .getfield 65), (80, .aload_n 0), (81, .getfield 11)]),
  (134, [(84, .iload_n 1), (85, .iaload), (86, .aload 6), (88, .getfield 289), (91, .invokevirtual 222), (94, .ifCond .ne 6), (97, .goto 23), (100, .aload_n 0), (101, .iconst 0), (102, .putfield 118), (105, .aload_n 0), (106, .iload_n 1), (107, .invokevirtual 190), (110, .aload_n 0), (111, .aload 6), (113, .getfield 292), (116, .invokevirtual 197), (119, .return_), (120, .iinc 5 1), (123, .goto (-78)), (126, .aload_n 0), (127, .getfield 30), (130, .aload_n 0), (131, .getfield 104)]),
  (176, [(134, .dup2), (135, .iaload), (136, .iconst 1), (137, .isub), (138, .iastore), (139, .aload_n 0), (140, .getfield 30), (143, .aload_n 0), (144, .getfield 104), (147, .iaload), (148, .ifCond .ne 39), (151, .aload_n 0), (152, .dup), (153, .getfield 79), (156, .iconst 1), (157, .iadd), (158, .putfield 79), (161, .aload_n 0), (162, .getfield 104), (165, .ifCond .ne 21), (168, .aload_n 0), (169, .aload_n 0), (170, .getfield 65), (173, .getfield 232)]),
  (207, [(176, .aload_n 0), (177, .getfield 11), (180, .iload_n 1), (181, .iaload), (182, .iaload), (183, .putfield 91), (186, .return_), (187, .aload_n 0), (188, .invokevirtual 156), (191, .aload_n 0), (192, .invokevirtual 159), (195, .iconst 1), (196, .isub), (197, .istore_n 2), (198, .goto (-193))])]
theorem ok_X8_hurl : CodeOK cX8_hurl k_X8_hurl := okw 0 (by decide +kernel) (okw 38 (by decide +kernel) (okw 84 (by decide +kernel) (okw 134 (by decide +kernel) (okw 176 (by decide +kernel) (okn)))))
abbrev p_X8_hurl (l : Launch) (G : JG) : JP := (true, [(11, 8, 1, 1407100, 1), (30, 8, 9, 1008100, 7), (61, 8, 26, 2500101, 48), (65, 8, 0, 16, 0), (79, 8, 16, 0, 0), (104, 8, 27, 0, 0), (114, 8, 28, 18, 0), (232, 12, 9, 104, 0), (236, 14, 14, 0, 0), (277, 14, 13, 129, 0), (281, 15, 0, 0, 0), (286, 15, 1, 0, 0), (289, 15, 3, 0, 0), (292, 15, 2, 0, 0)], [], [], [(79, 8, 16, 0), (91, 8, 20, 0), (118, 8, 30, 0)], [], [], [(156, 1, [2008], 700, S_X8_load l G), (159, 1, [2008], 0, S_X8_at l G), (190, 1, [0, 2008], 700, S_X8_put l G), (197, 1, [0, 2008], 700, S_X8_goOn l G), (222, 1, [0, 0, 2012], 2, S_X12_siteIsOf l G)], false, 700, [])
theorem pk_X8_hurl {K : JC} {l : Launch} {G : JG} {Q : Int → MH → Prop} {E : Nat → Int → MH → Prop} {h0 : MH} (ki : KI K l G yX8_hurl cX8_hurl 7 none [] 6 196 700 Q E h0) (hG : gO G = true) : POK K RX8 (p_X8_hurl l G) :=
  POKi (y := yX8_hurl) ki hG (rfs rf_X8_ok (by decide +kernel)) fmz fmz (rps rp_X8_ok (by decide +kernel)) fmz fmz
  (pkE ki (by
    intro K e1 e2 e3 e4; subst e1; subst e2
    exact fmE (ceV 8 e3 e4 yl_X8_load ⟨by decide, ⟨_, _, rfl⟩, q1868, qs83, q1866⟩ rfl) (fmE (ceV 8 e3 e4 yl_X8_at ⟨by decide, ⟨_, _, rfl⟩, q1872, qs84, q1870⟩ rfl) (fmE (ceV 8 e3 e4 yl_X8_put ⟨by decide, ⟨_, _, rfl⟩, q1884, qs87, q1882⟩ rfl) (fmE (ceV 8 e3 e4 yl_X8_goOn ⟨by decide, ⟨_, _, rfl⟩, q1892, qs89, q1890⟩ rfl) (fmE (ceV 12 e3 e4 yl_X12_siteIsOf ⟨by decide, ⟨_, _, rfl⟩, q1442, q1443, q1905⟩ rfl) (fmz))))))) (fun z => Bool.noConfusion z) rfl (pkP ki (by
    intro K e1 e2 e3 e4; subst e1; subst e2
    exact fmz))
theorem r_X8_hurl_0 {K : JC} {l : Launch} {G : JG} {Q : Int → MH → Prop} {E : Nat → Int → MH → Prop} {h0 : MH} (ki : KI K l G yX8_hurl cX8_hurl 7 none [] 6 196 700 Q E h0) (hG : gO G = true) {v1 : Int} {h : MH} (H :
    S_X8_at l G [(2008, 346)] h (fun z1 h2 =>
    (∀ x2_3 : Int, x2_3 = z1 →
    JW K 5 [(2008, 346), (0, v1), (0, x2_3), (5000, 0), (5000, 0), (5000, 0), (5000, 0)] [] h2)) E) : JW K 0 [(2008, 346), (0, v1), (5000, 0), (5000, 0), (5000, 0), (5000, 0), (5000, 0)] [] h := by
  have e1 := ki.2.2.2.2.1
  have e2 := ki.2.2.2.2.2.1
  subst e1; subst e2
  exact run_ok (dia := []) (cnr := [(64, 76, 120)]) (cuts := [(5, [2008, 0, 0, 5000, 5000, 5000, 5000], []), (45, [2008, 0, 0, 129, 0, 0, 5000], [])]) ki.1 (pk_X8_hurl ki hG) ok_X8_hurl (by decide) 5 true _ _ _ _ H
theorem r_X8_hurl_5 {K : JC} {l : Launch} {G : JG} {Q : Int → MH → Prop} {E : Nat → Int → MH → Prop} {h0 : MH} (ki : KI K l G yX8_hurl cX8_hurl 7 none [] 6 196 700 Q E h0) (hG : gO G = true) {v1 v2 : Int} {h : MH} (H :
    ((hv h 346 28) ≠ 0) ∧
    (0 ≤ (w32 ((hv h (hv h 346 28) 14) + v2))) ∧
    ((w32 ((hv h (hv h 346 28) 14) + v2)) < 1500) ∧
    (0 ≤ v1) ∧
    (v1 < 407) ∧
    (0 ≤ (w32 ((hv h (hv h 346 28) 14) + v2))) ∧
    ((w32 ((hv h (hv h 346 28) 14) + v2)) < 1500) ∧
    (∀ h1, h1 = hset h 394 (w32 ((hv h (hv h 346 28) 14) + v2)) (l_or (hv h 394 (w32 ((hv h (hv h 346 28) 14) + v2))) (l_shl 1 (hv h 347 v1))) →
    ((hv h1 346 28) ≠ 0) ∧
    (∀ x3_2 : Int, x3_2 = (hv h1 (hv h1 346 28) 13) →
    (x3_2 ≠ 0) ∧
    (∀ x4_3 : Int, x4_3 = (hn h1 x3_2) →
    (∀ x5_4 : Int, x5_4 = 0 →
    JW K 45 [(2008, 346), (0, v1), (0, v2), (129, x3_2), (0, x4_3), (0, x5_4), (5000, 0)] [] h1))))) : JW K 5 [(2008, 346), (0, v1), (0, v2), (5000, 0), (5000, 0), (5000, 0), (5000, 0)] [] h := by
  have e1 := ki.2.2.2.2.1
  have e2 := ki.2.2.2.2.2.1
  subst e1; subst e2
  exact run_ok (dia := []) (cnr := [(64, 76, 120)]) (cuts := [(5, [2008, 0, 0, 5000, 5000, 5000, 5000], []), (45, [2008, 0, 0, 129, 0, 0, 5000], [])]) ki.1 (pk_X8_hurl ki hG) ok_X8_hurl (by decide) 28 true _ _ _ _ H
theorem r_X8_hurl_45 {K : JC} {l : Launch} {G : JG} {Q : Int → MH → Prop} {E : Nat → Int → MH → Prop} {h0 : MH} (ki : KI K l G yX8_hurl cX8_hurl 7 none [] 6 196 700 Q E h0) (hG : gO G = true) {v1 v2 v3 v4 v5 : Int} {h : MH} (H :
    ((v4 ≤ v5 →
      (0 ≤ (hv h 346 27)) ∧
      ((hv h 346 27) < 8) ∧
      (0 ≤ (hv h 346 27)) ∧
      ((hv h 346 27) < 8) ∧
      (∀ h1, h1 = hset h 353 (hv h 346 27) (w32 ((hv h 353 (hv h 346 27)) - 1)) →
      (0 ≤ (hv h1 346 27)) ∧
      ((hv h1 346 27) < 8) ∧
      ((¬ (hv h1 353 (hv h1 346 27)) = 0 →
        S_X8_load l G [(2008, 346)] h1 (fun _ h3 =>
        S_X8_at l G [(2008, 346)] h3 (fun z4 h5 =>
        (∀ x2_6 : Int, x2_6 = (w32 (z4 - 1)) →
        JW K 5 [(2008, 346), (0, v1), (0, x2_6), (5000, 0), (5000, 0), (5000, 0), (5000, 0)] [] h5)) E) E) ∧
      ((hv h1 353 (hv h1 346 27)) = 0 →
        (∀ h7, h7 = hset h1 346 16 (w32 ((hv h1 346 16) + 1)) →
        ((¬ (hv h7 346 27) = 0 →
          Q 0 h7) ∧
        ((hv h7 346 27) = 0 →
          ((hv h7 346 0) ≠ 0) ∧
          (0 ≤ v1) ∧
          (v1 < 407) ∧
          ((hv h7 (hv h7 346 0) 9) ≠ 0) ∧
          (0 ≤ (hv h7 347 v1)) ∧
          ((hv h7 347 v1) < (hn h7 (hv h7 (hv h7 346 0) 9))) ∧
          (∀ h8, h8 = hset h7 346 20 (hv h7 (hv h7 (hv h7 346 0) 9) (hv h7 347 v1)) →
          Q 0 h8)))))))) ∧
    (v5 < v4 →
      (v3 ≠ 0) ∧
      (0 ≤ v5) ∧
      (v5 < (hn h v3)) ∧
      (∀ x6_9 : Int, x6_9 = (hv h v3 v5) →
      (x6_9 ≠ 0) ∧
      (((hv h x6_9 0) ≤ v2 → x6_9 ≠ 0)) ∧
      ((((hv h x6_9 0) ≤ v2 ∧ v2 < (hv h x6_9 1)) →
        (0 ≤ v1) ∧
        (v1 < 407) ∧
        (x6_9 ≠ 0) ∧
        ((hv h 346 0) ≠ 0) ∧
        S_X12_siteIsOf l G [(2012, (hv h 346 0)), (0, (hv h 347 v1)), (0, (hv h x6_9 3))] h (fun z10 h11 =>
        ((¬ z10 = 0 →
          (∀ h12, h12 = hset h11 346 30 0 →
          S_X8_put l G [(2008, 346), (0, v1)] h12 (fun _ h14 =>
          (x6_9 ≠ 0) ∧
          S_X8_goOn l G [(2008, 346), (0, (hv h14 x6_9 2))] h14 (fun _ h16 =>
          Q 0 h16) E) E)) ∧
        (z10 = 0 →
          (∀ x5_17 : Int, x5_17 = w32 (v5 + 1) →
          JW K 45 [(2008, 346), (0, v1), (0, v2), (129, v3), (0, v4), (0, x5_17), (5000, 0)] [] h11)))) E) ∧
      (¬ ((hv h x6_9 0) ≤ v2 ∧ v2 < (hv h x6_9 1)) →
        (∀ x5_18 : Int, x5_18 = w32 (v5 + 1) →
        JW K 45 [(2008, 346), (0, v1), (0, v2), (129, v3), (0, v4), (0, x5_18), (5000, 0)] [] h))))))) : JW K 45 [(2008, 346), (0, v1), (0, v2), (129, v3), (0, v4), (0, v5), (5000, 0)] [] h := by
  have e1 := ki.2.2.2.2.1
  have e2 := ki.2.2.2.2.2.1
  subst e1; subst e2
  exact run_ok (dia := []) (cnr := [(64, 76, 120)]) (cuts := [(5, [2008, 0, 0, 5000, 5000, 5000, 5000], []), (45, [2008, 0, 0, 129, 0, 0, 5000], [])]) ki.1 (pk_X8_hurl ki hG) ok_X8_hurl (by decide) 39 true _ _ _ _ H
abbrev k_X8_jumps : List (Nat × List (Nat × Instr)) := [(45, [(0, .iconst 1), (1, .istore 5), (3, .iload_n 2), (4, .bipush 16), (6, .if_icmp .ne 24), (9, .aload_n 0), (10, .invokevirtual 194), (13, .istore 6), (15, .iload_n 3), (16, .aload_n 0), (17, .invokevirtual 194), (20, .iload 6), (22, .invokestatic 218), (25, .istore 5), (27, .goto 116), (30, .iload_n 2), (31, .bipush 17), (33, .if_icmp .ne 36), (36, .iload_n 3), (37, .bipush 8), (39, .idiv), (40, .aload_n 0), (41, .getfield 46), (44, .aload_n 0)]),
  (89, [(45, .getfield 104), (48, .aaload), (49, .aload_n 0), (50, .getfield 111), (53, .iload_n 3), (54, .bipush 8), (56, .irem), (57, .iadd), (58, .iaload), (59, .iload 4), (61, .invokestatic 218), (64, .istore 5), (66, .goto 77), (69, .iload_n 2), (70, .bipush 15), (72, .if_icmp .eq 71), (75, .aload_n 0), (76, .getfield 46), (79, .aload_n 0), (80, .getfield 104), (83, .aaload), (84, .aload_n 0), (85, .getfield 111), (88, .iload_n 3)]),
  (137, [(89, .iadd), (90, .iaload), (91, .istore 6), (93, .iload_n 2), (94, .bipush 18), (96, .if_icmp .ne 16), (99, .iload 6), (101, .ifCond .ne 7), (104, .iconst 1), (105, .goto 36), (108, .iconst 0), (109, .goto 32), (112, .iload 6), (114, .ifCond .eq 26), (117, .aload_n 0), (118, .getfield 65), (121, .aload_n 0), (122, .getfield 11), (125, .iload 6), (127, .iaload), (128, .iload 4), (130, .invokevirtual 222), (133, .ifCond .eq 7), (136, .iconst 1)]),
  (176, [(137, .goto 4), (140, .iconst 0), (141, .istore 5), (143, .aload_n 0), (144, .iload 5), (146, .ifCond .eq 15), (149, .aload_n 0), (150, .getfield 114), (153, .getfield 200), (156, .iload_n 1), (157, .iaload), (158, .goto 6), (161, .iload_n 1), (162, .iconst 1), (163, .iadd), (164, .invokevirtual 197), (167, .return_)])]
theorem ok_X8_jumps : CodeOK cX8_jumps k_X8_jumps := okw 0 (by decide +kernel) (okw 45 (by decide +kernel) (okw 89 (by decide +kernel) (okw 137 (by decide +kernel) (okn))))
abbrev p_X8_jumps (l : Launch) (G : JG) : JP := (true, [(11, 8, 1, 1407100, 1), (46, 8, 13, 1008130, 35), (65, 8, 0, 16, 0), (104, 8, 27, 0, 0), (111, 8, 29, 0, 0), (114, 8, 28, 18, 0), (200, 14, 10, 104, 0)], [], [], [], [], [], [(194, 1, [2008], 0, S_X8_take l G), (197, 1, [0, 2008], 700, S_X8_goOn l G), (218, 0, [0, 0, 0], 2, S_X8_isSo l G), (222, 1, [0, 0, 2012], 2, S_X12_siteIsOf l G)], false, 700, [])
theorem pk_X8_jumps {K : JC} {l : Launch} {G : JG} {Q : Int → MH → Prop} {E : Nat → Int → MH → Prop} {h0 : MH} (ki : KI K l G yX8_jumps cX8_jumps 7 none [] 6 196 700 Q E h0) (hG : gO G = true) : POK K RX8 (p_X8_jumps l G) :=
  POKi (y := yX8_jumps) ki hG (rfs rf_X8_ok (by decide +kernel)) fmz fmz fmz fmz fmz
  (pkE ki (by
    intro K e1 e2 e3 e4; subst e1; subst e2
    exact fmE (ceV 8 e3 e4 yl_X8_take ⟨by decide, ⟨_, _, rfl⟩, q1888, qs88, q1886⟩ rfl) (fmE (ceV 8 e3 e4 yl_X8_goOn ⟨by decide, ⟨_, _, rfl⟩, q1892, qs89, q1890⟩ rfl) (fmE (ceS e3 e4 yl_X8_isSo ⟨q1911, Or.inl q1910⟩ rfl) (fmE (ceV 12 e3 e4 yl_X12_siteIsOf ⟨by decide, ⟨_, _, rfl⟩, q1442, q1443, q1905⟩ rfl) (fmz)))))) (fun z => Bool.noConfusion z) rfl (pkP ki (by
    intro K e1 e2 e3 e4; subst e1; subst e2
    exact fmz))
theorem r_X8_jumps_0 {K : JC} {l : Launch} {G : JG} {Q : Int → MH → Prop} {E : Nat → Int → MH → Prop} {h0 : MH} (ki : KI K l G yX8_jumps cX8_jumps 7 none [] 6 196 700 Q E h0) (hG : gO G = true) {v1 v2 v3 v4 : Int} {h : MH} (H :
    (∀ x5_1 : Int, x5_1 = 1 →
    ((¬ v2 = 16 →
      ((¬ v2 = 17 →
        ((v2 = 15 →
          ((¬ x5_1 = 0 → ((hv h 346 28) ≠ 0) ∧ ((hv h (hv h 346 28) 10) ≠ 0) ∧ (0 ≤ v1) ∧ v1 < (hn h (hv h (hv h 346 28) 10)))) ∧
          S_X8_goOn l G [(2008, 346), (0, (if x5_1 = 0 then (w32 (v1 + 1)) else (hv h (hv h (hv h 346 28) 10) v1) : Int))] h (fun _ h3 =>
          Q 0 h3) E) ∧
        (¬ v2 = 15 →
          (0 ≤ (hv h 346 27)) ∧
          ((hv h 346 27) < 8) ∧
          ((hv h 381 (hv h 346 27)) ≠ 0) ∧
          (0 ≤ (w32 ((hv h 346 29) + v3))) ∧
          ((w32 ((hv h 346 29) + v3)) < (hn h (hv h 381 (hv h 346 27)))) ∧
          (∀ x6_4 : Int, x6_4 = (hv h (hv h 381 (hv h 346 27)) (w32 ((hv h 346 29) + v3))) →
          ((¬ v2 = 18 →
            ((x6_4 = 0 →
              (∀ x5_5 : Int, x5_5 = 0 →
              ((¬ x5_5 = 0 → ((hv h 346 28) ≠ 0) ∧ ((hv h (hv h 346 28) 10) ≠ 0) ∧ (0 ≤ v1) ∧ v1 < (hn h (hv h (hv h 346 28) 10)))) ∧
              S_X8_goOn l G [(2008, 346), (0, (if x5_5 = 0 then (w32 (v1 + 1)) else (hv h (hv h (hv h 346 28) 10) v1) : Int))] h (fun _ h7 =>
              Q 0 h7) E)) ∧
            (¬ x6_4 = 0 →
              (0 ≤ x6_4) ∧
              (x6_4 < 407) ∧
              ((hv h 346 0) ≠ 0) ∧
              S_X12_siteIsOf l G [(2012, (hv h 346 0)), (0, (hv h 347 x6_4)), (0, v4)] h (fun z8 h9 =>
              (∀ x5_10 : Int, x5_10 = (if z8 = 0 then 0 else 1 : Int) →
              ((¬ x5_10 = 0 → ((hv h9 346 28) ≠ 0) ∧ ((hv h9 (hv h9 346 28) 10) ≠ 0) ∧ (0 ≤ v1) ∧ v1 < (hn h9 (hv h9 (hv h9 346 28) 10)))) ∧
              S_X8_goOn l G [(2008, 346), (0, (if x5_10 = 0 then (w32 (v1 + 1)) else (hv h9 (hv h9 (hv h9 346 28) 10) v1) : Int))] h9 (fun _ h12 =>
              Q 0 h12) E)) E))) ∧
          (v2 = 18 →
            (∀ x5_13 : Int, x5_13 = (if x6_4 = 0 then 1 else 0 : Int) →
            ((¬ x5_13 = 0 → ((hv h 346 28) ≠ 0) ∧ ((hv h (hv h 346 28) 10) ≠ 0) ∧ (0 ≤ v1) ∧ v1 < (hn h (hv h (hv h 346 28) 10)))) ∧
            S_X8_goOn l G [(2008, 346), (0, (if x5_13 = 0 then (w32 (v1 + 1)) else (hv h (hv h (hv h 346 28) 10) v1) : Int))] h (fun _ h15 =>
            Q 0 h15) E))))))) ∧
      (v2 = 17 →
        (¬ (8 : Int) = 0) ∧
        (0 ≤ (hv h 346 27)) ∧
        ((hv h 346 27) < 8) ∧
        (¬ (8 : Int) = 0) ∧
        ((hv h 381 (hv h 346 27)) ≠ 0) ∧
        (0 ≤ (w32 ((hv h 346 29) + (i_rem v3 8)))) ∧
        ((w32 ((hv h 346 29) + (i_rem v3 8))) < (hn h (hv h 381 (hv h 346 27)))) ∧
        S_X8_isSo l G [(0, (i_div v3 8)), (0, (hv h (hv h 381 (hv h 346 27)) (w32 ((hv h 346 29) + (i_rem v3 8))))), (0, v4)] h (fun z16 h17 =>
        (∀ x5_18 : Int, x5_18 = z16 →
        ((¬ x5_18 = 0 → ((hv h17 346 28) ≠ 0) ∧ ((hv h17 (hv h17 346 28) 10) ≠ 0) ∧ (0 ≤ v1) ∧ v1 < (hn h17 (hv h17 (hv h17 346 28) 10)))) ∧
        S_X8_goOn l G [(2008, 346), (0, (if x5_18 = 0 then (w32 (v1 + 1)) else (hv h17 (hv h17 (hv h17 346 28) 10) v1) : Int))] h17 (fun _ h20 =>
        Q 0 h20) E)) E))) ∧
    (v2 = 16 →
      S_X8_take l G [(2008, 346)] h (fun z21 h22 =>
      (∀ x6_23 : Int, x6_23 = z21 →
      S_X8_take l G [(2008, 346)] h22 (fun z24 h25 =>
      S_X8_isSo l G [(0, v3), (0, z24), (0, x6_23)] h25 (fun z26 h27 =>
      (∀ x5_28 : Int, x5_28 = z26 →
      ((¬ x5_28 = 0 → ((hv h27 346 28) ≠ 0) ∧ ((hv h27 (hv h27 346 28) 10) ≠ 0) ∧ (0 ≤ v1) ∧ v1 < (hn h27 (hv h27 (hv h27 346 28) 10)))) ∧
      S_X8_goOn l G [(2008, 346), (0, (if x5_28 = 0 then (w32 (v1 + 1)) else (hv h27 (hv h27 (hv h27 346 28) 10) v1) : Int))] h27 (fun _ h30 =>
      Q 0 h30) E)) E) E)) E)))) : JW K 0 [(2008, 346), (0, v1), (0, v2), (0, v3), (0, v4), (5000, 0), (5000, 0)] [] h := by
  have e1 := ki.2.2.2.2.1
  have e2 := ki.2.2.2.2.2.1
  subst e1; subst e2
  exact run_ok (dia := [(101, 141), (133, 141), (146, 164)]) (cnr := []) (cuts := []) ki.1 (pk_X8_jumps ki hG) ok_X8_jumps (by decide) 43 true _ _ _ _ H
abbrev k_X8_isSo : List (Nat × List (Nat × Instr)) := [(17, [(0, .iload_n 0), (1, .iload_n 1), (2, .iload_n 1), (3, .iload_n 2), (4, .iload_n 2), (5, .invokestatic 212), (8, .ireturn)])]
theorem ok_X8_isSo : CodeOK cX8_isSo k_X8_isSo := okw 0 (by decide +kernel) (okn)
abbrev p_X8_isSo (l : Launch) (G : JG) : JP := (true, [], [], [], [], [], [], [], false, 2, [(212, e_X2_may)])
theorem pk_X8_isSo {K : JC} {l : Launch} {G : JG} {Q : Int → MH → Prop} {E : Nat → Int → MH → Prop} {h0 : MH} (ki : KI K l G yX8_isSo cX8_isSo 3 (some .boolean) [] 5 174 2 Q E h0) (hG : gO G = true) : POK K RX8 (p_X8_isSo l G) :=
  POKi (y := yX8_isSo) ki hG fmz fmz fmz fmz fmz fmz
  (pkE ki (by
    intro K e1 e2 e3 e4; subst e1; subst e2
    exact fmz)) (fun z => Bool.noConfusion z) rfl (pkP ki (by
    intro K e1 e2 e3 e4; subst e1; subst e2
    exact fmP (pe_X2_may hG e3 e4 ⟨q1501, Or.inr ⟨_, List.mem_of_getElem? (i := 8) rfl⟩⟩ rfl rfl) (fmz)))
theorem r_X8_isSo_0 {K : JC} {l : Launch} {G : JG} {Q : Int → MH → Prop} {E : Nat → Int → MH → Prop} {h0 : MH} (ki : KI K l G yX8_isSo cX8_isSo 3 (some .boolean) [] 5 174 2 Q E h0) (hG : gO G = true) {v0 v1 v2 : Int} {h : MH} (H :
    (((mayf v0 v1 v1 v2 v2) = 0 ∨ (mayf v0 v1 v1 v2 v2) = 1) ∧ Q (mayf v0 v1 v1 v2 v2) h)) : JW K 0 [(0, v0), (0, v1), (0, v2)] [] h := by
  have e1 := ki.2.2.2.2.1
  have e2 := ki.2.2.2.2.2.1
  subst e1; subst e2
  exact run_ok (dia := []) (cnr := []) (cuts := []) ki.1 (pk_X8_isSo ki hG) ok_X8_isSo (by decide) 8 true _ _ _ _ H
abbrev k_X8_objectActs : List (Nat × List (Nat × Instr)) := [(1, [(0, .iload_n 2)]),
  (52, [(1, .tableswitch 253 20 28 #[51, 101, 167, 253, 253, 253, 253, 227, 240])]),
  (96, [(52, .aload_n 0), (53, .aload_n 0), (54, .getfield 65), (57, .getfield 235), (60, .aload_n 0), (61, .getfield 114), (64, .getfield 236), (67, .iload_n 1), (68, .iadd), (69, .iaload), (70, .aload_n 0), (71, .getfield 65), (74, .getfield 239), (77, .iload_n 3), (78, .aaload), (79, .arraylength), (80, .invokevirtual 242), (83, .istore 5), (85, .aload_n 0), (86, .getfield 97), (89, .ifCond .eq 4), (92, .return_), (93, .aload_n 0), (94, .iload 5)]),
  (144, [(96, .invokevirtual 190), (99, .goto 191), (102, .aload_n 0), (103, .invokevirtual 194), (106, .istore 6), (108, .iload 6), (110, .ifCond .lt 10), (113, .iload 6), (115, .bipush 100), (117, .if_icmp .le 9), (120, .aload_n 0), (121, .iconst 3), (122, .invokevirtual 209), (125, .return_), (126, .aload_n 0), (127, .aload_n 0), (128, .getfield 65), (131, .getfield 235), (134, .aload_n 0), (135, .getfield 114), (138, .getfield 236), (141, .iload_n 1), (142, .iadd), (143, .iaload)]),
  (193, [(144, .iload 6), (146, .invokevirtual 242), (149, .istore 7), (151, .aload_n 0), (152, .getfield 97), (155, .ifCond .eq 4), (158, .return_), (159, .aload_n 0), (160, .iload 7), (162, .invokevirtual 190), (165, .goto 125), (168, .aload_n 0), (169, .invokevirtual 194), (172, .istore 8), (174, .iload 8), (176, .ifCond .eq 23), (179, .aload_n 0), (180, .iload 8), (182, .iconst 0), (183, .invokevirtual 245), (186, .ifCond .ne 28), (189, .aload_n 0), (190, .iload 8), (192, .iconst 1)]),
  (241, [(193, .invokevirtual 245), (196, .ifCond .ne 18), (199, .aload_n 0), (200, .iload 8), (202, .ifCond .ne 7), (205, .iconst 1), (206, .goto 4), (209, .iconst 5), (210, .invokevirtual 209), (213, .return_), (214, .aload_n 0), (215, .aload_n 0), (216, .getfield 18), (219, .iload 8), (221, .iaload), (222, .invokevirtual 190), (225, .goto 65), (228, .aload_n 0), (229, .aload_n 0), (230, .getfield 24), (233, .iload_n 3), (234, .iaload), (235, .invokevirtual 190), (238, .goto 52)]),
  (286, [(241, .aload_n 0), (242, .getfield 24), (245, .iload_n 3), (246, .aload_n 0), (247, .invokevirtual 194), (250, .iastore), (251, .goto 39), (254, .iload_n 2), (255, .bipush 23), (257, .if_icmp .eq 9), (260, .iload_n 2), (261, .bipush 24), (263, .if_icmp .ne 15), (266, .aload_n 0), (267, .iload_n 2), (268, .iload_n 3), (269, .invokevirtual 248), (272, .ifCond .ne 18), (275, .goto 14), (278, .aload_n 0), (279, .iload_n 2), (280, .iload_n 3), (281, .iload 4), (283, .invokevirtual 251)]),
  (306, [(286, .ifCond .ne 4), (289, .return_), (290, .aload_n 0), (291, .iload_n 1), (292, .iconst 1), (293, .iadd), (294, .invokevirtual 197), (297, .return_)])]
theorem ok_X8_objectActs : CodeOK cX8_objectActs k_X8_objectActs := okw 0 (by decide +kernel) (okc (by decide +kernel) (okw 52 (by decide +kernel) (okw 96 (by decide +kernel) (okw 144 (by decide +kernel) (okw 193 (by decide +kernel) (okw 241 (by decide +kernel) (okw 286 (by decide +kernel) (okn))))))))
abbrev p_X8_objectActs (l : Launch) (G : JG) : JP := (true, [(18, 8, 3, 1407100, 3), (24, 8, 7, 1008100, 5), (65, 8, 0, 16, 0), (97, 8, 31, 0, 0), (114, 8, 28, 18, 0), (235, 12, 10, 104, 0), (236, 14, 14, 0, 0), (239, 12, 4, 134, 0)], [], [], [], [], [], [(190, 1, [0, 2008], 700, S_X8_put l G), (194, 1, [2008], 0, S_X8_take l G), (197, 1, [0, 2008], 700, S_X8_goOn l G), (209, 1, [0, 2008], 700, S_X8_hurl l G), (242, 1, [0, 0, 2008], 0, S_X8_make l G), (245, 1, [0, 0, 2008], 2, S_X8_isArray l G), (248, 1, [0, 0, 2008], 2, S_X8_element l G), (251, 1, [0, 0, 0, 2008], 2, S_X8_field l G)], false, 700, [])
theorem pk_X8_objectActs {K : JC} {l : Launch} {G : JG} {Q : Int → MH → Prop} {E : Nat → Int → MH → Prop} {h0 : MH} (ki : KI K l G yX8_objectActs cX8_objectActs 9 none [] 8 262 700 Q E h0) (hG : gO G = true) : POK K RX8 (p_X8_objectActs l G) :=
  POKi (y := yX8_objectActs) ki hG (rfs rf_X8_ok (by decide +kernel)) fmz fmz fmz fmz fmz
  (pkE ki (by
    intro K e1 e2 e3 e4; subst e1; subst e2
    exact fmE (ceV 8 e3 e4 yl_X8_put ⟨by decide, ⟨_, _, rfl⟩, q1884, qs87, q1882⟩ rfl) (fmE (ceV 8 e3 e4 yl_X8_take ⟨by decide, ⟨_, _, rfl⟩, q1888, qs88, q1886⟩ rfl) (fmE (ceV 8 e3 e4 yl_X8_goOn ⟨by decide, ⟨_, _, rfl⟩, q1892, qs89, q1890⟩ rfl) (fmE (ceV 8 e3 e4 yl_X8_hurl ⟨by decide, ⟨_, _, rfl⟩, q1903, qs91, q1901⟩ rfl) (fmE (ceV 8 e3 e4 yl_X8_make ⟨by decide, ⟨_, _, rfl⟩, q1920, qs94, q1918⟩ rfl) (fmE (ceV 8 e3 e4 yl_X8_isArray ⟨by decide, ⟨_, _, rfl⟩, q1925, qs95, q1923⟩ rfl) (fmE (ceV 8 e3 e4 yl_X8_element ⟨by decide, ⟨_, _, rfl⟩, q1929, qs96, q1927⟩ rfl) (fmE (ceV 8 e3 e4 yl_X8_field ⟨by decide, ⟨_, _, rfl⟩, q1934, qs97, q1932⟩ rfl) (fmz)))))))))) (fun z => Bool.noConfusion z) rfl (pkP ki (by
    intro K e1 e2 e3 e4; subst e1; subst e2
    exact fmz))
theorem r_X8_objectActs_0 {K : JC} {l : Launch} {G : JG} {Q : Int → MH → Prop} {E : Nat → Int → MH → Prop} {h0 : MH} (ki : KI K l G yX8_objectActs cX8_objectActs 9 none [] 8 262 700 Q E h0) (hG : gO G = true) {v1 v2 v3 v4 : Int} {h : MH} (H :
    (((v2 = 20 →
      ((hv h 346 0) ≠ 0) ∧
      ((hv h 346 28) ≠ 0) ∧
      ((hv h (hv h 346 0) 10) ≠ 0) ∧
      (0 ≤ (w32 ((hv h (hv h 346 28) 14) + v1))) ∧
      ((w32 ((hv h (hv h 346 28) 14) + v1)) < (hn h (hv h (hv h 346 0) 10))) ∧
      ((hv h 346 0) ≠ 0) ∧
      ((hv h (hv h 346 0) 4) ≠ 0) ∧
      (0 ≤ v3) ∧
      (v3 < (hn h (hv h (hv h 346 0) 4))) ∧
      ((hv h (hv h (hv h 346 0) 4) v3) ≠ 0) ∧
      S_X8_make l G [(2008, 346), (0, (hv h (hv h (hv h 346 0) 10) (w32 ((hv h (hv h 346 28) 14) + v1)))), (0, (hn h (hv h (hv h (hv h 346 0) 4) v3)))] h (fun z1 h2 =>
      (∀ x5_3 : Int, x5_3 = z1 →
      (((hv h2 346 31) = 0 →
        S_X8_put l G [(2008, 346), (0, x5_3)] h2 (fun _ h5 =>
        S_X8_goOn l G [(2008, 346), (0, (w32 (v1 + 1)))] h5 (fun _ h7 =>
        Q 0 h7) E) E) ∧
      (¬ (hv h2 346 31) = 0 →
        Q 0 h2)))) E) ∧
    ((v2 = 20 + 1 →
      S_X8_take l G [(2008, 346)] h (fun z8 h9 =>
      (∀ x6_10 : Int, x6_10 = z8 →
      (((x6_10 < 0 ∨ 100 < x6_10) →
        S_X8_hurl l G [(2008, 346), (0, 3)] h9 (fun _ h12 =>
        Q 0 h12) E) ∧
      (¬ (x6_10 < 0 ∨ 100 < x6_10) →
        ((hv h9 346 0) ≠ 0) ∧
        ((hv h9 346 28) ≠ 0) ∧
        ((hv h9 (hv h9 346 0) 10) ≠ 0) ∧
        (0 ≤ (w32 ((hv h9 (hv h9 346 28) 14) + v1))) ∧
        ((w32 ((hv h9 (hv h9 346 28) 14) + v1)) < (hn h9 (hv h9 (hv h9 346 0) 10))) ∧
        S_X8_make l G [(2008, 346), (0, (hv h9 (hv h9 (hv h9 346 0) 10) (w32 ((hv h9 (hv h9 346 28) 14) + v1)))), (0, x6_10)] h9 (fun z13 h14 =>
        (∀ x7_15 : Int, x7_15 = z13 →
        (((hv h14 346 31) = 0 →
          S_X8_put l G [(2008, 346), (0, x7_15)] h14 (fun _ h17 =>
          S_X8_goOn l G [(2008, 346), (0, (w32 (v1 + 1)))] h17 (fun _ h19 =>
          Q 0 h19) E) E) ∧
        (¬ (hv h14 346 31) = 0 →
          Q 0 h14)))) E)))) E) ∧
    ((v2 = 20 + 1 + 1 →
      S_X8_take l G [(2008, 346)] h (fun z20 h21 =>
      (∀ x8_22 : Int, x8_22 = z20 →
      ((x8_22 = 0 →
        S_X8_hurl l G [(2008, 346), (0, (if x8_22 = 0 then 1 else 5 : Int))] h21 (fun _ h24 =>
        Q 0 h24) E) ∧
      (¬ x8_22 = 0 →
        S_X8_isArray l G [(2008, 346), (0, x8_22), (0, 0)] h21 (fun z25 h26 =>
        ((¬ z25 = 0 →
          (0 ≤ x8_22) ∧
          (x8_22 < 407) ∧
          S_X8_put l G [(2008, 346), (0, (hv h26 349 x8_22))] h26 (fun _ h28 =>
          S_X8_goOn l G [(2008, 346), (0, (w32 (v1 + 1)))] h28 (fun _ h30 =>
          Q 0 h30) E) E) ∧
        (z25 = 0 →
          S_X8_isArray l G [(2008, 346), (0, x8_22), (0, 1)] h26 (fun z31 h32 =>
          ((¬ z31 = 0 →
            (0 ≤ x8_22) ∧
            (x8_22 < 407) ∧
            S_X8_put l G [(2008, 346), (0, (hv h32 349 x8_22))] h32 (fun _ h34 =>
            S_X8_goOn l G [(2008, 346), (0, (w32 (v1 + 1)))] h34 (fun _ h36 =>
            Q 0 h36) E) E) ∧
          (z31 = 0 →
            S_X8_hurl l G [(2008, 346), (0, (if x8_22 = 0 then 1 else 5 : Int))] h32 (fun _ h38 =>
            Q 0 h38) E))) E))) E)))) E) ∧
    ((v2 = 20 + 1 + 1 + 1 →
      (((v2 = 23 ∨ v2 = 24) →
        S_X8_element l G [(2008, 346), (0, v2), (0, v3)] h (fun z39 h40 =>
        ((¬ z39 = 0 →
          S_X8_goOn l G [(2008, 346), (0, (w32 (v1 + 1)))] h40 (fun _ h42 =>
          Q 0 h42) E) ∧
        (z39 = 0 →
          Q 0 h40))) E) ∧
      (¬ (v2 = 23 ∨ v2 = 24) →
        S_X8_field l G [(2008, 346), (0, v2), (0, v3), (0, v4)] h (fun z43 h44 =>
        ((¬ z43 = 0 →
          S_X8_goOn l G [(2008, 346), (0, (w32 (v1 + 1)))] h44 (fun _ h46 =>
          Q 0 h46) E) ∧
        (z43 = 0 →
          Q 0 h44))) E))) ∧
    ((v2 = 20 + 1 + 1 + 1 + 1 →
      (((v2 = 23 ∨ v2 = 24) →
        S_X8_element l G [(2008, 346), (0, v2), (0, v3)] h (fun z47 h48 =>
        ((¬ z47 = 0 →
          S_X8_goOn l G [(2008, 346), (0, (w32 (v1 + 1)))] h48 (fun _ h50 =>
          Q 0 h50) E) ∧
        (z47 = 0 →
          Q 0 h48))) E) ∧
      (¬ (v2 = 23 ∨ v2 = 24) →
        S_X8_field l G [(2008, 346), (0, v2), (0, v3), (0, v4)] h (fun z51 h52 =>
        ((¬ z51 = 0 →
          S_X8_goOn l G [(2008, 346), (0, (w32 (v1 + 1)))] h52 (fun _ h54 =>
          Q 0 h54) E) ∧
        (z51 = 0 →
          Q 0 h52))) E))) ∧
    ((v2 = 20 + 1 + 1 + 1 + 1 + 1 →
      (((v2 = 23 ∨ v2 = 24) →
        S_X8_element l G [(2008, 346), (0, v2), (0, v3)] h (fun z55 h56 =>
        ((¬ z55 = 0 →
          S_X8_goOn l G [(2008, 346), (0, (w32 (v1 + 1)))] h56 (fun _ h58 =>
          Q 0 h58) E) ∧
        (z55 = 0 →
          Q 0 h56))) E) ∧
      (¬ (v2 = 23 ∨ v2 = 24) →
        S_X8_field l G [(2008, 346), (0, v2), (0, v3), (0, v4)] h (fun z59 h60 =>
        ((¬ z59 = 0 →
          S_X8_goOn l G [(2008, 346), (0, (w32 (v1 + 1)))] h60 (fun _ h62 =>
          Q 0 h62) E) ∧
        (z59 = 0 →
          Q 0 h60))) E))) ∧
    ((v2 = 20 + 1 + 1 + 1 + 1 + 1 + 1 →
      (((v2 = 23 ∨ v2 = 24) →
        S_X8_element l G [(2008, 346), (0, v2), (0, v3)] h (fun z63 h64 =>
        ((¬ z63 = 0 →
          S_X8_goOn l G [(2008, 346), (0, (w32 (v1 + 1)))] h64 (fun _ h66 =>
          Q 0 h66) E) ∧
        (z63 = 0 →
          Q 0 h64))) E) ∧
      (¬ (v2 = 23 ∨ v2 = 24) →
        S_X8_field l G [(2008, 346), (0, v2), (0, v3), (0, v4)] h (fun z67 h68 =>
        ((¬ z67 = 0 →
          S_X8_goOn l G [(2008, 346), (0, (w32 (v1 + 1)))] h68 (fun _ h70 =>
          Q 0 h70) E) ∧
        (z67 = 0 →
          Q 0 h68))) E))) ∧
    ((v2 = 20 + 1 + 1 + 1 + 1 + 1 + 1 + 1 →
      (0 ≤ v3) ∧
      (v3 < 8) ∧
      S_X8_put l G [(2008, 346), (0, (hv h 351 v3))] h (fun _ h72 =>
      S_X8_goOn l G [(2008, 346), (0, (w32 (v1 + 1)))] h72 (fun _ h74 =>
      Q 0 h74) E) E) ∧
    ((v2 = 20 + 1 + 1 + 1 + 1 + 1 + 1 + 1 + 1 →
      S_X8_take l G [(2008, 346)] h (fun z75 h76 =>
      (0 ≤ v3) ∧
      (v3 < 8) ∧
      (∀ h77, h77 = hset h76 351 v3 z75 →
      S_X8_goOn l G [(2008, 346), (0, (w32 (v1 + 1)))] h77 (fun _ h79 =>
      Q 0 h79) E)) E) ∧
    True))))))))) ∧ ((v2 < 20 ∨ 28 < v2) →
      (((v2 = 23 ∨ v2 = 24) →
        S_X8_element l G [(2008, 346), (0, v2), (0, v3)] h (fun z80 h81 =>
        ((¬ z80 = 0 →
          S_X8_goOn l G [(2008, 346), (0, (w32 (v1 + 1)))] h81 (fun _ h83 =>
          Q 0 h83) E) ∧
        (z80 = 0 →
          Q 0 h81))) E) ∧
      (¬ (v2 = 23 ∨ v2 = 24) →
        S_X8_field l G [(2008, 346), (0, v2), (0, v3), (0, v4)] h (fun z84 h85 =>
        ((¬ z84 = 0 →
          S_X8_goOn l G [(2008, 346), (0, (w32 (v1 + 1)))] h85 (fun _ h87 =>
          Q 0 h87) E) ∧
        (z84 = 0 →
          Q 0 h85))) E))))) : JW K 0 [(2008, 346), (0, v1), (0, v2), (0, v3), (0, v4), (5000, 0), (5000, 0), (5000, 0), (5000, 0)] [] h := by
  have e1 := ki.2.2.2.2.1
  have e2 := ki.2.2.2.2.2.1
  subst e1; subst e2
  exact run_ok (dia := [(202, 210)]) (cnr := [(110, 120, 126), (257, 266, 278)]) (cuts := []) ki.1 (pk_X8_objectActs ki hG) ok_X8_objectActs (by decide) 34 true _ _ _ _ H
abbrev k_X8_make : List (Nat × List (Nat × Instr)) := [(42, [(0, .aload_n 0), (1, .getfield 69), (4, .sipush 407), (7, .if_icmp .ne 20), (10, .aload_n 0), (11, .iconst 1), (12, .putfield 97), (15, .aload_n 0), (16, .dup), (17, .getfield 82), (20, .iconst 1), (21, .isub), (22, .putfield 82), (25, .iconst 0), (26, .ireturn), (27, .aload_n 0), (28, .getfield 73), (31, .iload_n 2), (32, .iadd), (33, .aload_n 0), (34, .getfield 21), (37, .arraylength), (38, .if_icmp .le 35), (41, .iconst 2)]),
  (48, [(42, .aload_n 0), (43, .getfield 21), (46, .arraylength), (47, .imul)]),
  (50, [(48, .newarray .int)]),
  (90, [(50, .astore_n 3), (51, .aload_n 0), (52, .getfield 21), (55, .iconst 0), (56, .aload_n 3), (57, .iconst 0), (58, .aload_n 0), (59, .getfield 73), (62, .invokestatic 226), (65, .aload_n 0), (66, .aload_n 3), (67, .putfield 21), (70, .goto (-43)), (73, .iconst 0), (74, .istore_n 3), (75, .iload_n 3), (76, .iload_n 2), (77, .if_icmp .ge 21), (80, .aload_n 0), (81, .getfield 21), (84, .aload_n 0), (85, .getfield 73), (88, .iload_n 3), (89, .iadd)]),
  (132, [(90, .iconst 0), (91, .iastore), (92, .iinc 3 1), (95, .goto (-20)), (98, .aload_n 0), (99, .getfield 11), (102, .aload_n 0), (103, .getfield 69), (106, .iload_n 1), (107, .iastore), (108, .aload_n 0), (109, .getfield 15), (112, .aload_n 0), (113, .getfield 69), (116, .aload_n 0), (117, .getfield 73), (120, .iastore), (121, .aload_n 0), (122, .getfield 18), (125, .aload_n 0), (126, .getfield 69), (129, .iload_n 2), (130, .iastore), (131, .aload_n 0)]),
  (161, [(132, .dup), (133, .getfield 73), (136, .iload_n 2), (137, .iadd), (138, .putfield 73), (141, .aload_n 0), (142, .dup), (143, .getfield 69), (146, .dup_x1), (147, .iconst 1), (148, .iadd), (149, .putfield 69), (152, .ireturn)])]
theorem ok_X8_make : CodeOK cX8_make k_X8_make := okw 0 (by decide +kernel) (okw 42 (by decide +kernel) (okc (by decide +kernel) (okw 50 (by decide +kernel) (okw 90 (by decide +kernel) (okw 132 (by decide +kernel) (okn))))))
abbrev p_X8_make (l : Launch) (G : JG) : JP := (true, [(11, 8, 1, 1407100, 1), (15, 8, 2, 1407100, 2), (18, 8, 3, 1407100, 3), (21, 8, 5, 104, 0), (69, 8, 4, 0, 0), (73, 8, 6, 0, 0), (82, 8, 17, 0, 0)], [], [], [(69, 8, 4, 0), (73, 8, 6, 0), (82, 8, 17, 0), (97, 8, 31, 2)], [], [], [], false, 0, [])
theorem pk_X8_make {K : JC} {l : Launch} {G : JG} {Q : Int → MH → Prop} {E : Nat → Int → MH → Prop} {h0 : MH} (ki : KI K l G yX8_make cX8_make 4 (some .int) [] 7 239 0 Q E h0) (hG : gO G = true) : POK K RX8 (p_X8_make l G) :=
  POKi (y := yX8_make) ki hG (rfs rf_X8_ok (by decide +kernel)) fmz fmz (rps rp_X8_ok (by decide +kernel)) fmz fmz
  (pkE ki (by
    intro K e1 e2 e3 e4; subst e1; subst e2
    exact fmz)) (fun z => Bool.noConfusion z) rfl (pkP ki (by
    intro K e1 e2 e3 e4; subst e1; subst e2
    exact fmz))
theorem r_X8_make_0 {K : JC} {l : Launch} {G : JG} {Q : Int → MH → Prop} {E : Nat → Int → MH → Prop} {h0 : MH} (ki : KI K l G yX8_make cX8_make 4 (some .int) [] 7 239 0 Q E h0) (hG : gO G = true) {v1 v2 : Int} {h : MH} (H :
    ((¬ (hv h 346 4) = 407 →
      JW K 27 [(2008, 346), (0, v1), (0, v2), (5000, 0)] [] h) ∧
    ((hv h 346 4) = 407 →
      ((1 : Int) = 0 ∨ (1 : Int) = 1) ∧
      (∀ h1, h1 = hset h 346 31 1 →
      (∀ h2, h2 = hset h1 346 17 (w32 ((hv h1 346 17) - 1)) →
      Q 0 h2))))) : JW K 0 [(2008, 346), (0, v1), (0, v2), (5000, 0)] [] h := by
  have e1 := ki.2.2.2.2.1
  have e2 := ki.2.2.2.2.2.1
  subst e1; subst e2
  exact run_ok (dia := []) (cnr := []) (cuts := [(27, [2008, 0, 0, 5000], []), (75, [2008, 0, 0, 0], [])]) ki.1 (pk_X8_make ki hG) ok_X8_make (by decide) 16 true _ _ _ _ H
theorem r_X8_make_27 {K : JC} {l : Launch} {G : JG} {Q : Int → MH → Prop} {E : Nat → Int → MH → Prop} {h0 : MH} (ki : KI K l G yX8_make cX8_make 4 (some .int) [] 7 239 0 Q E h0) (hG : gO G = true) {v1 v2 : Int} {h : MH} (H :
    ((hv h 346 5) ≠ 0) ∧
    (((w32 ((hv h 346 6) + v2)) ≤ (hn h (hv h 346 5)) →
      (∀ x3_1 : Int, x3_1 = 0 →
      JW K 75 [(2008, 346), (0, v1), (0, v2), (0, x3_1)] [] h)) ∧
    ((hn h (hv h 346 5)) < (w32 ((hv h 346 6) + v2)) →
      ((hv h 346 5) ≠ 0) ∧
      (0 ≤ (w32 (2 * (hn h (hv h 346 5))))) ∧
      (hz h + 1 ≤ LIMC) ∧
      (hs h + (w32 (2 * (hn h (hv h 346 5)))) ≤ LIMS) ∧
      (∀ h2, h2 = hnew h 100 (w32 (2 * (hn h (hv h 346 5)))) (w32 (2 * (hn h (hv h 346 5)))) →
      (∀ x3_3 : Int, x3_3 = (hz h + 1) →
      JW K 62 [(2008, 346), (0, v1), (0, v2), (2100, x3_3)] [(0, (hv h2 346 6)), (0, 0), (2100, x3_3), (0, 0), (104, (hv h2 346 5))] h2))))) : JW K 27 [(2008, 346), (0, v1), (0, v2), (5000, 0)] [] h := by
  have e1 := ki.2.2.2.2.1
  have e2 := ki.2.2.2.2.2.1
  subst e1; subst e2
  exact run_ok (dia := []) (cnr := []) (cuts := [(27, [2008, 0, 0, 5000], []), (75, [2008, 0, 0, 0], [])]) ki.1 (pk_X8_make ki hG) ok_X8_make (by decide) 24 true _ _ _ _ H
theorem r_X8_make_75 {K : JC} {l : Launch} {G : JG} {Q : Int → MH → Prop} {E : Nat → Int → MH → Prop} {h0 : MH} (ki : KI K l G yX8_make cX8_make 4 (some .int) [] 7 239 0 Q E h0) (hG : gO G = true) {v1 v2 v3 : Int} {h : MH} (H :
    ((v2 ≤ v3 →
      (0 ≤ (hv h 346 4)) ∧
      ((hv h 346 4) < 407) ∧
      (∀ h1, h1 = hset h 347 (hv h 346 4) v1 →
      (0 ≤ (hv h1 346 4)) ∧
      ((hv h1 346 4) < 407) ∧
      (∀ h2, h2 = hset h1 348 (hv h1 346 4) (hv h1 346 6) →
      (0 ≤ (hv h2 346 4)) ∧
      ((hv h2 346 4) < 407) ∧
      (∀ h3, h3 = hset h2 349 (hv h2 346 4) v2 →
      (∀ h4, h4 = hset h3 346 6 (w32 ((hv h3 346 6) + v2)) →
      (∀ h5, h5 = hset h4 346 4 (w32 ((hv h4 346 4) + 1)) →
      Q (hv h4 346 4) h5)))))) ∧
    (v3 < v2 →
      ((hv h 346 5) ≠ 0) ∧
      (0 ≤ (w32 ((hv h 346 6) + v3))) ∧
      ((w32 ((hv h 346 6) + v3)) < (hn h (hv h 346 5))) ∧
      (∀ h6, h6 = hset h (hv h 346 5) (w32 ((hv h 346 6) + v3)) 0 →
      (∀ x3_7 : Int, x3_7 = w32 (v3 + 1) →
      JW K 75 [(2008, 346), (0, v1), (0, v2), (0, x3_7)] [] h6))))) : JW K 75 [(2008, 346), (0, v1), (0, v2), (0, v3)] [] h := by
  have e1 := ki.2.2.2.2.1
  have e2 := ki.2.2.2.2.2.1
  subst e1; subst e2
  exact run_ok (dia := []) (cnr := []) (cuts := [(27, [2008, 0, 0, 5000], []), (75, [2008, 0, 0, 0], [])]) ki.1 (pk_X8_make ki hG) ok_X8_make (by decide) 37 true _ _ _ _ H
abbrev k_X8_isArray : List (Nat × List (Nat × Instr)) := [(41, [(0, .aload_n 0), (1, .getfield 65), (4, .getfield 232), (7, .aload_n 0), (8, .getfield 11), (11, .iload_n 1), (12, .iaload), (13, .iaload), (14, .iload_n 2), (15, .ifCond .ne 7), (18, .iconst (-1)), (19, .goto 5), (22, .bipush (-2)), (24, .if_icmp .ne 7), (27, .iconst 1), (28, .goto 4), (31, .iconst 0), (32, .ireturn)])]
theorem ok_X8_isArray : CodeOK cX8_isArray k_X8_isArray := okw 0 (by decide +kernel) (okn)
abbrev p_X8_isArray (l : Launch) (G : JG) : JP := (true, [(11, 8, 1, 1407100, 1), (65, 8, 0, 16, 0), (232, 12, 9, 104, 0)], [], [], [], [], [], [], false, 2, [])
theorem pk_X8_isArray {K : JC} {l : Launch} {G : JG} {Q : Int → MH → Prop} {E : Nat → Int → MH → Prop} {h0 : MH} (ki : KI K l G yX8_isArray cX8_isArray 3 (some .boolean) [] 4 150 2 Q E h0) (hG : gO G = true) : POK K RX8 (p_X8_isArray l G) :=
  POKi (y := yX8_isArray) ki hG (rfs rf_X8_ok (by decide +kernel)) fmz fmz fmz fmz fmz
  (pkE ki (by
    intro K e1 e2 e3 e4; subst e1; subst e2
    exact fmz)) (fun z => Bool.noConfusion z) rfl (pkP ki (by
    intro K e1 e2 e3 e4; subst e1; subst e2
    exact fmz))
theorem r_X8_isArray_0 {K : JC} {l : Launch} {G : JG} {Q : Int → MH → Prop} {E : Nat → Int → MH → Prop} {h0 : MH} (ki : KI K l G yX8_isArray cX8_isArray 3 (some .boolean) [] 4 150 2 Q E h0) (hG : gO G = true) {v1 v2 : Int} {h : MH} (H :
    ((hv h 346 0) ≠ 0) ∧
    (0 ≤ v1) ∧
    (v1 < 407) ∧
    ((hv h (hv h 346 0) 9) ≠ 0) ∧
    (0 ≤ (hv h 347 v1)) ∧
    ((hv h 347 v1) < (hn h (hv h (hv h 346 0) 9))) ∧
    (((if (hv h (hv h (hv h 346 0) 9) (hv h 347 v1)) = (if v2 = 0 then (-1) else (-2) : Int) then 1 else 0 : Int) = 0 ∨ (if (hv h (hv h (hv h 346 0) 9) (hv h 347 v1)) = (if v2 = 0 then (-1) else (-2) : Int) then 1 else 0 : Int) = 1) ∧ Q (if (hv h (hv h (hv h 346 0) 9) (hv h 347 v1)) = (if v2 = 0 then (-1) else (-2) : Int) then 1 else 0 : Int) h)) : JW K 0 [(2008, 346), (0, v1), (0, v2)] [] h := by
  have e1 := ki.2.2.2.2.1
  have e2 := ki.2.2.2.2.2.1
  subst e1; subst e2
  exact run_ok (dia := [(15, 24), (24, 32)]) (cnr := []) (cuts := []) ki.1 (pk_X8_isArray ki hG) ok_X8_isArray (by decide) 13 true _ _ _ _ H
abbrev k_X8_element : List (Nat × List (Nat × Instr)) := [(46, [(0, .iload_n 1), (1, .bipush 24), (3, .if_icmp .ne 10), (6, .aload_n 0), (7, .invokevirtual 194), (10, .goto 4), (13, .iconst 0), (14, .istore_n 3), (15, .aload_n 0), (16, .invokevirtual 194), (19, .istore 4), (21, .aload_n 0), (22, .invokevirtual 194), (25, .istore 5), (27, .iload 5), (29, .ifCond .eq 33), (32, .aload_n 0), (33, .iload 5), (35, .iload_n 2), (36, .invokevirtual 245), (39, .ifCond .eq 23), (42, .iload 4), (44, .i2l), (45, .lconst 0)]),
  (91, [(46, .aload_n 0), (47, .getfield 18), (50, .iload 5), (52, .iaload), (53, .iconst 1), (54, .isub), (55, .i2l), (56, .invokestatic 254), (59, .ifCond .ne 33), (62, .aload_n 0), (63, .iload 5), (65, .ifCond .ne 7), (68, .iconst 1), (69, .goto 18), (72, .aload_n 0), (73, .iload 5), (75, .iload_n 2), (76, .invokevirtual 245), (79, .ifCond .ne 7), (82, .iconst 5), (83, .goto 4), (86, .iconst 2), (87, .invokevirtual 209), (90, .iconst 0)]),
  (132, [(91, .ireturn), (92, .iload_n 1), (93, .bipush 24), (95, .if_icmp .ne 22), (98, .aload_n 0), (99, .getfield 21), (102, .aload_n 0), (103, .getfield 15), (106, .iload 5), (108, .iaload), (109, .iload 4), (111, .iadd), (112, .iload_n 3), (113, .iastore), (114, .goto 22), (117, .aload_n 0), (118, .aload_n 0), (119, .getfield 21), (122, .aload_n 0), (123, .getfield 15), (126, .iload 5), (128, .iaload), (129, .iload 4), (131, .iadd)]),
  (146, [(132, .iaload), (133, .invokevirtual 190), (136, .iconst 1), (137, .ireturn)])]
theorem ok_X8_element : CodeOK cX8_element k_X8_element := okw 0 (by decide +kernel) (okw 46 (by decide +kernel) (okw 91 (by decide +kernel) (okw 132 (by decide +kernel) (okn))))
abbrev p_X8_element (l : Launch) (G : JG) : JP := (true, [(15, 8, 2, 1407100, 2), (18, 8, 3, 1407100, 3), (21, 8, 5, 104, 0)], [], [], [], [], [], [(190, 1, [0, 2008], 700, S_X8_put l G), (194, 1, [2008], 0, S_X8_take l G), (209, 1, [0, 2008], 700, S_X8_hurl l G), (245, 1, [0, 0, 2008], 2, S_X8_isArray l G)], false, 2, [(254, e_X1_isIn)])
theorem pk_X8_element {K : JC} {l : Launch} {G : JG} {Q : Int → MH → Prop} {E : Nat → Int → MH → Prop} {h0 : MH} (ki : KI K l G yX8_element cX8_element 6 (some .boolean) [] 7 222 2 Q E h0) (hG : gO G = true) : POK K RX8 (p_X8_element l G) :=
  POKi (y := yX8_element) ki hG (rfs rf_X8_ok (by decide +kernel)) fmz fmz fmz fmz fmz
  (pkE ki (by
    intro K e1 e2 e3 e4; subst e1; subst e2
    exact fmE (ceV 8 e3 e4 yl_X8_put ⟨by decide, ⟨_, _, rfl⟩, q1884, qs87, q1882⟩ rfl) (fmE (ceV 8 e3 e4 yl_X8_take ⟨by decide, ⟨_, _, rfl⟩, q1888, qs88, q1886⟩ rfl) (fmE (ceV 8 e3 e4 yl_X8_hurl ⟨by decide, ⟨_, _, rfl⟩, q1903, qs91, q1901⟩ rfl) (fmE (ceV 8 e3 e4 yl_X8_isArray ⟨by decide, ⟨_, _, rfl⟩, q1925, qs95, q1923⟩ rfl) (fmz)))))) (fun z => Bool.noConfusion z) rfl (pkP ki (by
    intro K e1 e2 e3 e4; subst e1; subst e2
    exact fmP (pe_X1_isIn hG e3 e4 ⟨q809, Or.inr ⟨_, List.mem_of_getElem? (i := 9) rfl⟩⟩ rfl rfl) (fmz)))
theorem r_X8_element_0 {K : JC} {l : Launch} {G : JG} {Q : Int → MH → Prop} {E : Nat → Int → MH → Prop} {h0 : MH} (ki : KI K l G yX8_element cX8_element 6 (some .boolean) [] 7 222 2 Q E h0) (hG : gO G = true) {v1 v2 : Int} {h : MH} (H :
    ((¬ v1 = 24 →
      (∀ x3_1 : Int, x3_1 = 0 →
      S_X8_take l G [(2008, 346)] h (fun z2 h3 =>
      (∀ x4_4 : Int, x4_4 = z2 →
      S_X8_take l G [(2008, 346)] h3 (fun z5 h6 =>
      (∀ x5_7 : Int, x5_7 = z5 →
      ((x5_7 = 0 →
        ((¬ x5_7 = 0 →
          S_X8_isArray l G [(2008, 346), (0, x5_7), (0, v2)] h6 (fun z8 h9 =>
          S_X8_hurl l G [(2008, 346), (0, (if z8 = 0 then 5 else 2 : Int))] h9 (fun _ h11 =>
          (((0 : Int) = 0 ∨ (0 : Int) = 1) ∧ Q 0 h11)) E) E) ∧
        (x5_7 = 0 →
          S_X8_hurl l G [(2008, 346), (0, 1)] h6 (fun _ h13 =>
          (((0 : Int) = 0 ∨ (0 : Int) = 1) ∧ Q 0 h13)) E))) ∧
      (¬ x5_7 = 0 →
        S_X8_isArray l G [(2008, 346), (0, x5_7), (0, v2)] h6 (fun z14 h15 =>
        ((¬ z14 = 0 → (0 ≤ x5_7) ∧ x5_7 < 407)) ∧
        (((z14 = 0 ∨ (isin x4_4 0 (w32 ((hv h15 349 x5_7) - 1))) = 0) →
          ((¬ x5_7 = 0 →
            S_X8_isArray l G [(2008, 346), (0, x5_7), (0, v2)] h15 (fun z16 h17 =>
            S_X8_hurl l G [(2008, 346), (0, (if z16 = 0 then 5 else 2 : Int))] h17 (fun _ h19 =>
            (((0 : Int) = 0 ∨ (0 : Int) = 1) ∧ Q 0 h19)) E) E) ∧
          (x5_7 = 0 →
            S_X8_hurl l G [(2008, 346), (0, 1)] h15 (fun _ h21 =>
            (((0 : Int) = 0 ∨ (0 : Int) = 1) ∧ Q 0 h21)) E))) ∧
        (¬ (z14 = 0 ∨ (isin x4_4 0 (w32 ((hv h15 349 x5_7) - 1))) = 0) →
          ((¬ v1 = 24 →
            (0 ≤ x5_7) ∧
            (x5_7 < 407) ∧
            ((hv h15 346 5) ≠ 0) ∧
            (0 ≤ (w32 ((hv h15 348 x5_7) + x4_4))) ∧
            ((w32 ((hv h15 348 x5_7) + x4_4)) < (hn h15 (hv h15 346 5))) ∧
            S_X8_put l G [(2008, 346), (0, (hv h15 (hv h15 346 5) (w32 ((hv h15 348 x5_7) + x4_4))))] h15 (fun _ h23 =>
            (((1 : Int) = 0 ∨ (1 : Int) = 1) ∧ Q 1 h23)) E) ∧
          (v1 = 24 →
            (0 ≤ x5_7) ∧
            (x5_7 < 407) ∧
            ((hv h15 346 5) ≠ 0) ∧
            (0 ≤ (w32 ((hv h15 348 x5_7) + x4_4))) ∧
            ((w32 ((hv h15 348 x5_7) + x4_4)) < (hn h15 (hv h15 346 5))) ∧
            (∀ h24, h24 = hset h15 (hv h15 346 5) (w32 ((hv h15 348 x5_7) + x4_4)) x3_1 →
            (((1 : Int) = 0 ∨ (1 : Int) = 1) ∧ Q 1 h24))))))) E)))) E)) E)) ∧
    (v1 = 24 →
      S_X8_take l G [(2008, 346)] h (fun z25 h26 =>
      (∀ x3_27 : Int, x3_27 = z25 →
      S_X8_take l G [(2008, 346)] h26 (fun z28 h29 =>
      (∀ x4_30 : Int, x4_30 = z28 →
      S_X8_take l G [(2008, 346)] h29 (fun z31 h32 =>
      (∀ x5_33 : Int, x5_33 = z31 →
      ((x5_33 = 0 →
        ((¬ x5_33 = 0 →
          S_X8_isArray l G [(2008, 346), (0, x5_33), (0, v2)] h32 (fun z34 h35 =>
          S_X8_hurl l G [(2008, 346), (0, (if z34 = 0 then 5 else 2 : Int))] h35 (fun _ h37 =>
          (((0 : Int) = 0 ∨ (0 : Int) = 1) ∧ Q 0 h37)) E) E) ∧
        (x5_33 = 0 →
          S_X8_hurl l G [(2008, 346), (0, 1)] h32 (fun _ h39 =>
          (((0 : Int) = 0 ∨ (0 : Int) = 1) ∧ Q 0 h39)) E))) ∧
      (¬ x5_33 = 0 →
        S_X8_isArray l G [(2008, 346), (0, x5_33), (0, v2)] h32 (fun z40 h41 =>
        ((¬ z40 = 0 → (0 ≤ x5_33) ∧ x5_33 < 407)) ∧
        (((z40 = 0 ∨ (isin x4_30 0 (w32 ((hv h41 349 x5_33) - 1))) = 0) →
          ((¬ x5_33 = 0 →
            S_X8_isArray l G [(2008, 346), (0, x5_33), (0, v2)] h41 (fun z42 h43 =>
            S_X8_hurl l G [(2008, 346), (0, (if z42 = 0 then 5 else 2 : Int))] h43 (fun _ h45 =>
            (((0 : Int) = 0 ∨ (0 : Int) = 1) ∧ Q 0 h45)) E) E) ∧
          (x5_33 = 0 →
            S_X8_hurl l G [(2008, 346), (0, 1)] h41 (fun _ h47 =>
            (((0 : Int) = 0 ∨ (0 : Int) = 1) ∧ Q 0 h47)) E))) ∧
        (¬ (z40 = 0 ∨ (isin x4_30 0 (w32 ((hv h41 349 x5_33) - 1))) = 0) →
          ((¬ v1 = 24 →
            (0 ≤ x5_33) ∧
            (x5_33 < 407) ∧
            ((hv h41 346 5) ≠ 0) ∧
            (0 ≤ (w32 ((hv h41 348 x5_33) + x4_30))) ∧
            ((w32 ((hv h41 348 x5_33) + x4_30)) < (hn h41 (hv h41 346 5))) ∧
            S_X8_put l G [(2008, 346), (0, (hv h41 (hv h41 346 5) (w32 ((hv h41 348 x5_33) + x4_30))))] h41 (fun _ h49 =>
            (((1 : Int) = 0 ∨ (1 : Int) = 1) ∧ Q 1 h49)) E) ∧
          (v1 = 24 →
            (0 ≤ x5_33) ∧
            (x5_33 < 407) ∧
            ((hv h41 346 5) ≠ 0) ∧
            (0 ≤ (w32 ((hv h41 348 x5_33) + x4_30))) ∧
            ((w32 ((hv h41 348 x5_33) + x4_30)) < (hn h41 (hv h41 346 5))) ∧
            (∀ h50, h50 = hset h41 (hv h41 346 5) (w32 ((hv h41 348 x5_33) + x4_30)) x3_27 →
            (((1 : Int) = 0 ∨ (1 : Int) = 1) ∧ Q 1 h50))))))) E)))) E)) E)) E))) : JW K 0 [(2008, 346), (0, v1), (0, v2), (5000, 0), (5000, 0), (5000, 0)] [] h := by
  have e1 := ki.2.2.2.2.1
  have e2 := ki.2.2.2.2.2.1
  subst e1; subst e2
  exact run_ok (dia := [(79, 87)]) (cnr := [(39, 62, 92)]) (cuts := []) ki.1 (pk_X8_element ki hG) ok_X8_element (by decide) 37 true _ _ _ _ H
abbrev k_X8_field : List (Nat × List (Nat × Instr)) := [(48, [(0, .iload_n 1), (1, .bipush 26), (3, .if_icmp .ne 10), (6, .aload_n 0), (7, .invokevirtual 194), (10, .goto 4), (13, .iconst 0), (14, .istore 4), (16, .aload_n 0), (17, .invokevirtual 194), (20, .istore 5), (22, .iload 5), (24, .ifCond .eq 21), (27, .aload_n 0), (28, .getfield 65), (31, .aload_n 0), (32, .getfield 11), (35, .iload 5), (37, .iaload), (38, .iload_n 2), (39, .invokevirtual 222), (42, .ifCond .ne 19), (45, .aload_n 0), (46, .iload 5)]),
  (91, [(48, .ifCond .ne 7), (51, .iconst 1), (52, .goto 4), (55, .iconst 5), (56, .invokevirtual 209), (59, .iconst 0), (60, .ireturn), (61, .iload_n 1), (62, .bipush 26), (64, .if_icmp .ne 22), (67, .aload_n 0), (68, .getfield 21), (71, .aload_n 0), (72, .getfield 15), (75, .iload 5), (77, .iaload), (78, .iload_n 3), (79, .iadd), (80, .iload 4), (82, .iastore), (83, .goto 21), (86, .aload_n 0), (87, .aload_n 0), (88, .getfield 21)]),
  (114, [(91, .aload_n 0), (92, .getfield 15), (95, .iload 5), (97, .iaload), (98, .iload_n 3), (99, .iadd), (100, .iaload), (101, .invokevirtual 190), (104, .iconst 1), (105, .ireturn)])]
theorem ok_X8_field : CodeOK cX8_field k_X8_field := okw 0 (by decide +kernel) (okw 48 (by decide +kernel) (okw 91 (by decide +kernel) (okn)))
abbrev p_X8_field (l : Launch) (G : JG) : JP := (true, [(11, 8, 1, 1407100, 1), (15, 8, 2, 1407100, 2), (21, 8, 5, 104, 0), (65, 8, 0, 16, 0)], [], [], [], [], [], [(190, 1, [0, 2008], 700, S_X8_put l G), (194, 1, [2008], 0, S_X8_take l G), (209, 1, [0, 2008], 700, S_X8_hurl l G), (222, 1, [0, 0, 2012], 2, S_X12_siteIsOf l G)], false, 2, [])
theorem pk_X8_field {K : JC} {l : Launch} {G : JG} {Q : Int → MH → Prop} {E : Nat → Int → MH → Prop} {h0 : MH} (ki : KI K l G yX8_field cX8_field 6 (some .boolean) [] 7 222 2 Q E h0) (hG : gO G = true) : POK K RX8 (p_X8_field l G) :=
  POKi (y := yX8_field) ki hG (rfs rf_X8_ok (by decide +kernel)) fmz fmz fmz fmz fmz
  (pkE ki (by
    intro K e1 e2 e3 e4; subst e1; subst e2
    exact fmE (ceV 8 e3 e4 yl_X8_put ⟨by decide, ⟨_, _, rfl⟩, q1884, qs87, q1882⟩ rfl) (fmE (ceV 8 e3 e4 yl_X8_take ⟨by decide, ⟨_, _, rfl⟩, q1888, qs88, q1886⟩ rfl) (fmE (ceV 8 e3 e4 yl_X8_hurl ⟨by decide, ⟨_, _, rfl⟩, q1903, qs91, q1901⟩ rfl) (fmE (ceV 12 e3 e4 yl_X12_siteIsOf ⟨by decide, ⟨_, _, rfl⟩, q1442, q1443, q1905⟩ rfl) (fmz)))))) (fun z => Bool.noConfusion z) rfl (pkP ki (by
    intro K e1 e2 e3 e4; subst e1; subst e2
    exact fmz))
theorem r_X8_field_0 {K : JC} {l : Launch} {G : JG} {Q : Int → MH → Prop} {E : Nat → Int → MH → Prop} {h0 : MH} (ki : KI K l G yX8_field cX8_field 6 (some .boolean) [] 7 222 2 Q E h0) (hG : gO G = true) {v1 v2 v3 : Int} {h : MH} (H :
    ((¬ v1 = 26 →
      (∀ x4_1 : Int, x4_1 = 0 →
      S_X8_take l G [(2008, 346)] h (fun z2 h3 =>
      (∀ x5_4 : Int, x5_4 = z2 →
      ((x5_4 = 0 →
        S_X8_hurl l G [(2008, 346), (0, (if x5_4 = 0 then 1 else 5 : Int))] h3 (fun _ h6 =>
        (((0 : Int) = 0 ∨ (0 : Int) = 1) ∧ Q 0 h6)) E) ∧
      (¬ x5_4 = 0 →
        (0 ≤ x5_4) ∧
        (x5_4 < 407) ∧
        ((hv h3 346 0) ≠ 0) ∧
        S_X12_siteIsOf l G [(2012, (hv h3 346 0)), (0, (hv h3 347 x5_4)), (0, v2)] h3 (fun z7 h8 =>
        ((¬ z7 = 0 →
          ((¬ v1 = 26 →
            (0 ≤ x5_4) ∧
            (x5_4 < 407) ∧
            ((hv h8 346 5) ≠ 0) ∧
            (0 ≤ (w32 ((hv h8 348 x5_4) + v3))) ∧
            ((w32 ((hv h8 348 x5_4) + v3)) < (hn h8 (hv h8 346 5))) ∧
            S_X8_put l G [(2008, 346), (0, (hv h8 (hv h8 346 5) (w32 ((hv h8 348 x5_4) + v3))))] h8 (fun _ h10 =>
            (((1 : Int) = 0 ∨ (1 : Int) = 1) ∧ Q 1 h10)) E) ∧
          (v1 = 26 →
            (0 ≤ x5_4) ∧
            (x5_4 < 407) ∧
            ((hv h8 346 5) ≠ 0) ∧
            (0 ≤ (w32 ((hv h8 348 x5_4) + v3))) ∧
            ((w32 ((hv h8 348 x5_4) + v3)) < (hn h8 (hv h8 346 5))) ∧
            (∀ h11, h11 = hset h8 (hv h8 346 5) (w32 ((hv h8 348 x5_4) + v3)) x4_1 →
            (((1 : Int) = 0 ∨ (1 : Int) = 1) ∧ Q 1 h11))))) ∧
        (z7 = 0 →
          S_X8_hurl l G [(2008, 346), (0, (if x5_4 = 0 then 1 else 5 : Int))] h8 (fun _ h13 =>
          (((0 : Int) = 0 ∨ (0 : Int) = 1) ∧ Q 0 h13)) E))) E)))) E)) ∧
    (v1 = 26 →
      S_X8_take l G [(2008, 346)] h (fun z14 h15 =>
      (∀ x4_16 : Int, x4_16 = z14 →
      S_X8_take l G [(2008, 346)] h15 (fun z17 h18 =>
      (∀ x5_19 : Int, x5_19 = z17 →
      ((x5_19 = 0 →
        S_X8_hurl l G [(2008, 346), (0, (if x5_19 = 0 then 1 else 5 : Int))] h18 (fun _ h21 =>
        (((0 : Int) = 0 ∨ (0 : Int) = 1) ∧ Q 0 h21)) E) ∧
      (¬ x5_19 = 0 →
        (0 ≤ x5_19) ∧
        (x5_19 < 407) ∧
        ((hv h18 346 0) ≠ 0) ∧
        S_X12_siteIsOf l G [(2012, (hv h18 346 0)), (0, (hv h18 347 x5_19)), (0, v2)] h18 (fun z22 h23 =>
        ((¬ z22 = 0 →
          ((¬ v1 = 26 →
            (0 ≤ x5_19) ∧
            (x5_19 < 407) ∧
            ((hv h23 346 5) ≠ 0) ∧
            (0 ≤ (w32 ((hv h23 348 x5_19) + v3))) ∧
            ((w32 ((hv h23 348 x5_19) + v3)) < (hn h23 (hv h23 346 5))) ∧
            S_X8_put l G [(2008, 346), (0, (hv h23 (hv h23 346 5) (w32 ((hv h23 348 x5_19) + v3))))] h23 (fun _ h25 =>
            (((1 : Int) = 0 ∨ (1 : Int) = 1) ∧ Q 1 h25)) E) ∧
          (v1 = 26 →
            (0 ≤ x5_19) ∧
            (x5_19 < 407) ∧
            ((hv h23 346 5) ≠ 0) ∧
            (0 ≤ (w32 ((hv h23 348 x5_19) + v3))) ∧
            ((w32 ((hv h23 348 x5_19) + v3)) < (hn h23 (hv h23 346 5))) ∧
            (∀ h26, h26 = hset h23 (hv h23 346 5) (w32 ((hv h23 348 x5_19) + v3)) x4_16 →
            (((1 : Int) = 0 ∨ (1 : Int) = 1) ∧ Q 1 h26))))) ∧
        (z22 = 0 →
          S_X8_hurl l G [(2008, 346), (0, (if x5_19 = 0 then 1 else 5 : Int))] h23 (fun _ h28 =>
          (((0 : Int) = 0 ∨ (0 : Int) = 1) ∧ Q 0 h28)) E))) E)))) E)) E))) : JW K 0 [(2008, 346), (0, v1), (0, v2), (0, v3), (5000, 0), (5000, 0)] [] h := by
  have e1 := ki.2.2.2.2.1
  have e2 := ki.2.2.2.2.2.1
  subst e1; subst e2
  exact run_ok (dia := [(48, 56)]) (cnr := []) (cuts := []) ki.1 (pk_X8_field ki hG) ok_X8_field (by decide) 38 true _ _ _ _ H
abbrev k_X8_calls : List (Nat × List (Nat × Instr)) := [(1, [(0, .iload_n 2)]),
  (32, [(1, .tableswitch 225 29 32 #[31, 49, 147, 179])]),
  (77, [(32, .aload_n 0), (33, .iload_n 1), (34, .aload_n 0), (35, .getfield 65), (38, .getfield 125), (41, .iload 4), (43, .aaload), (44, .invokevirtual 258), (47, .goto 243), (50, .aload_n 0), (51, .getfield 65), (54, .iload_n 3), (55, .invokevirtual 262), (58, .astore 5), (60, .aload_n 0), (61, .getfield 46), (64, .aload_n 0), (65, .getfield 104), (68, .aaload), (69, .aload_n 0), (70, .getfield 111), (73, .bipush 8), (75, .iadd), (76, .aload_n 0)]),
  (124, [(77, .getfield 118), (80, .iadd), (81, .aload 5), (83, .getfield 133), (86, .isub), (87, .iaload), (88, .istore 6), (90, .iload 6), (92, .ifCond .ne 7), (95, .aconst_null), (96, .goto 18), (99, .aload_n 0), (100, .getfield 65), (103, .aload_n 0), (104, .getfield 11), (107, .iload 6), (109, .iaload), (110, .iload_n 3), (111, .invokevirtual 266), (114, .astore 7), (116, .aload 7), (118, .ifnonnull 20), (121, .aload_n 0), (122, .iload 6)]),
  (177, [(124, .ifCond .ne 7), (127, .iconst 1), (128, .goto 4), (131, .iconst 5), (132, .invokevirtual 209), (135, .goto 155), (138, .aload_n 0), (139, .iload_n 1), (140, .aload 7), (142, .invokevirtual 258), (145, .goto 145), (148, .aload_n 0), (149, .aload_n 0), (150, .getfield 114), (153, .getfield 270), (156, .ifCond .le 10), (159, .aload_n 0), (160, .invokevirtual 194), (163, .goto 4), (166, .iconst 0), (167, .aload_n 0), (168, .getfield 114), (171, .getfield 270), (174, .invokevirtual 273)]),
  (227, [(177, .goto 113), (180, .aload_n 0), (181, .invokevirtual 194), (184, .istore 8), (186, .aload_n 0), (187, .iload 8), (189, .ifCond .ne 7), (192, .iconst 1), (193, .goto 27), (196, .aload_n 0), (197, .getfield 65), (200, .aload_n 0), (201, .getfield 11), (204, .iload 8), (206, .iaload), (207, .iconst 1), (208, .invokevirtual 222), (211, .ifCond .eq 8), (214, .iload 8), (216, .goto 4), (219, .iconst 5), (220, .invokevirtual 209), (223, .goto 67), (226, .aload_n 0)]),
  (269, [(227, .getfield 46), (230, .aload_n 0), (231, .getfield 104), (234, .aaload), (235, .aload_n 0), (236, .getfield 111), (239, .bipush 8), (241, .iadd), (242, .aload_n 0), (243, .getfield 118), (246, .iadd), (247, .iconst 1), (248, .isub), (249, .iaload), (250, .istore 9), (252, .iload 9), (254, .ifCond .eq 29), (257, .aload_n 0), (258, .getfield 65), (261, .aload_n 0), (262, .getfield 11), (265, .iload 9), (267, .iaload), (268, .iload_n 3)]),
  (299, [(269, .invokevirtual 222), (272, .ifCond .ne 11), (275, .aload_n 0), (276, .iconst 5), (277, .invokevirtual 209), (280, .goto 10), (283, .aload_n 0), (284, .iload_n 1), (285, .iconst 1), (286, .iadd), (287, .invokevirtual 197), (290, .return_)])]
theorem ok_X8_calls : CodeOK cX8_calls k_X8_calls := okw 0 (by decide +kernel) (okc (by decide +kernel) (okw 32 (by decide +kernel) (okw 77 (by decide +kernel) (okw 124 (by decide +kernel) (okw 177 (by decide +kernel) (okw 227 (by decide +kernel) (okw 269 (by decide +kernel) (okn))))))))
abbrev p_X8_calls (l : Launch) (G : JG) : JP := (true, [(11, 8, 1, 1407100, 1), (46, 8, 13, 1008130, 35), (65, 8, 0, 16, 0), (104, 8, 27, 0, 0), (111, 8, 29, 0, 0), (114, 8, 28, 18, 0), (118, 8, 30, 0, 0), (125, 12, 6, 128, 0), (133, 14, 3, 0, 0), (270, 14, 4, 0, 0)], [], [], [], [], [], [(194, 1, [2008], 0, S_X8_take l G), (197, 1, [0, 2008], 700, S_X8_goOn l G), (209, 1, [0, 2008], 700, S_X8_hurl l G), (222, 1, [0, 0, 2012], 2, S_X12_siteIsOf l G), (258, 1, [18, 0, 2008], 700, S_X8_call l G), (262, 1, [0, 2012], 18, S_X12_named l G), (266, 1, [0, 0, 2012], 18, S_X12_find l G), (273, 1, [0, 0, 2008], 700, S_X8_leave l G)], false, 700, [])
theorem pk_X8_calls {K : JC} {l : Launch} {G : JG} {Q : Int → MH → Prop} {E : Nat → Int → MH → Prop} {h0 : MH} (ki : KI K l G yX8_calls cX8_calls 10 none [] 7 222 700 Q E h0) (hG : gO G = true) : POK K RX8 (p_X8_calls l G) :=
  POKi (y := yX8_calls) ki hG (rfs rf_X8_ok (by decide +kernel)) fmz fmz fmz fmz fmz
  (pkE ki (by
    intro K e1 e2 e3 e4; subst e1; subst e2
    exact fmE (ceV 8 e3 e4 yl_X8_take ⟨by decide, ⟨_, _, rfl⟩, q1888, qs88, q1886⟩ rfl) (fmE (ceV 8 e3 e4 yl_X8_goOn ⟨by decide, ⟨_, _, rfl⟩, q1892, qs89, q1890⟩ rfl) (fmE (ceV 8 e3 e4 yl_X8_hurl ⟨by decide, ⟨_, _, rfl⟩, q1903, qs91, q1901⟩ rfl) (fmE (ceV 12 e3 e4 yl_X12_siteIsOf ⟨by decide, ⟨_, _, rfl⟩, q1442, q1443, q1905⟩ rfl) (fmE (ceV 8 e3 e4 yl_X8_call ⟨by decide, ⟨_, _, rfl⟩, q1942, qs99, q1940⟩ rfl) (fmE (ceV 12 e3 e4 yl_X12_named ⟨by decide, ⟨_, _, rfl⟩, q1148, q1149, q1944⟩ rfl) (fmE (ceV 12 e3 e4 yl_X12_find ⟨by decide, ⟨_, _, rfl⟩, q1584, q1585, q1945⟩ rfl) (fmE (ceV 8 e3 e4 yl_X8_leave ⟨by decide, ⟨_, _, rfl⟩, q1948, qs100, q1946⟩ rfl) (fmz)))))))))) (fun z => Bool.noConfusion z) rfl (pkP ki (by
    intro K e1 e2 e3 e4; subst e1; subst e2
    exact fmz))
theorem r_X8_calls_0 {K : JC} {l : Launch} {G : JG} {Q : Int → MH → Prop} {E : Nat → Int → MH → Prop} {h0 : MH} (ki : KI K l G yX8_calls cX8_calls 10 none [] 7 222 700 Q E h0) (hG : gO G = true) {v1 v2 v3 v4 : Int} {h : MH} (H :
    (((v2 = 29 →
      ((hv h 346 0) ≠ 0) ∧
      ((hv h (hv h 346 0) 6) ≠ 0) ∧
      (0 ≤ v4) ∧
      (v4 < (hn h (hv h (hv h 346 0) 6))) ∧
      S_X8_call l G [(2008, 346), (0, v1), (18, (hv h (hv h (hv h 346 0) 6) v4))] h (fun _ h2 =>
      Q 0 h2) E) ∧
    ((v2 = 29 + 1 →
      ((hv h 346 0) ≠ 0) ∧
      S_X12_named l G [(2012, (hv h 346 0)), (0, v3)] h (fun z3 h4 =>
      (∀ x5_5 : Int, x5_5 = z3 →
      (0 ≤ (hv h4 346 27)) ∧
      ((hv h4 346 27) < 8) ∧
      (x5_5 ≠ 0) ∧
      ((hv h4 381 (hv h4 346 27)) ≠ 0) ∧
      (0 ≤ (w32 ((w32 ((w32 ((hv h4 346 29) + 8)) + (hv h4 346 30))) - (hv h4 x5_5 3)))) ∧
      ((w32 ((w32 ((w32 ((hv h4 346 29) + 8)) + (hv h4 346 30))) - (hv h4 x5_5 3))) < (hn h4 (hv h4 381 (hv h4 346 27)))) ∧
      (∀ x6_6 : Int, x6_6 = (hv h4 (hv h4 381 (hv h4 346 27)) (w32 ((w32 ((w32 ((hv h4 346 29) + 8)) + (hv h4 346 30))) - (hv h4 x5_5 3)))) →
      ((¬ x6_6 = 0 →
        (0 ≤ x6_6) ∧
        (x6_6 < 407) ∧
        ((hv h4 346 0) ≠ 0) ∧
        S_X12_find l G [(2012, (hv h4 346 0)), (0, (hv h4 347 x6_6)), (0, v3)] h4 (fun z7 h8 =>
        (∀ x7_9 : Int, x7_9 = z7 →
        ((¬ x7_9 = 0 →
          S_X8_call l G [(2008, 346), (0, v1), (18, x7_9)] h8 (fun _ h11 =>
          Q 0 h11) E) ∧
        (x7_9 = 0 →
          S_X8_hurl l G [(2008, 346), (0, (if x6_6 = 0 then 1 else 5 : Int))] h8 (fun _ h13 =>
          Q 0 h13) E)))) E) ∧
      (x6_6 = 0 →
        (∀ x7_14 : Int, x7_14 = 0 →
        ((¬ x7_14 = 0 →
          S_X8_call l G [(2008, 346), (0, v1), (18, x7_14)] h4 (fun _ h16 =>
          Q 0 h16) E) ∧
        (x7_14 = 0 →
          S_X8_hurl l G [(2008, 346), (0, (if x6_6 = 0 then 1 else 5 : Int))] h4 (fun _ h18 =>
          Q 0 h18) E)))))))) E) ∧
    ((v2 = 29 + 1 + 1 →
      ((hv h 346 28) ≠ 0) ∧
      (((hv h (hv h 346 28) 4) ≤ 0 →
        ((hv h 346 28) ≠ 0) ∧
        S_X8_leave l G [(2008, 346), (0, 0), (0, (hv h (hv h 346 28) 4))] h (fun _ h20 =>
        Q 0 h20) E) ∧
      (0 < (hv h (hv h 346 28) 4) →
        S_X8_take l G [(2008, 346)] h (fun z21 h22 =>
        ((hv h22 346 28) ≠ 0) ∧
        S_X8_leave l G [(2008, 346), (0, z21), (0, (hv h22 (hv h22 346 28) 4))] h22 (fun _ h24 =>
        Q 0 h24) E) E))) ∧
    ((v2 = 29 + 1 + 1 + 1 →
      S_X8_take l G [(2008, 346)] h (fun z25 h26 =>
      (∀ x8_27 : Int, x8_27 = z25 →
      ((¬ x8_27 = 0 →
        (0 ≤ x8_27) ∧
        (x8_27 < 407) ∧
        ((hv h26 346 0) ≠ 0) ∧
        S_X12_siteIsOf l G [(2012, (hv h26 346 0)), (0, (hv h26 347 x8_27)), (0, 1)] h26 (fun z28 h29 =>
        S_X8_hurl l G [(2008, 346), (0, (if z28 = 0 then 5 else x8_27 : Int))] h29 (fun _ h31 =>
        Q 0 h31) E) E) ∧
      (x8_27 = 0 →
        S_X8_hurl l G [(2008, 346), (0, 1)] h26 (fun _ h33 =>
        Q 0 h33) E)))) E) ∧
    True)))) ∧ ((v2 < 29 ∨ 32 < v2) →
      (0 ≤ (hv h 346 27)) ∧
      ((hv h 346 27) < 8) ∧
      ((hv h 381 (hv h 346 27)) ≠ 0) ∧
      (0 ≤ (w32 ((w32 ((w32 ((hv h 346 29) + 8)) + (hv h 346 30))) - 1))) ∧
      ((w32 ((w32 ((w32 ((hv h 346 29) + 8)) + (hv h 346 30))) - 1)) < (hn h (hv h 381 (hv h 346 27)))) ∧
      (∀ x9_34 : Int, x9_34 = (hv h (hv h 381 (hv h 346 27)) (w32 ((w32 ((w32 ((hv h 346 29) + 8)) + (hv h 346 30))) - 1))) →
      ((x9_34 = 0 →
        S_X8_goOn l G [(2008, 346), (0, (w32 (v1 + 1)))] h (fun _ h36 =>
        Q 0 h36) E) ∧
      (¬ x9_34 = 0 →
        (0 ≤ x9_34) ∧
        (x9_34 < 407) ∧
        ((hv h 346 0) ≠ 0) ∧
        S_X12_siteIsOf l G [(2012, (hv h 346 0)), (0, (hv h 347 x9_34)), (0, v3)] h (fun z37 h38 =>
        ((¬ z37 = 0 →
          S_X8_goOn l G [(2008, 346), (0, (w32 (v1 + 1)))] h38 (fun _ h40 =>
          Q 0 h40) E) ∧
        (z37 = 0 →
          S_X8_hurl l G [(2008, 346), (0, 5)] h38 (fun _ h42 =>
          Q 0 h42) E))) E)))))) : JW K 0 [(2008, 346), (0, v1), (0, v2), (0, v3), (0, v4), (5000, 0), (5000, 0), (5000, 0), (5000, 0), (5000, 0)] [] h := by
  have e1 := ki.2.2.2.2.1
  have e2 := ki.2.2.2.2.2.1
  subst e1; subst e2
  exact run_ok (dia := [(124, 132), (211, 220)]) (cnr := []) (cuts := []) ki.1 (pk_X8_calls ki hG) ok_X8_calls (by decide) 44 true _ _ _ _ H
abbrev k_X8_call : List (Nat × List (Nat × Instr)) := [(42, [(0, .aload_n 0), (1, .getfield 30), (4, .aload_n 0), (5, .getfield 104), (8, .iaload), (9, .bipush 30), (11, .if_icmp .ne 19), (14, .aload_n 0), (15, .iconst 1), (16, .putfield 97), (19, .aload_n 0), (20, .dup), (21, .getfield 82), (24, .iconst 1), (25, .isub), (26, .putfield 82), (29, .return_), (30, .aload_n 0), (31, .getfield 111), (34, .bipush 8), (36, .iadd), (37, .aload_n 0), (38, .getfield 118), (41, .iadd)]),
  (82, [(42, .aload_n 2), (43, .getfield 133), (46, .isub), (47, .istore_n 3), (48, .aload_n 0), (49, .dup), (50, .getfield 118), (53, .aload_n 2), (54, .getfield 133), (57, .isub), (58, .putfield 118), (61, .aload_n 0), (62, .iload_n 1), (63, .iconst 1), (64, .iadd), (65, .invokevirtual 197), (68, .aload_n 0), (69, .aload_n 2), (70, .invokevirtual 107), (73, .iconst 0), (74, .istore 4), (76, .iload 4), (78, .aload_n 2), (79, .getfield 133)]),
  (131, [(82, .if_icmp .ge 40), (85, .aload_n 0), (86, .getfield 46), (89, .aload_n 0), (90, .getfield 104), (93, .aaload), (94, .aload_n 0), (95, .getfield 111), (98, .iload 4), (100, .iadd), (101, .aload_n 0), (102, .getfield 46), (105, .aload_n 0), (106, .getfield 104), (109, .aaload), (110, .iload_n 3), (111, .iload 4), (113, .iadd), (114, .iaload), (115, .iastore), (116, .iinc 4 1), (119, .goto (-43)), (122, .return_)])]
theorem ok_X8_call : CodeOK cX8_call k_X8_call := okw 0 (by decide +kernel) (okw 42 (by decide +kernel) (okw 82 (by decide +kernel) (okn)))
abbrev p_X8_call (l : Launch) (G : JG) : JP := (true, [(30, 8, 9, 1008100, 7), (46, 8, 13, 1008130, 35), (82, 8, 17, 0, 0), (104, 8, 27, 0, 0), (111, 8, 29, 0, 0), (118, 8, 30, 0, 0), (133, 14, 3, 0, 0)], [], [], [(82, 8, 17, 0), (97, 8, 31, 2), (118, 8, 30, 0)], [], [], [(107, 1, [18, 2008], 700, S_X8_pushFrame l G), (197, 1, [0, 2008], 700, S_X8_goOn l G)], false, 700, [])
theorem pk_X8_call {K : JC} {l : Launch} {G : JG} {Q : Int → MH → Prop} {E : Nat → Int → MH → Prop} {h0 : MH} (ki : KI K l G yX8_call cX8_call 5 none [] 5 173 700 Q E h0) (hG : gO G = true) : POK K RX8 (p_X8_call l G) :=
  POKi (y := yX8_call) ki hG (rfs rf_X8_ok (by decide +kernel)) fmz fmz (rps rp_X8_ok (by decide +kernel)) fmz fmz
  (pkE ki (by
    intro K e1 e2 e3 e4; subst e1; subst e2
    exact fmE (ceV 8 e3 e4 yl_X8_pushFrame ⟨by decide, ⟨_, _, rfl⟩, q1852, qs79, q1850⟩ rfl) (fmE (ceV 8 e3 e4 yl_X8_goOn ⟨by decide, ⟨_, _, rfl⟩, q1892, qs89, q1890⟩ rfl) (fmz)))) (fun z => Bool.noConfusion z) rfl (pkP ki (by
    intro K e1 e2 e3 e4; subst e1; subst e2
    exact fmz))
theorem r_X8_call_0 {K : JC} {l : Launch} {G : JG} {Q : Int → MH → Prop} {E : Nat → Int → MH → Prop} {h0 : MH} (ki : KI K l G yX8_call cX8_call 5 none [] 5 173 700 Q E h0) (hG : gO G = true) {v1 v2 : Int} {h : MH} (H :
    (0 ≤ (hv h 346 27)) ∧
    ((hv h 346 27) < 8) ∧
    ((¬ (hv h 353 (hv h 346 27)) = 30 →
      (v2 ≠ 0) ∧
      (∀ x3_1 : Int, x3_1 = (w32 ((w32 ((w32 ((hv h 346 29) + 8)) + (hv h 346 30))) - (hv h v2 3))) →
      (v2 ≠ 0) ∧
      (∀ h2, h2 = hset h 346 30 (w32 ((hv h 346 30) - (hv h v2 3))) →
      S_X8_goOn l G [(2008, 346), (0, (w32 (v1 + 1)))] h2 (fun _ h4 =>
      S_X8_pushFrame l G [(2008, 346), (18, v2)] h4 (fun _ h6 =>
      (∀ x4_7 : Int, x4_7 = 0 →
      JW K 76 [(2008, 346), (0, v1), (18, v2), (0, x3_1), (0, x4_7)] [] h6)) E) E))) ∧
    ((hv h 353 (hv h 346 27)) = 30 →
      ((1 : Int) = 0 ∨ (1 : Int) = 1) ∧
      (∀ h8, h8 = hset h 346 31 1 →
      (∀ h9, h9 = hset h8 346 17 (w32 ((hv h8 346 17) - 1)) →
      Q 0 h9))))) : JW K 0 [(2008, 346), (0, v1), (18, v2), (5000, 0), (5000, 0)] [] h := by
  have e1 := ki.2.2.2.2.1
  have e2 := ki.2.2.2.2.2.1
  subst e1; subst e2
  exact run_ok (dia := []) (cnr := []) (cuts := [(76, [2008, 0, 18, 0, 0], [])]) ki.1 (pk_X8_call ki hG) ok_X8_call (by decide) 37 true _ _ _ _ H
theorem r_X8_call_76 {K : JC} {l : Launch} {G : JG} {Q : Int → MH → Prop} {E : Nat → Int → MH → Prop} {h0 : MH} (ki : KI K l G yX8_call cX8_call 5 none [] 5 173 700 Q E h0) (hG : gO G = true) {v1 v2 v3 v4 : Int} {h : MH} (H :
    (v2 ≠ 0) ∧
    (((hv h v2 3) ≤ v4 →
      Q 0 h) ∧
    (v4 < (hv h v2 3) →
      (0 ≤ (hv h 346 27)) ∧
      ((hv h 346 27) < 8) ∧
      (0 ≤ (hv h 346 27)) ∧
      ((hv h 346 27) < 8) ∧
      ((hv h 381 (hv h 346 27)) ≠ 0) ∧
      (0 ≤ (w32 (v3 + v4))) ∧
      ((w32 (v3 + v4)) < (hn h (hv h 381 (hv h 346 27)))) ∧
      ((hv h 381 (hv h 346 27)) ≠ 0) ∧
      (0 ≤ (w32 ((hv h 346 29) + v4))) ∧
      ((w32 ((hv h 346 29) + v4)) < (hn h (hv h 381 (hv h 346 27)))) ∧
      (∀ h1, h1 = hset h (hv h 381 (hv h 346 27)) (w32 ((hv h 346 29) + v4)) (hv h (hv h 381 (hv h 346 27)) (w32 (v3 + v4))) →
      (∀ x4_2 : Int, x4_2 = w32 (v4 + 1) →
      JW K 76 [(2008, 346), (0, v1), (18, v2), (0, v3), (0, x4_2)] [] h1))))) : JW K 76 [(2008, 346), (0, v1), (18, v2), (0, v3), (0, v4)] [] h := by
  have e1 := ki.2.2.2.2.1
  have e2 := ki.2.2.2.2.2.1
  subst e1; subst e2
  exact run_ok (dia := []) (cnr := []) (cuts := [(76, [2008, 0, 18, 0, 0], [])]) ki.1 (pk_X8_call ki hG) ok_X8_call (by decide) 27 true _ _ _ _ H
abbrev k_X8_leave : List (Nat × List (Nat × Instr)) := [(42, [(0, .aload_n 0), (1, .getfield 30), (4, .aload_n 0), (5, .getfield 104), (8, .dup2), (9, .iaload), (10, .iconst 1), (11, .isub), (12, .iastore), (13, .aload_n 0), (14, .getfield 30), (17, .aload_n 0), (18, .getfield 104), (21, .iaload), (22, .ifCond .ne 48), (25, .aload_n 0), (26, .dup), (27, .getfield 79), (30, .iconst 1), (31, .iadd), (32, .putfield 79), (35, .aload_n 0), (36, .getfield 104), (39, .ifCond .ne 30)]),
  (84, [(42, .aload_n 0), (43, .iload_n 2), (44, .iconst 2), (45, .if_icmp .ne 20), (48, .iload_n 1), (49, .ifCond .ne 7), (52, .iconst 0), (53, .goto 13), (56, .aload_n 0), (57, .getfield 11), (60, .iload_n 1), (61, .iaload), (62, .goto 4), (65, .iload_n 1), (66, .putfield 88), (69, .return_), (70, .aload_n 0), (71, .invokevirtual 156), (74, .iload_n 2), (75, .ifCond .le 8), (78, .aload_n 0), (79, .iload_n 1), (80, .invokevirtual 190), (83, .aload_n 0)]),
  (100, [(84, .aload_n 0), (85, .invokevirtual 159), (88, .invokevirtual 197), (91, .return_)])]
theorem ok_X8_leave : CodeOK cX8_leave k_X8_leave := okw 0 (by decide +kernel) (okw 42 (by decide +kernel) (okw 84 (by decide +kernel) (okn)))
abbrev p_X8_leave (l : Launch) (G : JG) : JP := (true, [(11, 8, 1, 1407100, 1), (30, 8, 9, 1008100, 7), (79, 8, 16, 0, 0), (104, 8, 27, 0, 0)], [], [], [(79, 8, 16, 0), (88, 8, 19, 0)], [], [], [(156, 1, [2008], 700, S_X8_load l G), (159, 1, [2008], 0, S_X8_at l G), (190, 1, [0, 2008], 700, S_X8_put l G), (197, 1, [0, 2008], 700, S_X8_goOn l G)], false, 700, [])
theorem pk_X8_leave {K : JC} {l : Launch} {G : JG} {Q : Int → MH → Prop} {E : Nat → Int → MH → Prop} {h0 : MH} (ki : KI K l G yX8_leave cX8_leave 3 none [] 5 172 700 Q E h0) (hG : gO G = true) : POK K RX8 (p_X8_leave l G) :=
  POKi (y := yX8_leave) ki hG (rfs rf_X8_ok (by decide +kernel)) fmz fmz (rps rp_X8_ok (by decide +kernel)) fmz fmz
  (pkE ki (by
    intro K e1 e2 e3 e4; subst e1; subst e2
    exact fmE (ceV 8 e3 e4 yl_X8_load ⟨by decide, ⟨_, _, rfl⟩, q1868, qs83, q1866⟩ rfl) (fmE (ceV 8 e3 e4 yl_X8_at ⟨by decide, ⟨_, _, rfl⟩, q1872, qs84, q1870⟩ rfl) (fmE (ceV 8 e3 e4 yl_X8_put ⟨by decide, ⟨_, _, rfl⟩, q1884, qs87, q1882⟩ rfl) (fmE (ceV 8 e3 e4 yl_X8_goOn ⟨by decide, ⟨_, _, rfl⟩, q1892, qs89, q1890⟩ rfl) (fmz)))))) (fun z => Bool.noConfusion z) rfl (pkP ki (by
    intro K e1 e2 e3 e4; subst e1; subst e2
    exact fmz))
theorem r_X8_leave_0 {K : JC} {l : Launch} {G : JG} {Q : Int → MH → Prop} {E : Nat → Int → MH → Prop} {h0 : MH} (ki : KI K l G yX8_leave cX8_leave 3 none [] 5 172 700 Q E h0) (hG : gO G = true) {v1 v2 : Int} {h : MH} (H :
    (0 ≤ (hv h 346 27)) ∧
    ((hv h 346 27) < 8) ∧
    (0 ≤ (hv h 346 27)) ∧
    ((hv h 346 27) < 8) ∧
    (∀ h1, h1 = hset h 353 (hv h 346 27) (w32 ((hv h 353 (hv h 346 27)) - 1)) →
    (0 ≤ (hv h1 346 27)) ∧
    ((hv h1 346 27) < 8) ∧
    ((¬ (hv h1 353 (hv h1 346 27)) = 0 →
      S_X8_load l G [(2008, 346)] h1 (fun _ h3 =>
      ((v2 ≤ 0 →
        S_X8_at l G [(2008, 346)] h3 (fun z4 h5 =>
        S_X8_goOn l G [(2008, 346), (0, z4)] h5 (fun _ h7 =>
        Q 0 h7) E) E) ∧
      (0 < v2 →
        S_X8_put l G [(2008, 346), (0, v1)] h3 (fun _ h9 =>
        S_X8_at l G [(2008, 346)] h9 (fun z10 h11 =>
        S_X8_goOn l G [(2008, 346), (0, z10)] h11 (fun _ h13 =>
        Q 0 h13) E) E) E))) E) ∧
    ((hv h1 353 (hv h1 346 27)) = 0 →
      (∀ h14, h14 = hset h1 346 16 (w32 ((hv h1 346 16) + 1)) →
      ((¬ (hv h14 346 27) = 0 →
        Q 0 h14) ∧
      ((hv h14 346 27) = 0 →
        ((v2 = 2 → (¬ v1 = 0 → (0 ≤ v1) ∧ v1 < 407))) ∧
        (∀ h15, h15 = hset h14 346 19 (if v2 = 2 then (if v1 = 0 then 0 else (hv h14 347 v1) : Int) else v1 : Int) →
        Q 0 h15)))))))) : JW K 0 [(2008, 346), (0, v1), (0, v2)] [] h := by
  have e1 := ki.2.2.2.2.1
  have e2 := ki.2.2.2.2.2.1
  subst e1; subst e2
  exact run_ok (dia := [(45, 66)]) (cnr := []) (cuts := []) ki.1 (pk_X8_leave ki hG) ok_X8_leave (by decide) 31 true _ _ _ _ H
abbrev k_X8_locks : List (Nat × List (Nat × Instr)) := [(42, [(0, .iload_n 2), (1, .bipush 36), (3, .if_icmp .ne 10), (6, .aload_n 0), (7, .iload_n 1), (8, .iload_n 3), (9, .invokevirtual 294), (12, .return_), (13, .iload_n 2), (14, .bipush 34), (16, .if_icmp .ne 19), (19, .aload_n 0), (20, .getfield 27), (23, .iload_n 3), (24, .iaload), (25, .aload_n 0), (26, .getfield 104), (29, .if_icmp .ne 26), (32, .goto 16), (35, .aload_n 0), (36, .getfield 27), (39, .iload_n 3), (40, .iaload), (41, .aload_n 0)]),
  (91, [(42, .getfield 104), (45, .if_icmp .eq 10), (48, .aload_n 0), (49, .bipush 6), (51, .invokevirtual 209), (54, .return_), (55, .aload_n 0), (56, .getfield 27), (59, .iload_n 3), (60, .iload_n 2), (61, .bipush 34), (63, .if_icmp .ne 10), (66, .aload_n 0), (67, .getfield 104), (70, .goto 4), (73, .iconst (-1)), (74, .iastore), (75, .aload_n 0), (76, .iload_n 1), (77, .iconst 1), (78, .iadd), (79, .invokevirtual 197), (82, .return_)])]
theorem ok_X8_locks : CodeOK cX8_locks k_X8_locks := okw 0 (by decide +kernel) (okw 42 (by decide +kernel) (okn))
abbrev p_X8_locks (l : Launch) (G : JG) : JP := (true, [(27, 8, 8, 1008100, 6), (104, 8, 27, 0, 0)], [], [], [], [], [], [(197, 1, [0, 2008], 700, S_X8_goOn l G), (209, 1, [0, 2008], 700, S_X8_hurl l G), (294, 1, [0, 0, 2008], 700, S_X8_start l G)], false, 700, [])
theorem pk_X8_locks {K : JC} {l : Launch} {G : JG} {Q : Int → MH → Prop} {E : Nat → Int → MH → Prop} {h0 : MH} (ki : KI K l G yX8_locks cX8_locks 4 none [] 8 247 700 Q E h0) (hG : gO G = true) : POK K RX8 (p_X8_locks l G) :=
  POKi (y := yX8_locks) ki hG (rfs rf_X8_ok (by decide +kernel)) fmz fmz fmz fmz fmz
  (pkE ki (by
    intro K e1 e2 e3 e4; subst e1; subst e2
    exact fmE (ceV 8 e3 e4 yl_X8_goOn ⟨by decide, ⟨_, _, rfl⟩, q1892, qs89, q1890⟩ rfl) (fmE (ceV 8 e3 e4 yl_X8_hurl ⟨by decide, ⟨_, _, rfl⟩, q1903, qs91, q1901⟩ rfl) (fmE (ceV 8 e3 e4 yl_X8_start ⟨by decide, ⟨_, _, rfl⟩, q1956, qs102, q1954⟩ rfl) (fmz))))) (fun z => Bool.noConfusion z) rfl (pkP ki (by
    intro K e1 e2 e3 e4; subst e1; subst e2
    exact fmz))
theorem r_X8_locks_0 {K : JC} {l : Launch} {G : JG} {Q : Int → MH → Prop} {E : Nat → Int → MH → Prop} {h0 : MH} (ki : KI K l G yX8_locks cX8_locks 4 none [] 8 247 700 Q E h0) (hG : gO G = true) {v1 v2 v3 : Int} {h : MH} (H :
    ((¬ v2 = 36 →
      ((¬ v2 = 34 →
        (0 ≤ v3) ∧
        (v3 < 8) ∧
        (((hv h 352 v3) = (hv h 346 27) →
          (0 ≤ v3) ∧
          (v3 < 8) ∧
          (∀ h1, h1 = hset h 352 v3 (if v2 = 34 then (hv h 346 27) else (-1) : Int) →
          S_X8_goOn l G [(2008, 346), (0, (w32 (v1 + 1)))] h1 (fun _ h3 =>
          Q 0 h3) E)) ∧
        (¬ (hv h 352 v3) = (hv h 346 27) →
          S_X8_hurl l G [(2008, 346), (0, 6)] h (fun _ h5 =>
          Q 0 h5) E))) ∧
      (v2 = 34 →
        (0 ≤ v3) ∧
        (v3 < 8) ∧
        ((¬ (hv h 352 v3) = (hv h 346 27) →
          (0 ≤ v3) ∧
          (v3 < 8) ∧
          (∀ h6, h6 = hset h 352 v3 (if v2 = 34 then (hv h 346 27) else (-1) : Int) →
          S_X8_goOn l G [(2008, 346), (0, (w32 (v1 + 1)))] h6 (fun _ h8 =>
          Q 0 h8) E)) ∧
        ((hv h 352 v3) = (hv h 346 27) →
          S_X8_hurl l G [(2008, 346), (0, 6)] h (fun _ h10 =>
          Q 0 h10) E))))) ∧
    (v2 = 36 →
      S_X8_start l G [(2008, 346), (0, v1), (0, v3)] h (fun _ h12 =>
      Q 0 h12) E))) : JW K 0 [(2008, 346), (0, v1), (0, v2), (0, v3)] [] h := by
  have e1 := ki.2.2.2.2.1
  have e2 := ki.2.2.2.2.2.1
  subst e1; subst e2
  exact run_ok (dia := [(63, 74)]) (cnr := []) (cuts := []) ki.1 (pk_X8_locks ki hG) ok_X8_locks (by decide) 27 true _ _ _ _ H
abbrev k_X8_start : List (Nat × List (Nat × Instr)) := [(45, [(0, .aload_n 0), (1, .invokevirtual 194), (4, .istore_n 3), (5, .iload_n 3), (6, .ifCond .ne 7), (9, .aconst_null), (10, .goto 17), (13, .aload_n 0), (14, .getfield 65), (17, .aload_n 0), (18, .getfield 11), (21, .iload_n 3), (22, .iaload), (23, .iload_n 2), (24, .invokevirtual 266), (27, .astore 4), (29, .aload 4), (31, .ifnull 12), (34, .aload_n 0), (35, .getfield 76), (38, .bipush 8), (40, .if_icmp .ne 27), (43, .aload_n 0), (44, .iload_n 3)]),
  (91, [(45, .ifCond .ne 7), (48, .iconst 1), (49, .goto 14), (52, .aload 4), (54, .ifnonnull 7), (57, .iconst 5), (58, .goto 5), (61, .bipush 6), (63, .invokevirtual 209), (66, .return_), (67, .aload_n 0), (68, .iload_n 1), (69, .iconst 1), (70, .iadd), (71, .invokevirtual 197), (74, .aload_n 0), (75, .getfield 104), (78, .istore 5), (80, .aload_n 0), (81, .aload 4), (83, .invokevirtual 130), (86, .aload_n 0), (87, .getfield 46), (90, .aload_n 0)]),
  (117, [(91, .getfield 104), (94, .aaload), (95, .iconst 0), (96, .iload_n 3), (97, .iastore), (98, .aload_n 0), (99, .iload 5), (101, .putfield 104), (104, .aload_n 0), (105, .invokevirtual 156), (108, .return_)])]
theorem ok_X8_start : CodeOK cX8_start k_X8_start := okw 0 (by decide +kernel) (okw 45 (by decide +kernel) (okw 91 (by decide +kernel) (okn)))
abbrev p_X8_start (l : Launch) (G : JG) : JP := (true, [(11, 8, 1, 1407100, 1), (46, 8, 13, 1008130, 35), (65, 8, 0, 16, 0), (76, 8, 15, 0, 0), (104, 8, 27, 0, 0)], [], [], [(104, 8, 27, 0)], [], [], [(130, 1, [18, 2008], 700, S_X8_addThread l G), (156, 1, [2008], 700, S_X8_load l G), (194, 1, [2008], 0, S_X8_take l G), (197, 1, [0, 2008], 700, S_X8_goOn l G), (209, 1, [0, 2008], 700, S_X8_hurl l G), (266, 1, [0, 0, 2012], 18, S_X12_find l G)], false, 700, [])
theorem pk_X8_start {K : JC} {l : Launch} {G : JG} {Q : Int → MH → Prop} {E : Nat → Int → MH → Prop} {h0 : MH} (ki : KI K l G yX8_start cX8_start 6 none [] 7 222 700 Q E h0) (hG : gO G = true) : POK K RX8 (p_X8_start l G) :=
  POKi (y := yX8_start) ki hG (rfs rf_X8_ok (by decide +kernel)) fmz fmz (rps rp_X8_ok (by decide +kernel)) fmz fmz
  (pkE ki (by
    intro K e1 e2 e3 e4; subst e1; subst e2
    exact fmE (ceV 8 e3 e4 yl_X8_addThread ⟨by decide, ⟨_, _, rfl⟩, q1848, qs78, q1846⟩ rfl) (fmE (ceV 8 e3 e4 yl_X8_load ⟨by decide, ⟨_, _, rfl⟩, q1868, qs83, q1866⟩ rfl) (fmE (ceV 8 e3 e4 yl_X8_take ⟨by decide, ⟨_, _, rfl⟩, q1888, qs88, q1886⟩ rfl) (fmE (ceV 8 e3 e4 yl_X8_goOn ⟨by decide, ⟨_, _, rfl⟩, q1892, qs89, q1890⟩ rfl) (fmE (ceV 8 e3 e4 yl_X8_hurl ⟨by decide, ⟨_, _, rfl⟩, q1903, qs91, q1901⟩ rfl) (fmE (ceV 12 e3 e4 yl_X12_find ⟨by decide, ⟨_, _, rfl⟩, q1584, q1585, q1945⟩ rfl) (fmz)))))))) (fun z => Bool.noConfusion z) rfl (pkP ki (by
    intro K e1 e2 e3 e4; subst e1; subst e2
    exact fmz))
theorem r_X8_start_0 {K : JC} {l : Launch} {G : JG} {Q : Int → MH → Prop} {E : Nat → Int → MH → Prop} {h0 : MH} (ki : KI K l G yX8_start cX8_start 6 none [] 7 222 700 Q E h0) (hG : gO G = true) {v1 v2 : Int} {h : MH} (H :
    S_X8_take l G [(2008, 346)] h (fun z1 h2 =>
    (∀ x3_3 : Int, x3_3 = z1 →
    ((¬ x3_3 = 0 →
      (0 ≤ x3_3) ∧
      (x3_3 < 407) ∧
      ((hv h2 346 0) ≠ 0) ∧
      S_X12_find l G [(2012, (hv h2 346 0)), (0, (hv h2 347 x3_3)), (0, v2)] h2 (fun z4 h5 =>
      (∀ x4_6 : Int, x4_6 = z4 →
      (((x4_6 = 0 ∨ (hv h5 346 15) = 8) →
        S_X8_hurl l G [(2008, 346), (0, (if x3_3 = 0 then 1 else (if x4_6 = 0 then 5 else 6 : Int) : Int))] h5 (fun _ h8 =>
        Q 0 h8) E) ∧
      (¬ (x4_6 = 0 ∨ (hv h5 346 15) = 8) →
        S_X8_goOn l G [(2008, 346), (0, (w32 (v1 + 1)))] h5 (fun _ h10 =>
        (∀ x5_11 : Int, x5_11 = (hv h10 346 27) →
        S_X8_addThread l G [(2008, 346), (18, x4_6)] h10 (fun _ h13 =>
        (0 ≤ (hv h13 346 27)) ∧
        ((hv h13 346 27) < 8) ∧
        ((hv h13 381 (hv h13 346 27)) ≠ 0) ∧
        (0 ≤ (0 : Int)) ∧
        (0 < (hn h13 (hv h13 381 (hv h13 346 27)))) ∧
        (∀ h14, h14 = hset h13 (hv h13 381 (hv h13 346 27)) 0 x3_3 →
        (∀ h15, h15 = hset h14 346 27 x5_11 →
        S_X8_load l G [(2008, 346)] h15 (fun _ h17 =>
        Q 0 h17) E))) E)) E)))) E) ∧
    (x3_3 = 0 →
      (∀ x4_18 : Int, x4_18 = 0 →
      (((x4_18 = 0 ∨ (hv h2 346 15) = 8) →
        S_X8_hurl l G [(2008, 346), (0, (if x3_3 = 0 then 1 else (if x4_18 = 0 then 5 else 6 : Int) : Int))] h2 (fun _ h20 =>
        Q 0 h20) E) ∧
      (¬ (x4_18 = 0 ∨ (hv h2 346 15) = 8) →
        S_X8_goOn l G [(2008, 346), (0, (w32 (v1 + 1)))] h2 (fun _ h22 =>
        (∀ x5_23 : Int, x5_23 = (hv h22 346 27) →
        S_X8_addThread l G [(2008, 346), (18, x4_18)] h22 (fun _ h25 =>
        (0 ≤ (hv h25 346 27)) ∧
        ((hv h25 346 27) < 8) ∧
        ((hv h25 381 (hv h25 346 27)) ≠ 0) ∧
        (0 ≤ (0 : Int)) ∧
        (0 < (hn h25 (hv h25 381 (hv h25 346 27)))) ∧
        (∀ h26, h26 = hset h25 (hv h25 381 (hv h25 346 27)) 0 x3_3 →
        (∀ h27, h27 = hset h26 346 27 x5_23 →
        S_X8_load l G [(2008, 346)] h27 (fun _ h29 =>
        Q 0 h29) E))) E)) E))))))) E) : JW K 0 [(2008, 346), (0, v1), (0, v2), (5000, 0), (5000, 0), (5000, 0)] [] h := by
  have e1 := ki.2.2.2.2.1
  have e2 := ki.2.2.2.2.2.1
  subst e1; subst e2
  exact run_ok (dia := [(45, 63)]) (cnr := [(31, 43, 67)]) (cuts := []) ki.1 (pk_X8_start ki hG) ok_X8_start (by decide) 42 true _ _ _ _ H
abbrev k_X8_about : List (Nat × List (Nat × Instr)) := [(1, [(0, .iload_n 1)]),
  (44, [(1, .tableswitch 92 0 6 #[43, 48, 53, 58, 77, 82, 87])]),
  (87, [(44, .aload_n 0), (45, .getfield 82), (48, .ireturn), (49, .aload_n 0), (50, .getfield 76), (53, .ireturn), (54, .aload_n 0), (55, .getfield 79), (58, .ireturn), (59, .aload_n 0), (60, .getfield 69), (63, .ifCond .ne 7), (66, .iconst 0), (67, .goto 10), (70, .aload_n 0), (71, .getfield 69), (74, .bipush 7), (76, .isub), (77, .ireturn), (78, .aload_n 0), (79, .getfield 94), (82, .ireturn), (83, .aload_n 0), (84, .getfield 85)]),
  (106, [(87, .ireturn), (88, .aload_n 0), (89, .getfield 88), (92, .ireturn), (93, .aload_n 0), (94, .getfield 91), (97, .ireturn)])]
theorem ok_X8_about : CodeOK cX8_about k_X8_about := okw 0 (by decide +kernel) (okc (by decide +kernel) (okw 44 (by decide +kernel) (okw 87 (by decide +kernel) (okn))))
abbrev p_X8_about (l : Launch) (G : JG) : JP := (true, [(69, 8, 4, 0, 0), (76, 8, 15, 0, 0), (79, 8, 16, 0, 0), (82, 8, 17, 0, 0), (85, 8, 18, 0, 0), (88, 8, 19, 0, 0), (91, 8, 20, 0, 0), (94, 8, 23, 0, 0)], [], [], [], [], [], [], false, 0, [])
theorem pk_X8_about {K : JC} {l : Launch} {G : JG} {Q : Int → MH → Prop} {E : Nat → Int → MH → Prop} {h0 : MH} (ki : KI K l G yX8_about cX8_about 2 (some .int) [] 4 150 0 Q E h0) (hG : gO G = true) : POK K RX8 (p_X8_about l G) :=
  POKi (y := yX8_about) ki hG (rfs rf_X8_ok (by decide +kernel)) fmz fmz fmz fmz fmz
  (pkE ki (by
    intro K e1 e2 e3 e4; subst e1; subst e2
    exact fmz)) (fun z => Bool.noConfusion z) rfl (pkP ki (by
    intro K e1 e2 e3 e4; subst e1; subst e2
    exact fmz))
theorem r_X8_about_0 {K : JC} {l : Launch} {G : JG} {Q : Int → MH → Prop} {E : Nat → Int → MH → Prop} {h0 : MH} (ki : KI K l G yX8_about cX8_about 2 (some .int) [] 4 150 0 Q E h0) (hG : gO G = true) {v1 : Int} {h : MH} (H :
    (((v1 = 0 →
      Q (hv h 346 17) h) ∧
    ((v1 = 0 + 1 →
      Q (hv h 346 15) h) ∧
    ((v1 = 0 + 1 + 1 →
      Q (hv h 346 16) h) ∧
    ((v1 = 0 + 1 + 1 + 1 →
      Q (if (hv h 346 4) = 0 then 0 else (w32 ((hv h 346 4) - 7)) : Int) h) ∧
    ((v1 = 0 + 1 + 1 + 1 + 1 →
      Q (hv h 346 23) h) ∧
    ((v1 = 0 + 1 + 1 + 1 + 1 + 1 →
      Q (hv h 346 18) h) ∧
    ((v1 = 0 + 1 + 1 + 1 + 1 + 1 + 1 →
      Q (hv h 346 19) h) ∧
    True))))))) ∧ ((v1 < 0 ∨ 6 < v1) →
      Q (hv h 346 20) h))) : JW K 0 [(2008, 346), (0, v1)] [] h := by
  have e1 := ki.2.2.2.2.1
  have e2 := ki.2.2.2.2.2.1
  subst e1; subst e2
  exact run_ok (dia := [(63, 77)]) (cnr := []) (cuts := []) ki.1 (pk_X8_about ki hG) ok_X8_about (by decide) 7 true _ _ _ _ H
