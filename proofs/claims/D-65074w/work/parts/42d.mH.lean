/-! by gen/mkh.py -/
set_option maxRecDepth 100000
theorem s_X0_type {l : Launch} {G : JG} {Q : Int → MH → Prop} {E : Nat → Int → MH → Prop} {h : MH} {as : List LV} (hn : Nat.ble (enl as).length 6 = true) (body : ∀ K : JC, KI K l G yX0_type cX0_type 6 (some .int) [(0, 11, 14, 13), (0, 11, 18, 15)] 13 363 0 Q E h → JW K 0 (lv0 as 6) [] h) : S_X0_type l G as h Q E :=
  Sem_ofW (by decide +kernel) (Nat.le_of_ble_eq_true hn) body
abbrev kI_X0_type : List (Nat × List (Nat × Instr)) := [(19, [(0, .aload 4), (2, .iconst 0), (3, .aload_n 0), (4, .lload_n 1), (5, .iload_n 3), (6, .invokevirtual 7), (9, .i2l), (10, .lastore)])]
theorem okI_X0_type : CodeOK cX0_type kI_X0_type := okw 0 (by decide +kernel) (okn)
abbrev kO_X0_type : List (Nat × List (Nat × Instr)) := [(32, [(11, .goto 11), (14, .astore 5), (16, .iconst 1), (17, .ireturn), (18, .astore 5), (20, .iconst 2), (21, .ireturn), (22, .iconst 0), (23, .ireturn)])]
theorem okO_X0_type : CodeOK cX0_type kO_X0_type := okw 11 (by decide +kernel) (okn)
abbrev p_X0_type (l : Launch) (G : JG) : JP := (true, [], [], [], [], [], [], [(7, 1, [0, 1, 2001], 0, S_X1_type l G)], false, 0, [])
theorem pk_X0_type {K : JC} {l : Launch} {G : JG} {Q : Int → MH → Prop} {E : Nat → Int → MH → Prop} {h0 : MH} (ki : KI K l G yX0_type cX0_type 6 (some .int) [(0, 11, 14, 13), (0, 11, 18, 15)] 13 363 0 Q E h0) (hG : gO G = true) : POKx K RX0 (p_X0_type l G) True :=
  POKh (y := yX0_type) ki hG fmz fmz fmz fmz fmz fmz
  (pkE ki (by
    intro K e1 e2 e3 e4; subst e1; subst e2
    exact fmE (ceV 1 e3 e4 yl_X1_type ⟨by decide, ⟨_, _, rfl⟩, q1182, q1183, q1181⟩ rfl) (fmz))) (fun z => Bool.noConfusion z) rfl (pkP ki (by
    intro K e1 e2 e3 e4; subst e1; subst e2
    exact fmz))
theorem r_X0_type_0 {K : JC} {l : Launch} {G : JG} {Q : Int → MH → Prop} {E : Nat → Int → MH → Prop} {h0 : MH} (ki : KI K l G yX0_type cX0_type 6 (some .int) [(0, 11, 14, 13), (0, 11, 18, 15)] 13 363 0 Q E h0) (hG : gO G = true) {Ex : Nat → Int → MH → Prop} (har : ∀ pc, 0 ≤ pc → pc < 11 → AR K Ex pc) {v0 v1 v3 v4 : Int} {h : MH} (H :
    (v0 ≠ 0) ∧
    S_X1_type l G [(2001, v0), (1, v1), (0, v3)] h (fun z1 h2 =>
    (v4 ≠ 0) ∧
    (0 ≤ (0 : Int)) ∧
    (0 < (hn h2 v4)) ∧
    (∀ h3, h3 = hset h2 v4 0 z1 →
    JW K 11 [(5, v0), (1, v1), (5000, 0), (0, v3), (105, v4), (5000, 0)] [] h3)) Ex) : JW K 0 [(5, v0), (1, v1), (5000, 0), (0, v3), (105, v4), (5000, 0)] [] h := by
  have e1 := ki.2.2.2.2.1
  have e2 := ki.2.2.2.2.2.1
  subst e1; subst e2
  exact run_okX (dia := []) (cnr := []) (cuts := [(0, [5, 1, 5000, 0, 105, 5000], []), (11, [5, 1, 5000, 0, 105, 5000], [])]) ki.1 (pk_X0_type ki hG) okI_X0_type (fun pc i q => har pc (lkc_rng (lo := 0) (hi := 11) (by decide +kernel) q).1 (lkc_rng (lo := 0) (hi := 11) (by decide +kernel) q).2) (by decide) 10 true _ _ _ _ H
theorem r_X0_type_11 {K : JC} {l : Launch} {G : JG} {Q : Int → MH → Prop} {E : Nat → Int → MH → Prop} {h0 : MH} (ki : KI K l G yX0_type cX0_type 6 (some .int) [(0, 11, 14, 13), (0, 11, 18, 15)] 13 363 0 Q E h0) (hG : gO G = true) {v0 v1 v3 v4 : Int} {h : MH} (H :
    Q 0 h) : JW K 11 [(5, v0), (1, v1), (5000, 0), (0, v3), (105, v4), (5000, 0)] [] h := by
  have e1 := ki.2.2.2.2.1
  have e2 := ki.2.2.2.2.2.1
  subst e1; subst e2
  exact run_okX (dia := []) (cnr := []) (cuts := [(0, [5, 1, 5000, 0, 105, 5000], []), (11, [5, 1, 5000, 0, 105, 5000], [])]) ki.1 (pk_X0_type ki hG) okO_X0_type (fun pc i q => ar_out ki.1.2.2.2.2.2.2.2.1 (ki_no ki (fun z hz => by have e := lkc_out (lo := 0) (hi := 11) (by decide +kernel) q; simp only [List.mem_cons, List.not_mem_nil, or_false] at hz; rcases hz with rfl | rfl <;> exact e))) (by decide) 4 true _ _ _ _ H
theorem s_X0_root {l : Launch} {G : JG} {Q : Int → MH → Prop} {E : Nat → Int → MH → Prop} {h : MH} {as : List LV} (hn : Nat.ble (enl as).length 4 = true) (body : ∀ K : JC, KI K l G yX0_root cX0_root 4 (some .int) [(0, 9, 12, 21), (0, 9, 15, 15)] 13 360 0 Q E h → JW K 0 (lv0 as 4) [] h) : S_X0_root l G as h Q E :=
  Sem_ofW (by decide +kernel) (Nat.le_of_ble_eq_true hn) body
abbrev kI_X0_root : List (Nat × List (Nat × Instr)) := [(17, [(0, .aload_n 2), (1, .iconst 0), (2, .aload_n 0), (3, .iload_n 1), (4, .invokevirtual 17), (7, .i2l), (8, .lastore)])]
theorem okI_X0_root : CodeOK cX0_root kI_X0_root := okw 0 (by decide +kernel) (okn)
abbrev kO_X0_root : List (Nat × List (Nat × Instr)) := [(28, [(9, .goto 9), (12, .astore_n 3), (13, .iconst 1), (14, .ireturn), (15, .astore_n 3), (16, .iconst 2), (17, .ireturn), (18, .iconst 0), (19, .ireturn)])]
theorem okO_X0_root : CodeOK cX0_root kO_X0_root := okw 9 (by decide +kernel) (okn)
abbrev p_X0_root (l : Launch) (G : JG) : JP := (true, [], [], [], [], [], [], [(17, 1, [0, 2001], 0, S_X1_root l G)], false, 0, [])
theorem pk_X0_root {K : JC} {l : Launch} {G : JG} {Q : Int → MH → Prop} {E : Nat → Int → MH → Prop} {h0 : MH} (ki : KI K l G yX0_root cX0_root 4 (some .int) [(0, 9, 12, 21), (0, 9, 15, 15)] 13 360 0 Q E h0) (hG : gO G = true) : POKx K RX0 (p_X0_root l G) True :=
  POKh (y := yX0_root) ki hG fmz fmz fmz fmz fmz fmz
  (pkE ki (by
    intro K e1 e2 e3 e4; subst e1; subst e2
    exact fmE (ceV 1 e3 e4 yl_X1_root ⟨by decide, ⟨_, _, rfl⟩, q1264, q1265, q1263⟩ rfl) (fmz))) (fun z => Bool.noConfusion z) rfl (pkP ki (by
    intro K e1 e2 e3 e4; subst e1; subst e2
    exact fmz))
theorem r_X0_root_0 {K : JC} {l : Launch} {G : JG} {Q : Int → MH → Prop} {E : Nat → Int → MH → Prop} {h0 : MH} (ki : KI K l G yX0_root cX0_root 4 (some .int) [(0, 9, 12, 21), (0, 9, 15, 15)] 13 360 0 Q E h0) (hG : gO G = true) {Ex : Nat → Int → MH → Prop} (har : ∀ pc, 0 ≤ pc → pc < 9 → AR K Ex pc) {v0 v1 v2 : Int} {h : MH} (H :
    (v0 ≠ 0) ∧
    S_X1_root l G [(2001, v0), (0, v1)] h (fun z1 h2 =>
    (v2 ≠ 0) ∧
    (0 ≤ (0 : Int)) ∧
    (0 < (hn h2 v2)) ∧
    (∀ h3, h3 = hset h2 v2 0 z1 →
    JW K 9 [(5, v0), (0, v1), (105, v2), (5000, 0)] [] h3)) Ex) : JW K 0 [(5, v0), (0, v1), (105, v2), (5000, 0)] [] h := by
  have e1 := ki.2.2.2.2.1
  have e2 := ki.2.2.2.2.2.1
  subst e1; subst e2
  exact run_okX (dia := []) (cnr := []) (cuts := [(0, [5, 0, 105, 5000], []), (9, [5, 0, 105, 5000], [])]) ki.1 (pk_X0_root ki hG) okI_X0_root (fun pc i q => har pc (lkc_rng (lo := 0) (hi := 9) (by decide +kernel) q).1 (lkc_rng (lo := 0) (hi := 9) (by decide +kernel) q).2) (by decide) 9 true _ _ _ _ H
theorem r_X0_root_9 {K : JC} {l : Launch} {G : JG} {Q : Int → MH → Prop} {E : Nat → Int → MH → Prop} {h0 : MH} (ki : KI K l G yX0_root cX0_root 4 (some .int) [(0, 9, 12, 21), (0, 9, 15, 15)] 13 360 0 Q E h0) (hG : gO G = true) {v0 v1 v2 : Int} {h : MH} (H :
    Q 0 h) : JW K 9 [(5, v0), (0, v1), (105, v2), (5000, 0)] [] h := by
  have e1 := ki.2.2.2.2.1
  have e2 := ki.2.2.2.2.2.1
  subst e1; subst e2
  exact run_okX (dia := []) (cnr := []) (cuts := [(0, [5, 0, 105, 5000], []), (9, [5, 0, 105, 5000], [])]) ki.1 (pk_X0_root ki hG) okO_X0_root (fun pc i q => ar_out ki.1.2.2.2.2.2.2.2.1 (ki_no ki (fun z hz => by have e := lkc_out (lo := 0) (hi := 9) (by decide +kernel) q; simp only [List.mem_cons, List.not_mem_nil, or_false] at hz; rcases hz with rfl | rfl <;> exact e))) (by decide) 4 true _ _ _ _ H
theorem s_X0_method {l : Launch} {G : JG} {Q : Int → MH → Prop} {E : Nat → Int → MH → Prop} {h : MH} {as : List LV} (hn : Nat.ble (enl as).length 5 = true) (body : ∀ K : JC, KI K l G yX0_method cX0_method 5 (some .int) [(0, 10, 13, 15), (0, 10, 17, 21)] 17 467 0 Q E h → JW K 0 (lv0 as 5) [] h) : S_X0_method l G as h Q E :=
  Sem_ofW (by decide +kernel) (Nat.le_of_ble_eq_true hn) body
abbrev kI_X0_method : List (Nat × List (Nat × Instr)) := [(18, [(0, .aload_n 3), (1, .iconst 0), (2, .aload_n 0), (3, .iload_n 1), (4, .iload_n 2), (5, .invokevirtual 23), (8, .i2l), (9, .lastore)])]
theorem okI_X0_method : CodeOK cX0_method kI_X0_method := okw 0 (by decide +kernel) (okn)
abbrev kO_X0_method : List (Nat × List (Nat × Instr)) := [(31, [(10, .goto 11), (13, .astore 4), (15, .iconst 1), (16, .ireturn), (17, .astore 4), (19, .iconst 2), (20, .ireturn), (21, .iconst 0), (22, .ireturn)])]
theorem okO_X0_method : CodeOK cX0_method kO_X0_method := okw 10 (by decide +kernel) (okn)
abbrev p_X0_method (l : Launch) (G : JG) : JP := (true, [], [], [], [], [], [], [(23, 1, [0, 0, 2001], 0, S_X1_method l G)], false, 0, [])
theorem pk_X0_method {K : JC} {l : Launch} {G : JG} {Q : Int → MH → Prop} {E : Nat → Int → MH → Prop} {h0 : MH} (ki : KI K l G yX0_method cX0_method 5 (some .int) [(0, 10, 13, 15), (0, 10, 17, 21)] 17 467 0 Q E h0) (hG : gO G = true) : POKx K RX0 (p_X0_method l G) True :=
  POKh (y := yX0_method) ki hG fmz fmz fmz fmz fmz fmz
  (pkE ki (by
    intro K e1 e2 e3 e4; subst e1; subst e2
    exact fmE (ceV 1 e3 e4 yl_X1_method ⟨by decide, ⟨_, _, rfl⟩, q1293, q1294, q1292⟩ rfl) (fmz))) (fun z => Bool.noConfusion z) rfl (pkP ki (by
    intro K e1 e2 e3 e4; subst e1; subst e2
    exact fmz))
theorem r_X0_method_0 {K : JC} {l : Launch} {G : JG} {Q : Int → MH → Prop} {E : Nat → Int → MH → Prop} {h0 : MH} (ki : KI K l G yX0_method cX0_method 5 (some .int) [(0, 10, 13, 15), (0, 10, 17, 21)] 17 467 0 Q E h0) (hG : gO G = true) {Ex : Nat → Int → MH → Prop} (har : ∀ pc, 0 ≤ pc → pc < 10 → AR K Ex pc) {v0 v1 v2 v3 : Int} {h : MH} (H :
    (v0 ≠ 0) ∧
    S_X1_method l G [(2001, v0), (0, v1), (0, v2)] h (fun z1 h2 =>
    (v3 ≠ 0) ∧
    (0 ≤ (0 : Int)) ∧
    (0 < (hn h2 v3)) ∧
    (∀ h3, h3 = hset h2 v3 0 z1 →
    JW K 10 [(5, v0), (0, v1), (0, v2), (105, v3), (5000, 0)] [] h3)) Ex) : JW K 0 [(5, v0), (0, v1), (0, v2), (105, v3), (5000, 0)] [] h := by
  have e1 := ki.2.2.2.2.1
  have e2 := ki.2.2.2.2.2.1
  subst e1; subst e2
  exact run_okX (dia := []) (cnr := []) (cuts := [(0, [5, 0, 0, 105, 5000], []), (10, [5, 0, 0, 105, 5000], [])]) ki.1 (pk_X0_method ki hG) okI_X0_method (fun pc i q => har pc (lkc_rng (lo := 0) (hi := 10) (by decide +kernel) q).1 (lkc_rng (lo := 0) (hi := 10) (by decide +kernel) q).2) (by decide) 10 true _ _ _ _ H
theorem r_X0_method_10 {K : JC} {l : Launch} {G : JG} {Q : Int → MH → Prop} {E : Nat → Int → MH → Prop} {h0 : MH} (ki : KI K l G yX0_method cX0_method 5 (some .int) [(0, 10, 13, 15), (0, 10, 17, 21)] 17 467 0 Q E h0) (hG : gO G = true) {v0 v1 v2 v3 : Int} {h : MH} (H :
    Q 0 h) : JW K 10 [(5, v0), (0, v1), (0, v2), (105, v3), (5000, 0)] [] h := by
  have e1 := ki.2.2.2.2.1
  have e2 := ki.2.2.2.2.2.1
  subst e1; subst e2
  exact run_okX (dia := []) (cnr := []) (cuts := [(0, [5, 0, 0, 105, 5000], []), (10, [5, 0, 0, 105, 5000], [])]) ki.1 (pk_X0_method ki hG) okO_X0_method (fun pc i q => ar_out ki.1.2.2.2.2.2.2.2.1 (ki_no ki (fun z hz => by have e := lkc_out (lo := 0) (hi := 10) (by decide +kernel) q; simp only [List.mem_cons, List.not_mem_nil, or_false] at hz; rcases hz with rfl | rfl <;> exact e))) (by decide) 4 true _ _ _ _ H
theorem s_X0_classOf {l : Launch} {G : JG} {Q : Int → MH → Prop} {E : Nat → Int → MH → Prop} {h : MH} {as : List LV} (hn : Nat.ble (enl as).length 4 = true) (body : ∀ K : JC, KI K l G yX0_classOf cX0_classOf 4 (some .int) [(0, 9, 12, 15), (0, 9, 15, 21)] 13 360 0 Q E h → JW K 0 (lv0 as 4) [] h) : S_X0_classOf l G as h Q E :=
  Sem_ofW (by decide +kernel) (Nat.le_of_ble_eq_true hn) body
abbrev kI_X0_classOf : List (Nat × List (Nat × Instr)) := [(17, [(0, .aload_n 2), (1, .iconst 0), (2, .aload_n 0), (3, .iload_n 1), (4, .invokevirtual 27), (7, .i2l), (8, .lastore)])]
theorem okI_X0_classOf : CodeOK cX0_classOf kI_X0_classOf := okw 0 (by decide +kernel) (okn)
abbrev kO_X0_classOf : List (Nat × List (Nat × Instr)) := [(28, [(9, .goto 9), (12, .astore_n 3), (13, .iconst 1), (14, .ireturn), (15, .astore_n 3), (16, .iconst 2), (17, .ireturn), (18, .iconst 0), (19, .ireturn)])]
theorem okO_X0_classOf : CodeOK cX0_classOf kO_X0_classOf := okw 9 (by decide +kernel) (okn)
abbrev p_X0_classOf (l : Launch) (G : JG) : JP := (true, [], [], [], [], [], [], [(27, 1, [0, 2001], 0, S_X1_classOf l G)], false, 0, [])
theorem pk_X0_classOf {K : JC} {l : Launch} {G : JG} {Q : Int → MH → Prop} {E : Nat → Int → MH → Prop} {h0 : MH} (ki : KI K l G yX0_classOf cX0_classOf 4 (some .int) [(0, 9, 12, 15), (0, 9, 15, 21)] 13 360 0 Q E h0) (hG : gO G = true) : POKx K RX0 (p_X0_classOf l G) True :=
  POKh (y := yX0_classOf) ki hG fmz fmz fmz fmz fmz fmz
  (pkE ki (by
    intro K e1 e2 e3 e4; subst e1; subst e2
    exact fmE (ceV 1 e3 e4 yl_X1_classOf ⟨by decide, ⟨_, _, rfl⟩, q1661, q1662, q1660⟩ rfl) (fmz))) (fun z => Bool.noConfusion z) rfl (pkP ki (by
    intro K e1 e2 e3 e4; subst e1; subst e2
    exact fmz))
theorem r_X0_classOf_0 {K : JC} {l : Launch} {G : JG} {Q : Int → MH → Prop} {E : Nat → Int → MH → Prop} {h0 : MH} (ki : KI K l G yX0_classOf cX0_classOf 4 (some .int) [(0, 9, 12, 15), (0, 9, 15, 21)] 13 360 0 Q E h0) (hG : gO G = true) {Ex : Nat → Int → MH → Prop} (har : ∀ pc, 0 ≤ pc → pc < 9 → AR K Ex pc) {v0 v1 v2 : Int} {h : MH} (H :
    (v0 ≠ 0) ∧
    S_X1_classOf l G [(2001, v0), (0, v1)] h (fun z1 h2 =>
    (v2 ≠ 0) ∧
    (0 ≤ (0 : Int)) ∧
    (0 < (hn h2 v2)) ∧
    (∀ h3, h3 = hset h2 v2 0 z1 →
    JW K 9 [(5, v0), (0, v1), (105, v2), (5000, 0)] [] h3)) Ex) : JW K 0 [(5, v0), (0, v1), (105, v2), (5000, 0)] [] h := by
  have e1 := ki.2.2.2.2.1
  have e2 := ki.2.2.2.2.2.1
  subst e1; subst e2
  exact run_okX (dia := []) (cnr := []) (cuts := [(0, [5, 0, 105, 5000], []), (9, [5, 0, 105, 5000], [])]) ki.1 (pk_X0_classOf ki hG) okI_X0_classOf (fun pc i q => har pc (lkc_rng (lo := 0) (hi := 9) (by decide +kernel) q).1 (lkc_rng (lo := 0) (hi := 9) (by decide +kernel) q).2) (by decide) 9 true _ _ _ _ H
theorem r_X0_classOf_9 {K : JC} {l : Launch} {G : JG} {Q : Int → MH → Prop} {E : Nat → Int → MH → Prop} {h0 : MH} (ki : KI K l G yX0_classOf cX0_classOf 4 (some .int) [(0, 9, 12, 15), (0, 9, 15, 21)] 13 360 0 Q E h0) (hG : gO G = true) {v0 v1 v2 : Int} {h : MH} (H :
    Q 0 h) : JW K 9 [(5, v0), (0, v1), (105, v2), (5000, 0)] [] h := by
  have e1 := ki.2.2.2.2.1
  have e2 := ki.2.2.2.2.2.1
  subst e1; subst e2
  exact run_okX (dia := []) (cnr := []) (cuts := [(0, [5, 0, 105, 5000], []), (9, [5, 0, 105, 5000], [])]) ki.1 (pk_X0_classOf ki hG) okO_X0_classOf (fun pc i q => ar_out ki.1.2.2.2.2.2.2.2.1 (ki_no ki (fun z hz => by have e := lkc_out (lo := 0) (hi := 9) (by decide +kernel) q; simp only [List.mem_cons, List.not_mem_nil, or_false] at hz; rcases hz with rfl | rfl <;> exact e))) (by decide) 4 true _ _ _ _ H
theorem s_X0_depth {l : Launch} {G : JG} {Q : Int → MH → Prop} {E : Nat → Int → MH → Prop} {h : MH} {as : List LV} (hn : Nat.ble (enl as).length 5 = true) (body : ∀ K : JC, KI K l G yX0_depth cX0_depth 5 (some .int) [(0, 10, 13, 15), (0, 10, 17, 21)] 18 489 0 Q E h → JW K 0 (lv0 as 5) [] h) : S_X0_depth l G as h Q E :=
  Sem_ofW (by decide +kernel) (Nat.le_of_ble_eq_true hn) body
abbrev kI_X0_depth : List (Nat × List (Nat × Instr)) := [(18, [(0, .aload_n 3), (1, .iconst 0), (2, .aload_n 0), (3, .iload_n 1), (4, .iload_n 2), (5, .invokevirtual 30), (8, .i2l), (9, .lastore)])]
theorem okI_X0_depth : CodeOK cX0_depth kI_X0_depth := okw 0 (by decide +kernel) (okn)
abbrev kO_X0_depth : List (Nat × List (Nat × Instr)) := [(31, [(10, .goto 11), (13, .astore 4), (15, .iconst 1), (16, .ireturn), (17, .astore 4), (19, .iconst 2), (20, .ireturn), (21, .iconst 0), (22, .ireturn)])]
theorem okO_X0_depth : CodeOK cX0_depth kO_X0_depth := okw 10 (by decide +kernel) (okn)
abbrev p_X0_depth (l : Launch) (G : JG) : JP := (true, [], [], [], [], [], [], [(30, 1, [0, 0, 2001], 0, S_X1_depth l G)], false, 0, [])
theorem pk_X0_depth {K : JC} {l : Launch} {G : JG} {Q : Int → MH → Prop} {E : Nat → Int → MH → Prop} {h0 : MH} (ki : KI K l G yX0_depth cX0_depth 5 (some .int) [(0, 10, 13, 15), (0, 10, 17, 21)] 18 489 0 Q E h0) (hG : gO G = true) : POKx K RX0 (p_X0_depth l G) True :=
  POKh (y := yX0_depth) ki hG fmz fmz fmz fmz fmz fmz
  (pkE ki (by
    intro K e1 e2 e3 e4; subst e1; subst e2
    exact fmE (ceV 1 e3 e4 yl_X1_depth ⟨by decide, ⟨_, _, rfl⟩, q1672, q1673, q1671⟩ rfl) (fmz))) (fun z => Bool.noConfusion z) rfl (pkP ki (by
    intro K e1 e2 e3 e4; subst e1; subst e2
    exact fmz))
theorem r_X0_depth_0 {K : JC} {l : Launch} {G : JG} {Q : Int → MH → Prop} {E : Nat → Int → MH → Prop} {h0 : MH} (ki : KI K l G yX0_depth cX0_depth 5 (some .int) [(0, 10, 13, 15), (0, 10, 17, 21)] 18 489 0 Q E h0) (hG : gO G = true) {Ex : Nat → Int → MH → Prop} (har : ∀ pc, 0 ≤ pc → pc < 10 → AR K Ex pc) {v0 v1 v2 v3 : Int} {h : MH} (H :
    (v0 ≠ 0) ∧
    S_X1_depth l G [(2001, v0), (0, v1), (0, v2)] h (fun z1 h2 =>
    (v3 ≠ 0) ∧
    (0 ≤ (0 : Int)) ∧
    (0 < (hn h2 v3)) ∧
    (∀ h3, h3 = hset h2 v3 0 z1 →
    JW K 10 [(5, v0), (0, v1), (0, v2), (105, v3), (5000, 0)] [] h3)) Ex) : JW K 0 [(5, v0), (0, v1), (0, v2), (105, v3), (5000, 0)] [] h := by
  have e1 := ki.2.2.2.2.1
  have e2 := ki.2.2.2.2.2.1
  subst e1; subst e2
  exact run_okX (dia := []) (cnr := []) (cuts := [(0, [5, 0, 0, 105, 5000], []), (10, [5, 0, 0, 105, 5000], [])]) ki.1 (pk_X0_depth ki hG) okI_X0_depth (fun pc i q => har pc (lkc_rng (lo := 0) (hi := 10) (by decide +kernel) q).1 (lkc_rng (lo := 0) (hi := 10) (by decide +kernel) q).2) (by decide) 10 true _ _ _ _ H
theorem r_X0_depth_10 {K : JC} {l : Launch} {G : JG} {Q : Int → MH → Prop} {E : Nat → Int → MH → Prop} {h0 : MH} (ki : KI K l G yX0_depth cX0_depth 5 (some .int) [(0, 10, 13, 15), (0, 10, 17, 21)] 18 489 0 Q E h0) (hG : gO G = true) {v0 v1 v2 v3 : Int} {h : MH} (H :
    Q 0 h) : JW K 10 [(5, v0), (0, v1), (0, v2), (105, v3), (5000, 0)] [] h := by
  have e1 := ki.2.2.2.2.1
  have e2 := ki.2.2.2.2.2.1
  subst e1; subst e2
  exact run_okX (dia := []) (cnr := []) (cuts := [(0, [5, 0, 0, 105, 5000], []), (10, [5, 0, 0, 105, 5000], [])]) ki.1 (pk_X0_depth ki hG) okO_X0_depth (fun pc i q => ar_out ki.1.2.2.2.2.2.2.2.1 (ki_no ki (fun z hz => by have e := lkc_out (lo := 0) (hi := 10) (by decide +kernel) q; simp only [List.mem_cons, List.not_mem_nil, or_false] at hz; rcases hz with rfl | rfl <;> exact e))) (by decide) 4 true _ _ _ _ H
theorem s_X0_reach {l : Launch} {G : JG} {Q : Int → MH → Prop} {E : Nat → Int → MH → Prop} {h : MH} {as : List LV} (hn : Nat.ble (enl as).length 5 = true) (body : ∀ K : JC, KI K l G yX0_reach cX0_reach 5 (some .int) [(0, 17, 20, 15), (0, 17, 24, 21)] 18 488 0 Q E h → JW K 0 (lv0 as 5) [] h) : S_X0_reach l G as h Q E :=
  Sem_ofW (by decide +kernel) (Nat.le_of_ble_eq_true hn) body
abbrev kI_X0_reach : List (Nat × List (Nat × Instr)) := [(25, [(0, .aload_n 3), (1, .iconst 0), (2, .aload_n 0), (3, .iload_n 1), (4, .iload_n 2), (5, .invokevirtual 33), (8, .ifCond .eq 7), (11, .lconst 1), (12, .goto 4), (15, .lconst 0), (16, .lastore)])]
theorem okI_X0_reach : CodeOK cX0_reach kI_X0_reach := okw 0 (by decide +kernel) (okn)
abbrev kO_X0_reach : List (Nat × List (Nat × Instr)) := [(38, [(17, .goto 11), (20, .astore 4), (22, .iconst 1), (23, .ireturn), (24, .astore 4), (26, .iconst 2), (27, .ireturn), (28, .iconst 0), (29, .ireturn)])]
theorem okO_X0_reach : CodeOK cX0_reach kO_X0_reach := okw 17 (by decide +kernel) (okn)
abbrev p_X0_reach (l : Launch) (G : JG) : JP := (true, [], [], [], [], [], [], [(33, 1, [0, 0, 2001], 2, S_X1_reach l G)], false, 0, [])
theorem pk_X0_reach {K : JC} {l : Launch} {G : JG} {Q : Int → MH → Prop} {E : Nat → Int → MH → Prop} {h0 : MH} (ki : KI K l G yX0_reach cX0_reach 5 (some .int) [(0, 17, 20, 15), (0, 17, 24, 21)] 18 488 0 Q E h0) (hG : gO G = true) : POKx K RX0 (p_X0_reach l G) True :=
  POKh (y := yX0_reach) ki hG fmz fmz fmz fmz fmz fmz
  (pkE ki (by
    intro K e1 e2 e3 e4; subst e1; subst e2
    exact fmE (ceV 1 e3 e4 yl_X1_reach ⟨by decide, ⟨_, _, rfl⟩, q1683, q1684, q1682⟩ rfl) (fmz))) (fun z => Bool.noConfusion z) rfl (pkP ki (by
    intro K e1 e2 e3 e4; subst e1; subst e2
    exact fmz))
theorem r_X0_reach_0 {K : JC} {l : Launch} {G : JG} {Q : Int → MH → Prop} {E : Nat → Int → MH → Prop} {h0 : MH} (ki : KI K l G yX0_reach cX0_reach 5 (some .int) [(0, 17, 20, 15), (0, 17, 24, 21)] 18 488 0 Q E h0) (hG : gO G = true) {Ex : Nat → Int → MH → Prop} (har : ∀ pc, 0 ≤ pc → pc < 17 → AR K Ex pc) {v0 v1 v2 v3 : Int} {h : MH} (H :
    (v0 ≠ 0) ∧
    S_X1_reach l G [(2001, v0), (0, v1), (0, v2)] h (fun z1 h2 =>
    (v3 ≠ 0) ∧
    (0 ≤ (0 : Int)) ∧
    (0 < (hn h2 v3)) ∧
    (∀ h3, h3 = hset h2 v3 0 (if z1 = 0 then 0 else 1 : Int) →
    JW K 17 [(5, v0), (0, v1), (0, v2), (105, v3), (5000, 0)] [] h3)) Ex) : JW K 0 [(5, v0), (0, v1), (0, v2), (105, v3), (5000, 0)] [] h := by
  have e1 := ki.2.2.2.2.1
  have e2 := ki.2.2.2.2.2.1
  subst e1; subst e2
  exact run_okX (dia := [(8, 16)]) (cnr := []) (cuts := [(0, [5, 0, 0, 105, 5000], []), (17, [5, 0, 0, 105, 5000], [])]) ki.1 (pk_X0_reach ki hG) okI_X0_reach (fun pc i q => har pc (lkc_rng (lo := 0) (hi := 17) (by decide +kernel) q).1 (lkc_rng (lo := 0) (hi := 17) (by decide +kernel) q).2) (by decide) 10 true _ _ _ _ H
theorem r_X0_reach_17 {K : JC} {l : Launch} {G : JG} {Q : Int → MH → Prop} {E : Nat → Int → MH → Prop} {h0 : MH} (ki : KI K l G yX0_reach cX0_reach 5 (some .int) [(0, 17, 20, 15), (0, 17, 24, 21)] 18 488 0 Q E h0) (hG : gO G = true) {v0 v1 v2 v3 : Int} {h : MH} (H :
    Q 0 h) : JW K 17 [(5, v0), (0, v1), (0, v2), (105, v3), (5000, 0)] [] h := by
  have e1 := ki.2.2.2.2.1
  have e2 := ki.2.2.2.2.2.1
  subst e1; subst e2
  exact run_okX (dia := [(8, 16)]) (cnr := []) (cuts := [(0, [5, 0, 0, 105, 5000], []), (17, [5, 0, 0, 105, 5000], [])]) ki.1 (pk_X0_reach ki hG) okO_X0_reach (fun pc i q => ar_out ki.1.2.2.2.2.2.2.2.1 (ki_no ki (fun z hz => by have e := lkc_out (lo := 0) (hi := 17) (by decide +kernel) q; simp only [List.mem_cons, List.not_mem_nil, or_false] at hz; rcases hz with rfl | rfl <;> exact e))) (by decide) 4 true _ _ _ _ H
theorem s_X0_value {l : Launch} {G : JG} {Q : Int → MH → Prop} {E : Nat → Int → MH → Prop} {h : MH} {as : List LV} (hn : Nat.ble (enl as).length 7 = true) (body : ∀ K : JC, KI K l G yX0_value cX0_value 7 (some .int) [(0, 13, 16, 15), (0, 13, 20, 21)] 18 492 0 Q E h → JW K 0 (lv0 as 7) [] h) : S_X0_value l G as h Q E :=
  Sem_ofW (by decide +kernel) (Nat.le_of_ble_eq_true hn) body
abbrev kI_X0_value : List (Nat × List (Nat × Instr)) := [(21, [(0, .aload 5), (2, .iconst 0), (3, .aload_n 0), (4, .iload_n 1), (5, .iload_n 2), (6, .iload_n 3), (7, .iload 4), (9, .invokevirtual 37), (12, .lastore)])]
theorem okI_X0_value : CodeOK cX0_value kI_X0_value := okw 0 (by decide +kernel) (okn)
abbrev kO_X0_value : List (Nat × List (Nat × Instr)) := [(34, [(13, .goto 11), (16, .astore 6), (18, .iconst 1), (19, .ireturn), (20, .astore 6), (22, .iconst 2), (23, .ireturn), (24, .iconst 0), (25, .ireturn)])]
theorem okO_X0_value : CodeOK cX0_value kO_X0_value := okw 13 (by decide +kernel) (okn)
abbrev p_X0_value (l : Launch) (G : JG) : JP := (true, [], [], [], [], [], [], [(37, 1, [0, 0, 0, 0, 2001], 1, S_X1_value l G)], false, 0, [])
theorem pk_X0_value {K : JC} {l : Launch} {G : JG} {Q : Int → MH → Prop} {E : Nat → Int → MH → Prop} {h0 : MH} (ki : KI K l G yX0_value cX0_value 7 (some .int) [(0, 13, 16, 15), (0, 13, 20, 21)] 18 492 0 Q E h0) (hG : gO G = true) : POKx K RX0 (p_X0_value l G) True :=
  POKh (y := yX0_value) ki hG fmz fmz fmz fmz fmz fmz
  (pkE ki (by
    intro K e1 e2 e3 e4; subst e1; subst e2
    exact fmE (ceV 1 e3 e4 yl_X1_value ⟨by decide, ⟨_, _, rfl⟩, q1690, q1691, q1689⟩ rfl) (fmz))) (fun z => Bool.noConfusion z) rfl (pkP ki (by
    intro K e1 e2 e3 e4; subst e1; subst e2
    exact fmz))
theorem r_X0_value_0 {K : JC} {l : Launch} {G : JG} {Q : Int → MH → Prop} {E : Nat → Int → MH → Prop} {h0 : MH} (ki : KI K l G yX0_value cX0_value 7 (some .int) [(0, 13, 16, 15), (0, 13, 20, 21)] 18 492 0 Q E h0) (hG : gO G = true) {Ex : Nat → Int → MH → Prop} (har : ∀ pc, 0 ≤ pc → pc < 13 → AR K Ex pc) {v0 v1 v2 v3 v4 v5 : Int} {h : MH} (H :
    (v0 ≠ 0) ∧
    S_X1_value l G [(2001, v0), (0, v1), (0, v2), (0, v3), (0, v4)] h (fun z1 h2 =>
    (v5 ≠ 0) ∧
    (0 ≤ (0 : Int)) ∧
    (0 < (hn h2 v5)) ∧
    (∀ h3, h3 = hset h2 v5 0 z1 →
    JW K 13 [(5, v0), (0, v1), (0, v2), (0, v3), (0, v4), (105, v5), (5000, 0)] [] h3)) Ex) : JW K 0 [(5, v0), (0, v1), (0, v2), (0, v3), (0, v4), (105, v5), (5000, 0)] [] h := by
  have e1 := ki.2.2.2.2.1
  have e2 := ki.2.2.2.2.2.1
  subst e1; subst e2
  exact run_okX (dia := []) (cnr := []) (cuts := [(0, [5, 0, 0, 0, 0, 105, 5000], []), (13, [5, 0, 0, 0, 0, 105, 5000], [])]) ki.1 (pk_X0_value ki hG) okI_X0_value (fun pc i q => har pc (lkc_rng (lo := 0) (hi := 13) (by decide +kernel) q).1 (lkc_rng (lo := 0) (hi := 13) (by decide +kernel) q).2) (by decide) 11 true _ _ _ _ H
theorem r_X0_value_13 {K : JC} {l : Launch} {G : JG} {Q : Int → MH → Prop} {E : Nat → Int → MH → Prop} {h0 : MH} (ki : KI K l G yX0_value cX0_value 7 (some .int) [(0, 13, 16, 15), (0, 13, 20, 21)] 18 492 0 Q E h0) (hG : gO G = true) {v0 v1 v2 v3 v4 v5 : Int} {h : MH} (H :
    Q 0 h) : JW K 13 [(5, v0), (0, v1), (0, v2), (0, v3), (0, v4), (105, v5), (5000, 0)] [] h := by
  have e1 := ki.2.2.2.2.1
  have e2 := ki.2.2.2.2.2.1
  subst e1; subst e2
  exact run_okX (dia := []) (cnr := []) (cuts := [(0, [5, 0, 0, 0, 0, 105, 5000], []), (13, [5, 0, 0, 0, 0, 105, 5000], [])]) ki.1 (pk_X0_value ki hG) okO_X0_value (fun pc i q => ar_out ki.1.2.2.2.2.2.2.2.1 (ki_no ki (fun z hz => by have e := lkc_out (lo := 0) (hi := 13) (by decide +kernel) q; simp only [List.mem_cons, List.not_mem_nil, or_false] at hz; rcases hz with rfl | rfl <;> exact e))) (by decide) 4 true _ _ _ _ H
theorem s_X0_locks {l : Launch} {G : JG} {Q : Int → MH → Prop} {E : Nat → Int → MH → Prop} {h : MH} {as : List LV} (hn : Nat.ble (enl as).length 6 = true) (body : ∀ K : JC, KI K l G yX0_locks cX0_locks 6 (some .int) [(0, 12, 15, 15), (0, 12, 19, 21)] 18 490 0 Q E h → JW K 0 (lv0 as 6) [] h) : S_X0_locks l G as h Q E :=
  Sem_ofW (by decide +kernel) (Nat.le_of_ble_eq_true hn) body
abbrev kI_X0_locks : List (Nat × List (Nat × Instr)) := [(20, [(0, .aload 4), (2, .iconst 0), (3, .aload_n 0), (4, .iload_n 1), (5, .iload_n 2), (6, .iload_n 3), (7, .invokevirtual 41), (10, .i2l), (11, .lastore)])]
theorem okI_X0_locks : CodeOK cX0_locks kI_X0_locks := okw 0 (by decide +kernel) (okn)
abbrev kO_X0_locks : List (Nat × List (Nat × Instr)) := [(33, [(12, .goto 11), (15, .astore 5), (17, .iconst 1), (18, .ireturn), (19, .astore 5), (21, .iconst 2), (22, .ireturn), (23, .iconst 0), (24, .ireturn)])]
theorem okO_X0_locks : CodeOK cX0_locks kO_X0_locks := okw 12 (by decide +kernel) (okn)
abbrev p_X0_locks (l : Launch) (G : JG) : JP := (true, [], [], [], [], [], [], [(41, 1, [0, 0, 0, 2001], 0, S_X1_locks l G)], false, 0, [])
theorem pk_X0_locks {K : JC} {l : Launch} {G : JG} {Q : Int → MH → Prop} {E : Nat → Int → MH → Prop} {h0 : MH} (ki : KI K l G yX0_locks cX0_locks 6 (some .int) [(0, 12, 15, 15), (0, 12, 19, 21)] 18 490 0 Q E h0) (hG : gO G = true) : POKx K RX0 (p_X0_locks l G) True :=
  POKh (y := yX0_locks) ki hG fmz fmz fmz fmz fmz fmz
  (pkE ki (by
    intro K e1 e2 e3 e4; subst e1; subst e2
    exact fmE (ceV 1 e3 e4 yl_X1_locks ⟨by decide, ⟨_, _, rfl⟩, q1701, q1702, q1700⟩ rfl) (fmz))) (fun z => Bool.noConfusion z) rfl (pkP ki (by
    intro K e1 e2 e3 e4; subst e1; subst e2
    exact fmz))
theorem r_X0_locks_0 {K : JC} {l : Launch} {G : JG} {Q : Int → MH → Prop} {E : Nat → Int → MH → Prop} {h0 : MH} (ki : KI K l G yX0_locks cX0_locks 6 (some .int) [(0, 12, 15, 15), (0, 12, 19, 21)] 18 490 0 Q E h0) (hG : gO G = true) {Ex : Nat → Int → MH → Prop} (har : ∀ pc, 0 ≤ pc → pc < 12 → AR K Ex pc) {v0 v1 v2 v3 v4 : Int} {h : MH} (H :
    (v0 ≠ 0) ∧
    S_X1_locks l G [(2001, v0), (0, v1), (0, v2), (0, v3)] h (fun z1 h2 =>
    (v4 ≠ 0) ∧
    (0 ≤ (0 : Int)) ∧
    (0 < (hn h2 v4)) ∧
    (∀ h3, h3 = hset h2 v4 0 z1 →
    JW K 12 [(5, v0), (0, v1), (0, v2), (0, v3), (105, v4), (5000, 0)] [] h3)) Ex) : JW K 0 [(5, v0), (0, v1), (0, v2), (0, v3), (105, v4), (5000, 0)] [] h := by
  have e1 := ki.2.2.2.2.1
  have e2 := ki.2.2.2.2.2.1
  subst e1; subst e2
  exact run_okX (dia := []) (cnr := []) (cuts := [(0, [5, 0, 0, 0, 105, 5000], []), (12, [5, 0, 0, 0, 105, 5000], [])]) ki.1 (pk_X0_locks ki hG) okI_X0_locks (fun pc i q => har pc (lkc_rng (lo := 0) (hi := 12) (by decide +kernel) q).1 (lkc_rng (lo := 0) (hi := 12) (by decide +kernel) q).2) (by decide) 11 true _ _ _ _ H
theorem r_X0_locks_12 {K : JC} {l : Launch} {G : JG} {Q : Int → MH → Prop} {E : Nat → Int → MH → Prop} {h0 : MH} (ki : KI K l G yX0_locks cX0_locks 6 (some .int) [(0, 12, 15, 15), (0, 12, 19, 21)] 18 490 0 Q E h0) (hG : gO G = true) {v0 v1 v2 v3 v4 : Int} {h : MH} (H :
    Q 0 h) : JW K 12 [(5, v0), (0, v1), (0, v2), (0, v3), (105, v4), (5000, 0)] [] h := by
  have e1 := ki.2.2.2.2.1
  have e2 := ki.2.2.2.2.2.1
  subst e1; subst e2
  exact run_okX (dia := []) (cnr := []) (cuts := [(0, [5, 0, 0, 0, 105, 5000], []), (12, [5, 0, 0, 0, 105, 5000], [])]) ki.1 (pk_X0_locks ki hG) okO_X0_locks (fun pc i q => ar_out ki.1.2.2.2.2.2.2.2.1 (ki_no ki (fun z hz => by have e := lkc_out (lo := 0) (hi := 12) (by decide +kernel) q; simp only [List.mem_cons, List.not_mem_nil, or_false] at hz; rcases hz with rfl | rfl <;> exact e))) (by decide) 4 true _ _ _ _ H
theorem s_X0_throwsAt {l : Launch} {G : JG} {Q : Int → MH → Prop} {E : Nat → Int → MH → Prop} {h : MH} {as : List LV} (hn : Nat.ble (enl as).length 5 = true) (body : ∀ K : JC, KI K l G yX0_throwsAt cX0_throwsAt 5 (some .int) [(0, 9, 12, 15), (0, 9, 16, 21)] 18 488 0 Q E h → JW K 0 (lv0 as 5) [] h) : S_X0_throwsAt l G as h Q E :=
  Sem_ofW (by decide +kernel) (Nat.le_of_ble_eq_true hn) body
abbrev kI_X0_throwsAt : List (Nat × List (Nat × Instr)) := [(17, [(0, .aload_n 3), (1, .iconst 0), (2, .aload_n 0), (3, .iload_n 1), (4, .iload_n 2), (5, .invokevirtual 45), (8, .lastore)])]
theorem okI_X0_throwsAt : CodeOK cX0_throwsAt kI_X0_throwsAt := okw 0 (by decide +kernel) (okn)
abbrev kO_X0_throwsAt : List (Nat × List (Nat × Instr)) := [(30, [(9, .goto 11), (12, .astore 4), (14, .iconst 1), (15, .ireturn), (16, .astore 4), (18, .iconst 2), (19, .ireturn), (20, .iconst 0), (21, .ireturn)])]
theorem okO_X0_throwsAt : CodeOK cX0_throwsAt kO_X0_throwsAt := okw 9 (by decide +kernel) (okn)
abbrev p_X0_throwsAt (l : Launch) (G : JG) : JP := (true, [], [], [], [], [], [], [(45, 1, [0, 0, 2001], 1, S_X1_throwsAt l G)], false, 0, [])
theorem pk_X0_throwsAt {K : JC} {l : Launch} {G : JG} {Q : Int → MH → Prop} {E : Nat → Int → MH → Prop} {h0 : MH} (ki : KI K l G yX0_throwsAt cX0_throwsAt 5 (some .int) [(0, 9, 12, 15), (0, 9, 16, 21)] 18 488 0 Q E h0) (hG : gO G = true) : POKx K RX0 (p_X0_throwsAt l G) True :=
  POKh (y := yX0_throwsAt) ki hG fmz fmz fmz fmz fmz fmz
  (pkE ki (by
    intro K e1 e2 e3 e4; subst e1; subst e2
    exact fmE (ceV 1 e3 e4 yl_X1_throwsAt ⟨by decide, ⟨_, _, rfl⟩, q1708, q1709, q1707⟩ rfl) (fmz))) (fun z => Bool.noConfusion z) rfl (pkP ki (by
    intro K e1 e2 e3 e4; subst e1; subst e2
    exact fmz))
theorem r_X0_throwsAt_0 {K : JC} {l : Launch} {G : JG} {Q : Int → MH → Prop} {E : Nat → Int → MH → Prop} {h0 : MH} (ki : KI K l G yX0_throwsAt cX0_throwsAt 5 (some .int) [(0, 9, 12, 15), (0, 9, 16, 21)] 18 488 0 Q E h0) (hG : gO G = true) {Ex : Nat → Int → MH → Prop} (har : ∀ pc, 0 ≤ pc → pc < 9 → AR K Ex pc) {v0 v1 v2 v3 : Int} {h : MH} (H :
    (v0 ≠ 0) ∧
    S_X1_throwsAt l G [(2001, v0), (0, v1), (0, v2)] h (fun z1 h2 =>
    (v3 ≠ 0) ∧
    (0 ≤ (0 : Int)) ∧
    (0 < (hn h2 v3)) ∧
    (∀ h3, h3 = hset h2 v3 0 z1 →
    JW K 9 [(5, v0), (0, v1), (0, v2), (105, v3), (5000, 0)] [] h3)) Ex) : JW K 0 [(5, v0), (0, v1), (0, v2), (105, v3), (5000, 0)] [] h := by
  have e1 := ki.2.2.2.2.1
  have e2 := ki.2.2.2.2.2.1
  subst e1; subst e2
  exact run_okX (dia := []) (cnr := []) (cuts := [(0, [5, 0, 0, 105, 5000], []), (9, [5, 0, 0, 105, 5000], [])]) ki.1 (pk_X0_throwsAt ki hG) okI_X0_throwsAt (fun pc i q => har pc (lkc_rng (lo := 0) (hi := 9) (by decide +kernel) q).1 (lkc_rng (lo := 0) (hi := 9) (by decide +kernel) q).2) (by decide) 9 true _ _ _ _ H
theorem r_X0_throwsAt_9 {K : JC} {l : Launch} {G : JG} {Q : Int → MH → Prop} {E : Nat → Int → MH → Prop} {h0 : MH} (ki : KI K l G yX0_throwsAt cX0_throwsAt 5 (some .int) [(0, 9, 12, 15), (0, 9, 16, 21)] 18 488 0 Q E h0) (hG : gO G = true) {v0 v1 v2 v3 : Int} {h : MH} (H :
    Q 0 h) : JW K 9 [(5, v0), (0, v1), (0, v2), (105, v3), (5000, 0)] [] h := by
  have e1 := ki.2.2.2.2.1
  have e2 := ki.2.2.2.2.2.1
  subst e1; subst e2
  exact run_okX (dia := []) (cnr := []) (cuts := [(0, [5, 0, 0, 105, 5000], []), (9, [5, 0, 0, 105, 5000], [])]) ki.1 (pk_X0_throwsAt ki hG) okO_X0_throwsAt (fun pc i q => ar_out ki.1.2.2.2.2.2.2.2.1 (ki_no ki (fun z hz => by have e := lkc_out (lo := 0) (hi := 9) (by decide +kernel) q; simp only [List.mem_cons, List.not_mem_nil, or_false] at hz; rcases hz with rfl | rfl <;> exact e))) (by decide) 4 true _ _ _ _ H
theorem s_X0_calls {l : Launch} {G : JG} {Q : Int → MH → Prop} {E : Nat → Int → MH → Prop} {h : MH} {as : List LV} (hn : Nat.ble (enl as).length 5 = true) (body : ∀ K : JC, KI K l G yX0_calls cX0_calls 5 (some .int) [(0, 9, 12, 15), (0, 9, 16, 21)] 18 488 0 Q E h → JW K 0 (lv0 as 5) [] h) : S_X0_calls l G as h Q E :=
  Sem_ofW (by decide +kernel) (Nat.le_of_ble_eq_true hn) body
abbrev kI_X0_calls : List (Nat × List (Nat × Instr)) := [(17, [(0, .aload_n 3), (1, .iconst 0), (2, .aload_n 0), (3, .iload_n 1), (4, .iload_n 2), (5, .invokevirtual 49), (8, .lastore)])]
theorem okI_X0_calls : CodeOK cX0_calls kI_X0_calls := okw 0 (by decide +kernel) (okn)
abbrev kO_X0_calls : List (Nat × List (Nat × Instr)) := [(30, [(9, .goto 11), (12, .astore 4), (14, .iconst 1), (15, .ireturn), (16, .astore 4), (18, .iconst 2), (19, .ireturn), (20, .iconst 0), (21, .ireturn)])]
theorem okO_X0_calls : CodeOK cX0_calls kO_X0_calls := okw 9 (by decide +kernel) (okn)
abbrev p_X0_calls (l : Launch) (G : JG) : JP := (true, [], [], [], [], [], [], [(49, 1, [0, 0, 2001], 1, S_X1_calls l G)], false, 0, [])
theorem pk_X0_calls {K : JC} {l : Launch} {G : JG} {Q : Int → MH → Prop} {E : Nat → Int → MH → Prop} {h0 : MH} (ki : KI K l G yX0_calls cX0_calls 5 (some .int) [(0, 9, 12, 15), (0, 9, 16, 21)] 18 488 0 Q E h0) (hG : gO G = true) : POKx K RX0 (p_X0_calls l G) True :=
  POKh (y := yX0_calls) ki hG fmz fmz fmz fmz fmz fmz
  (pkE ki (by
    intro K e1 e2 e3 e4; subst e1; subst e2
    exact fmE (ceV 1 e3 e4 yl_X1_calls ⟨by decide, ⟨_, _, rfl⟩, q1715, q1716, q1714⟩ rfl) (fmz))) (fun z => Bool.noConfusion z) rfl (pkP ki (by
    intro K e1 e2 e3 e4; subst e1; subst e2
    exact fmz))
theorem r_X0_calls_0 {K : JC} {l : Launch} {G : JG} {Q : Int → MH → Prop} {E : Nat → Int → MH → Prop} {h0 : MH} (ki : KI K l G yX0_calls cX0_calls 5 (some .int) [(0, 9, 12, 15), (0, 9, 16, 21)] 18 488 0 Q E h0) (hG : gO G = true) {Ex : Nat → Int → MH → Prop} (har : ∀ pc, 0 ≤ pc → pc < 9 → AR K Ex pc) {v0 v1 v2 v3 : Int} {h : MH} (H :
    (v0 ≠ 0) ∧
    S_X1_calls l G [(2001, v0), (0, v1), (0, v2)] h (fun z1 h2 =>
    (v3 ≠ 0) ∧
    (0 ≤ (0 : Int)) ∧
    (0 < (hn h2 v3)) ∧
    (∀ h3, h3 = hset h2 v3 0 z1 →
    JW K 9 [(5, v0), (0, v1), (0, v2), (105, v3), (5000, 0)] [] h3)) Ex) : JW K 0 [(5, v0), (0, v1), (0, v2), (105, v3), (5000, 0)] [] h := by
  have e1 := ki.2.2.2.2.1
  have e2 := ki.2.2.2.2.2.1
  subst e1; subst e2
  exact run_okX (dia := []) (cnr := []) (cuts := [(0, [5, 0, 0, 105, 5000], []), (9, [5, 0, 0, 105, 5000], [])]) ki.1 (pk_X0_calls ki hG) okI_X0_calls (fun pc i q => har pc (lkc_rng (lo := 0) (hi := 9) (by decide +kernel) q).1 (lkc_rng (lo := 0) (hi := 9) (by decide +kernel) q).2) (by decide) 9 true _ _ _ _ H
theorem r_X0_calls_9 {K : JC} {l : Launch} {G : JG} {Q : Int → MH → Prop} {E : Nat → Int → MH → Prop} {h0 : MH} (ki : KI K l G yX0_calls cX0_calls 5 (some .int) [(0, 9, 12, 15), (0, 9, 16, 21)] 18 488 0 Q E h0) (hG : gO G = true) {v0 v1 v2 v3 : Int} {h : MH} (H :
    Q 0 h) : JW K 9 [(5, v0), (0, v1), (0, v2), (105, v3), (5000, 0)] [] h := by
  have e1 := ki.2.2.2.2.1
  have e2 := ki.2.2.2.2.2.1
  subst e1; subst e2
  exact run_okX (dia := []) (cnr := []) (cuts := [(0, [5, 0, 0, 105, 5000], []), (9, [5, 0, 0, 105, 5000], [])]) ki.1 (pk_X0_calls ki hG) okO_X0_calls (fun pc i q => ar_out ki.1.2.2.2.2.2.2.2.1 (ki_no ki (fun z hz => by have e := lkc_out (lo := 0) (hi := 9) (by decide +kernel) q; simp only [List.mem_cons, List.not_mem_nil, or_false] at hz; rcases hz with rfl | rfl <;> exact e))) (by decide) 4 true _ _ _ _ H
theorem s_X0_outcome {l : Launch} {G : JG} {Q : Int → MH → Prop} {E : Nat → Int → MH → Prop} {h : MH} {as : List LV} (hn : Nat.ble (enl as).length 5 = true) (body : ∀ K : JC, KI K l G yX0_outcome cX0_outcome 5 (some .int) [(0, 9, 12, 15), (0, 9, 16, 21)] 17 467 0 Q E h → JW K 0 (lv0 as 5) [] h) : S_X0_outcome l G as h Q E :=
  Sem_ofW (by decide +kernel) (Nat.le_of_ble_eq_true hn) body
abbrev kI_X0_outcome : List (Nat × List (Nat × Instr)) := [(17, [(0, .aload_n 3), (1, .iconst 0), (2, .aload_n 0), (3, .iload_n 1), (4, .iload_n 2), (5, .invokevirtual 52), (8, .lastore)])]
theorem okI_X0_outcome : CodeOK cX0_outcome kI_X0_outcome := okw 0 (by decide +kernel) (okn)
abbrev kO_X0_outcome : List (Nat × List (Nat × Instr)) := [(30, [(9, .goto 11), (12, .astore 4), (14, .iconst 1), (15, .ireturn), (16, .astore 4), (18, .iconst 2), (19, .ireturn), (20, .iconst 0), (21, .ireturn)])]
theorem okO_X0_outcome : CodeOK cX0_outcome kO_X0_outcome := okw 9 (by decide +kernel) (okn)
abbrev p_X0_outcome (l : Launch) (G : JG) : JP := (true, [], [], [], [], [], [], [(52, 1, [0, 0, 2001], 1, S_X1_outcome l G)], false, 0, [])
theorem pk_X0_outcome {K : JC} {l : Launch} {G : JG} {Q : Int → MH → Prop} {E : Nat → Int → MH → Prop} {h0 : MH} (ki : KI K l G yX0_outcome cX0_outcome 5 (some .int) [(0, 9, 12, 15), (0, 9, 16, 21)] 17 467 0 Q E h0) (hG : gO G = true) : POKx K RX0 (p_X0_outcome l G) True :=
  POKh (y := yX0_outcome) ki hG fmz fmz fmz fmz fmz fmz
  (pkE ki (by
    intro K e1 e2 e3 e4; subst e1; subst e2
    exact fmE (ceV 1 e3 e4 yl_X1_outcome ⟨by decide, ⟨_, _, rfl⟩, q1722, q1723, q1721⟩ rfl) (fmz))) (fun z => Bool.noConfusion z) rfl (pkP ki (by
    intro K e1 e2 e3 e4; subst e1; subst e2
    exact fmz))
theorem r_X0_outcome_0 {K : JC} {l : Launch} {G : JG} {Q : Int → MH → Prop} {E : Nat → Int → MH → Prop} {h0 : MH} (ki : KI K l G yX0_outcome cX0_outcome 5 (some .int) [(0, 9, 12, 15), (0, 9, 16, 21)] 17 467 0 Q E h0) (hG : gO G = true) {Ex : Nat → Int → MH → Prop} (har : ∀ pc, 0 ≤ pc → pc < 9 → AR K Ex pc) {v0 v1 v2 v3 : Int} {h : MH} (H :
    (v0 ≠ 0) ∧
    S_X1_outcome l G [(2001, v0), (0, v1), (0, v2)] h (fun z1 h2 =>
    (v3 ≠ 0) ∧
    (0 ≤ (0 : Int)) ∧
    (0 < (hn h2 v3)) ∧
    (∀ h3, h3 = hset h2 v3 0 z1 →
    JW K 9 [(5, v0), (0, v1), (0, v2), (105, v3), (5000, 0)] [] h3)) Ex) : JW K 0 [(5, v0), (0, v1), (0, v2), (105, v3), (5000, 0)] [] h := by
  have e1 := ki.2.2.2.2.1
  have e2 := ki.2.2.2.2.2.1
  subst e1; subst e2
  exact run_okX (dia := []) (cnr := []) (cuts := [(0, [5, 0, 0, 105, 5000], []), (9, [5, 0, 0, 105, 5000], [])]) ki.1 (pk_X0_outcome ki hG) okI_X0_outcome (fun pc i q => har pc (lkc_rng (lo := 0) (hi := 9) (by decide +kernel) q).1 (lkc_rng (lo := 0) (hi := 9) (by decide +kernel) q).2) (by decide) 9 true _ _ _ _ H
theorem r_X0_outcome_9 {K : JC} {l : Launch} {G : JG} {Q : Int → MH → Prop} {E : Nat → Int → MH → Prop} {h0 : MH} (ki : KI K l G yX0_outcome cX0_outcome 5 (some .int) [(0, 9, 12, 15), (0, 9, 16, 21)] 17 467 0 Q E h0) (hG : gO G = true) {v0 v1 v2 v3 : Int} {h : MH} (H :
    Q 0 h) : JW K 9 [(5, v0), (0, v1), (0, v2), (105, v3), (5000, 0)] [] h := by
  have e1 := ki.2.2.2.2.1
  have e2 := ki.2.2.2.2.2.1
  subst e1; subst e2
  exact run_okX (dia := []) (cnr := []) (cuts := [(0, [5, 0, 0, 105, 5000], []), (9, [5, 0, 0, 105, 5000], [])]) ki.1 (pk_X0_outcome ki hG) okO_X0_outcome (fun pc i q => ar_out ki.1.2.2.2.2.2.2.2.1 (ki_no ki (fun z hz => by have e := lkc_out (lo := 0) (hi := 9) (by decide +kernel) q; simp only [List.mem_cons, List.not_mem_nil, or_false] at hz; rcases hz with rfl | rfl <;> exact e))) (by decide) 4 true _ _ _ _ H
theorem s_X0_held {l : Launch} {G : JG} {Q : Int → MH → Prop} {E : Nat → Int → MH → Prop} {h : MH} {as : List LV} (hn : Nat.ble (enl as).length 6 = true) (body : ∀ K : JC, KI K l G yX0_held cX0_held 6 (some .int) [(0, 11, 14, 15), (0, 11, 18, 21)] 17 468 0 Q E h → JW K 0 (lv0 as 6) [] h) : S_X0_held l G as h Q E :=
  Sem_ofW (by decide +kernel) (Nat.le_of_ble_eq_true hn) body
abbrev kI_X0_held : List (Nat × List (Nat × Instr)) := [(19, [(0, .aload 4), (2, .iconst 0), (3, .aload_n 0), (4, .iload_n 1), (5, .iload_n 2), (6, .iload_n 3), (7, .invokevirtual 55), (10, .lastore)])]
theorem okI_X0_held : CodeOK cX0_held kI_X0_held := okw 0 (by decide +kernel) (okn)
abbrev kO_X0_held : List (Nat × List (Nat × Instr)) := [(32, [(11, .goto 11), (14, .astore 5), (16, .iconst 1), (17, .ireturn), (18, .astore 5), (20, .iconst 2), (21, .ireturn), (22, .iconst 0), (23, .ireturn)])]
theorem okO_X0_held : CodeOK cX0_held kO_X0_held := okw 11 (by decide +kernel) (okn)
abbrev p_X0_held (l : Launch) (G : JG) : JP := (true, [], [], [], [], [], [], [(55, 1, [0, 0, 0, 2001], 1, S_X1_held l G)], false, 0, [])
theorem pk_X0_held {K : JC} {l : Launch} {G : JG} {Q : Int → MH → Prop} {E : Nat → Int → MH → Prop} {h0 : MH} (ki : KI K l G yX0_held cX0_held 6 (some .int) [(0, 11, 14, 15), (0, 11, 18, 21)] 17 468 0 Q E h0) (hG : gO G = true) : POKx K RX0 (p_X0_held l G) True :=
  POKh (y := yX0_held) ki hG fmz fmz fmz fmz fmz fmz
  (pkE ki (by
    intro K e1 e2 e3 e4; subst e1; subst e2
    exact fmE (ceV 1 e3 e4 yl_X1_held ⟨by decide, ⟨_, _, rfl⟩, q1730, q1731, q1729⟩ rfl) (fmz))) (fun z => Bool.noConfusion z) rfl (pkP ki (by
    intro K e1 e2 e3 e4; subst e1; subst e2
    exact fmz))
theorem r_X0_held_0 {K : JC} {l : Launch} {G : JG} {Q : Int → MH → Prop} {E : Nat → Int → MH → Prop} {h0 : MH} (ki : KI K l G yX0_held cX0_held 6 (some .int) [(0, 11, 14, 15), (0, 11, 18, 21)] 17 468 0 Q E h0) (hG : gO G = true) {Ex : Nat → Int → MH → Prop} (har : ∀ pc, 0 ≤ pc → pc < 11 → AR K Ex pc) {v0 v1 v2 v3 v4 : Int} {h : MH} (H :
    (v0 ≠ 0) ∧
    S_X1_held l G [(2001, v0), (0, v1), (0, v2), (0, v3)] h (fun z1 h2 =>
    (v4 ≠ 0) ∧
    (0 ≤ (0 : Int)) ∧
    (0 < (hn h2 v4)) ∧
    (∀ h3, h3 = hset h2 v4 0 z1 →
    JW K 11 [(5, v0), (0, v1), (0, v2), (0, v3), (105, v4), (5000, 0)] [] h3)) Ex) : JW K 0 [(5, v0), (0, v1), (0, v2), (0, v3), (105, v4), (5000, 0)] [] h := by
  have e1 := ki.2.2.2.2.1
  have e2 := ki.2.2.2.2.2.1
  subst e1; subst e2
  exact run_okX (dia := []) (cnr := []) (cuts := [(0, [5, 0, 0, 0, 105, 5000], []), (11, [5, 0, 0, 0, 105, 5000], [])]) ki.1 (pk_X0_held ki hG) okI_X0_held (fun pc i q => har pc (lkc_rng (lo := 0) (hi := 11) (by decide +kernel) q).1 (lkc_rng (lo := 0) (hi := 11) (by decide +kernel) q).2) (by decide) 10 true _ _ _ _ H
theorem r_X0_held_11 {K : JC} {l : Launch} {G : JG} {Q : Int → MH → Prop} {E : Nat → Int → MH → Prop} {h0 : MH} (ki : KI K l G yX0_held cX0_held 6 (some .int) [(0, 11, 14, 15), (0, 11, 18, 21)] 17 468 0 Q E h0) (hG : gO G = true) {v0 v1 v2 v3 v4 : Int} {h : MH} (H :
    Q 0 h) : JW K 11 [(5, v0), (0, v1), (0, v2), (0, v3), (105, v4), (5000, 0)] [] h := by
  have e1 := ki.2.2.2.2.1
  have e2 := ki.2.2.2.2.2.1
  subst e1; subst e2
  exact run_okX (dia := []) (cnr := []) (cuts := [(0, [5, 0, 0, 0, 105, 5000], []), (11, [5, 0, 0, 0, 105, 5000], [])]) ki.1 (pk_X0_held ki hG) okO_X0_held (fun pc i q => ar_out ki.1.2.2.2.2.2.2.2.1 (ki_no ki (fun z hz => by have e := lkc_out (lo := 0) (hi := 11) (by decide +kernel) q; simp only [List.mem_cons, List.not_mem_nil, or_false] at hz; rcases hz with rfl | rfl <;> exact e))) (by decide) 4 true _ _ _ _ H
theorem s_X0_statics {l : Launch} {G : JG} {Q : Int → MH → Prop} {E : Nat → Int → MH → Prop} {h : MH} {as : List LV} (hn : Nat.ble (enl as).length 5 = true) (body : ∀ K : JC, KI K l G yX0_statics cX0_statics 5 (some .int) [(0, 9, 12, 15), (0, 9, 16, 21)] 17 466 0 Q E h → JW K 0 (lv0 as 5) [] h) : S_X0_statics l G as h Q E :=
  Sem_ofW (by decide +kernel) (Nat.le_of_ble_eq_true hn) body
abbrev kI_X0_statics : List (Nat × List (Nat × Instr)) := [(17, [(0, .aload_n 3), (1, .iconst 0), (2, .aload_n 0), (3, .iload_n 1), (4, .iload_n 2), (5, .invokevirtual 59), (8, .lastore)])]
theorem okI_X0_statics : CodeOK cX0_statics kI_X0_statics := okw 0 (by decide +kernel) (okn)
abbrev kO_X0_statics : List (Nat × List (Nat × Instr)) := [(30, [(9, .goto 11), (12, .astore 4), (14, .iconst 1), (15, .ireturn), (16, .astore 4), (18, .iconst 2), (19, .ireturn), (20, .iconst 0), (21, .ireturn)])]
theorem okO_X0_statics : CodeOK cX0_statics kO_X0_statics := okw 9 (by decide +kernel) (okn)
abbrev p_X0_statics (l : Launch) (G : JG) : JP := (true, [], [], [], [], [], [], [(59, 1, [0, 0, 2001], 1, S_X1_statics l G)], false, 0, [])
theorem pk_X0_statics {K : JC} {l : Launch} {G : JG} {Q : Int → MH → Prop} {E : Nat → Int → MH → Prop} {h0 : MH} (ki : KI K l G yX0_statics cX0_statics 5 (some .int) [(0, 9, 12, 15), (0, 9, 16, 21)] 17 466 0 Q E h0) (hG : gO G = true) : POKx K RX0 (p_X0_statics l G) True :=
  POKh (y := yX0_statics) ki hG fmz fmz fmz fmz fmz fmz
  (pkE ki (by
    intro K e1 e2 e3 e4; subst e1; subst e2
    exact fmE (ceV 1 e3 e4 yl_X1_statics ⟨by decide, ⟨_, _, rfl⟩, q1746, q1747, q1745⟩ rfl) (fmz))) (fun z => Bool.noConfusion z) rfl (pkP ki (by
    intro K e1 e2 e3 e4; subst e1; subst e2
    exact fmz))
theorem r_X0_statics_0 {K : JC} {l : Launch} {G : JG} {Q : Int → MH → Prop} {E : Nat → Int → MH → Prop} {h0 : MH} (ki : KI K l G yX0_statics cX0_statics 5 (some .int) [(0, 9, 12, 15), (0, 9, 16, 21)] 17 466 0 Q E h0) (hG : gO G = true) {Ex : Nat → Int → MH → Prop} (har : ∀ pc, 0 ≤ pc → pc < 9 → AR K Ex pc) {v0 v1 v2 v3 : Int} {h : MH} (H :
    (v0 ≠ 0) ∧
    S_X1_statics l G [(2001, v0), (0, v1), (0, v2)] h (fun z1 h2 =>
    (v3 ≠ 0) ∧
    (0 ≤ (0 : Int)) ∧
    (0 < (hn h2 v3)) ∧
    (∀ h3, h3 = hset h2 v3 0 z1 →
    JW K 9 [(5, v0), (0, v1), (0, v2), (105, v3), (5000, 0)] [] h3)) Ex) : JW K 0 [(5, v0), (0, v1), (0, v2), (105, v3), (5000, 0)] [] h := by
  have e1 := ki.2.2.2.2.1
  have e2 := ki.2.2.2.2.2.1
  subst e1; subst e2
  exact run_okX (dia := []) (cnr := []) (cuts := [(0, [5, 0, 0, 105, 5000], []), (9, [5, 0, 0, 105, 5000], [])]) ki.1 (pk_X0_statics ki hG) okI_X0_statics (fun pc i q => har pc (lkc_rng (lo := 0) (hi := 9) (by decide +kernel) q).1 (lkc_rng (lo := 0) (hi := 9) (by decide +kernel) q).2) (by decide) 9 true _ _ _ _ H
theorem r_X0_statics_9 {K : JC} {l : Launch} {G : JG} {Q : Int → MH → Prop} {E : Nat → Int → MH → Prop} {h0 : MH} (ki : KI K l G yX0_statics cX0_statics 5 (some .int) [(0, 9, 12, 15), (0, 9, 16, 21)] 17 466 0 Q E h0) (hG : gO G = true) {v0 v1 v2 v3 : Int} {h : MH} (H :
    Q 0 h) : JW K 9 [(5, v0), (0, v1), (0, v2), (105, v3), (5000, 0)] [] h := by
  have e1 := ki.2.2.2.2.1
  have e2 := ki.2.2.2.2.2.1
  subst e1; subst e2
  exact run_okX (dia := []) (cnr := []) (cuts := [(0, [5, 0, 0, 105, 5000], []), (9, [5, 0, 0, 105, 5000], [])]) ki.1 (pk_X0_statics ki hG) okO_X0_statics (fun pc i q => ar_out ki.1.2.2.2.2.2.2.2.1 (ki_no ki (fun z hz => by have e := lkc_out (lo := 0) (hi := 9) (by decide +kernel) q; simp only [List.mem_cons, List.not_mem_nil, or_false] at hz; rcases hz with rfl | rfl <;> exact e))) (by decide) 4 true _ _ _ _ H
theorem s_X0_sink {l : Launch} {G : JG} {Q : Int → MH → Prop} {E : Nat → Int → MH → Prop} {h : MH} {as : List LV} (hn : Nat.ble (enl as).length 5 = true) (body : ∀ K : JC, KI K l G yX0_sink cX0_sink 5 (some .int) [(0, 9, 12, 15), (0, 9, 16, 21)] 17 467 0 Q E h → JW K 0 (lv0 as 5) [] h) : S_X0_sink l G as h Q E :=
  Sem_ofW (by decide +kernel) (Nat.le_of_ble_eq_true hn) body
abbrev kI_X0_sink : List (Nat × List (Nat × Instr)) := [(17, [(0, .aload_n 3), (1, .iconst 0), (2, .aload_n 0), (3, .iload_n 1), (4, .iload_n 2), (5, .invokevirtual 62), (8, .lastore)])]
theorem okI_X0_sink : CodeOK cX0_sink kI_X0_sink := okw 0 (by decide +kernel) (okn)
abbrev kO_X0_sink : List (Nat × List (Nat × Instr)) := [(30, [(9, .goto 11), (12, .astore 4), (14, .iconst 1), (15, .ireturn), (16, .astore 4), (18, .iconst 2), (19, .ireturn), (20, .iconst 0), (21, .ireturn)])]
theorem okO_X0_sink : CodeOK cX0_sink kO_X0_sink := okw 9 (by decide +kernel) (okn)
abbrev p_X0_sink (l : Launch) (G : JG) : JP := (true, [], [], [], [], [], [], [(62, 1, [0, 0, 2001], 1, S_X1_sink l G)], false, 0, [])
theorem pk_X0_sink {K : JC} {l : Launch} {G : JG} {Q : Int → MH → Prop} {E : Nat → Int → MH → Prop} {h0 : MH} (ki : KI K l G yX0_sink cX0_sink 5 (some .int) [(0, 9, 12, 15), (0, 9, 16, 21)] 17 467 0 Q E h0) (hG : gO G = true) : POKx K RX0 (p_X0_sink l G) True :=
  POKh (y := yX0_sink) ki hG fmz fmz fmz fmz fmz fmz
  (pkE ki (by
    intro K e1 e2 e3 e4; subst e1; subst e2
    exact fmE (ceV 1 e3 e4 yl_X1_sink ⟨by decide, ⟨_, _, rfl⟩, q1757, q1758, q1756⟩ rfl) (fmz))) (fun z => Bool.noConfusion z) rfl (pkP ki (by
    intro K e1 e2 e3 e4; subst e1; subst e2
    exact fmz))
theorem r_X0_sink_0 {K : JC} {l : Launch} {G : JG} {Q : Int → MH → Prop} {E : Nat → Int → MH → Prop} {h0 : MH} (ki : KI K l G yX0_sink cX0_sink 5 (some .int) [(0, 9, 12, 15), (0, 9, 16, 21)] 17 467 0 Q E h0) (hG : gO G = true) {Ex : Nat → Int → MH → Prop} (har : ∀ pc, 0 ≤ pc → pc < 9 → AR K Ex pc) {v0 v1 v2 v3 : Int} {h : MH} (H :
    (v0 ≠ 0) ∧
    S_X1_sink l G [(2001, v0), (0, v1), (0, v2)] h (fun z1 h2 =>
    (v3 ≠ 0) ∧
    (0 ≤ (0 : Int)) ∧
    (0 < (hn h2 v3)) ∧
    (∀ h3, h3 = hset h2 v3 0 z1 →
    JW K 9 [(5, v0), (0, v1), (0, v2), (105, v3), (5000, 0)] [] h3)) Ex) : JW K 0 [(5, v0), (0, v1), (0, v2), (105, v3), (5000, 0)] [] h := by
  have e1 := ki.2.2.2.2.1
  have e2 := ki.2.2.2.2.2.1
  subst e1; subst e2
  exact run_okX (dia := []) (cnr := []) (cuts := [(0, [5, 0, 0, 105, 5000], []), (9, [5, 0, 0, 105, 5000], [])]) ki.1 (pk_X0_sink ki hG) okI_X0_sink (fun pc i q => har pc (lkc_rng (lo := 0) (hi := 9) (by decide +kernel) q).1 (lkc_rng (lo := 0) (hi := 9) (by decide +kernel) q).2) (by decide) 9 true _ _ _ _ H
theorem r_X0_sink_9 {K : JC} {l : Launch} {G : JG} {Q : Int → MH → Prop} {E : Nat → Int → MH → Prop} {h0 : MH} (ki : KI K l G yX0_sink cX0_sink 5 (some .int) [(0, 9, 12, 15), (0, 9, 16, 21)] 17 467 0 Q E h0) (hG : gO G = true) {v0 v1 v2 v3 : Int} {h : MH} (H :
    Q 0 h) : JW K 9 [(5, v0), (0, v1), (0, v2), (105, v3), (5000, 0)] [] h := by
  have e1 := ki.2.2.2.2.1
  have e2 := ki.2.2.2.2.2.1
  subst e1; subst e2
  exact run_okX (dia := []) (cnr := []) (cuts := [(0, [5, 0, 0, 105, 5000], []), (9, [5, 0, 0, 105, 5000], [])]) ki.1 (pk_X0_sink ki hG) okO_X0_sink (fun pc i q => ar_out ki.1.2.2.2.2.2.2.2.1 (ki_no ki (fun z hz => by have e := lkc_out (lo := 0) (hi := 9) (by decide +kernel) q; simp only [List.mem_cons, List.not_mem_nil, or_false] at hz; rcases hz with rfl | rfl <;> exact e))) (by decide) 4 true _ _ _ _ H
theorem s_X0_live {l : Launch} {G : JG} {Q : Int → MH → Prop} {E : Nat → Int → MH → Prop} {h : MH} {as : List LV} (hn : Nat.ble (enl as).length 5 = true) (body : ∀ K : JC, KI K l G yX0_live cX0_live 5 (some .int) [(0, 10, 13, 15), (0, 10, 17, 21)] 18 488 0 Q E h → JW K 0 (lv0 as 5) [] h) : S_X0_live l G as h Q E :=
  Sem_ofW (by decide +kernel) (Nat.le_of_ble_eq_true hn) body
abbrev kI_X0_live : List (Nat × List (Nat × Instr)) := [(18, [(0, .aload_n 3), (1, .iconst 0), (2, .aload_n 0), (3, .iload_n 1), (4, .iload_n 2), (5, .invokevirtual 65), (8, .i2l), (9, .lastore)])]
theorem okI_X0_live : CodeOK cX0_live kI_X0_live := okw 0 (by decide +kernel) (okn)
abbrev kO_X0_live : List (Nat × List (Nat × Instr)) := [(31, [(10, .goto 11), (13, .astore 4), (15, .iconst 1), (16, .ireturn), (17, .astore 4), (19, .iconst 2), (20, .ireturn), (21, .iconst 0), (22, .ireturn)])]
theorem okO_X0_live : CodeOK cX0_live kO_X0_live := okw 10 (by decide +kernel) (okn)
abbrev p_X0_live (l : Launch) (G : JG) : JP := (true, [], [], [], [], [], [], [(65, 1, [0, 0, 2001], 0, S_X1_live l G)], false, 0, [])
theorem pk_X0_live {K : JC} {l : Launch} {G : JG} {Q : Int → MH → Prop} {E : Nat → Int → MH → Prop} {h0 : MH} (ki : KI K l G yX0_live cX0_live 5 (some .int) [(0, 10, 13, 15), (0, 10, 17, 21)] 18 488 0 Q E h0) (hG : gO G = true) : POKx K RX0 (p_X0_live l G) True :=
  POKh (y := yX0_live) ki hG fmz fmz fmz fmz fmz fmz
  (pkE ki (by
    intro K e1 e2 e3 e4; subst e1; subst e2
    exact fmE (ceV 1 e3 e4 yl_X1_live ⟨by decide, ⟨_, _, rfl⟩, q1764, q1765, q1763⟩ rfl) (fmz))) (fun z => Bool.noConfusion z) rfl (pkP ki (by
    intro K e1 e2 e3 e4; subst e1; subst e2
    exact fmz))
theorem r_X0_live_0 {K : JC} {l : Launch} {G : JG} {Q : Int → MH → Prop} {E : Nat → Int → MH → Prop} {h0 : MH} (ki : KI K l G yX0_live cX0_live 5 (some .int) [(0, 10, 13, 15), (0, 10, 17, 21)] 18 488 0 Q E h0) (hG : gO G = true) {Ex : Nat → Int → MH → Prop} (har : ∀ pc, 0 ≤ pc → pc < 10 → AR K Ex pc) {v0 v1 v2 v3 : Int} {h : MH} (H :
    (v0 ≠ 0) ∧
    S_X1_live l G [(2001, v0), (0, v1), (0, v2)] h (fun z1 h2 =>
    (v3 ≠ 0) ∧
    (0 ≤ (0 : Int)) ∧
    (0 < (hn h2 v3)) ∧
    (∀ h3, h3 = hset h2 v3 0 z1 →
    JW K 10 [(5, v0), (0, v1), (0, v2), (105, v3), (5000, 0)] [] h3)) Ex) : JW K 0 [(5, v0), (0, v1), (0, v2), (105, v3), (5000, 0)] [] h := by
  have e1 := ki.2.2.2.2.1
  have e2 := ki.2.2.2.2.2.1
  subst e1; subst e2
  exact run_okX (dia := []) (cnr := []) (cuts := [(0, [5, 0, 0, 105, 5000], []), (10, [5, 0, 0, 105, 5000], [])]) ki.1 (pk_X0_live ki hG) okI_X0_live (fun pc i q => har pc (lkc_rng (lo := 0) (hi := 10) (by decide +kernel) q).1 (lkc_rng (lo := 0) (hi := 10) (by decide +kernel) q).2) (by decide) 10 true _ _ _ _ H
theorem r_X0_live_10 {K : JC} {l : Launch} {G : JG} {Q : Int → MH → Prop} {E : Nat → Int → MH → Prop} {h0 : MH} (ki : KI K l G yX0_live cX0_live 5 (some .int) [(0, 10, 13, 15), (0, 10, 17, 21)] 18 488 0 Q E h0) (hG : gO G = true) {v0 v1 v2 v3 : Int} {h : MH} (H :
    Q 0 h) : JW K 10 [(5, v0), (0, v1), (0, v2), (105, v3), (5000, 0)] [] h := by
  have e1 := ki.2.2.2.2.1
  have e2 := ki.2.2.2.2.2.1
  subst e1; subst e2
  exact run_okX (dia := []) (cnr := []) (cuts := [(0, [5, 0, 0, 105, 5000], []), (10, [5, 0, 0, 105, 5000], [])]) ki.1 (pk_X0_live ki hG) okO_X0_live (fun pc i q => ar_out ki.1.2.2.2.2.2.2.2.1 (ki_no ki (fun z hz => by have e := lkc_out (lo := 0) (hi := 10) (by decide +kernel) q; simp only [List.mem_cons, List.not_mem_nil, or_false] at hz; rcases hz with rfl | rfl <;> exact e))) (by decide) 4 true _ _ _ _ H
theorem s_X0_idle {l : Launch} {G : JG} {Q : Int → MH → Prop} {E : Nat → Int → MH → Prop} {h : MH} {as : List LV} (hn : Nat.ble (enl as).length 4 = true) (body : ∀ K : JC, KI K l G yX0_idle cX0_idle 4 (some .int) [(0, 9, 12, 15), (0, 9, 15, 21)] 17 465 0 Q E h → JW K 0 (lv0 as 4) [] h) : S_X0_idle l G as h Q E :=
  Sem_ofW (by decide +kernel) (Nat.le_of_ble_eq_true hn) body
abbrev kI_X0_idle : List (Nat × List (Nat × Instr)) := [(17, [(0, .aload_n 2), (1, .iconst 0), (2, .aload_n 0), (3, .iload_n 1), (4, .invokevirtual 68), (7, .i2l), (8, .lastore)])]
theorem okI_X0_idle : CodeOK cX0_idle kI_X0_idle := okw 0 (by decide +kernel) (okn)
abbrev kO_X0_idle : List (Nat × List (Nat × Instr)) := [(28, [(9, .goto 9), (12, .astore_n 3), (13, .iconst 1), (14, .ireturn), (15, .astore_n 3), (16, .iconst 2), (17, .ireturn), (18, .iconst 0), (19, .ireturn)])]
theorem okO_X0_idle : CodeOK cX0_idle kO_X0_idle := okw 9 (by decide +kernel) (okn)
abbrev p_X0_idle (l : Launch) (G : JG) : JP := (true, [], [], [], [], [], [], [(68, 1, [0, 2001], 0, S_X1_idle l G)], false, 0, [])
theorem pk_X0_idle {K : JC} {l : Launch} {G : JG} {Q : Int → MH → Prop} {E : Nat → Int → MH → Prop} {h0 : MH} (ki : KI K l G yX0_idle cX0_idle 4 (some .int) [(0, 9, 12, 15), (0, 9, 15, 21)] 17 465 0 Q E h0) (hG : gO G = true) : POKx K RX0 (p_X0_idle l G) True :=
  POKh (y := yX0_idle) ki hG fmz fmz fmz fmz fmz fmz
  (pkE ki (by
    intro K e1 e2 e3 e4; subst e1; subst e2
    exact fmE (ceV 1 e3 e4 yl_X1_idle ⟨by decide, ⟨_, _, rfl⟩, q1771, q1772, q1770⟩ rfl) (fmz))) (fun z => Bool.noConfusion z) rfl (pkP ki (by
    intro K e1 e2 e3 e4; subst e1; subst e2
    exact fmz))
theorem r_X0_idle_0 {K : JC} {l : Launch} {G : JG} {Q : Int → MH → Prop} {E : Nat → Int → MH → Prop} {h0 : MH} (ki : KI K l G yX0_idle cX0_idle 4 (some .int) [(0, 9, 12, 15), (0, 9, 15, 21)] 17 465 0 Q E h0) (hG : gO G = true) {Ex : Nat → Int → MH → Prop} (har : ∀ pc, 0 ≤ pc → pc < 9 → AR K Ex pc) {v0 v1 v2 : Int} {h : MH} (H :
    (v0 ≠ 0) ∧
    S_X1_idle l G [(2001, v0), (0, v1)] h (fun z1 h2 =>
    (v2 ≠ 0) ∧
    (0 ≤ (0 : Int)) ∧
    (0 < (hn h2 v2)) ∧
    (∀ h3, h3 = hset h2 v2 0 z1 →
    JW K 9 [(5, v0), (0, v1), (105, v2), (5000, 0)] [] h3)) Ex) : JW K 0 [(5, v0), (0, v1), (105, v2), (5000, 0)] [] h := by
  have e1 := ki.2.2.2.2.1
  have e2 := ki.2.2.2.2.2.1
  subst e1; subst e2
  exact run_okX (dia := []) (cnr := []) (cuts := [(0, [5, 0, 105, 5000], []), (9, [5, 0, 105, 5000], [])]) ki.1 (pk_X0_idle ki hG) okI_X0_idle (fun pc i q => har pc (lkc_rng (lo := 0) (hi := 9) (by decide +kernel) q).1 (lkc_rng (lo := 0) (hi := 9) (by decide +kernel) q).2) (by decide) 9 true _ _ _ _ H
theorem r_X0_idle_9 {K : JC} {l : Launch} {G : JG} {Q : Int → MH → Prop} {E : Nat → Int → MH → Prop} {h0 : MH} (ki : KI K l G yX0_idle cX0_idle 4 (some .int) [(0, 9, 12, 15), (0, 9, 15, 21)] 17 465 0 Q E h0) (hG : gO G = true) {v0 v1 v2 : Int} {h : MH} (H :
    Q 0 h) : JW K 9 [(5, v0), (0, v1), (105, v2), (5000, 0)] [] h := by
  have e1 := ki.2.2.2.2.1
  have e2 := ki.2.2.2.2.2.1
  subst e1; subst e2
  exact run_okX (dia := []) (cnr := []) (cuts := [(0, [5, 0, 105, 5000], []), (9, [5, 0, 105, 5000], [])]) ki.1 (pk_X0_idle ki hG) okO_X0_idle (fun pc i q => ar_out ki.1.2.2.2.2.2.2.2.1 (ki_no ki (fun z hz => by have e := lkc_out (lo := 0) (hi := 9) (by decide +kernel) q; simp only [List.mem_cons, List.not_mem_nil, or_false] at hz; rcases hz with rfl | rfl <;> exact e))) (by decide) 4 true _ _ _ _ H
theorem s_X0_threads {l : Launch} {G : JG} {Q : Int → MH → Prop} {E : Nat → Int → MH → Prop} {h : MH} {as : List LV} (hn : Nat.ble (enl as).length 4 = true) (body : ∀ K : JC, KI K l G yX0_threads cX0_threads 4 (some .int) [(0, 9, 12, 15), (0, 9, 15, 21)] 17 465 0 Q E h → JW K 0 (lv0 as 4) [] h) : S_X0_threads l G as h Q E :=
  Sem_ofW (by decide +kernel) (Nat.le_of_ble_eq_true hn) body
abbrev kI_X0_threads : List (Nat × List (Nat × Instr)) := [(17, [(0, .aload_n 2), (1, .iconst 0), (2, .aload_n 0), (3, .iload_n 1), (4, .invokevirtual 71), (7, .i2l), (8, .lastore)])]
theorem okI_X0_threads : CodeOK cX0_threads kI_X0_threads := okw 0 (by decide +kernel) (okn)
abbrev kO_X0_threads : List (Nat × List (Nat × Instr)) := [(28, [(9, .goto 9), (12, .astore_n 3), (13, .iconst 1), (14, .ireturn), (15, .astore_n 3), (16, .iconst 2), (17, .ireturn), (18, .iconst 0), (19, .ireturn)])]
theorem okO_X0_threads : CodeOK cX0_threads kO_X0_threads := okw 9 (by decide +kernel) (okn)
abbrev p_X0_threads (l : Launch) (G : JG) : JP := (true, [], [], [], [], [], [], [(71, 1, [0, 2001], 0, S_X1_threads l G)], false, 0, [])
theorem pk_X0_threads {K : JC} {l : Launch} {G : JG} {Q : Int → MH → Prop} {E : Nat → Int → MH → Prop} {h0 : MH} (ki : KI K l G yX0_threads cX0_threads 4 (some .int) [(0, 9, 12, 15), (0, 9, 15, 21)] 17 465 0 Q E h0) (hG : gO G = true) : POKx K RX0 (p_X0_threads l G) True :=
  POKh (y := yX0_threads) ki hG fmz fmz fmz fmz fmz fmz
  (pkE ki (by
    intro K e1 e2 e3 e4; subst e1; subst e2
    exact fmE (ceV 1 e3 e4 yl_X1_threads ⟨by decide, ⟨_, _, rfl⟩, q1778, q1779, q1777⟩ rfl) (fmz))) (fun z => Bool.noConfusion z) rfl (pkP ki (by
    intro K e1 e2 e3 e4; subst e1; subst e2
    exact fmz))
theorem r_X0_threads_0 {K : JC} {l : Launch} {G : JG} {Q : Int → MH → Prop} {E : Nat → Int → MH → Prop} {h0 : MH} (ki : KI K l G yX0_threads cX0_threads 4 (some .int) [(0, 9, 12, 15), (0, 9, 15, 21)] 17 465 0 Q E h0) (hG : gO G = true) {Ex : Nat → Int → MH → Prop} (har : ∀ pc, 0 ≤ pc → pc < 9 → AR K Ex pc) {v0 v1 v2 : Int} {h : MH} (H :
    (v0 ≠ 0) ∧
    S_X1_threads l G [(2001, v0), (0, v1)] h (fun z1 h2 =>
    (v2 ≠ 0) ∧
    (0 ≤ (0 : Int)) ∧
    (0 < (hn h2 v2)) ∧
    (∀ h3, h3 = hset h2 v2 0 z1 →
    JW K 9 [(5, v0), (0, v1), (105, v2), (5000, 0)] [] h3)) Ex) : JW K 0 [(5, v0), (0, v1), (105, v2), (5000, 0)] [] h := by
  have e1 := ki.2.2.2.2.1
  have e2 := ki.2.2.2.2.2.1
  subst e1; subst e2
  exact run_okX (dia := []) (cnr := []) (cuts := [(0, [5, 0, 105, 5000], []), (9, [5, 0, 105, 5000], [])]) ki.1 (pk_X0_threads ki hG) okI_X0_threads (fun pc i q => har pc (lkc_rng (lo := 0) (hi := 9) (by decide +kernel) q).1 (lkc_rng (lo := 0) (hi := 9) (by decide +kernel) q).2) (by decide) 9 true _ _ _ _ H
theorem r_X0_threads_9 {K : JC} {l : Launch} {G : JG} {Q : Int → MH → Prop} {E : Nat → Int → MH → Prop} {h0 : MH} (ki : KI K l G yX0_threads cX0_threads 4 (some .int) [(0, 9, 12, 15), (0, 9, 15, 21)] 17 465 0 Q E h0) (hG : gO G = true) {v0 v1 v2 : Int} {h : MH} (H :
    Q 0 h) : JW K 9 [(5, v0), (0, v1), (105, v2), (5000, 0)] [] h := by
  have e1 := ki.2.2.2.2.1
  have e2 := ki.2.2.2.2.2.1
  subst e1; subst e2
  exact run_okX (dia := []) (cnr := []) (cuts := [(0, [5, 0, 105, 5000], []), (9, [5, 0, 105, 5000], [])]) ki.1 (pk_X0_threads ki hG) okO_X0_threads (fun pc i q => ar_out ki.1.2.2.2.2.2.2.2.1 (ki_no ki (fun z hz => by have e := lkc_out (lo := 0) (hi := 9) (by decide +kernel) q; simp only [List.mem_cons, List.not_mem_nil, or_false] at hz; rcases hz with rfl | rfl <;> exact e))) (by decide) 4 true _ _ _ _ H
theorem s_X0_race {l : Launch} {G : JG} {Q : Int → MH → Prop} {E : Nat → Int → MH → Prop} {h : MH} {as : List LV} (hn : Nat.ble (enl as).length 5 = true) (body : ∀ K : JC, KI K l G yX0_race cX0_race 5 (some .int) [(0, 10, 13, 15), (0, 10, 17, 21)] 17 469 0 Q E h → JW K 0 (lv0 as 5) [] h) : S_X0_race l G as h Q E :=
  Sem_ofW (by decide +kernel) (Nat.le_of_ble_eq_true hn) body
abbrev kI_X0_race : List (Nat × List (Nat × Instr)) := [(18, [(0, .aload_n 3), (1, .iconst 0), (2, .aload_n 0), (3, .iload_n 1), (4, .iload_n 2), (5, .invokevirtual 74), (8, .i2l), (9, .lastore)])]
theorem okI_X0_race : CodeOK cX0_race kI_X0_race := okw 0 (by decide +kernel) (okn)
abbrev kO_X0_race : List (Nat × List (Nat × Instr)) := [(31, [(10, .goto 11), (13, .astore 4), (15, .iconst 1), (16, .ireturn), (17, .astore 4), (19, .iconst 2), (20, .ireturn), (21, .iconst 0), (22, .ireturn)])]
theorem okO_X0_race : CodeOK cX0_race kO_X0_race := okw 10 (by decide +kernel) (okn)
abbrev p_X0_race (l : Launch) (G : JG) : JP := (true, [], [], [], [], [], [], [(74, 1, [0, 0, 2001], 0, S_X1_race l G)], false, 0, [])
theorem pk_X0_race {K : JC} {l : Launch} {G : JG} {Q : Int → MH → Prop} {E : Nat → Int → MH → Prop} {h0 : MH} (ki : KI K l G yX0_race cX0_race 5 (some .int) [(0, 10, 13, 15), (0, 10, 17, 21)] 17 469 0 Q E h0) (hG : gO G = true) : POKx K RX0 (p_X0_race l G) True :=
  POKh (y := yX0_race) ki hG fmz fmz fmz fmz fmz fmz
  (pkE ki (by
    intro K e1 e2 e3 e4; subst e1; subst e2
    exact fmE (ceV 1 e3 e4 yl_X1_race ⟨by decide, ⟨_, _, rfl⟩, q1808, q1809, q1807⟩ rfl) (fmz))) (fun z => Bool.noConfusion z) rfl (pkP ki (by
    intro K e1 e2 e3 e4; subst e1; subst e2
    exact fmz))
theorem r_X0_race_0 {K : JC} {l : Launch} {G : JG} {Q : Int → MH → Prop} {E : Nat → Int → MH → Prop} {h0 : MH} (ki : KI K l G yX0_race cX0_race 5 (some .int) [(0, 10, 13, 15), (0, 10, 17, 21)] 17 469 0 Q E h0) (hG : gO G = true) {Ex : Nat → Int → MH → Prop} (har : ∀ pc, 0 ≤ pc → pc < 10 → AR K Ex pc) {v0 v1 v2 v3 : Int} {h : MH} (H :
    (v0 ≠ 0) ∧
    S_X1_race l G [(2001, v0), (0, v1), (0, v2)] h (fun z1 h2 =>
    (v3 ≠ 0) ∧
    (0 ≤ (0 : Int)) ∧
    (0 < (hn h2 v3)) ∧
    (∀ h3, h3 = hset h2 v3 0 z1 →
    JW K 10 [(5, v0), (0, v1), (0, v2), (105, v3), (5000, 0)] [] h3)) Ex) : JW K 0 [(5, v0), (0, v1), (0, v2), (105, v3), (5000, 0)] [] h := by
  have e1 := ki.2.2.2.2.1
  have e2 := ki.2.2.2.2.2.1
  subst e1; subst e2
  exact run_okX (dia := []) (cnr := []) (cuts := [(0, [5, 0, 0, 105, 5000], []), (10, [5, 0, 0, 105, 5000], [])]) ki.1 (pk_X0_race ki hG) okI_X0_race (fun pc i q => har pc (lkc_rng (lo := 0) (hi := 10) (by decide +kernel) q).1 (lkc_rng (lo := 0) (hi := 10) (by decide +kernel) q).2) (by decide) 10 true _ _ _ _ H
theorem r_X0_race_10 {K : JC} {l : Launch} {G : JG} {Q : Int → MH → Prop} {E : Nat → Int → MH → Prop} {h0 : MH} (ki : KI K l G yX0_race cX0_race 5 (some .int) [(0, 10, 13, 15), (0, 10, 17, 21)] 17 469 0 Q E h0) (hG : gO G = true) {v0 v1 v2 v3 : Int} {h : MH} (H :
    Q 0 h) : JW K 10 [(5, v0), (0, v1), (0, v2), (105, v3), (5000, 0)] [] h := by
  have e1 := ki.2.2.2.2.1
  have e2 := ki.2.2.2.2.2.1
  subst e1; subst e2
  exact run_okX (dia := []) (cnr := []) (cuts := [(0, [5, 0, 0, 105, 5000], []), (10, [5, 0, 0, 105, 5000], [])]) ki.1 (pk_X0_race ki hG) okO_X0_race (fun pc i q => ar_out ki.1.2.2.2.2.2.2.2.1 (ki_no ki (fun z hz => by have e := lkc_out (lo := 0) (hi := 10) (by decide +kernel) q; simp only [List.mem_cons, List.not_mem_nil, or_false] at hz; rcases hz with rfl | rfl <;> exact e))) (by decide) 4 true _ _ _ _ H
theorem s_X0_runs {l : Launch} {G : JG} {Q : Int → MH → Prop} {E : Nat → Int → MH → Prop} {h : MH} {as : List LV} (hn : Nat.ble (enl as).length 4 = true) (body : ∀ K : JC, KI K l G yX0_runs cX0_runs 4 (some .int) [(0, 8, 11, 15), (0, 8, 14, 21)] 17 465 0 Q E h → JW K 0 (lv0 as 4) [] h) : S_X0_runs l G as h Q E :=
  Sem_ofW (by decide +kernel) (Nat.le_of_ble_eq_true hn) body
abbrev kI_X0_runs : List (Nat × List (Nat × Instr)) := [(16, [(0, .aload_n 2), (1, .iconst 0), (2, .aload_n 0), (3, .iload_n 1), (4, .invokevirtual 77), (7, .lastore)])]
theorem okI_X0_runs : CodeOK cX0_runs kI_X0_runs := okw 0 (by decide +kernel) (okn)
abbrev kO_X0_runs : List (Nat × List (Nat × Instr)) := [(27, [(8, .goto 9), (11, .astore_n 3), (12, .iconst 1), (13, .ireturn), (14, .astore_n 3), (15, .iconst 2), (16, .ireturn), (17, .iconst 0), (18, .ireturn)])]
theorem okO_X0_runs : CodeOK cX0_runs kO_X0_runs := okw 8 (by decide +kernel) (okn)
abbrev p_X0_runs (l : Launch) (G : JG) : JP := (true, [], [], [], [], [], [], [(77, 1, [0, 2001], 1, S_X1_runs l G)], false, 0, [])
theorem pk_X0_runs {K : JC} {l : Launch} {G : JG} {Q : Int → MH → Prop} {E : Nat → Int → MH → Prop} {h0 : MH} (ki : KI K l G yX0_runs cX0_runs 4 (some .int) [(0, 8, 11, 15), (0, 8, 14, 21)] 17 465 0 Q E h0) (hG : gO G = true) : POKx K RX0 (p_X0_runs l G) True :=
  POKh (y := yX0_runs) ki hG fmz fmz fmz fmz fmz fmz
  (pkE ki (by
    intro K e1 e2 e3 e4; subst e1; subst e2
    exact fmE (ceV 1 e3 e4 yl_X1_runs ⟨by decide, ⟨_, _, rfl⟩, q1815, q1816, q1814⟩ rfl) (fmz))) (fun z => Bool.noConfusion z) rfl (pkP ki (by
    intro K e1 e2 e3 e4; subst e1; subst e2
    exact fmz))
theorem r_X0_runs_0 {K : JC} {l : Launch} {G : JG} {Q : Int → MH → Prop} {E : Nat → Int → MH → Prop} {h0 : MH} (ki : KI K l G yX0_runs cX0_runs 4 (some .int) [(0, 8, 11, 15), (0, 8, 14, 21)] 17 465 0 Q E h0) (hG : gO G = true) {Ex : Nat → Int → MH → Prop} (har : ∀ pc, 0 ≤ pc → pc < 8 → AR K Ex pc) {v0 v1 v2 : Int} {h : MH} (H :
    (v0 ≠ 0) ∧
    S_X1_runs l G [(2001, v0), (0, v1)] h (fun z1 h2 =>
    (v2 ≠ 0) ∧
    (0 ≤ (0 : Int)) ∧
    (0 < (hn h2 v2)) ∧
    (∀ h3, h3 = hset h2 v2 0 z1 →
    JW K 8 [(5, v0), (0, v1), (105, v2), (5000, 0)] [] h3)) Ex) : JW K 0 [(5, v0), (0, v1), (105, v2), (5000, 0)] [] h := by
  have e1 := ki.2.2.2.2.1
  have e2 := ki.2.2.2.2.2.1
  subst e1; subst e2
  exact run_okX (dia := []) (cnr := []) (cuts := [(0, [5, 0, 105, 5000], []), (8, [5, 0, 105, 5000], [])]) ki.1 (pk_X0_runs ki hG) okI_X0_runs (fun pc i q => har pc (lkc_rng (lo := 0) (hi := 8) (by decide +kernel) q).1 (lkc_rng (lo := 0) (hi := 8) (by decide +kernel) q).2) (by decide) 8 true _ _ _ _ H
theorem r_X0_runs_8 {K : JC} {l : Launch} {G : JG} {Q : Int → MH → Prop} {E : Nat → Int → MH → Prop} {h0 : MH} (ki : KI K l G yX0_runs cX0_runs 4 (some .int) [(0, 8, 11, 15), (0, 8, 14, 21)] 17 465 0 Q E h0) (hG : gO G = true) {v0 v1 v2 : Int} {h : MH} (H :
    Q 0 h) : JW K 8 [(5, v0), (0, v1), (105, v2), (5000, 0)] [] h := by
  have e1 := ki.2.2.2.2.1
  have e2 := ki.2.2.2.2.2.1
  subst e1; subst e2
  exact run_okX (dia := []) (cnr := []) (cuts := [(0, [5, 0, 105, 5000], []), (8, [5, 0, 105, 5000], [])]) ki.1 (pk_X0_runs ki hG) okO_X0_runs (fun pc i q => ar_out ki.1.2.2.2.2.2.2.2.1 (ki_no ki (fun z hz => by have e := lkc_out (lo := 0) (hi := 8) (by decide +kernel) q; simp only [List.mem_cons, List.not_mem_nil, or_false] at hz; rcases hz with rfl | rfl <;> exact e))) (by decide) 4 true _ _ _ _ H
theorem s_X0_input {l : Launch} {G : JG} {Q : Int → MH → Prop} {E : Nat → Int → MH → Prop} {h : MH} {as : List LV} (hn : Nat.ble (enl as).length 4 = true) (body : ∀ K : JC, KI K l G yX0_input cX0_input 4 (some .int) [(0, 9, 12, 15)] 13 360 0 Q E h → JW K 0 (lv0 as 4) [] h) : S_X0_input l G as h Q E :=
  Sem_ofW (by decide +kernel) (Nat.le_of_ble_eq_true hn) body
abbrev kI_X0_input : List (Nat × List (Nat × Instr)) := [(17, [(0, .aload_n 2), (1, .iconst 0), (2, .aload_n 0), (3, .iload_n 1), (4, .invokevirtual 81), (7, .i2l), (8, .lastore)])]
theorem okI_X0_input : CodeOK cX0_input kI_X0_input := okw 0 (by decide +kernel) (okn)
abbrev kO_X0_input : List (Nat × List (Nat × Instr)) := [(25, [(9, .goto 6), (12, .astore_n 3), (13, .iconst 1), (14, .ireturn), (15, .iconst 0), (16, .ireturn)])]
theorem okO_X0_input : CodeOK cX0_input kO_X0_input := okw 9 (by decide +kernel) (okn)
abbrev p_X0_input (l : Launch) (G : JG) : JP := (true, [], [], [], [], [], [], [(81, 1, [0, 2001], 0, S_X1_input l G)], false, 0, [])
theorem pk_X0_input {K : JC} {l : Launch} {G : JG} {Q : Int → MH → Prop} {E : Nat → Int → MH → Prop} {h0 : MH} (ki : KI K l G yX0_input cX0_input 4 (some .int) [(0, 9, 12, 15)] 13 360 0 Q E h0) (hG : gO G = true) : POKx K RX0 (p_X0_input l G) True :=
  POKh (y := yX0_input) ki hG fmz fmz fmz fmz fmz fmz
  (pkE ki (by
    intro K e1 e2 e3 e4; subst e1; subst e2
    exact fmE (ceV 1 e3 e4 yl_X1_input ⟨by decide, ⟨_, _, rfl⟩, q1822, q1823, q1821⟩ rfl) (fmz))) (fun z => Bool.noConfusion z) rfl (pkP ki (by
    intro K e1 e2 e3 e4; subst e1; subst e2
    exact fmz))
theorem r_X0_input_0 {K : JC} {l : Launch} {G : JG} {Q : Int → MH → Prop} {E : Nat → Int → MH → Prop} {h0 : MH} (ki : KI K l G yX0_input cX0_input 4 (some .int) [(0, 9, 12, 15)] 13 360 0 Q E h0) (hG : gO G = true) {Ex : Nat → Int → MH → Prop} (har : ∀ pc, 0 ≤ pc → pc < 9 → AR K Ex pc) {v0 v1 v2 : Int} {h : MH} (H :
    (v0 ≠ 0) ∧
    S_X1_input l G [(2001, v0), (0, v1)] h (fun z1 h2 =>
    (v2 ≠ 0) ∧
    (0 ≤ (0 : Int)) ∧
    (0 < (hn h2 v2)) ∧
    (∀ h3, h3 = hset h2 v2 0 z1 →
    JW K 9 [(5, v0), (0, v1), (105, v2), (5000, 0)] [] h3)) Ex) : JW K 0 [(5, v0), (0, v1), (105, v2), (5000, 0)] [] h := by
  have e1 := ki.2.2.2.2.1
  have e2 := ki.2.2.2.2.2.1
  subst e1; subst e2
  exact run_okX (dia := []) (cnr := []) (cuts := [(0, [5, 0, 105, 5000], []), (9, [5, 0, 105, 5000], [])]) ki.1 (pk_X0_input ki hG) okI_X0_input (fun pc i q => har pc (lkc_rng (lo := 0) (hi := 9) (by decide +kernel) q).1 (lkc_rng (lo := 0) (hi := 9) (by decide +kernel) q).2) (by decide) 9 true _ _ _ _ H
theorem r_X0_input_9 {K : JC} {l : Launch} {G : JG} {Q : Int → MH → Prop} {E : Nat → Int → MH → Prop} {h0 : MH} (ki : KI K l G yX0_input cX0_input 4 (some .int) [(0, 9, 12, 15)] 13 360 0 Q E h0) (hG : gO G = true) {v0 v1 v2 : Int} {h : MH} (H :
    Q 0 h) : JW K 9 [(5, v0), (0, v1), (105, v2), (5000, 0)] [] h := by
  have e1 := ki.2.2.2.2.1
  have e2 := ki.2.2.2.2.2.1
  subst e1; subst e2
  exact run_okX (dia := []) (cnr := []) (cuts := [(0, [5, 0, 105, 5000], []), (9, [5, 0, 105, 5000], [])]) ki.1 (pk_X0_input ki hG) okO_X0_input (fun pc i q => ar_out ki.1.2.2.2.2.2.2.2.1 (ki_no ki (fun z hz => by have e := lkc_out (lo := 0) (hi := 9) (by decide +kernel) q; simp only [List.mem_cons, List.not_mem_nil, or_false] at hz; rcases hz with rfl <;> exact e))) (by decide) 4 true _ _ _ _ H
theorem s_X0_walk {l : Launch} {G : JG} {Q : Int → MH → Prop} {E : Nat → Int → MH → Prop} {h : MH} {as : List LV} (hn : Nat.ble (enl as).length 6 = true) (body : ∀ K : JC, KI K l G yX0_walk cX0_walk 6 (some .int) [(0, 12, 15, 15), (0, 12, 19, 21), (0, 12, 23, 13)] 13 386 0 Q E h → JW K 0 (lv0 as 6) [] h) : S_X0_walk l G as h Q E :=
  Sem_ofW (by decide +kernel) (Nat.le_of_ble_eq_true hn) body
abbrev kI_X0_walk : List (Nat × List (Nat × Instr)) := [(20, [(0, .aload 4), (2, .iconst 0), (3, .aload_n 0), (4, .iload_n 1), (5, .iload_n 2), (6, .iload_n 3), (7, .invokevirtual 84), (10, .i2l), (11, .lastore)])]
theorem okI_X0_walk : CodeOK cX0_walk kI_X0_walk := okw 0 (by decide +kernel) (okn)
abbrev kO_X0_walk : List (Nat × List (Nat × Instr)) := [(37, [(12, .goto 15), (15, .astore 5), (17, .iconst 1), (18, .ireturn), (19, .astore 5), (21, .iconst 2), (22, .ireturn), (23, .astore 5), (25, .iconst 3), (26, .ireturn), (27, .iconst 0), (28, .ireturn)])]
theorem okO_X0_walk : CodeOK cX0_walk kO_X0_walk := okw 12 (by decide +kernel) (okn)
abbrev p_X0_walk (l : Launch) (G : JG) : JP := (true, [], [], [], [], [], [], [(84, 1, [0, 0, 0, 2001], 0, S_X1_walk l G)], false, 0, [])
theorem pk_X0_walk {K : JC} {l : Launch} {G : JG} {Q : Int → MH → Prop} {E : Nat → Int → MH → Prop} {h0 : MH} (ki : KI K l G yX0_walk cX0_walk 6 (some .int) [(0, 12, 15, 15), (0, 12, 19, 21), (0, 12, 23, 13)] 13 386 0 Q E h0) (hG : gO G = true) : POKx K RX0 (p_X0_walk l G) True :=
  POKh (y := yX0_walk) ki hG fmz fmz fmz fmz fmz fmz
  (pkE ki (by
    intro K e1 e2 e3 e4; subst e1; subst e2
    exact fmE (ceV 1 e3 e4 yl_X1_walk ⟨by decide, ⟨_, _, rfl⟩, q1833, q1834, q1832⟩ rfl) (fmz))) (fun z => Bool.noConfusion z) rfl (pkP ki (by
    intro K e1 e2 e3 e4; subst e1; subst e2
    exact fmz))
theorem r_X0_walk_0 {K : JC} {l : Launch} {G : JG} {Q : Int → MH → Prop} {E : Nat → Int → MH → Prop} {h0 : MH} (ki : KI K l G yX0_walk cX0_walk 6 (some .int) [(0, 12, 15, 15), (0, 12, 19, 21), (0, 12, 23, 13)] 13 386 0 Q E h0) (hG : gO G = true) {Ex : Nat → Int → MH → Prop} (har : ∀ pc, 0 ≤ pc → pc < 12 → AR K Ex pc) {v0 v1 v2 v3 v4 : Int} {h : MH} (H :
    (v0 ≠ 0) ∧
    S_X1_walk l G [(2001, v0), (0, v1), (0, v2), (0, v3)] h (fun z1 h2 =>
    (v4 ≠ 0) ∧
    (0 ≤ (0 : Int)) ∧
    (0 < (hn h2 v4)) ∧
    (∀ h3, h3 = hset h2 v4 0 z1 →
    JW K 12 [(5, v0), (0, v1), (0, v2), (0, v3), (105, v4), (5000, 0)] [] h3)) Ex) : JW K 0 [(5, v0), (0, v1), (0, v2), (0, v3), (105, v4), (5000, 0)] [] h := by
  have e1 := ki.2.2.2.2.1
  have e2 := ki.2.2.2.2.2.1
  subst e1; subst e2
  exact run_okX (dia := []) (cnr := []) (cuts := [(0, [5, 0, 0, 0, 105, 5000], []), (12, [5, 0, 0, 0, 105, 5000], [])]) ki.1 (pk_X0_walk ki hG) okI_X0_walk (fun pc i q => har pc (lkc_rng (lo := 0) (hi := 12) (by decide +kernel) q).1 (lkc_rng (lo := 0) (hi := 12) (by decide +kernel) q).2) (by decide) 11 true _ _ _ _ H
theorem r_X0_walk_12 {K : JC} {l : Launch} {G : JG} {Q : Int → MH → Prop} {E : Nat → Int → MH → Prop} {h0 : MH} (ki : KI K l G yX0_walk cX0_walk 6 (some .int) [(0, 12, 15, 15), (0, 12, 19, 21), (0, 12, 23, 13)] 13 386 0 Q E h0) (hG : gO G = true) {v0 v1 v2 v3 v4 : Int} {h : MH} (H :
    Q 0 h) : JW K 12 [(5, v0), (0, v1), (0, v2), (0, v3), (105, v4), (5000, 0)] [] h := by
  have e1 := ki.2.2.2.2.1
  have e2 := ki.2.2.2.2.2.1
  subst e1; subst e2
  exact run_okX (dia := []) (cnr := []) (cuts := [(0, [5, 0, 0, 0, 105, 5000], []), (12, [5, 0, 0, 0, 105, 5000], [])]) ki.1 (pk_X0_walk ki hG) okO_X0_walk (fun pc i q => ar_out ki.1.2.2.2.2.2.2.2.1 (ki_no ki (fun z hz => by have e := lkc_out (lo := 0) (hi := 12) (by decide +kernel) q; simp only [List.mem_cons, List.not_mem_nil, or_false] at hz; rcases hz with rfl | rfl | rfl <;> exact e))) (by decide) 4 true _ _ _ _ H
theorem s_X0_walked {l : Launch} {G : JG} {Q : Int → MH → Prop} {E : Nat → Int → MH → Prop} {h : MH} {as : List LV} (hn : Nat.ble (enl as).length 4 = true) (body : ∀ K : JC, KI K l G yX0_walked cX0_walked 4 (some .int) [(0, 9, 12, 21)] 13 360 0 Q E h → JW K 0 (lv0 as 4) [] h) : S_X0_walked l G as h Q E :=
  Sem_ofW (by decide +kernel) (Nat.le_of_ble_eq_true hn) body
abbrev kI_X0_walked : List (Nat × List (Nat × Instr)) := [(17, [(0, .aload_n 2), (1, .iconst 0), (2, .aload_n 0), (3, .iload_n 1), (4, .invokevirtual 87), (7, .i2l), (8, .lastore)])]
theorem okI_X0_walked : CodeOK cX0_walked kI_X0_walked := okw 0 (by decide +kernel) (okn)
abbrev kO_X0_walked : List (Nat × List (Nat × Instr)) := [(25, [(9, .goto 6), (12, .astore_n 3), (13, .iconst 1), (14, .ireturn), (15, .iconst 0), (16, .ireturn)])]
theorem okO_X0_walked : CodeOK cX0_walked kO_X0_walked := okw 9 (by decide +kernel) (okn)
abbrev p_X0_walked (l : Launch) (G : JG) : JP := (true, [], [], [], [], [], [], [(87, 1, [0, 2001], 0, S_X1_walked l G)], false, 0, [])
theorem pk_X0_walked {K : JC} {l : Launch} {G : JG} {Q : Int → MH → Prop} {E : Nat → Int → MH → Prop} {h0 : MH} (ki : KI K l G yX0_walked cX0_walked 4 (some .int) [(0, 9, 12, 21)] 13 360 0 Q E h0) (hG : gO G = true) : POKx K RX0 (p_X0_walked l G) True :=
  POKh (y := yX0_walked) ki hG fmz fmz fmz fmz fmz fmz
  (pkE ki (by
    intro K e1 e2 e3 e4; subst e1; subst e2
    exact fmE (ceV 1 e3 e4 yl_X1_walked ⟨by decide, ⟨_, _, rfl⟩, q1962, q1963, q1961⟩ rfl) (fmz))) (fun z => Bool.noConfusion z) rfl (pkP ki (by
    intro K e1 e2 e3 e4; subst e1; subst e2
    exact fmz))
theorem r_X0_walked_0 {K : JC} {l : Launch} {G : JG} {Q : Int → MH → Prop} {E : Nat → Int → MH → Prop} {h0 : MH} (ki : KI K l G yX0_walked cX0_walked 4 (some .int) [(0, 9, 12, 21)] 13 360 0 Q E h0) (hG : gO G = true) {Ex : Nat → Int → MH → Prop} (har : ∀ pc, 0 ≤ pc → pc < 9 → AR K Ex pc) {v0 v1 v2 : Int} {h : MH} (H :
    (v0 ≠ 0) ∧
    S_X1_walked l G [(2001, v0), (0, v1)] h (fun z1 h2 =>
    (v2 ≠ 0) ∧
    (0 ≤ (0 : Int)) ∧
    (0 < (hn h2 v2)) ∧
    (∀ h3, h3 = hset h2 v2 0 z1 →
    JW K 9 [(5, v0), (0, v1), (105, v2), (5000, 0)] [] h3)) Ex) : JW K 0 [(5, v0), (0, v1), (105, v2), (5000, 0)] [] h := by
  have e1 := ki.2.2.2.2.1
  have e2 := ki.2.2.2.2.2.1
  subst e1; subst e2
  exact run_okX (dia := []) (cnr := []) (cuts := [(0, [5, 0, 105, 5000], []), (9, [5, 0, 105, 5000], [])]) ki.1 (pk_X0_walked ki hG) okI_X0_walked (fun pc i q => har pc (lkc_rng (lo := 0) (hi := 9) (by decide +kernel) q).1 (lkc_rng (lo := 0) (hi := 9) (by decide +kernel) q).2) (by decide) 9 true _ _ _ _ H
theorem r_X0_walked_9 {K : JC} {l : Launch} {G : JG} {Q : Int → MH → Prop} {E : Nat → Int → MH → Prop} {h0 : MH} (ki : KI K l G yX0_walked cX0_walked 4 (some .int) [(0, 9, 12, 21)] 13 360 0 Q E h0) (hG : gO G = true) {v0 v1 v2 : Int} {h : MH} (H :
    Q 0 h) : JW K 9 [(5, v0), (0, v1), (105, v2), (5000, 0)] [] h := by
  have e1 := ki.2.2.2.2.1
  have e2 := ki.2.2.2.2.2.1
  subst e1; subst e2
  exact run_okX (dia := []) (cnr := []) (cuts := [(0, [5, 0, 105, 5000], []), (9, [5, 0, 105, 5000], [])]) ki.1 (pk_X0_walked ki hG) okO_X0_walked (fun pc i q => ar_out ki.1.2.2.2.2.2.2.2.1 (ki_no ki (fun z hz => by have e := lkc_out (lo := 0) (hi := 9) (by decide +kernel) q; simp only [List.mem_cons, List.not_mem_nil, or_false] at hz; rcases hz with rfl <;> exact e))) (by decide) 4 true _ _ _ _ H
theorem s_X0_output {l : Launch} {G : JG} {Q : Int → MH → Prop} {E : Nat → Int → MH → Prop} {h : MH} {as : List LV} (hn : Nat.ble (enl as).length 5 = true) (body : ∀ K : JC, KI K l G yX0_output cX0_output 5 (some .int) [(0, 10, 13, 21)] 13 361 0 Q E h → JW K 0 (lv0 as 5) [] h) : S_X0_output l G as h Q E :=
  Sem_ofW (by decide +kernel) (Nat.le_of_ble_eq_true hn) body
abbrev kI_X0_output : List (Nat × List (Nat × Instr)) := [(18, [(0, .aload_n 3), (1, .iconst 0), (2, .aload_n 0), (3, .iload_n 1), (4, .iload_n 2), (5, .invokevirtual 90), (8, .i2l), (9, .lastore)])]
theorem okI_X0_output : CodeOK cX0_output kI_X0_output := okw 0 (by decide +kernel) (okn)
abbrev kO_X0_output : List (Nat × List (Nat × Instr)) := [(27, [(10, .goto 7), (13, .astore 4), (15, .iconst 1), (16, .ireturn), (17, .iconst 0), (18, .ireturn)])]
theorem okO_X0_output : CodeOK cX0_output kO_X0_output := okw 10 (by decide +kernel) (okn)
abbrev p_X0_output (l : Launch) (G : JG) : JP := (true, [], [], [], [], [], [], [(90, 1, [0, 0, 2001], 0, S_X1_output l G)], false, 0, [])
theorem pk_X0_output {K : JC} {l : Launch} {G : JG} {Q : Int → MH → Prop} {E : Nat → Int → MH → Prop} {h0 : MH} (ki : KI K l G yX0_output cX0_output 5 (some .int) [(0, 10, 13, 21)] 13 361 0 Q E h0) (hG : gO G = true) : POKx K RX0 (p_X0_output l G) True :=
  POKh (y := yX0_output) ki hG fmz fmz fmz fmz fmz fmz
  (pkE ki (by
    intro K e1 e2 e3 e4; subst e1; subst e2
    exact fmE (ceV 1 e3 e4 yl_X1_output ⟨by decide, ⟨_, _, rfl⟩, q1973, q1974, q1972⟩ rfl) (fmz))) (fun z => Bool.noConfusion z) rfl (pkP ki (by
    intro K e1 e2 e3 e4; subst e1; subst e2
    exact fmz))
theorem r_X0_output_0 {K : JC} {l : Launch} {G : JG} {Q : Int → MH → Prop} {E : Nat → Int → MH → Prop} {h0 : MH} (ki : KI K l G yX0_output cX0_output 5 (some .int) [(0, 10, 13, 21)] 13 361 0 Q E h0) (hG : gO G = true) {Ex : Nat → Int → MH → Prop} (har : ∀ pc, 0 ≤ pc → pc < 10 → AR K Ex pc) {v0 v1 v2 v3 : Int} {h : MH} (H :
    (v0 ≠ 0) ∧
    S_X1_output l G [(2001, v0), (0, v1), (0, v2)] h (fun z1 h2 =>
    (v3 ≠ 0) ∧
    (0 ≤ (0 : Int)) ∧
    (0 < (hn h2 v3)) ∧
    (∀ h3, h3 = hset h2 v3 0 z1 →
    JW K 10 [(5, v0), (0, v1), (0, v2), (105, v3), (5000, 0)] [] h3)) Ex) : JW K 0 [(5, v0), (0, v1), (0, v2), (105, v3), (5000, 0)] [] h := by
  have e1 := ki.2.2.2.2.1
  have e2 := ki.2.2.2.2.2.1
  subst e1; subst e2
  exact run_okX (dia := []) (cnr := []) (cuts := [(0, [5, 0, 0, 105, 5000], []), (10, [5, 0, 0, 105, 5000], [])]) ki.1 (pk_X0_output ki hG) okI_X0_output (fun pc i q => har pc (lkc_rng (lo := 0) (hi := 10) (by decide +kernel) q).1 (lkc_rng (lo := 0) (hi := 10) (by decide +kernel) q).2) (by decide) 10 true _ _ _ _ H
theorem r_X0_output_10 {K : JC} {l : Launch} {G : JG} {Q : Int → MH → Prop} {E : Nat → Int → MH → Prop} {h0 : MH} (ki : KI K l G yX0_output cX0_output 5 (some .int) [(0, 10, 13, 21)] 13 361 0 Q E h0) (hG : gO G = true) {v0 v1 v2 v3 : Int} {h : MH} (H :
    Q 0 h) : JW K 10 [(5, v0), (0, v1), (0, v2), (105, v3), (5000, 0)] [] h := by
  have e1 := ki.2.2.2.2.1
  have e2 := ki.2.2.2.2.2.1
  subst e1; subst e2
  exact run_okX (dia := []) (cnr := []) (cuts := [(0, [5, 0, 0, 105, 5000], []), (10, [5, 0, 0, 105, 5000], [])]) ki.1 (pk_X0_output ki hG) okO_X0_output (fun pc i q => ar_out ki.1.2.2.2.2.2.2.2.1 (ki_no ki (fun z hz => by have e := lkc_out (lo := 0) (hi := 10) (by decide +kernel) q; simp only [List.mem_cons, List.not_mem_nil, or_false] at hz; rcases hz with rfl <;> exact e))) (by decide) 4 true _ _ _ _ H
theorem s_X0_met {l : Launch} {G : JG} {Q : Int → MH → Prop} {E : Nat → Int → MH → Prop} {h : MH} {as : List LV} (hn : Nat.ble (enl as).length 5 = true) (body : ∀ K : JC, KI K l G yX0_met cX0_met 5 (some .int) [(0, 9, 12, 15), (0, 9, 16, 21)] 18 488 0 Q E h → JW K 0 (lv0 as 5) [] h) : S_X0_met l G as h Q E :=
  Sem_ofW (by decide +kernel) (Nat.le_of_ble_eq_true hn) body
abbrev kI_X0_met : List (Nat × List (Nat × Instr)) := [(17, [(0, .aload_n 3), (1, .iconst 0), (2, .aload_n 0), (3, .iload_n 1), (4, .iload_n 2), (5, .invokevirtual 93), (8, .lastore)])]
theorem okI_X0_met : CodeOK cX0_met kI_X0_met := okw 0 (by decide +kernel) (okn)
abbrev kO_X0_met : List (Nat × List (Nat × Instr)) := [(30, [(9, .goto 11), (12, .astore 4), (14, .iconst 1), (15, .ireturn), (16, .astore 4), (18, .iconst 2), (19, .ireturn), (20, .iconst 0), (21, .ireturn)])]
theorem okO_X0_met : CodeOK cX0_met kO_X0_met := okw 9 (by decide +kernel) (okn)
abbrev p_X0_met (l : Launch) (G : JG) : JP := (true, [], [], [], [], [], [], [(93, 1, [0, 0, 2001], 1, S_X1_met l G)], false, 0, [])
theorem pk_X0_met {K : JC} {l : Launch} {G : JG} {Q : Int → MH → Prop} {E : Nat → Int → MH → Prop} {h0 : MH} (ki : KI K l G yX0_met cX0_met 5 (some .int) [(0, 9, 12, 15), (0, 9, 16, 21)] 18 488 0 Q E h0) (hG : gO G = true) : POKx K RX0 (p_X0_met l G) True :=
  POKh (y := yX0_met) ki hG fmz fmz fmz fmz fmz fmz
  (pkE ki (by
    intro K e1 e2 e3 e4; subst e1; subst e2
    exact fmE (ceV 1 e3 e4 yl_X1_met ⟨by decide, ⟨_, _, rfl⟩, q1981, q1982, q1980⟩ rfl) (fmz))) (fun z => Bool.noConfusion z) rfl (pkP ki (by
    intro K e1 e2 e3 e4; subst e1; subst e2
    exact fmz))
theorem r_X0_met_0 {K : JC} {l : Launch} {G : JG} {Q : Int → MH → Prop} {E : Nat → Int → MH → Prop} {h0 : MH} (ki : KI K l G yX0_met cX0_met 5 (some .int) [(0, 9, 12, 15), (0, 9, 16, 21)] 18 488 0 Q E h0) (hG : gO G = true) {Ex : Nat → Int → MH → Prop} (har : ∀ pc, 0 ≤ pc → pc < 9 → AR K Ex pc) {v0 v1 v2 v3 : Int} {h : MH} (H :
    (v0 ≠ 0) ∧
    S_X1_met l G [(2001, v0), (0, v1), (0, v2)] h (fun z1 h2 =>
    (v3 ≠ 0) ∧
    (0 ≤ (0 : Int)) ∧
    (0 < (hn h2 v3)) ∧
    (∀ h3, h3 = hset h2 v3 0 z1 →
    JW K 9 [(5, v0), (0, v1), (0, v2), (105, v3), (5000, 0)] [] h3)) Ex) : JW K 0 [(5, v0), (0, v1), (0, v2), (105, v3), (5000, 0)] [] h := by
  have e1 := ki.2.2.2.2.1
  have e2 := ki.2.2.2.2.2.1
  subst e1; subst e2
  exact run_okX (dia := []) (cnr := []) (cuts := [(0, [5, 0, 0, 105, 5000], []), (9, [5, 0, 0, 105, 5000], [])]) ki.1 (pk_X0_met ki hG) okI_X0_met (fun pc i q => har pc (lkc_rng (lo := 0) (hi := 9) (by decide +kernel) q).1 (lkc_rng (lo := 0) (hi := 9) (by decide +kernel) q).2) (by decide) 9 true _ _ _ _ H
theorem r_X0_met_9 {K : JC} {l : Launch} {G : JG} {Q : Int → MH → Prop} {E : Nat → Int → MH → Prop} {h0 : MH} (ki : KI K l G yX0_met cX0_met 5 (some .int) [(0, 9, 12, 15), (0, 9, 16, 21)] 18 488 0 Q E h0) (hG : gO G = true) {v0 v1 v2 v3 : Int} {h : MH} (H :
    Q 0 h) : JW K 9 [(5, v0), (0, v1), (0, v2), (105, v3), (5000, 0)] [] h := by
  have e1 := ki.2.2.2.2.1
  have e2 := ki.2.2.2.2.2.1
  subst e1; subst e2
  exact run_okX (dia := []) (cnr := []) (cuts := [(0, [5, 0, 0, 105, 5000], []), (9, [5, 0, 0, 105, 5000], [])]) ki.1 (pk_X0_met ki hG) okO_X0_met (fun pc i q => ar_out ki.1.2.2.2.2.2.2.2.1 (ki_no ki (fun z hz => by have e := lkc_out (lo := 0) (hi := 9) (by decide +kernel) q; simp only [List.mem_cons, List.not_mem_nil, or_false] at hz; rcases hz with rfl | rfl <;> exact e))) (by decide) 4 true _ _ _ _ H
theorem s_X1_file {l : Launch} {G : JG} {Q : Int → MH → Prop} {E : Nat → Int → MH → Prop} {h : MH} {as : List LV} (hn : Nat.ble (enl as).length 4 = true) (body : ∀ K : JC, KI K l G yX1_file cX1_file 4 (some .int) [(10, 30, 33, 78)] 19 511 0 Q E h → JW K 0 (lv0 as 4) [] h) : S_X1_file l G as h Q E :=
  Sem_ofW (by decide +kernel) (Nat.le_of_ble_eq_true hn) body
abbrev kI_X1_file : List (Nat × List (Nat × Instr)) := [(38, [(10, .new 69), (13, .dup), (14, .aload_n 0), (15, .getfield 18), (18, .iload_n 1), (19, .aload_n 0), (20, .getfield 48), (23, .invokespecial 71), (26, .invokevirtual 74), (29, .astore_n 2)])]
theorem okI_X1_file : CodeOK cX1_file kI_X1_file := okw 10 (by decide +kernel) (okn)
abbrev kO_X1_file : List (Nat × List (Nat × Instr)) := [(30, [(0, .aload_n 0), (1, .getfield 62), (4, .istore_n 1), (5, .aload_n 0), (6, .iconst 0), (7, .putfield 62)]),
  (80, [(30, .goto 11), (33, .astore_n 3), (34, .iconst (-1)), (35, .aload_n 3), (36, .getfield 80), (39, .isub), (40, .ireturn), (41, .aload_n 0), (42, .aload_n 0), (43, .getfield 83), (46, .putfield 87), (49, .aload_n 0), (50, .aload_n 2), (51, .putfield 83), (54, .aload_n 0), (55, .iconst 1), (56, .putfield 43), (59, .aload_n 0), (60, .getfield 39), (63, .invokevirtual 90), (66, .aload_n 2), (67, .getfield 93), (70, .arraylength), (71, .ireturn)])]
theorem okO_X1_file : CodeOK cX1_file kO_X1_file := okw 0 (by decide +kernel) (okw 30 (by decide +kernel) (okn))
abbrev p_X1_file (l : Launch) (G : JG) : JP := (true, [(18, 1, 0, 21000103, 1), (39, 1, 6, 2008, 345), (48, 1, 8, 66540102, 394), (62, 1, 1, 0, 0), (83, 1, 2, 16, 0), (93, 12, 6, 128, 0)], [], [], [(43, 1, 7, 2), (62, 1, 1, 0), (83, 1, 2, 16), (87, 1, 3, 16)], [(69, 11, 6)], [], [(71, 2, [106, 0, 107, 2011], 700, S_X11_init l G), (74, 1, [2011], 16, S_X11_read l G), (90, 1, [2008], 700, S_X8_forget l G)], false, 0, [])
theorem pk_X1_file {K : JC} {l : Launch} {G : JG} {Q : Int → MH → Prop} {E : Nat → Int → MH → Prop} {h0 : MH} (ki : KI K l G yX1_file cX1_file 4 (some .int) [(10, 30, 33, 78)] 19 511 0 Q E h0) (hG : gO G = true) : POKx K RX1 (p_X1_file l G) True :=
  POKh (y := yX1_file) ki hG (rfs rf_X1_ok (by decide +kernel)) fmz fmz (rps rp_X1_ok (by decide +kernel)) (subs (by decide +kernel) rn_X1_ok) fmz
  (pkE ki (by
    intro K e1 e2 e3 e4; subst e1; subst e2
    exact fmE (ceI e3 e4 yl_X11_init ⟨rfl, q685, Or.inl q684, _, _, q686⟩ rfl) (fmE (ceV 11 e3 e4 yl_X11_read ⟨by decide, ⟨_, _, rfl⟩, q801, q802, q800⟩ rfl) (fmE (ceV 8 e3 e4 yl_X8_forget ⟨by decide, ⟨_, _, rfl⟩, q1167, q1168, q1166⟩ rfl) (fmz))))) (fun z => Bool.noConfusion z) rfl (pkP ki (by
    intro K e1 e2 e3 e4; subst e1; subst e2
    exact fmz))
theorem r_X1_file_0 {K : JC} {l : Launch} {G : JG} {Q : Int → MH → Prop} {E : Nat → Int → MH → Prop} {h0 : MH} (ki : KI K l G yX1_file cX1_file 4 (some .int) [(10, 30, 33, 78)] 19 511 0 Q E h0) (hG : gO G = true) {h : MH} (H :
    (∀ x1_1 : Int, x1_1 = (hv h 1 1) →
    (∀ h2, h2 = hset h 1 1 0 →
    JW K 10 [(2001, 1), (0, x1_1), (5000, 0), (5000, 0)] [] h2))) : JW K 0 [(2001, 1), (5000, 0), (5000, 0), (5000, 0)] [] h := by
  have e1 := ki.2.2.2.2.1
  have e2 := ki.2.2.2.2.2.1
  subst e1; subst e2
  exact run_okX (dia := []) (cnr := []) (cuts := [(10, [2001, 0, 5000, 5000], []), (30, [2001, 0, 16, 5000], [])]) ki.1 (pk_X1_file ki hG) okO_X1_file (fun pc i q => ar_out ki.1.2.2.2.2.2.2.2.1 (ki_no ki (fun z hz => by have e := lkc_out (lo := 10) (hi := 30) (by decide +kernel) q; simp only [List.mem_cons, List.not_mem_nil, or_false] at hz; rcases hz with rfl <;> exact e))) (by decide) 8 true _ _ _ _ H
theorem r_X1_file_10 {K : JC} {l : Launch} {G : JG} {Q : Int → MH → Prop} {E : Nat → Int → MH → Prop} {h0 : MH} (ki : KI K l G yX1_file cX1_file 4 (some .int) [(10, 30, 33, 78)] 19 511 0 Q E h0) (hG : gO G = true) {Ex : Nat → Int → MH → Prop} (har : ∀ pc, 10 ≤ pc → pc < 30 → AR K Ex pc) {v1 : Int} {h : MH} (H :
    (hz h + 1 ≤ LIMC) ∧
    (hs h + 6 ≤ LIMS) ∧
    (∀ h1, h1 = hnew h 11 0 6 →
    S_X11_init l G [(2011, (hz h + 1)), (107, 2), (0, v1), (106, 395)] h1 (fun _ h3 =>
    S_X11_read l G [(2011, (hz h + 1))] h3 (fun z4 h5 =>
    (∀ x2_6 : Int, x2_6 = z4 →
    JW K 30 [(2001, 1), (0, v1), (16, x2_6), (5000, 0)] [] h5)) Ex) Ex)) : JW K 10 [(2001, 1), (0, v1), (5000, 0), (5000, 0)] [] h := by
  have e1 := ki.2.2.2.2.1
  have e2 := ki.2.2.2.2.2.1
  subst e1; subst e2
  exact run_okX (dia := []) (cnr := []) (cuts := [(10, [2001, 0, 5000, 5000], []), (30, [2001, 0, 16, 5000], [])]) ki.1 (pk_X1_file ki hG) okI_X1_file (fun pc i q => har pc (lkc_rng (lo := 10) (hi := 30) (by decide +kernel) q).1 (lkc_rng (lo := 10) (hi := 30) (by decide +kernel) q).2) (by decide) 12 true _ _ _ _ H
theorem r_X1_file_30 {K : JC} {l : Launch} {G : JG} {Q : Int → MH → Prop} {E : Nat → Int → MH → Prop} {h0 : MH} (ki : KI K l G yX1_file cX1_file 4 (some .int) [(10, 30, 33, 78)] 19 511 0 Q E h0) (hG : gO G = true) {v1 v2 : Int} {h : MH} (H :
    (∀ h1, h1 = hset h 1 3 (hv h 1 2) →
    (∀ h2, h2 = hset h1 1 2 v2 →
    ((1 : Int) = 0 ∨ (1 : Int) = 1) ∧
    (∀ h3, h3 = hset h2 1 7 1 →
    S_X8_forget l G [(2008, 346)] h3 (fun _ h5 =>
    (v2 ≠ 0) ∧
    ((hv h5 v2 6) ≠ 0) ∧
    Q (hn h5 (hv h5 v2 6)) h5) E)))) : JW K 30 [(2001, 1), (0, v1), (16, v2), (5000, 0)] [] h := by
  have e1 := ki.2.2.2.2.1
  have e2 := ki.2.2.2.2.2.1
  subst e1; subst e2
  exact run_okX (dia := []) (cnr := []) (cuts := [(10, [2001, 0, 5000, 5000], []), (30, [2001, 0, 16, 5000], [])]) ki.1 (pk_X1_file ki hG) okO_X1_file (fun pc i q => ar_out ki.1.2.2.2.2.2.2.2.1 (ki_no ki (fun z hz => by have e := lkc_out (lo := 10) (hi := 30) (by decide +kernel) q; simp only [List.mem_cons, List.not_mem_nil, or_false] at hz; rcases hz with rfl <;> exact e))) (by decide) 19 true _ _ _ _ H
theorem s_X9_file {l : Launch} {G : JG} {Q : Int → MH → Prop} {E : Nat → Int → MH → Prop} {h : MH} {as : List LV} (hn : Nat.ble (enl as).length 3 = true) (body : ∀ K : JC, KI K l G yX9_file cX9_file 3 (some .int) [(28, 140, 143, 244)] 16 455 0 Q E h → JW K 0 (lv0 as 3) [] h) : S_X9_file l G as h Q E :=
  Sem_ofW (by decide +kernel) (Nat.le_of_ble_eq_true hn) body
abbrev kI_X9_file : List (Nat × List (Nat × Instr)) := [(73, [(28, .aload_n 0), (29, .invokevirtual 249), (32, .bipush 70), (34, .if_icmp .eq 12), (37, .new 244), (40, .dup), (41, .iconst 0), (42, .invokespecial 246), (45, .athrow), (46, .aload_n 0), (47, .aload_n 1), (48, .invokevirtual 357), (51, .aload_n 1), (52, .aload_n 0), (53, .iconst 1), (54, .bipush 40), (56, .invokevirtual 254), (59, .putfield 333), (62, .aload_n 1), (63, .iconst 0), (64, .putfield 309), (67, .aload_n 1), (68, .bipush 7), (70, .putfield 325)]),
  (119, [(73, .iconst 0), (74, .istore_n 2), (75, .iload_n 2), (76, .aload_n 1), (77, .getfield 333), (80, .if_icmp .ge 15), (83, .aload_n 0), (84, .aload_n 1), (85, .iload_n 2), (86, .invokevirtual 361), (89, .iinc 2 1), (92, .goto (-17)), (95, .aload_n 0), (96, .getfield 238), (99, .aload_n 0), (100, .getfield 241), (103, .if_icmp .ge 15), (106, .new 244), (109, .dup), (110, .aload_n 0), (111, .getfield 238), (114, .invokespecial 246), (117, .athrow), (118, .iconst 0)]),
  (146, [(119, .istore_n 2), (120, .iload_n 2), (121, .aload_n 1), (122, .getfield 333), (125, .if_icmp .ge 15), (128, .aload_n 0), (129, .aload_n 1), (130, .iload_n 2), (131, .invokevirtual 364), (134, .iinc 2 1), (137, .goto (-17))])]
theorem okI_X9_file : CodeOK cX9_file kI_X9_file := okw 28 (by decide +kernel) (okw 73 (by decide +kernel) (okw 119 (by decide +kernel) (okn)))
abbrev kO_X9_file : List (Nat × List (Nat × Instr)) := [(140, [(0, .aload_n 0), (1, .iconst 0), (2, .putfield 225), (5, .aload_n 0), (6, .aload_n 0), (7, .getfield 235), (10, .putfield 241), (13, .aload_n 0), (14, .iconst 0), (15, .putfield 235), (18, .aload_n 0), (19, .iconst 0), (20, .putfield 238), (23, .aload_n 0), (24, .getfield 16), (27, .astore_n 1)]),
  (180, [(140, .goto 11), (143, .astore_n 2), (144, .iconst (-1)), (145, .aload_n 2), (146, .getfield 367), (149, .isub), (150, .ireturn), (151, .iconst 0), (152, .istore_n 2), (153, .iload_n 2), (154, .aload_n 0), (155, .getfield 241), (158, .if_icmp .ge 21), (161, .aload_n 1), (162, .getfield 370), (165, .iload_n 2), (166, .aload_n 0), (167, .getfield 9), (170, .iload_n 2), (171, .baload), (172, .bastore), (173, .iinc 2 1), (176, .goto (-23)), (179, .iconst 1)]),
  (221, [(180, .istore_n 2), (181, .iload_n 2), (182, .bipush 7), (184, .if_icmp .ge 18), (187, .aload_n 1), (188, .getfield 336), (191, .iload_n 2), (192, .iload_n 2), (193, .iconst 1), (194, .iadd), (195, .iastore), (196, .iinc 2 1), (199, .goto (-18)), (202, .iconst 0), (203, .istore_n 2), (204, .iload_n 2), (205, .aload_n 1), (206, .getfield 333), (209, .if_icmp .ge 57), (212, .aload_n 0), (213, .getfield 23), (216, .iload_n 2), (217, .aload_n 0), (218, .getfield 373)]),
  (267, [(221, .ifnull 26), (224, .iload_n 2), (225, .aload_n 0), (226, .getfield 373), (229, .getfield 333), (232, .if_icmp .ge 15), (235, .aload_n 0), (236, .getfield 373), (239, .aload_n 1), (240, .iload_n 2), (241, .invokestatic 376), (244, .ifCond .ne 7), (247, .iconst 1), (248, .goto 4), (251, .iconst 0), (252, .bastore), (253, .aload_n 0), (254, .getfield 27), (257, .iload_n 2), (258, .iconst 0), (259, .bastore), (260, .iinc 2 1), (263, .goto (-59)), (266, .aload_n 0)]),
  (313, [(267, .aload_n 0), (268, .getfield 373), (271, .ifnonnull 10), (274, .aload_n 0), (275, .getfield 20), (278, .goto 7), (281, .aload_n 0), (282, .getfield 373), (285, .putfield 16), (288, .aload_n 0), (289, .aload_n 1), (290, .putfield 373), (293, .aload_n 0), (294, .iconst 0), (295, .putfield 380), (298, .aload_n 0), (299, .iconst 0), (300, .putfield 383), (303, .aload_n 0), (304, .iconst 0), (305, .putfield 387), (308, .aload_n 0), (309, .iconst 0), (310, .putfield 390)]),
  (352, [(313, .aload_n 0), (314, .invokevirtual 393), (317, .iconst 0), (318, .istore_n 2), (319, .iload_n 2), (320, .sipush 1500), (323, .if_icmp .ge 16), (326, .aload_n 0), (327, .getfield 219), (330, .iload_n 2), (331, .lconst 0), (332, .lastore), (333, .iinc 2 1), (336, .goto (-17)), (339, .aload_n 1), (340, .getfield 333), (343, .ireturn)])]
theorem okO_X9_file : CodeOK cX9_file kO_X9_file := okw 0 (by decide +kernel) (okw 140 (by decide +kernel) (okw 180 (by decide +kernel) (okw 221 (by decide +kernel) (okw 267 (by decide +kernel) (okw 313 (by decide +kernel) (okn))))))
abbrev p_X9_file (l : Launch) (G : JG) : JP := (true, [(9, 9, 1, 21000103, 1), (16, 9, 4, 14, 0), (20, 9, 5, 14, 0), (23, 9, 6, 1040102, 60), (27, 9, 7, 1040102, 61), (219, 9, 104, 2500101, 124), (235, 9, 2, 0, 0), (238, 9, 9, 0, 0), (241, 9, 10, 0, 0), (333, 10, 6, 0, 0), (336, 10, 29, 1063100, 26), (370, 10, 20, 21000103, 18), (373, 9, 3, 14, 0)], [], [], [(16, 9, 4, 14), (225, 9, 0, 0), (235, 9, 2, 0), (238, 9, 9, 0), (241, 9, 10, 0), (309, 10, 21, 0), (325, 10, 30, 0), (333, 10, 6, 0), (373, 9, 3, 14), (380, 9, 8, 0), (383, 9, 11, 2), (387, 9, 80, 0), (390, 9, 82, 0)], [(244, 17, 7)], [], [(246, 2, [0, 2017], 700, S_X17_init l G), (249, 1, [2009], 0, S_X9_take l G), (254, 1, [0, 0, 2009], 0, S_X9_take_2 l G), (357, 1, [14, 2009], 700, S_X9_readClasses l G), (361, 1, [0, 14, 2009], 700, S_X9_readMethod l G), (364, 1, [0, 14, 2009], 700, S_X9_judge l G), (376, 0, [0, 14, 14], 2, S_X9_isSame l G), (393, 1, [2009], 700, S_X9_forgetWalks l G)], false, 0, [])
theorem pk_X9_file {K : JC} {l : Launch} {G : JG} {Q : Int → MH → Prop} {E : Nat → Int → MH → Prop} {h0 : MH} (ki : KI K l G yX9_file cX9_file 3 (some .int) [(28, 140, 143, 244)] 16 455 0 Q E h0) (hG : gO G = true) : POKx K RX9 (p_X9_file l G) True :=
  POKh (y := yX9_file) ki hG (rfs rf_X9_ok (by decide +kernel)) fmz fmz (rps rp_X9_ok (by decide +kernel)) (subs (by decide +kernel) rn_X9_ok) fmz
  (pkE ki (by
    intro K e1 e2 e3 e4; subst e1; subst e2
    exact fmE (ceI e3 e4 yl_X17_init ⟨rfl, q2474, Or.inl q2473, _, _, q2475⟩ rfl) (fmE (ceV 9 e3 e4 yl_X9_take ⟨by decide, ⟨_, _, rfl⟩, q2463, qs103, q2461⟩ rfl) (fmE (ceV 9 e3 e4 yl_X9_take_2 ⟨by decide, ⟨_, _, rfl⟩, q2489, qs105, q2487⟩ rfl) (fmE (ceV 9 e3 e4 yl_X9_readClasses ⟨by decide, ⟨_, _, rfl⟩, q2485, qs104, q2483⟩ rfl) (fmE (ceV 9 e3 e4 yl_X9_readMethod ⟨by decide, ⟨_, _, rfl⟩, q2493, qs106, q2491⟩ rfl) (fmE (ceV 9 e3 e4 yl_X9_judge ⟨by decide, ⟨_, _, rfl⟩, q2509, qs109, q2507⟩ rfl) (fmE (ceS e3 e4 yl_X9_isSame ⟨q2548, Or.inl q2547⟩ rfl) (fmE (ceV 9 e3 e4 yl_X9_forgetWalks ⟨by decide, ⟨_, _, rfl⟩, q2552, qs116, q2550⟩ rfl) (fmz)))))))))) (fun z => Bool.noConfusion z) rfl (pkP ki (by
    intro K e1 e2 e3 e4; subst e1; subst e2
    exact fmz))
theorem r_X9_file_0 {K : JC} {l : Launch} {G : JG} {Q : Int → MH → Prop} {E : Nat → Int → MH → Prop} {h0 : MH} (ki : KI K l G yX9_file cX9_file 3 (some .int) [(28, 140, 143, 244)] 16 455 0 Q E h0) (hG : gO G = true) {h : MH} (H :
    (∀ h1, h1 = hset h 396 0 0 →
    (∀ h2, h2 = hset h1 396 10 (hv h1 396 2) →
    (∀ h3, h3 = hset h2 396 2 0 →
    (∀ h4, h4 = hset h3 396 9 0 →
    (∀ x1_5 : Int, x1_5 = (hv h4 396 4) →
    JW K 28 [(2009, 396), (14, x1_5), (5000, 0)] [] h4)))))) : JW K 0 [(2009, 396), (5000, 0), (5000, 0)] [] h := by
  have e1 := ki.2.2.2.2.1
  have e2 := ki.2.2.2.2.2.1
  subst e1; subst e2
  exact run_okX (dia := [(244, 252), (271, 285)]) (cnr := [(221, 235, 247)]) (cuts := [(28, [2009, 14, 5000], []), (75, [2009, 14, 0], []), (120, [2009, 14, 0], []), (140, [2009, 14, 0], []), (153, [2009, 14, 0], []), (181, [2009, 14, 0], []), (204, [2009, 14, 0], []), (319, [2009, 14, 0], [])]) ki.1 (pk_X9_file ki hG) okO_X9_file (fun pc i q => ar_out ki.1.2.2.2.2.2.2.2.1 (ki_no ki (fun z hz => by have e := lkc_out (lo := 28) (hi := 140) (by decide +kernel) q; simp only [List.mem_cons, List.not_mem_nil, or_false] at hz; rcases hz with rfl <;> exact e))) (by decide) 18 true _ _ _ _ H
theorem r_X9_file_28 {K : JC} {l : Launch} {G : JG} {Q : Int → MH → Prop} {E : Nat → Int → MH → Prop} {h0 : MH} (ki : KI K l G yX9_file cX9_file 3 (some .int) [(28, 140, 143, 244)] 16 455 0 Q E h0) (hG : gO G = true) {Ex : Nat → Int → MH → Prop} (har : ∀ pc, 28 ≤ pc → pc < 140 → AR K Ex pc) {v1 : Int} {h : MH} (H :
    S_X9_take l G [(2009, 396)] h (fun z1 h2 =>
    ((z1 = 70 →
      S_X9_readClasses l G [(2009, 396), (14, v1)] h2 (fun _ h4 =>
      S_X9_take_2 l G [(2009, 396), (0, 1), (0, 40)] h4 (fun z5 h6 =>
      (v1 ≠ 0) ∧
      (∀ h7, h7 = hset h6 v1 6 z5 →
      (v1 ≠ 0) ∧
      (∀ h8, h8 = hset h7 v1 21 0 →
      (v1 ≠ 0) ∧
      (∀ h9, h9 = hset h8 v1 30 7 →
      (∀ x2_10 : Int, x2_10 = 0 →
      JW K 75 [(2009, 396), (14, v1), (0, x2_10)] [] h9))))) Ex) Ex) ∧
    (¬ z1 = 70 →
      (hz h2 + 1 ≤ LIMC) ∧
      (hs h2 + 7 ≤ LIMS) ∧
      (∀ h11, h11 = hnew h2 17 0 7 →
      S_X17_init l G [(2017, (hz h2 + 1)), (0, 0)] h11 (fun _ h13 =>
      Ex 17 (hz h2 + 1) h13) Ex)))) Ex) : JW K 28 [(2009, 396), (14, v1), (5000, 0)] [] h := by
  have e1 := ki.2.2.2.2.1
  have e2 := ki.2.2.2.2.2.1
  subst e1; subst e2
  exact run_okX (dia := [(244, 252), (271, 285)]) (cnr := [(221, 235, 247)]) (cuts := [(28, [2009, 14, 5000], []), (75, [2009, 14, 0], []), (120, [2009, 14, 0], []), (140, [2009, 14, 0], []), (153, [2009, 14, 0], []), (181, [2009, 14, 0], []), (204, [2009, 14, 0], []), (319, [2009, 14, 0], [])]) ki.1 (pk_X9_file ki hG) okI_X9_file (fun pc i q => har pc (lkc_rng (lo := 28) (hi := 140) (by decide +kernel) q).1 (lkc_rng (lo := 28) (hi := 140) (by decide +kernel) q).2) (by decide) 23 true _ _ _ _ H
theorem r_X9_file_75 {K : JC} {l : Launch} {G : JG} {Q : Int → MH → Prop} {E : Nat → Int → MH → Prop} {h0 : MH} (ki : KI K l G yX9_file cX9_file 3 (some .int) [(28, 140, 143, 244)] 16 455 0 Q E h0) (hG : gO G = true) {Ex : Nat → Int → MH → Prop} (har : ∀ pc, 28 ≤ pc → pc < 140 → AR K Ex pc) {v1 v2 : Int} {h : MH} (H :
    (v1 ≠ 0) ∧
    (((hv h v1 6) ≤ v2 →
      (((hv h 396 10) ≤ (hv h 396 9) →
        (∀ x2_1 : Int, x2_1 = 0 →
        JW K 120 [(2009, 396), (14, v1), (0, x2_1)] [] h)) ∧
      ((hv h 396 9) < (hv h 396 10) →
        (hz h + 1 ≤ LIMC) ∧
        (hs h + 7 ≤ LIMS) ∧
        (∀ h2, h2 = hnew h 17 0 7 →
        S_X17_init l G [(2017, (hz h + 1)), (0, (hv h2 396 9))] h2 (fun _ h4 =>
        Ex 17 (hz h + 1) h4) Ex)))) ∧
    (v2 < (hv h v1 6) →
      S_X9_readMethod l G [(2009, 396), (14, v1), (0, v2)] h (fun _ h6 =>
      (∀ x2_7 : Int, x2_7 = w32 (v2 + 1) →
      JW K 75 [(2009, 396), (14, v1), (0, x2_7)] [] h6)) Ex))) : JW K 75 [(2009, 396), (14, v1), (0, v2)] [] h := by
  have e1 := ki.2.2.2.2.1
  have e2 := ki.2.2.2.2.2.1
  subst e1; subst e2
  exact run_okX (dia := [(244, 252), (271, 285)]) (cnr := [(221, 235, 247)]) (cuts := [(28, [2009, 14, 5000], []), (75, [2009, 14, 0], []), (120, [2009, 14, 0], []), (140, [2009, 14, 0], []), (153, [2009, 14, 0], []), (181, [2009, 14, 0], []), (204, [2009, 14, 0], []), (319, [2009, 14, 0], [])]) ki.1 (pk_X9_file ki hG) okI_X9_file (fun pc i q => har pc (lkc_rng (lo := 28) (hi := 140) (by decide +kernel) q).1 (lkc_rng (lo := 28) (hi := 140) (by decide +kernel) q).2) (by decide) 16 true _ _ _ _ H
theorem r_X9_file_120 {K : JC} {l : Launch} {G : JG} {Q : Int → MH → Prop} {E : Nat → Int → MH → Prop} {h0 : MH} (ki : KI K l G yX9_file cX9_file 3 (some .int) [(28, 140, 143, 244)] 16 455 0 Q E h0) (hG : gO G = true) {Ex : Nat → Int → MH → Prop} (har : ∀ pc, 28 ≤ pc → pc < 140 → AR K Ex pc) {v1 v2 : Int} {h : MH} (H :
    (v1 ≠ 0) ∧
    (((hv h v1 6) ≤ v2 →
      JW K 140 [(2009, 396), (14, v1), (0, v2)] [] h) ∧
    (v2 < (hv h v1 6) →
      S_X9_judge l G [(2009, 396), (14, v1), (0, v2)] h (fun _ h2 =>
      (∀ x2_3 : Int, x2_3 = w32 (v2 + 1) →
      JW K 120 [(2009, 396), (14, v1), (0, x2_3)] [] h2)) Ex))) : JW K 120 [(2009, 396), (14, v1), (0, v2)] [] h := by
  have e1 := ki.2.2.2.2.1
  have e2 := ki.2.2.2.2.2.1
  subst e1; subst e2
  exact run_okX (dia := [(244, 252), (271, 285)]) (cnr := [(221, 235, 247)]) (cuts := [(28, [2009, 14, 5000], []), (75, [2009, 14, 0], []), (120, [2009, 14, 0], []), (140, [2009, 14, 0], []), (153, [2009, 14, 0], []), (181, [2009, 14, 0], []), (204, [2009, 14, 0], []), (319, [2009, 14, 0], [])]) ki.1 (pk_X9_file ki hG) okI_X9_file (fun pc i q => har pc (lkc_rng (lo := 28) (hi := 140) (by decide +kernel) q).1 (lkc_rng (lo := 28) (hi := 140) (by decide +kernel) q).2) (by decide) 12 true _ _ _ _ H
theorem r_X9_file_140 {K : JC} {l : Launch} {G : JG} {Q : Int → MH → Prop} {E : Nat → Int → MH → Prop} {h0 : MH} (ki : KI K l G yX9_file cX9_file 3 (some .int) [(28, 140, 143, 244)] 16 455 0 Q E h0) (hG : gO G = true) {v1 v2 : Int} {h : MH} (H :
    (∀ x2_1 : Int, x2_1 = 0 →
    JW K 153 [(2009, 396), (14, v1), (0, x2_1)] [] h)) : JW K 140 [(2009, 396), (14, v1), (0, v2)] [] h := by
  have e1 := ki.2.2.2.2.1
  have e2 := ki.2.2.2.2.2.1
  subst e1; subst e2
  exact run_okX (dia := [(244, 252), (271, 285)]) (cnr := [(221, 235, 247)]) (cuts := [(28, [2009, 14, 5000], []), (75, [2009, 14, 0], []), (120, [2009, 14, 0], []), (140, [2009, 14, 0], []), (153, [2009, 14, 0], []), (181, [2009, 14, 0], []), (204, [2009, 14, 0], []), (319, [2009, 14, 0], [])]) ki.1 (pk_X9_file ki hG) okO_X9_file (fun pc i q => ar_out ki.1.2.2.2.2.2.2.2.1 (ki_no ki (fun z hz => by have e := lkc_out (lo := 28) (hi := 140) (by decide +kernel) q; simp only [List.mem_cons, List.not_mem_nil, or_false] at hz; rcases hz with rfl <;> exact e))) (by decide) 5 true _ _ _ _ H
theorem r_X9_file_153 {K : JC} {l : Launch} {G : JG} {Q : Int → MH → Prop} {E : Nat → Int → MH → Prop} {h0 : MH} (ki : KI K l G yX9_file cX9_file 3 (some .int) [(28, 140, 143, 244)] 16 455 0 Q E h0) (hG : gO G = true) {v1 v2 : Int} {h : MH} (H :
    (((hv h 396 10) ≤ v2 →
      (∀ x2_1 : Int, x2_1 = 1 →
      JW K 181 [(2009, 396), (14, v1), (0, x2_1)] [] h)) ∧
    (v2 < (hv h 396 10) →
      (v1 ≠ 0) ∧
      (0 ≤ v2) ∧
      (v2 < 20000) ∧
      (0 ≤ v2) ∧
      (v2 < 20000) ∧
      (-128 ≤ (hv h 397 v2) ∧ (hv h 397 v2) ≤ 127) ∧
      (∀ h2, h2 = hset h (v1 + 18) v2 (hv h 397 v2) →
      (∀ x2_3 : Int, x2_3 = w32 (v2 + 1) →
      JW K 153 [(2009, 396), (14, v1), (0, x2_3)] [] h2))))) : JW K 153 [(2009, 396), (14, v1), (0, v2)] [] h := by
  have e1 := ki.2.2.2.2.1
  have e2 := ki.2.2.2.2.2.1
  subst e1; subst e2
  exact run_okX (dia := [(244, 252), (271, 285)]) (cnr := [(221, 235, 247)]) (cuts := [(28, [2009, 14, 5000], []), (75, [2009, 14, 0], []), (120, [2009, 14, 0], []), (140, [2009, 14, 0], []), (153, [2009, 14, 0], []), (181, [2009, 14, 0], []), (204, [2009, 14, 0], []), (319, [2009, 14, 0], [])]) ki.1 (pk_X9_file ki hG) okO_X9_file (fun pc i q => ar_out ki.1.2.2.2.2.2.2.2.1 (ki_no ki (fun z hz => by have e := lkc_out (lo := 28) (hi := 140) (by decide +kernel) q; simp only [List.mem_cons, List.not_mem_nil, or_false] at hz; rcases hz with rfl <;> exact e))) (by decide) 16 true _ _ _ _ H
theorem r_X9_file_181 {K : JC} {l : Launch} {G : JG} {Q : Int → MH → Prop} {E : Nat → Int → MH → Prop} {h0 : MH} (ki : KI K l G yX9_file cX9_file 3 (some .int) [(28, 140, 143, 244)] 16 455 0 Q E h0) (hG : gO G = true) {v1 v2 : Int} {h : MH} (H :
    ((7 ≤ v2 →
      (∀ x2_1 : Int, x2_1 = 0 →
      JW K 204 [(2009, 396), (14, v1), (0, x2_1)] [] h)) ∧
    (v2 < 7 →
      (v1 ≠ 0) ∧
      (0 ≤ v2) ∧
      (v2 < 63) ∧
      (∀ h2, h2 = hset h (v1 + 26) v2 (w32 (v2 + 1)) →
      (∀ x2_3 : Int, x2_3 = w32 (v2 + 1) →
      JW K 181 [(2009, 396), (14, v1), (0, x2_3)] [] h2))))) : JW K 181 [(2009, 396), (14, v1), (0, v2)] [] h := by
  have e1 := ki.2.2.2.2.1
  have e2 := ki.2.2.2.2.2.1
  subst e1; subst e2
  exact run_okX (dia := [(244, 252), (271, 285)]) (cnr := [(221, 235, 247)]) (cuts := [(28, [2009, 14, 5000], []), (75, [2009, 14, 0], []), (120, [2009, 14, 0], []), (140, [2009, 14, 0], []), (153, [2009, 14, 0], []), (181, [2009, 14, 0], []), (204, [2009, 14, 0], []), (319, [2009, 14, 0], [])]) ki.1 (pk_X9_file ki hG) okO_X9_file (fun pc i q => ar_out ki.1.2.2.2.2.2.2.2.1 (ki_no ki (fun z hz => by have e := lkc_out (lo := 28) (hi := 140) (by decide +kernel) q; simp only [List.mem_cons, List.not_mem_nil, or_false] at hz; rcases hz with rfl <;> exact e))) (by decide) 14 true _ _ _ _ H
theorem r_X9_file_204 {K : JC} {l : Launch} {G : JG} {Q : Int → MH → Prop} {E : Nat → Int → MH → Prop} {h0 : MH} (ki : KI K l G yX9_file cX9_file 3 (some .int) [(28, 140, 143, 244)] 16 455 0 Q E h0) (hG : gO G = true) {v1 v2 : Int} {h : MH} (H :
    (v1 ≠ 0) ∧
    (((hv h v1 6) ≤ v2 →
      (∀ h1, h1 = hset h 396 4 (if (hv h 396 3) = 0 then (hv h 396 5) else (hv h 396 3) : Int) →
      (∀ h2, h2 = hset h1 396 3 v1 →
      (∀ h3, h3 = hset h2 396 8 0 →
      ((0 : Int) = 0 ∨ (0 : Int) = 1) ∧
      (∀ h4, h4 = hset h3 396 11 0 →
      (∀ h5, h5 = hset h4 396 80 0 →
      (∀ h6, h6 = hset h5 396 82 0 →
      S_X9_forgetWalks l G [(2009, 396)] h6 (fun _ h8 =>
      (∀ x2_9 : Int, x2_9 = 0 →
      JW K 319 [(2009, 396), (14, v1), (0, x2_9)] [] h8)) E))))))) ∧
    (v2 < (hv h v1 6) →
      ((¬ (hv h 396 3) = 0 → (hv h 396 3) ≠ 0)) ∧
      (((¬ (hv h 396 3) = 0 ∧ v2 < (hv h (hv h 396 3) 6)) →
        S_X9_isSame l G [(14, (hv h 396 3)), (14, v1), (0, v2)] h (fun z10 h11 =>
        (0 ≤ v2) ∧
        (v2 < 40) ∧
        ((if z10 = 0 then 1 else 0 : Int) = 0 ∨ (if z10 = 0 then 1 else 0 : Int) = 1) ∧
        (∀ h12, h12 = hset h11 456 v2 (if z10 = 0 then 1 else 0 : Int) →
        (0 ≤ v2) ∧
        (v2 < 40) ∧
        ((0 : Int) = 0 ∨ (0 : Int) = 1) ∧
        (∀ h13, h13 = hset h12 457 v2 0 →
        (∀ x2_14 : Int, x2_14 = w32 (v2 + 1) →
        JW K 204 [(2009, 396), (14, v1), (0, x2_14)] [] h13)))) E) ∧
      (¬ (¬ (hv h 396 3) = 0 ∧ v2 < (hv h (hv h 396 3) 6)) →
        (0 ≤ v2) ∧
        (v2 < 40) ∧
        ((1 : Int) = 0 ∨ (1 : Int) = 1) ∧
        (∀ h15, h15 = hset h 456 v2 1 →
        (0 ≤ v2) ∧
        (v2 < 40) ∧
        ((0 : Int) = 0 ∨ (0 : Int) = 1) ∧
        (∀ h16, h16 = hset h15 457 v2 0 →
        (∀ x2_17 : Int, x2_17 = w32 (v2 + 1) →
        JW K 204 [(2009, 396), (14, v1), (0, x2_17)] [] h16)))))))) : JW K 204 [(2009, 396), (14, v1), (0, v2)] [] h := by
  have e1 := ki.2.2.2.2.1
  have e2 := ki.2.2.2.2.2.1
  subst e1; subst e2
  exact run_okX (dia := [(244, 252), (271, 285)]) (cnr := [(221, 235, 247)]) (cuts := [(28, [2009, 14, 5000], []), (75, [2009, 14, 0], []), (120, [2009, 14, 0], []), (140, [2009, 14, 0], []), (153, [2009, 14, 0], []), (181, [2009, 14, 0], []), (204, [2009, 14, 0], []), (319, [2009, 14, 0], [])]) ki.1 (pk_X9_file ki hG) okO_X9_file (fun pc i q => ar_out ki.1.2.2.2.2.2.2.2.1 (ki_no ki (fun z hz => by have e := lkc_out (lo := 28) (hi := 140) (by decide +kernel) q; simp only [List.mem_cons, List.not_mem_nil, or_false] at hz; rcases hz with rfl <;> exact e))) (by decide) 30 true _ _ _ _ H
theorem r_X9_file_319 {K : JC} {l : Launch} {G : JG} {Q : Int → MH → Prop} {E : Nat → Int → MH → Prop} {h0 : MH} (ki : KI K l G yX9_file cX9_file 3 (some .int) [(28, 140, 143, 244)] 16 455 0 Q E h0) (hG : gO G = true) {v1 v2 : Int} {h : MH} (H :
    ((1500 ≤ v2 →
      (v1 ≠ 0) ∧
      Q (hv h v1 6) h) ∧
    (v2 < 1500 →
      (0 ≤ v2) ∧
      (v2 < 1500) ∧
      (∀ h1, h1 = hset h 520 v2 0 →
      (∀ x2_2 : Int, x2_2 = w32 (v2 + 1) →
      JW K 319 [(2009, 396), (14, v1), (0, x2_2)] [] h1))))) : JW K 319 [(2009, 396), (14, v1), (0, v2)] [] h := by
  have e1 := ki.2.2.2.2.1
  have e2 := ki.2.2.2.2.2.1
  subst e1; subst e2
  exact run_okX (dia := [(244, 252), (271, 285)]) (cnr := [(221, 235, 247)]) (cuts := [(28, [2009, 14, 5000], []), (75, [2009, 14, 0], []), (120, [2009, 14, 0], []), (140, [2009, 14, 0], []), (153, [2009, 14, 0], []), (181, [2009, 14, 0], []), (204, [2009, 14, 0], []), (319, [2009, 14, 0], [])]) ki.1 (pk_X9_file ki hG) okO_X9_file (fun pc i q => ar_out ki.1.2.2.2.2.2.2.2.1 (ki_no ki (fun z hz => by have e := lkc_out (lo := 28) (hi := 140) (by decide +kernel) q; simp only [List.mem_cons, List.not_mem_nil, or_false] at hz; rcases hz with rfl <;> exact e))) (by decide) 12 true _ _ _ _ H
