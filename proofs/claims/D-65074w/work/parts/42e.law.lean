/-! by gen/mkl.py -/
set_option maxRecDepth 100000
theorem nc_iae_ise : Cond.not (.castable "java/lang/IllegalArgumentException" "java/lang/IllegalStateException") ∈ cnj 120 narrow_1 := List.mem_of_getElem? (i := 54) rfl
theorem nc_iae_ioobe : Cond.not (.castable "java/lang/IllegalArgumentException" "java/lang/IndexOutOfBoundsException") ∈ cnj 120 narrow_1 := List.mem_of_getElem? (i := 74) rfl
theorem nc_ise_iae : Cond.not (.castable "java/lang/IllegalStateException" "java/lang/IllegalArgumentException") ∈ cnj 120 narrow_1 := List.mem_of_getElem? (i := 34) rfl
theorem nc_ise_ioobe : Cond.not (.castable "java/lang/IllegalStateException" "java/lang/IndexOutOfBoundsException") ∈ cnj 120 narrow_1 := List.mem_of_getElem? (i := 75) rfl
theorem nc_ioobe_iae : Cond.not (.castable "java/lang/IndexOutOfBoundsException" "java/lang/IllegalArgumentException") ∈ cnj 120 narrow_1 := List.mem_of_getElem? (i := 43) rfl
theorem nc_ioobe_ise : Cond.not (.castable "java/lang/IndexOutOfBoundsException" "java/lang/IllegalStateException") ∈ cnj 120 narrow_1 := List.mem_of_getElem? (i := 63) rfl
theorem t_X0_type {l : Launch} {G : JG} (hG : gO G = true) {h : MH} {v0 v1 v3 v4 : Int} {Q : Int → MH → Prop} {E : Nat → Int → MH → Prop} (h0 : v0 ≠ 0) (hc : S_X1_type l G [(2001, v0), (1, v1), (0, v3)] h (fun z h1 => v4 ≠ 0 ∧ 0 < hn h1 v4 ∧ Q 0 (hset h1 v4 0 z)) (fun c _ h1 => (c = 20 ∧ Q 1 h1) ∨ (c = 21 ∧ Q 2 h1))) : S_X0_type l G [(5, v0), (1, v1), (0, v3), (105, v4)] h Q E := by
  refine s_X0_type rfl fun K ki => ?_
  have eQ : kQ K = Q := ki.2.2.2.2.1
  have har : ∀ pc, 0 ≤ pc → pc < 11 → AR K (fun c _ h1 => (c = 20 ∧ Q 1 h1) ∨ (c = 21 ∧ Q 2 h1)) pc := by
    intro pc p0 p1
    refine ar_inX ki.1 (fun c a h1 e => ?_)
    rcases e with ⟨rfl, q⟩ | ⟨rfl, q⟩
    · refine ⟨14, hd_of (own := RX0) ki.2.2.2.2.2.2.2.2.2.2.2.2 (pre' := []) (q := (0, 11, 14, 13)) (rest' := [(0, 11, 18, 15)]) rfl ⟨p0, p1⟩ rfl (by decide) (C := "java/lang/IllegalArgumentException") q1179 ⟨_, _, rfl⟩ (fun y hy => by cases hy), ?_⟩
      exact hd_num (z := 1) (k := 5) (c := 20) ki.1 (pk_X0_type ki hG) (.astore 5) (.iconst 1) (by decide +kernel) (by decide +kernel) (by decide +kernel) (fun lv st h0 x q1 q2 => by show (bif on1 x pR && Nat.blt 5 lv.length then some (([] : List Prop), stl lv 5 x, st) else none) = _; rw [show (on1 x pR && Nat.blt 5 lv.length) = true by rw [on1_eq, q2, (blt_iff _ _).mpr q1]; rfl]; rfl) (fun _ _ _ => rfl) (by rw [ki.2.2.2.2.2.2.2.2.2.2.1]; decide) (by decide) ki.2.2.2.2.2.2.2.2.2.1 ki.2.2.2.1 (by rw [eQ]; exact q)
    · refine ⟨18, hd_of (own := RX0) ki.2.2.2.2.2.2.2.2.2.2.2.2 (pre' := [(0, 11, 14, 13)]) (q := (0, 11, 18, 15)) (rest' := []) rfl ⟨p0, p1⟩ rfl (by decide) (C := "java/lang/IllegalStateException") q1180 ⟨_, _, rfl⟩ (fun y hy => by have hy := List.mem_singleton.mp hy; rw [hy]; exact ⟨⟨p0, p1⟩, by decide, _, q1179, nc_ise_iae⟩), ?_⟩
      exact hd_num (z := 2) (k := 5) (c := 21) ki.1 (pk_X0_type ki hG) (.astore 5) (.iconst 2) (by decide +kernel) (by decide +kernel) (by decide +kernel) (fun lv st h0 x q1 q2 => by show (bif on1 x pR && Nat.blt 5 lv.length then some (([] : List Prop), stl lv 5 x, st) else none) = _; rw [show (on1 x pR && Nat.blt 5 lv.length) = true by rw [on1_eq, q2, (blt_iff _ _).mpr q1]; rfl]; rfl) (fun _ _ _ => rfl) (by rw [ki.2.2.2.2.2.2.2.2.2.2.1]; decide) (by decide) ki.2.2.2.2.2.2.2.2.2.1 ki.2.2.2.1 (by rw [eQ]; exact q)
  refine r_X0_type_0 ki hG har ?_
  refine ⟨h0, Sem_mono hc (fun z h1 _ q => ?_) (fun _ _ _ _ q => q)⟩
  refine ⟨q.1, Int.le_refl _, q.2.1, fun h2 e => ?_⟩
  subst e
  exact r_X0_type_11 ki hG q.2.2
theorem t_X0_root {l : Launch} {G : JG} (hG : gO G = true) {h : MH} {v0 v1 v2 : Int} {Q : Int → MH → Prop} {E : Nat → Int → MH → Prop} (h0 : v0 ≠ 0) (hc : S_X1_root l G [(2001, v0), (0, v1)] h (fun z h1 => v2 ≠ 0 ∧ 0 < hn h1 v2 ∧ Q 0 (hset h1 v2 0 z)) (fun c _ h1 => (c = 22 ∧ Q 1 h1) ∨ (c = 21 ∧ Q 2 h1))) : S_X0_root l G [(5, v0), (0, v1), (105, v2)] h Q E := by
  refine s_X0_root rfl fun K ki => ?_
  have eQ : kQ K = Q := ki.2.2.2.2.1
  have har : ∀ pc, 0 ≤ pc → pc < 9 → AR K (fun c _ h1 => (c = 22 ∧ Q 1 h1) ∨ (c = 21 ∧ Q 2 h1)) pc := by
    intro pc p0 p1
    refine ar_inX ki.1 (fun c a h1 e => ?_)
    rcases e with ⟨rfl, q⟩ | ⟨rfl, q⟩
    · refine ⟨12, hd_of (own := RX0) ki.2.2.2.2.2.2.2.2.2.2.2.2 (pre' := []) (q := (0, 9, 12, 21)) (rest' := [(0, 9, 15, 15)]) rfl ⟨p0, p1⟩ rfl (by decide) (C := "java/lang/IndexOutOfBoundsException") q1231 ⟨_, _, rfl⟩ (fun y hy => by cases hy), ?_⟩
      exact hd_num (z := 1) (k := 3) (c := 22) ki.1 (pk_X0_root ki hG) (.astore_n 3) (.iconst 1) (by decide +kernel) (by decide +kernel) (by decide +kernel) (fun lv st h0 x q1 q2 => by show (bif on1 x pR && Nat.blt 3 lv.length then some (([] : List Prop), stl lv 3 x, st) else none) = _; rw [show (on1 x pR && Nat.blt 3 lv.length) = true by rw [on1_eq, q2, (blt_iff _ _).mpr q1]; rfl]; rfl) (fun _ _ _ => rfl) (by rw [ki.2.2.2.2.2.2.2.2.2.2.1]; decide) (by decide) ki.2.2.2.2.2.2.2.2.2.1 ki.2.2.2.1 (by rw [eQ]; exact q)
    · refine ⟨15, hd_of (own := RX0) ki.2.2.2.2.2.2.2.2.2.2.2.2 (pre' := [(0, 9, 12, 21)]) (q := (0, 9, 15, 15)) (rest' := []) rfl ⟨p0, p1⟩ rfl (by decide) (C := "java/lang/IllegalStateException") q1180 ⟨_, _, rfl⟩ (fun y hy => by have hy := List.mem_singleton.mp hy; rw [hy]; exact ⟨⟨p0, p1⟩, by decide, _, q1231, nc_ise_ioobe⟩), ?_⟩
      exact hd_num (z := 2) (k := 3) (c := 21) ki.1 (pk_X0_root ki hG) (.astore_n 3) (.iconst 2) (by decide +kernel) (by decide +kernel) (by decide +kernel) (fun lv st h0 x q1 q2 => by show (bif on1 x pR && Nat.blt 3 lv.length then some (([] : List Prop), stl lv 3 x, st) else none) = _; rw [show (on1 x pR && Nat.blt 3 lv.length) = true by rw [on1_eq, q2, (blt_iff _ _).mpr q1]; rfl]; rfl) (fun _ _ _ => rfl) (by rw [ki.2.2.2.2.2.2.2.2.2.2.1]; decide) (by decide) ki.2.2.2.2.2.2.2.2.2.1 ki.2.2.2.1 (by rw [eQ]; exact q)
  refine r_X0_root_0 ki hG har ?_
  refine ⟨h0, Sem_mono hc (fun z h1 _ q => ?_) (fun _ _ _ _ q => q)⟩
  refine ⟨q.1, Int.le_refl _, q.2.1, fun h2 e => ?_⟩
  subst e
  exact r_X0_root_9 ki hG q.2.2
theorem t_X0_method {l : Launch} {G : JG} (hG : gO G = true) {h : MH} {v0 v1 v2 v3 : Int} {Q : Int → MH → Prop} {E : Nat → Int → MH → Prop} (h0 : v0 ≠ 0) (hc : S_X1_method l G [(2001, v0), (0, v1), (0, v2)] h (fun z h1 => v3 ≠ 0 ∧ 0 < hn h1 v3 ∧ Q 0 (hset h1 v3 0 z)) (fun c _ h1 => (c = 21 ∧ Q 1 h1) ∨ (c = 22 ∧ Q 2 h1))) : S_X0_method l G [(5, v0), (0, v1), (0, v2), (105, v3)] h Q E := by
  refine s_X0_method rfl fun K ki => ?_
  have eQ : kQ K = Q := ki.2.2.2.2.1
  have har : ∀ pc, 0 ≤ pc → pc < 10 → AR K (fun c _ h1 => (c = 21 ∧ Q 1 h1) ∨ (c = 22 ∧ Q 2 h1)) pc := by
    intro pc p0 p1
    refine ar_inX ki.1 (fun c a h1 e => ?_)
    rcases e with ⟨rfl, q⟩ | ⟨rfl, q⟩
    · refine ⟨13, hd_of (own := RX0) ki.2.2.2.2.2.2.2.2.2.2.2.2 (pre' := []) (q := (0, 10, 13, 15)) (rest' := [(0, 10, 17, 21)]) rfl ⟨p0, p1⟩ rfl (by decide) (C := "java/lang/IllegalStateException") q1180 ⟨_, _, rfl⟩ (fun y hy => by cases hy), ?_⟩
      exact hd_num (z := 1) (k := 4) (c := 21) ki.1 (pk_X0_method ki hG) (.astore 4) (.iconst 1) (by decide +kernel) (by decide +kernel) (by decide +kernel) (fun lv st h0 x q1 q2 => by show (bif on1 x pR && Nat.blt 4 lv.length then some (([] : List Prop), stl lv 4 x, st) else none) = _; rw [show (on1 x pR && Nat.blt 4 lv.length) = true by rw [on1_eq, q2, (blt_iff _ _).mpr q1]; rfl]; rfl) (fun _ _ _ => rfl) (by rw [ki.2.2.2.2.2.2.2.2.2.2.1]; decide) (by decide) ki.2.2.2.2.2.2.2.2.2.1 ki.2.2.2.1 (by rw [eQ]; exact q)
    · refine ⟨17, hd_of (own := RX0) ki.2.2.2.2.2.2.2.2.2.2.2.2 (pre' := [(0, 10, 13, 15)]) (q := (0, 10, 17, 21)) (rest' := []) rfl ⟨p0, p1⟩ rfl (by decide) (C := "java/lang/IndexOutOfBoundsException") q1231 ⟨_, _, rfl⟩ (fun y hy => by have hy := List.mem_singleton.mp hy; rw [hy]; exact ⟨⟨p0, p1⟩, by decide, _, q1180, nc_ioobe_ise⟩), ?_⟩
      exact hd_num (z := 2) (k := 4) (c := 22) ki.1 (pk_X0_method ki hG) (.astore 4) (.iconst 2) (by decide +kernel) (by decide +kernel) (by decide +kernel) (fun lv st h0 x q1 q2 => by show (bif on1 x pR && Nat.blt 4 lv.length then some (([] : List Prop), stl lv 4 x, st) else none) = _; rw [show (on1 x pR && Nat.blt 4 lv.length) = true by rw [on1_eq, q2, (blt_iff _ _).mpr q1]; rfl]; rfl) (fun _ _ _ => rfl) (by rw [ki.2.2.2.2.2.2.2.2.2.2.1]; decide) (by decide) ki.2.2.2.2.2.2.2.2.2.1 ki.2.2.2.1 (by rw [eQ]; exact q)
  refine r_X0_method_0 ki hG har ?_
  refine ⟨h0, Sem_mono hc (fun z h1 _ q => ?_) (fun _ _ _ _ q => q)⟩
  refine ⟨q.1, Int.le_refl _, q.2.1, fun h2 e => ?_⟩
  subst e
  exact r_X0_method_10 ki hG q.2.2
theorem t_X0_classOf {l : Launch} {G : JG} (hG : gO G = true) {h : MH} {v0 v1 v2 : Int} {Q : Int → MH → Prop} {E : Nat → Int → MH → Prop} (h0 : v0 ≠ 0) (hc : S_X1_classOf l G [(2001, v0), (0, v1)] h (fun z h1 => v2 ≠ 0 ∧ 0 < hn h1 v2 ∧ Q 0 (hset h1 v2 0 z)) (fun c _ h1 => (c = 21 ∧ Q 1 h1) ∨ (c = 22 ∧ Q 2 h1))) : S_X0_classOf l G [(5, v0), (0, v1), (105, v2)] h Q E := by
  refine s_X0_classOf rfl fun K ki => ?_
  have eQ : kQ K = Q := ki.2.2.2.2.1
  have har : ∀ pc, 0 ≤ pc → pc < 9 → AR K (fun c _ h1 => (c = 21 ∧ Q 1 h1) ∨ (c = 22 ∧ Q 2 h1)) pc := by
    intro pc p0 p1
    refine ar_inX ki.1 (fun c a h1 e => ?_)
    rcases e with ⟨rfl, q⟩ | ⟨rfl, q⟩
    · refine ⟨12, hd_of (own := RX0) ki.2.2.2.2.2.2.2.2.2.2.2.2 (pre' := []) (q := (0, 9, 12, 15)) (rest' := [(0, 9, 15, 21)]) rfl ⟨p0, p1⟩ rfl (by decide) (C := "java/lang/IllegalStateException") q1180 ⟨_, _, rfl⟩ (fun y hy => by cases hy), ?_⟩
      exact hd_num (z := 1) (k := 3) (c := 21) ki.1 (pk_X0_classOf ki hG) (.astore_n 3) (.iconst 1) (by decide +kernel) (by decide +kernel) (by decide +kernel) (fun lv st h0 x q1 q2 => by show (bif on1 x pR && Nat.blt 3 lv.length then some (([] : List Prop), stl lv 3 x, st) else none) = _; rw [show (on1 x pR && Nat.blt 3 lv.length) = true by rw [on1_eq, q2, (blt_iff _ _).mpr q1]; rfl]; rfl) (fun _ _ _ => rfl) (by rw [ki.2.2.2.2.2.2.2.2.2.2.1]; decide) (by decide) ki.2.2.2.2.2.2.2.2.2.1 ki.2.2.2.1 (by rw [eQ]; exact q)
    · refine ⟨15, hd_of (own := RX0) ki.2.2.2.2.2.2.2.2.2.2.2.2 (pre' := [(0, 9, 12, 15)]) (q := (0, 9, 15, 21)) (rest' := []) rfl ⟨p0, p1⟩ rfl (by decide) (C := "java/lang/IndexOutOfBoundsException") q1231 ⟨_, _, rfl⟩ (fun y hy => by have hy := List.mem_singleton.mp hy; rw [hy]; exact ⟨⟨p0, p1⟩, by decide, _, q1180, nc_ioobe_ise⟩), ?_⟩
      exact hd_num (z := 2) (k := 3) (c := 22) ki.1 (pk_X0_classOf ki hG) (.astore_n 3) (.iconst 2) (by decide +kernel) (by decide +kernel) (by decide +kernel) (fun lv st h0 x q1 q2 => by show (bif on1 x pR && Nat.blt 3 lv.length then some (([] : List Prop), stl lv 3 x, st) else none) = _; rw [show (on1 x pR && Nat.blt 3 lv.length) = true by rw [on1_eq, q2, (blt_iff _ _).mpr q1]; rfl]; rfl) (fun _ _ _ => rfl) (by rw [ki.2.2.2.2.2.2.2.2.2.2.1]; decide) (by decide) ki.2.2.2.2.2.2.2.2.2.1 ki.2.2.2.1 (by rw [eQ]; exact q)
  refine r_X0_classOf_0 ki hG har ?_
  refine ⟨h0, Sem_mono hc (fun z h1 _ q => ?_) (fun _ _ _ _ q => q)⟩
  refine ⟨q.1, Int.le_refl _, q.2.1, fun h2 e => ?_⟩
  subst e
  exact r_X0_classOf_9 ki hG q.2.2
theorem t_X0_depth {l : Launch} {G : JG} (hG : gO G = true) {h : MH} {v0 v1 v2 v3 : Int} {Q : Int → MH → Prop} {E : Nat → Int → MH → Prop} (h0 : v0 ≠ 0) (hc : S_X1_depth l G [(2001, v0), (0, v1), (0, v2)] h (fun z h1 => v3 ≠ 0 ∧ 0 < hn h1 v3 ∧ Q 0 (hset h1 v3 0 z)) (fun c _ h1 => (c = 21 ∧ Q 1 h1) ∨ (c = 22 ∧ Q 2 h1))) : S_X0_depth l G [(5, v0), (0, v1), (0, v2), (105, v3)] h Q E := by
  refine s_X0_depth rfl fun K ki => ?_
  have eQ : kQ K = Q := ki.2.2.2.2.1
  have har : ∀ pc, 0 ≤ pc → pc < 10 → AR K (fun c _ h1 => (c = 21 ∧ Q 1 h1) ∨ (c = 22 ∧ Q 2 h1)) pc := by
    intro pc p0 p1
    refine ar_inX ki.1 (fun c a h1 e => ?_)
    rcases e with ⟨rfl, q⟩ | ⟨rfl, q⟩
    · refine ⟨13, hd_of (own := RX0) ki.2.2.2.2.2.2.2.2.2.2.2.2 (pre' := []) (q := (0, 10, 13, 15)) (rest' := [(0, 10, 17, 21)]) rfl ⟨p0, p1⟩ rfl (by decide) (C := "java/lang/IllegalStateException") q1180 ⟨_, _, rfl⟩ (fun y hy => by cases hy), ?_⟩
      exact hd_num (z := 1) (k := 4) (c := 21) ki.1 (pk_X0_depth ki hG) (.astore 4) (.iconst 1) (by decide +kernel) (by decide +kernel) (by decide +kernel) (fun lv st h0 x q1 q2 => by show (bif on1 x pR && Nat.blt 4 lv.length then some (([] : List Prop), stl lv 4 x, st) else none) = _; rw [show (on1 x pR && Nat.blt 4 lv.length) = true by rw [on1_eq, q2, (blt_iff _ _).mpr q1]; rfl]; rfl) (fun _ _ _ => rfl) (by rw [ki.2.2.2.2.2.2.2.2.2.2.1]; decide) (by decide) ki.2.2.2.2.2.2.2.2.2.1 ki.2.2.2.1 (by rw [eQ]; exact q)
    · refine ⟨17, hd_of (own := RX0) ki.2.2.2.2.2.2.2.2.2.2.2.2 (pre' := [(0, 10, 13, 15)]) (q := (0, 10, 17, 21)) (rest' := []) rfl ⟨p0, p1⟩ rfl (by decide) (C := "java/lang/IndexOutOfBoundsException") q1231 ⟨_, _, rfl⟩ (fun y hy => by have hy := List.mem_singleton.mp hy; rw [hy]; exact ⟨⟨p0, p1⟩, by decide, _, q1180, nc_ioobe_ise⟩), ?_⟩
      exact hd_num (z := 2) (k := 4) (c := 22) ki.1 (pk_X0_depth ki hG) (.astore 4) (.iconst 2) (by decide +kernel) (by decide +kernel) (by decide +kernel) (fun lv st h0 x q1 q2 => by show (bif on1 x pR && Nat.blt 4 lv.length then some (([] : List Prop), stl lv 4 x, st) else none) = _; rw [show (on1 x pR && Nat.blt 4 lv.length) = true by rw [on1_eq, q2, (blt_iff _ _).mpr q1]; rfl]; rfl) (fun _ _ _ => rfl) (by rw [ki.2.2.2.2.2.2.2.2.2.2.1]; decide) (by decide) ki.2.2.2.2.2.2.2.2.2.1 ki.2.2.2.1 (by rw [eQ]; exact q)
  refine r_X0_depth_0 ki hG har ?_
  refine ⟨h0, Sem_mono hc (fun z h1 _ q => ?_) (fun _ _ _ _ q => q)⟩
  refine ⟨q.1, Int.le_refl _, q.2.1, fun h2 e => ?_⟩
  subst e
  exact r_X0_depth_10 ki hG q.2.2
theorem t_X0_reach {l : Launch} {G : JG} (hG : gO G = true) {h : MH} {v0 v1 v2 v3 : Int} {Q : Int → MH → Prop} {E : Nat → Int → MH → Prop} (h0 : v0 ≠ 0) (hc : S_X1_reach l G [(2001, v0), (0, v1), (0, v2)] h (fun z h1 => v3 ≠ 0 ∧ 0 < hn h1 v3 ∧ Q 0 (hset h1 v3 0 (if z = 0 then 0 else 1 : Int))) (fun c _ h1 => (c = 21 ∧ Q 1 h1) ∨ (c = 22 ∧ Q 2 h1))) : S_X0_reach l G [(5, v0), (0, v1), (0, v2), (105, v3)] h Q E := by
  refine s_X0_reach rfl fun K ki => ?_
  have eQ : kQ K = Q := ki.2.2.2.2.1
  have har : ∀ pc, 0 ≤ pc → pc < 17 → AR K (fun c _ h1 => (c = 21 ∧ Q 1 h1) ∨ (c = 22 ∧ Q 2 h1)) pc := by
    intro pc p0 p1
    refine ar_inX ki.1 (fun c a h1 e => ?_)
    rcases e with ⟨rfl, q⟩ | ⟨rfl, q⟩
    · refine ⟨20, hd_of (own := RX0) ki.2.2.2.2.2.2.2.2.2.2.2.2 (pre' := []) (q := (0, 17, 20, 15)) (rest' := [(0, 17, 24, 21)]) rfl ⟨p0, p1⟩ rfl (by decide) (C := "java/lang/IllegalStateException") q1180 ⟨_, _, rfl⟩ (fun y hy => by cases hy), ?_⟩
      exact hd_num (z := 1) (k := 4) (c := 21) ki.1 (pk_X0_reach ki hG) (.astore 4) (.iconst 1) (by decide +kernel) (by decide +kernel) (by decide +kernel) (fun lv st h0 x q1 q2 => by show (bif on1 x pR && Nat.blt 4 lv.length then some (([] : List Prop), stl lv 4 x, st) else none) = _; rw [show (on1 x pR && Nat.blt 4 lv.length) = true by rw [on1_eq, q2, (blt_iff _ _).mpr q1]; rfl]; rfl) (fun _ _ _ => rfl) (by rw [ki.2.2.2.2.2.2.2.2.2.2.1]; decide) (by decide) ki.2.2.2.2.2.2.2.2.2.1 ki.2.2.2.1 (by rw [eQ]; exact q)
    · refine ⟨24, hd_of (own := RX0) ki.2.2.2.2.2.2.2.2.2.2.2.2 (pre' := [(0, 17, 20, 15)]) (q := (0, 17, 24, 21)) (rest' := []) rfl ⟨p0, p1⟩ rfl (by decide) (C := "java/lang/IndexOutOfBoundsException") q1231 ⟨_, _, rfl⟩ (fun y hy => by have hy := List.mem_singleton.mp hy; rw [hy]; exact ⟨⟨p0, p1⟩, by decide, _, q1180, nc_ioobe_ise⟩), ?_⟩
      exact hd_num (z := 2) (k := 4) (c := 22) ki.1 (pk_X0_reach ki hG) (.astore 4) (.iconst 2) (by decide +kernel) (by decide +kernel) (by decide +kernel) (fun lv st h0 x q1 q2 => by show (bif on1 x pR && Nat.blt 4 lv.length then some (([] : List Prop), stl lv 4 x, st) else none) = _; rw [show (on1 x pR && Nat.blt 4 lv.length) = true by rw [on1_eq, q2, (blt_iff _ _).mpr q1]; rfl]; rfl) (fun _ _ _ => rfl) (by rw [ki.2.2.2.2.2.2.2.2.2.2.1]; decide) (by decide) ki.2.2.2.2.2.2.2.2.2.1 ki.2.2.2.1 (by rw [eQ]; exact q)
  refine r_X0_reach_0 ki hG har ?_
  refine ⟨h0, Sem_mono hc (fun z h1 _ q => ?_) (fun _ _ _ _ q => q)⟩
  refine ⟨q.1, Int.le_refl _, q.2.1, fun h2 e => ?_⟩
  subst e
  exact r_X0_reach_17 ki hG q.2.2
theorem t_X0_value {l : Launch} {G : JG} (hG : gO G = true) {h : MH} {v0 v1 v2 v3 v4 v5 : Int} {Q : Int → MH → Prop} {E : Nat → Int → MH → Prop} (h0 : v0 ≠ 0) (hc : S_X1_value l G [(2001, v0), (0, v1), (0, v2), (0, v3), (0, v4)] h (fun z h1 => v5 ≠ 0 ∧ 0 < hn h1 v5 ∧ Q 0 (hset h1 v5 0 z)) (fun c _ h1 => (c = 21 ∧ Q 1 h1) ∨ (c = 22 ∧ Q 2 h1))) : S_X0_value l G [(5, v0), (0, v1), (0, v2), (0, v3), (0, v4), (105, v5)] h Q E := by
  refine s_X0_value rfl fun K ki => ?_
  have eQ : kQ K = Q := ki.2.2.2.2.1
  have har : ∀ pc, 0 ≤ pc → pc < 13 → AR K (fun c _ h1 => (c = 21 ∧ Q 1 h1) ∨ (c = 22 ∧ Q 2 h1)) pc := by
    intro pc p0 p1
    refine ar_inX ki.1 (fun c a h1 e => ?_)
    rcases e with ⟨rfl, q⟩ | ⟨rfl, q⟩
    · refine ⟨16, hd_of (own := RX0) ki.2.2.2.2.2.2.2.2.2.2.2.2 (pre' := []) (q := (0, 13, 16, 15)) (rest' := [(0, 13, 20, 21)]) rfl ⟨p0, p1⟩ rfl (by decide) (C := "java/lang/IllegalStateException") q1180 ⟨_, _, rfl⟩ (fun y hy => by cases hy), ?_⟩
      exact hd_num (z := 1) (k := 6) (c := 21) ki.1 (pk_X0_value ki hG) (.astore 6) (.iconst 1) (by decide +kernel) (by decide +kernel) (by decide +kernel) (fun lv st h0 x q1 q2 => by show (bif on1 x pR && Nat.blt 6 lv.length then some (([] : List Prop), stl lv 6 x, st) else none) = _; rw [show (on1 x pR && Nat.blt 6 lv.length) = true by rw [on1_eq, q2, (blt_iff _ _).mpr q1]; rfl]; rfl) (fun _ _ _ => rfl) (by rw [ki.2.2.2.2.2.2.2.2.2.2.1]; decide) (by decide) ki.2.2.2.2.2.2.2.2.2.1 ki.2.2.2.1 (by rw [eQ]; exact q)
    · refine ⟨20, hd_of (own := RX0) ki.2.2.2.2.2.2.2.2.2.2.2.2 (pre' := [(0, 13, 16, 15)]) (q := (0, 13, 20, 21)) (rest' := []) rfl ⟨p0, p1⟩ rfl (by decide) (C := "java/lang/IndexOutOfBoundsException") q1231 ⟨_, _, rfl⟩ (fun y hy => by have hy := List.mem_singleton.mp hy; rw [hy]; exact ⟨⟨p0, p1⟩, by decide, _, q1180, nc_ioobe_ise⟩), ?_⟩
      exact hd_num (z := 2) (k := 6) (c := 22) ki.1 (pk_X0_value ki hG) (.astore 6) (.iconst 2) (by decide +kernel) (by decide +kernel) (by decide +kernel) (fun lv st h0 x q1 q2 => by show (bif on1 x pR && Nat.blt 6 lv.length then some (([] : List Prop), stl lv 6 x, st) else none) = _; rw [show (on1 x pR && Nat.blt 6 lv.length) = true by rw [on1_eq, q2, (blt_iff _ _).mpr q1]; rfl]; rfl) (fun _ _ _ => rfl) (by rw [ki.2.2.2.2.2.2.2.2.2.2.1]; decide) (by decide) ki.2.2.2.2.2.2.2.2.2.1 ki.2.2.2.1 (by rw [eQ]; exact q)
  refine r_X0_value_0 ki hG har ?_
  refine ⟨h0, Sem_mono hc (fun z h1 _ q => ?_) (fun _ _ _ _ q => q)⟩
  refine ⟨q.1, Int.le_refl _, q.2.1, fun h2 e => ?_⟩
  subst e
  exact r_X0_value_13 ki hG q.2.2
theorem t_X0_locks {l : Launch} {G : JG} (hG : gO G = true) {h : MH} {v0 v1 v2 v3 v4 : Int} {Q : Int → MH → Prop} {E : Nat → Int → MH → Prop} (h0 : v0 ≠ 0) (hc : S_X1_locks l G [(2001, v0), (0, v1), (0, v2), (0, v3)] h (fun z h1 => v4 ≠ 0 ∧ 0 < hn h1 v4 ∧ Q 0 (hset h1 v4 0 z)) (fun c _ h1 => (c = 21 ∧ Q 1 h1) ∨ (c = 22 ∧ Q 2 h1))) : S_X0_locks l G [(5, v0), (0, v1), (0, v2), (0, v3), (105, v4)] h Q E := by
  refine s_X0_locks rfl fun K ki => ?_
  have eQ : kQ K = Q := ki.2.2.2.2.1
  have har : ∀ pc, 0 ≤ pc → pc < 12 → AR K (fun c _ h1 => (c = 21 ∧ Q 1 h1) ∨ (c = 22 ∧ Q 2 h1)) pc := by
    intro pc p0 p1
    refine ar_inX ki.1 (fun c a h1 e => ?_)
    rcases e with ⟨rfl, q⟩ | ⟨rfl, q⟩
    · refine ⟨15, hd_of (own := RX0) ki.2.2.2.2.2.2.2.2.2.2.2.2 (pre' := []) (q := (0, 12, 15, 15)) (rest' := [(0, 12, 19, 21)]) rfl ⟨p0, p1⟩ rfl (by decide) (C := "java/lang/IllegalStateException") q1180 ⟨_, _, rfl⟩ (fun y hy => by cases hy), ?_⟩
      exact hd_num (z := 1) (k := 5) (c := 21) ki.1 (pk_X0_locks ki hG) (.astore 5) (.iconst 1) (by decide +kernel) (by decide +kernel) (by decide +kernel) (fun lv st h0 x q1 q2 => by show (bif on1 x pR && Nat.blt 5 lv.length then some (([] : List Prop), stl lv 5 x, st) else none) = _; rw [show (on1 x pR && Nat.blt 5 lv.length) = true by rw [on1_eq, q2, (blt_iff _ _).mpr q1]; rfl]; rfl) (fun _ _ _ => rfl) (by rw [ki.2.2.2.2.2.2.2.2.2.2.1]; decide) (by decide) ki.2.2.2.2.2.2.2.2.2.1 ki.2.2.2.1 (by rw [eQ]; exact q)
    · refine ⟨19, hd_of (own := RX0) ki.2.2.2.2.2.2.2.2.2.2.2.2 (pre' := [(0, 12, 15, 15)]) (q := (0, 12, 19, 21)) (rest' := []) rfl ⟨p0, p1⟩ rfl (by decide) (C := "java/lang/IndexOutOfBoundsException") q1231 ⟨_, _, rfl⟩ (fun y hy => by have hy := List.mem_singleton.mp hy; rw [hy]; exact ⟨⟨p0, p1⟩, by decide, _, q1180, nc_ioobe_ise⟩), ?_⟩
      exact hd_num (z := 2) (k := 5) (c := 22) ki.1 (pk_X0_locks ki hG) (.astore 5) (.iconst 2) (by decide +kernel) (by decide +kernel) (by decide +kernel) (fun lv st h0 x q1 q2 => by show (bif on1 x pR && Nat.blt 5 lv.length then some (([] : List Prop), stl lv 5 x, st) else none) = _; rw [show (on1 x pR && Nat.blt 5 lv.length) = true by rw [on1_eq, q2, (blt_iff _ _).mpr q1]; rfl]; rfl) (fun _ _ _ => rfl) (by rw [ki.2.2.2.2.2.2.2.2.2.2.1]; decide) (by decide) ki.2.2.2.2.2.2.2.2.2.1 ki.2.2.2.1 (by rw [eQ]; exact q)
  refine r_X0_locks_0 ki hG har ?_
  refine ⟨h0, Sem_mono hc (fun z h1 _ q => ?_) (fun _ _ _ _ q => q)⟩
  refine ⟨q.1, Int.le_refl _, q.2.1, fun h2 e => ?_⟩
  subst e
  exact r_X0_locks_12 ki hG q.2.2
theorem t_X0_throwsAt {l : Launch} {G : JG} (hG : gO G = true) {h : MH} {v0 v1 v2 v3 : Int} {Q : Int → MH → Prop} {E : Nat → Int → MH → Prop} (h0 : v0 ≠ 0) (hc : S_X1_throwsAt l G [(2001, v0), (0, v1), (0, v2)] h (fun z h1 => v3 ≠ 0 ∧ 0 < hn h1 v3 ∧ Q 0 (hset h1 v3 0 z)) (fun c _ h1 => (c = 21 ∧ Q 1 h1) ∨ (c = 22 ∧ Q 2 h1))) : S_X0_throwsAt l G [(5, v0), (0, v1), (0, v2), (105, v3)] h Q E := by
  refine s_X0_throwsAt rfl fun K ki => ?_
  have eQ : kQ K = Q := ki.2.2.2.2.1
  have har : ∀ pc, 0 ≤ pc → pc < 9 → AR K (fun c _ h1 => (c = 21 ∧ Q 1 h1) ∨ (c = 22 ∧ Q 2 h1)) pc := by
    intro pc p0 p1
    refine ar_inX ki.1 (fun c a h1 e => ?_)
    rcases e with ⟨rfl, q⟩ | ⟨rfl, q⟩
    · refine ⟨12, hd_of (own := RX0) ki.2.2.2.2.2.2.2.2.2.2.2.2 (pre' := []) (q := (0, 9, 12, 15)) (rest' := [(0, 9, 16, 21)]) rfl ⟨p0, p1⟩ rfl (by decide) (C := "java/lang/IllegalStateException") q1180 ⟨_, _, rfl⟩ (fun y hy => by cases hy), ?_⟩
      exact hd_num (z := 1) (k := 4) (c := 21) ki.1 (pk_X0_throwsAt ki hG) (.astore 4) (.iconst 1) (by decide +kernel) (by decide +kernel) (by decide +kernel) (fun lv st h0 x q1 q2 => by show (bif on1 x pR && Nat.blt 4 lv.length then some (([] : List Prop), stl lv 4 x, st) else none) = _; rw [show (on1 x pR && Nat.blt 4 lv.length) = true by rw [on1_eq, q2, (blt_iff _ _).mpr q1]; rfl]; rfl) (fun _ _ _ => rfl) (by rw [ki.2.2.2.2.2.2.2.2.2.2.1]; decide) (by decide) ki.2.2.2.2.2.2.2.2.2.1 ki.2.2.2.1 (by rw [eQ]; exact q)
    · refine ⟨16, hd_of (own := RX0) ki.2.2.2.2.2.2.2.2.2.2.2.2 (pre' := [(0, 9, 12, 15)]) (q := (0, 9, 16, 21)) (rest' := []) rfl ⟨p0, p1⟩ rfl (by decide) (C := "java/lang/IndexOutOfBoundsException") q1231 ⟨_, _, rfl⟩ (fun y hy => by have hy := List.mem_singleton.mp hy; rw [hy]; exact ⟨⟨p0, p1⟩, by decide, _, q1180, nc_ioobe_ise⟩), ?_⟩
      exact hd_num (z := 2) (k := 4) (c := 22) ki.1 (pk_X0_throwsAt ki hG) (.astore 4) (.iconst 2) (by decide +kernel) (by decide +kernel) (by decide +kernel) (fun lv st h0 x q1 q2 => by show (bif on1 x pR && Nat.blt 4 lv.length then some (([] : List Prop), stl lv 4 x, st) else none) = _; rw [show (on1 x pR && Nat.blt 4 lv.length) = true by rw [on1_eq, q2, (blt_iff _ _).mpr q1]; rfl]; rfl) (fun _ _ _ => rfl) (by rw [ki.2.2.2.2.2.2.2.2.2.2.1]; decide) (by decide) ki.2.2.2.2.2.2.2.2.2.1 ki.2.2.2.1 (by rw [eQ]; exact q)
  refine r_X0_throwsAt_0 ki hG har ?_
  refine ⟨h0, Sem_mono hc (fun z h1 _ q => ?_) (fun _ _ _ _ q => q)⟩
  refine ⟨q.1, Int.le_refl _, q.2.1, fun h2 e => ?_⟩
  subst e
  exact r_X0_throwsAt_9 ki hG q.2.2
theorem t_X0_calls {l : Launch} {G : JG} (hG : gO G = true) {h : MH} {v0 v1 v2 v3 : Int} {Q : Int → MH → Prop} {E : Nat → Int → MH → Prop} (h0 : v0 ≠ 0) (hc : S_X1_calls l G [(2001, v0), (0, v1), (0, v2)] h (fun z h1 => v3 ≠ 0 ∧ 0 < hn h1 v3 ∧ Q 0 (hset h1 v3 0 z)) (fun c _ h1 => (c = 21 ∧ Q 1 h1) ∨ (c = 22 ∧ Q 2 h1))) : S_X0_calls l G [(5, v0), (0, v1), (0, v2), (105, v3)] h Q E := by
  refine s_X0_calls rfl fun K ki => ?_
  have eQ : kQ K = Q := ki.2.2.2.2.1
  have har : ∀ pc, 0 ≤ pc → pc < 9 → AR K (fun c _ h1 => (c = 21 ∧ Q 1 h1) ∨ (c = 22 ∧ Q 2 h1)) pc := by
    intro pc p0 p1
    refine ar_inX ki.1 (fun c a h1 e => ?_)
    rcases e with ⟨rfl, q⟩ | ⟨rfl, q⟩
    · refine ⟨12, hd_of (own := RX0) ki.2.2.2.2.2.2.2.2.2.2.2.2 (pre' := []) (q := (0, 9, 12, 15)) (rest' := [(0, 9, 16, 21)]) rfl ⟨p0, p1⟩ rfl (by decide) (C := "java/lang/IllegalStateException") q1180 ⟨_, _, rfl⟩ (fun y hy => by cases hy), ?_⟩
      exact hd_num (z := 1) (k := 4) (c := 21) ki.1 (pk_X0_calls ki hG) (.astore 4) (.iconst 1) (by decide +kernel) (by decide +kernel) (by decide +kernel) (fun lv st h0 x q1 q2 => by show (bif on1 x pR && Nat.blt 4 lv.length then some (([] : List Prop), stl lv 4 x, st) else none) = _; rw [show (on1 x pR && Nat.blt 4 lv.length) = true by rw [on1_eq, q2, (blt_iff _ _).mpr q1]; rfl]; rfl) (fun _ _ _ => rfl) (by rw [ki.2.2.2.2.2.2.2.2.2.2.1]; decide) (by decide) ki.2.2.2.2.2.2.2.2.2.1 ki.2.2.2.1 (by rw [eQ]; exact q)
    · refine ⟨16, hd_of (own := RX0) ki.2.2.2.2.2.2.2.2.2.2.2.2 (pre' := [(0, 9, 12, 15)]) (q := (0, 9, 16, 21)) (rest' := []) rfl ⟨p0, p1⟩ rfl (by decide) (C := "java/lang/IndexOutOfBoundsException") q1231 ⟨_, _, rfl⟩ (fun y hy => by have hy := List.mem_singleton.mp hy; rw [hy]; exact ⟨⟨p0, p1⟩, by decide, _, q1180, nc_ioobe_ise⟩), ?_⟩
      exact hd_num (z := 2) (k := 4) (c := 22) ki.1 (pk_X0_calls ki hG) (.astore 4) (.iconst 2) (by decide +kernel) (by decide +kernel) (by decide +kernel) (fun lv st h0 x q1 q2 => by show (bif on1 x pR && Nat.blt 4 lv.length then some (([] : List Prop), stl lv 4 x, st) else none) = _; rw [show (on1 x pR && Nat.blt 4 lv.length) = true by rw [on1_eq, q2, (blt_iff _ _).mpr q1]; rfl]; rfl) (fun _ _ _ => rfl) (by rw [ki.2.2.2.2.2.2.2.2.2.2.1]; decide) (by decide) ki.2.2.2.2.2.2.2.2.2.1 ki.2.2.2.1 (by rw [eQ]; exact q)
  refine r_X0_calls_0 ki hG har ?_
  refine ⟨h0, Sem_mono hc (fun z h1 _ q => ?_) (fun _ _ _ _ q => q)⟩
  refine ⟨q.1, Int.le_refl _, q.2.1, fun h2 e => ?_⟩
  subst e
  exact r_X0_calls_9 ki hG q.2.2
theorem t_X0_outcome {l : Launch} {G : JG} (hG : gO G = true) {h : MH} {v0 v1 v2 v3 : Int} {Q : Int → MH → Prop} {E : Nat → Int → MH → Prop} (h0 : v0 ≠ 0) (hc : S_X1_outcome l G [(2001, v0), (0, v1), (0, v2)] h (fun z h1 => v3 ≠ 0 ∧ 0 < hn h1 v3 ∧ Q 0 (hset h1 v3 0 z)) (fun c _ h1 => (c = 21 ∧ Q 1 h1) ∨ (c = 22 ∧ Q 2 h1))) : S_X0_outcome l G [(5, v0), (0, v1), (0, v2), (105, v3)] h Q E := by
  refine s_X0_outcome rfl fun K ki => ?_
  have eQ : kQ K = Q := ki.2.2.2.2.1
  have har : ∀ pc, 0 ≤ pc → pc < 9 → AR K (fun c _ h1 => (c = 21 ∧ Q 1 h1) ∨ (c = 22 ∧ Q 2 h1)) pc := by
    intro pc p0 p1
    refine ar_inX ki.1 (fun c a h1 e => ?_)
    rcases e with ⟨rfl, q⟩ | ⟨rfl, q⟩
    · refine ⟨12, hd_of (own := RX0) ki.2.2.2.2.2.2.2.2.2.2.2.2 (pre' := []) (q := (0, 9, 12, 15)) (rest' := [(0, 9, 16, 21)]) rfl ⟨p0, p1⟩ rfl (by decide) (C := "java/lang/IllegalStateException") q1180 ⟨_, _, rfl⟩ (fun y hy => by cases hy), ?_⟩
      exact hd_num (z := 1) (k := 4) (c := 21) ki.1 (pk_X0_outcome ki hG) (.astore 4) (.iconst 1) (by decide +kernel) (by decide +kernel) (by decide +kernel) (fun lv st h0 x q1 q2 => by show (bif on1 x pR && Nat.blt 4 lv.length then some (([] : List Prop), stl lv 4 x, st) else none) = _; rw [show (on1 x pR && Nat.blt 4 lv.length) = true by rw [on1_eq, q2, (blt_iff _ _).mpr q1]; rfl]; rfl) (fun _ _ _ => rfl) (by rw [ki.2.2.2.2.2.2.2.2.2.2.1]; decide) (by decide) ki.2.2.2.2.2.2.2.2.2.1 ki.2.2.2.1 (by rw [eQ]; exact q)
    · refine ⟨16, hd_of (own := RX0) ki.2.2.2.2.2.2.2.2.2.2.2.2 (pre' := [(0, 9, 12, 15)]) (q := (0, 9, 16, 21)) (rest' := []) rfl ⟨p0, p1⟩ rfl (by decide) (C := "java/lang/IndexOutOfBoundsException") q1231 ⟨_, _, rfl⟩ (fun y hy => by have hy := List.mem_singleton.mp hy; rw [hy]; exact ⟨⟨p0, p1⟩, by decide, _, q1180, nc_ioobe_ise⟩), ?_⟩
      exact hd_num (z := 2) (k := 4) (c := 22) ki.1 (pk_X0_outcome ki hG) (.astore 4) (.iconst 2) (by decide +kernel) (by decide +kernel) (by decide +kernel) (fun lv st h0 x q1 q2 => by show (bif on1 x pR && Nat.blt 4 lv.length then some (([] : List Prop), stl lv 4 x, st) else none) = _; rw [show (on1 x pR && Nat.blt 4 lv.length) = true by rw [on1_eq, q2, (blt_iff _ _).mpr q1]; rfl]; rfl) (fun _ _ _ => rfl) (by rw [ki.2.2.2.2.2.2.2.2.2.2.1]; decide) (by decide) ki.2.2.2.2.2.2.2.2.2.1 ki.2.2.2.1 (by rw [eQ]; exact q)
  refine r_X0_outcome_0 ki hG har ?_
  refine ⟨h0, Sem_mono hc (fun z h1 _ q => ?_) (fun _ _ _ _ q => q)⟩
  refine ⟨q.1, Int.le_refl _, q.2.1, fun h2 e => ?_⟩
  subst e
  exact r_X0_outcome_9 ki hG q.2.2
theorem t_X0_held {l : Launch} {G : JG} (hG : gO G = true) {h : MH} {v0 v1 v2 v3 v4 : Int} {Q : Int → MH → Prop} {E : Nat → Int → MH → Prop} (h0 : v0 ≠ 0) (hc : S_X1_held l G [(2001, v0), (0, v1), (0, v2), (0, v3)] h (fun z h1 => v4 ≠ 0 ∧ 0 < hn h1 v4 ∧ Q 0 (hset h1 v4 0 z)) (fun c _ h1 => (c = 21 ∧ Q 1 h1) ∨ (c = 22 ∧ Q 2 h1))) : S_X0_held l G [(5, v0), (0, v1), (0, v2), (0, v3), (105, v4)] h Q E := by
  refine s_X0_held rfl fun K ki => ?_
  have eQ : kQ K = Q := ki.2.2.2.2.1
  have har : ∀ pc, 0 ≤ pc → pc < 11 → AR K (fun c _ h1 => (c = 21 ∧ Q 1 h1) ∨ (c = 22 ∧ Q 2 h1)) pc := by
    intro pc p0 p1
    refine ar_inX ki.1 (fun c a h1 e => ?_)
    rcases e with ⟨rfl, q⟩ | ⟨rfl, q⟩
    · refine ⟨14, hd_of (own := RX0) ki.2.2.2.2.2.2.2.2.2.2.2.2 (pre' := []) (q := (0, 11, 14, 15)) (rest' := [(0, 11, 18, 21)]) rfl ⟨p0, p1⟩ rfl (by decide) (C := "java/lang/IllegalStateException") q1180 ⟨_, _, rfl⟩ (fun y hy => by cases hy), ?_⟩
      exact hd_num (z := 1) (k := 5) (c := 21) ki.1 (pk_X0_held ki hG) (.astore 5) (.iconst 1) (by decide +kernel) (by decide +kernel) (by decide +kernel) (fun lv st h0 x q1 q2 => by show (bif on1 x pR && Nat.blt 5 lv.length then some (([] : List Prop), stl lv 5 x, st) else none) = _; rw [show (on1 x pR && Nat.blt 5 lv.length) = true by rw [on1_eq, q2, (blt_iff _ _).mpr q1]; rfl]; rfl) (fun _ _ _ => rfl) (by rw [ki.2.2.2.2.2.2.2.2.2.2.1]; decide) (by decide) ki.2.2.2.2.2.2.2.2.2.1 ki.2.2.2.1 (by rw [eQ]; exact q)
    · refine ⟨18, hd_of (own := RX0) ki.2.2.2.2.2.2.2.2.2.2.2.2 (pre' := [(0, 11, 14, 15)]) (q := (0, 11, 18, 21)) (rest' := []) rfl ⟨p0, p1⟩ rfl (by decide) (C := "java/lang/IndexOutOfBoundsException") q1231 ⟨_, _, rfl⟩ (fun y hy => by have hy := List.mem_singleton.mp hy; rw [hy]; exact ⟨⟨p0, p1⟩, by decide, _, q1180, nc_ioobe_ise⟩), ?_⟩
      exact hd_num (z := 2) (k := 5) (c := 22) ki.1 (pk_X0_held ki hG) (.astore 5) (.iconst 2) (by decide +kernel) (by decide +kernel) (by decide +kernel) (fun lv st h0 x q1 q2 => by show (bif on1 x pR && Nat.blt 5 lv.length then some (([] : List Prop), stl lv 5 x, st) else none) = _; rw [show (on1 x pR && Nat.blt 5 lv.length) = true by rw [on1_eq, q2, (blt_iff _ _).mpr q1]; rfl]; rfl) (fun _ _ _ => rfl) (by rw [ki.2.2.2.2.2.2.2.2.2.2.1]; decide) (by decide) ki.2.2.2.2.2.2.2.2.2.1 ki.2.2.2.1 (by rw [eQ]; exact q)
  refine r_X0_held_0 ki hG har ?_
  refine ⟨h0, Sem_mono hc (fun z h1 _ q => ?_) (fun _ _ _ _ q => q)⟩
  refine ⟨q.1, Int.le_refl _, q.2.1, fun h2 e => ?_⟩
  subst e
  exact r_X0_held_11 ki hG q.2.2
theorem t_X0_statics {l : Launch} {G : JG} (hG : gO G = true) {h : MH} {v0 v1 v2 v3 : Int} {Q : Int → MH → Prop} {E : Nat → Int → MH → Prop} (h0 : v0 ≠ 0) (hc : S_X1_statics l G [(2001, v0), (0, v1), (0, v2)] h (fun z h1 => v3 ≠ 0 ∧ 0 < hn h1 v3 ∧ Q 0 (hset h1 v3 0 z)) (fun c _ h1 => (c = 21 ∧ Q 1 h1) ∨ (c = 22 ∧ Q 2 h1))) : S_X0_statics l G [(5, v0), (0, v1), (0, v2), (105, v3)] h Q E := by
  refine s_X0_statics rfl fun K ki => ?_
  have eQ : kQ K = Q := ki.2.2.2.2.1
  have har : ∀ pc, 0 ≤ pc → pc < 9 → AR K (fun c _ h1 => (c = 21 ∧ Q 1 h1) ∨ (c = 22 ∧ Q 2 h1)) pc := by
    intro pc p0 p1
    refine ar_inX ki.1 (fun c a h1 e => ?_)
    rcases e with ⟨rfl, q⟩ | ⟨rfl, q⟩
    · refine ⟨12, hd_of (own := RX0) ki.2.2.2.2.2.2.2.2.2.2.2.2 (pre' := []) (q := (0, 9, 12, 15)) (rest' := [(0, 9, 16, 21)]) rfl ⟨p0, p1⟩ rfl (by decide) (C := "java/lang/IllegalStateException") q1180 ⟨_, _, rfl⟩ (fun y hy => by cases hy), ?_⟩
      exact hd_num (z := 1) (k := 4) (c := 21) ki.1 (pk_X0_statics ki hG) (.astore 4) (.iconst 1) (by decide +kernel) (by decide +kernel) (by decide +kernel) (fun lv st h0 x q1 q2 => by show (bif on1 x pR && Nat.blt 4 lv.length then some (([] : List Prop), stl lv 4 x, st) else none) = _; rw [show (on1 x pR && Nat.blt 4 lv.length) = true by rw [on1_eq, q2, (blt_iff _ _).mpr q1]; rfl]; rfl) (fun _ _ _ => rfl) (by rw [ki.2.2.2.2.2.2.2.2.2.2.1]; decide) (by decide) ki.2.2.2.2.2.2.2.2.2.1 ki.2.2.2.1 (by rw [eQ]; exact q)
    · refine ⟨16, hd_of (own := RX0) ki.2.2.2.2.2.2.2.2.2.2.2.2 (pre' := [(0, 9, 12, 15)]) (q := (0, 9, 16, 21)) (rest' := []) rfl ⟨p0, p1⟩ rfl (by decide) (C := "java/lang/IndexOutOfBoundsException") q1231 ⟨_, _, rfl⟩ (fun y hy => by have hy := List.mem_singleton.mp hy; rw [hy]; exact ⟨⟨p0, p1⟩, by decide, _, q1180, nc_ioobe_ise⟩), ?_⟩
      exact hd_num (z := 2) (k := 4) (c := 22) ki.1 (pk_X0_statics ki hG) (.astore 4) (.iconst 2) (by decide +kernel) (by decide +kernel) (by decide +kernel) (fun lv st h0 x q1 q2 => by show (bif on1 x pR && Nat.blt 4 lv.length then some (([] : List Prop), stl lv 4 x, st) else none) = _; rw [show (on1 x pR && Nat.blt 4 lv.length) = true by rw [on1_eq, q2, (blt_iff _ _).mpr q1]; rfl]; rfl) (fun _ _ _ => rfl) (by rw [ki.2.2.2.2.2.2.2.2.2.2.1]; decide) (by decide) ki.2.2.2.2.2.2.2.2.2.1 ki.2.2.2.1 (by rw [eQ]; exact q)
  refine r_X0_statics_0 ki hG har ?_
  refine ⟨h0, Sem_mono hc (fun z h1 _ q => ?_) (fun _ _ _ _ q => q)⟩
  refine ⟨q.1, Int.le_refl _, q.2.1, fun h2 e => ?_⟩
  subst e
  exact r_X0_statics_9 ki hG q.2.2
theorem t_X0_sink {l : Launch} {G : JG} (hG : gO G = true) {h : MH} {v0 v1 v2 v3 : Int} {Q : Int → MH → Prop} {E : Nat → Int → MH → Prop} (h0 : v0 ≠ 0) (hc : S_X1_sink l G [(2001, v0), (0, v1), (0, v2)] h (fun z h1 => v3 ≠ 0 ∧ 0 < hn h1 v3 ∧ Q 0 (hset h1 v3 0 z)) (fun c _ h1 => (c = 21 ∧ Q 1 h1) ∨ (c = 22 ∧ Q 2 h1))) : S_X0_sink l G [(5, v0), (0, v1), (0, v2), (105, v3)] h Q E := by
  refine s_X0_sink rfl fun K ki => ?_
  have eQ : kQ K = Q := ki.2.2.2.2.1
  have har : ∀ pc, 0 ≤ pc → pc < 9 → AR K (fun c _ h1 => (c = 21 ∧ Q 1 h1) ∨ (c = 22 ∧ Q 2 h1)) pc := by
    intro pc p0 p1
    refine ar_inX ki.1 (fun c a h1 e => ?_)
    rcases e with ⟨rfl, q⟩ | ⟨rfl, q⟩
    · refine ⟨12, hd_of (own := RX0) ki.2.2.2.2.2.2.2.2.2.2.2.2 (pre' := []) (q := (0, 9, 12, 15)) (rest' := [(0, 9, 16, 21)]) rfl ⟨p0, p1⟩ rfl (by decide) (C := "java/lang/IllegalStateException") q1180 ⟨_, _, rfl⟩ (fun y hy => by cases hy), ?_⟩
      exact hd_num (z := 1) (k := 4) (c := 21) ki.1 (pk_X0_sink ki hG) (.astore 4) (.iconst 1) (by decide +kernel) (by decide +kernel) (by decide +kernel) (fun lv st h0 x q1 q2 => by show (bif on1 x pR && Nat.blt 4 lv.length then some (([] : List Prop), stl lv 4 x, st) else none) = _; rw [show (on1 x pR && Nat.blt 4 lv.length) = true by rw [on1_eq, q2, (blt_iff _ _).mpr q1]; rfl]; rfl) (fun _ _ _ => rfl) (by rw [ki.2.2.2.2.2.2.2.2.2.2.1]; decide) (by decide) ki.2.2.2.2.2.2.2.2.2.1 ki.2.2.2.1 (by rw [eQ]; exact q)
    · refine ⟨16, hd_of (own := RX0) ki.2.2.2.2.2.2.2.2.2.2.2.2 (pre' := [(0, 9, 12, 15)]) (q := (0, 9, 16, 21)) (rest' := []) rfl ⟨p0, p1⟩ rfl (by decide) (C := "java/lang/IndexOutOfBoundsException") q1231 ⟨_, _, rfl⟩ (fun y hy => by have hy := List.mem_singleton.mp hy; rw [hy]; exact ⟨⟨p0, p1⟩, by decide, _, q1180, nc_ioobe_ise⟩), ?_⟩
      exact hd_num (z := 2) (k := 4) (c := 22) ki.1 (pk_X0_sink ki hG) (.astore 4) (.iconst 2) (by decide +kernel) (by decide +kernel) (by decide +kernel) (fun lv st h0 x q1 q2 => by show (bif on1 x pR && Nat.blt 4 lv.length then some (([] : List Prop), stl lv 4 x, st) else none) = _; rw [show (on1 x pR && Nat.blt 4 lv.length) = true by rw [on1_eq, q2, (blt_iff _ _).mpr q1]; rfl]; rfl) (fun _ _ _ => rfl) (by rw [ki.2.2.2.2.2.2.2.2.2.2.1]; decide) (by decide) ki.2.2.2.2.2.2.2.2.2.1 ki.2.2.2.1 (by rw [eQ]; exact q)
  refine r_X0_sink_0 ki hG har ?_
  refine ⟨h0, Sem_mono hc (fun z h1 _ q => ?_) (fun _ _ _ _ q => q)⟩
  refine ⟨q.1, Int.le_refl _, q.2.1, fun h2 e => ?_⟩
  subst e
  exact r_X0_sink_9 ki hG q.2.2
theorem t_X0_live {l : Launch} {G : JG} (hG : gO G = true) {h : MH} {v0 v1 v2 v3 : Int} {Q : Int → MH → Prop} {E : Nat → Int → MH → Prop} (h0 : v0 ≠ 0) (hc : S_X1_live l G [(2001, v0), (0, v1), (0, v2)] h (fun z h1 => v3 ≠ 0 ∧ 0 < hn h1 v3 ∧ Q 0 (hset h1 v3 0 z)) (fun c _ h1 => (c = 21 ∧ Q 1 h1) ∨ (c = 22 ∧ Q 2 h1))) : S_X0_live l G [(5, v0), (0, v1), (0, v2), (105, v3)] h Q E := by
  refine s_X0_live rfl fun K ki => ?_
  have eQ : kQ K = Q := ki.2.2.2.2.1
  have har : ∀ pc, 0 ≤ pc → pc < 10 → AR K (fun c _ h1 => (c = 21 ∧ Q 1 h1) ∨ (c = 22 ∧ Q 2 h1)) pc := by
    intro pc p0 p1
    refine ar_inX ki.1 (fun c a h1 e => ?_)
    rcases e with ⟨rfl, q⟩ | ⟨rfl, q⟩
    · refine ⟨13, hd_of (own := RX0) ki.2.2.2.2.2.2.2.2.2.2.2.2 (pre' := []) (q := (0, 10, 13, 15)) (rest' := [(0, 10, 17, 21)]) rfl ⟨p0, p1⟩ rfl (by decide) (C := "java/lang/IllegalStateException") q1180 ⟨_, _, rfl⟩ (fun y hy => by cases hy), ?_⟩
      exact hd_num (z := 1) (k := 4) (c := 21) ki.1 (pk_X0_live ki hG) (.astore 4) (.iconst 1) (by decide +kernel) (by decide +kernel) (by decide +kernel) (fun lv st h0 x q1 q2 => by show (bif on1 x pR && Nat.blt 4 lv.length then some (([] : List Prop), stl lv 4 x, st) else none) = _; rw [show (on1 x pR && Nat.blt 4 lv.length) = true by rw [on1_eq, q2, (blt_iff _ _).mpr q1]; rfl]; rfl) (fun _ _ _ => rfl) (by rw [ki.2.2.2.2.2.2.2.2.2.2.1]; decide) (by decide) ki.2.2.2.2.2.2.2.2.2.1 ki.2.2.2.1 (by rw [eQ]; exact q)
    · refine ⟨17, hd_of (own := RX0) ki.2.2.2.2.2.2.2.2.2.2.2.2 (pre' := [(0, 10, 13, 15)]) (q := (0, 10, 17, 21)) (rest' := []) rfl ⟨p0, p1⟩ rfl (by decide) (C := "java/lang/IndexOutOfBoundsException") q1231 ⟨_, _, rfl⟩ (fun y hy => by have hy := List.mem_singleton.mp hy; rw [hy]; exact ⟨⟨p0, p1⟩, by decide, _, q1180, nc_ioobe_ise⟩), ?_⟩
      exact hd_num (z := 2) (k := 4) (c := 22) ki.1 (pk_X0_live ki hG) (.astore 4) (.iconst 2) (by decide +kernel) (by decide +kernel) (by decide +kernel) (fun lv st h0 x q1 q2 => by show (bif on1 x pR && Nat.blt 4 lv.length then some (([] : List Prop), stl lv 4 x, st) else none) = _; rw [show (on1 x pR && Nat.blt 4 lv.length) = true by rw [on1_eq, q2, (blt_iff _ _).mpr q1]; rfl]; rfl) (fun _ _ _ => rfl) (by rw [ki.2.2.2.2.2.2.2.2.2.2.1]; decide) (by decide) ki.2.2.2.2.2.2.2.2.2.1 ki.2.2.2.1 (by rw [eQ]; exact q)
  refine r_X0_live_0 ki hG har ?_
  refine ⟨h0, Sem_mono hc (fun z h1 _ q => ?_) (fun _ _ _ _ q => q)⟩
  refine ⟨q.1, Int.le_refl _, q.2.1, fun h2 e => ?_⟩
  subst e
  exact r_X0_live_10 ki hG q.2.2
theorem t_X0_idle {l : Launch} {G : JG} (hG : gO G = true) {h : MH} {v0 v1 v2 : Int} {Q : Int → MH → Prop} {E : Nat → Int → MH → Prop} (h0 : v0 ≠ 0) (hc : S_X1_idle l G [(2001, v0), (0, v1)] h (fun z h1 => v2 ≠ 0 ∧ 0 < hn h1 v2 ∧ Q 0 (hset h1 v2 0 z)) (fun c _ h1 => (c = 21 ∧ Q 1 h1) ∨ (c = 22 ∧ Q 2 h1))) : S_X0_idle l G [(5, v0), (0, v1), (105, v2)] h Q E := by
  refine s_X0_idle rfl fun K ki => ?_
  have eQ : kQ K = Q := ki.2.2.2.2.1
  have har : ∀ pc, 0 ≤ pc → pc < 9 → AR K (fun c _ h1 => (c = 21 ∧ Q 1 h1) ∨ (c = 22 ∧ Q 2 h1)) pc := by
    intro pc p0 p1
    refine ar_inX ki.1 (fun c a h1 e => ?_)
    rcases e with ⟨rfl, q⟩ | ⟨rfl, q⟩
    · refine ⟨12, hd_of (own := RX0) ki.2.2.2.2.2.2.2.2.2.2.2.2 (pre' := []) (q := (0, 9, 12, 15)) (rest' := [(0, 9, 15, 21)]) rfl ⟨p0, p1⟩ rfl (by decide) (C := "java/lang/IllegalStateException") q1180 ⟨_, _, rfl⟩ (fun y hy => by cases hy), ?_⟩
      exact hd_num (z := 1) (k := 3) (c := 21) ki.1 (pk_X0_idle ki hG) (.astore_n 3) (.iconst 1) (by decide +kernel) (by decide +kernel) (by decide +kernel) (fun lv st h0 x q1 q2 => by show (bif on1 x pR && Nat.blt 3 lv.length then some (([] : List Prop), stl lv 3 x, st) else none) = _; rw [show (on1 x pR && Nat.blt 3 lv.length) = true by rw [on1_eq, q2, (blt_iff _ _).mpr q1]; rfl]; rfl) (fun _ _ _ => rfl) (by rw [ki.2.2.2.2.2.2.2.2.2.2.1]; decide) (by decide) ki.2.2.2.2.2.2.2.2.2.1 ki.2.2.2.1 (by rw [eQ]; exact q)
    · refine ⟨15, hd_of (own := RX0) ki.2.2.2.2.2.2.2.2.2.2.2.2 (pre' := [(0, 9, 12, 15)]) (q := (0, 9, 15, 21)) (rest' := []) rfl ⟨p0, p1⟩ rfl (by decide) (C := "java/lang/IndexOutOfBoundsException") q1231 ⟨_, _, rfl⟩ (fun y hy => by have hy := List.mem_singleton.mp hy; rw [hy]; exact ⟨⟨p0, p1⟩, by decide, _, q1180, nc_ioobe_ise⟩), ?_⟩
      exact hd_num (z := 2) (k := 3) (c := 22) ki.1 (pk_X0_idle ki hG) (.astore_n 3) (.iconst 2) (by decide +kernel) (by decide +kernel) (by decide +kernel) (fun lv st h0 x q1 q2 => by show (bif on1 x pR && Nat.blt 3 lv.length then some (([] : List Prop), stl lv 3 x, st) else none) = _; rw [show (on1 x pR && Nat.blt 3 lv.length) = true by rw [on1_eq, q2, (blt_iff _ _).mpr q1]; rfl]; rfl) (fun _ _ _ => rfl) (by rw [ki.2.2.2.2.2.2.2.2.2.2.1]; decide) (by decide) ki.2.2.2.2.2.2.2.2.2.1 ki.2.2.2.1 (by rw [eQ]; exact q)
  refine r_X0_idle_0 ki hG har ?_
  refine ⟨h0, Sem_mono hc (fun z h1 _ q => ?_) (fun _ _ _ _ q => q)⟩
  refine ⟨q.1, Int.le_refl _, q.2.1, fun h2 e => ?_⟩
  subst e
  exact r_X0_idle_9 ki hG q.2.2
theorem t_X0_threads {l : Launch} {G : JG} (hG : gO G = true) {h : MH} {v0 v1 v2 : Int} {Q : Int → MH → Prop} {E : Nat → Int → MH → Prop} (h0 : v0 ≠ 0) (hc : S_X1_threads l G [(2001, v0), (0, v1)] h (fun z h1 => v2 ≠ 0 ∧ 0 < hn h1 v2 ∧ Q 0 (hset h1 v2 0 z)) (fun c _ h1 => (c = 21 ∧ Q 1 h1) ∨ (c = 22 ∧ Q 2 h1))) : S_X0_threads l G [(5, v0), (0, v1), (105, v2)] h Q E := by
  refine s_X0_threads rfl fun K ki => ?_
  have eQ : kQ K = Q := ki.2.2.2.2.1
  have har : ∀ pc, 0 ≤ pc → pc < 9 → AR K (fun c _ h1 => (c = 21 ∧ Q 1 h1) ∨ (c = 22 ∧ Q 2 h1)) pc := by
    intro pc p0 p1
    refine ar_inX ki.1 (fun c a h1 e => ?_)
    rcases e with ⟨rfl, q⟩ | ⟨rfl, q⟩
    · refine ⟨12, hd_of (own := RX0) ki.2.2.2.2.2.2.2.2.2.2.2.2 (pre' := []) (q := (0, 9, 12, 15)) (rest' := [(0, 9, 15, 21)]) rfl ⟨p0, p1⟩ rfl (by decide) (C := "java/lang/IllegalStateException") q1180 ⟨_, _, rfl⟩ (fun y hy => by cases hy), ?_⟩
      exact hd_num (z := 1) (k := 3) (c := 21) ki.1 (pk_X0_threads ki hG) (.astore_n 3) (.iconst 1) (by decide +kernel) (by decide +kernel) (by decide +kernel) (fun lv st h0 x q1 q2 => by show (bif on1 x pR && Nat.blt 3 lv.length then some (([] : List Prop), stl lv 3 x, st) else none) = _; rw [show (on1 x pR && Nat.blt 3 lv.length) = true by rw [on1_eq, q2, (blt_iff _ _).mpr q1]; rfl]; rfl) (fun _ _ _ => rfl) (by rw [ki.2.2.2.2.2.2.2.2.2.2.1]; decide) (by decide) ki.2.2.2.2.2.2.2.2.2.1 ki.2.2.2.1 (by rw [eQ]; exact q)
    · refine ⟨15, hd_of (own := RX0) ki.2.2.2.2.2.2.2.2.2.2.2.2 (pre' := [(0, 9, 12, 15)]) (q := (0, 9, 15, 21)) (rest' := []) rfl ⟨p0, p1⟩ rfl (by decide) (C := "java/lang/IndexOutOfBoundsException") q1231 ⟨_, _, rfl⟩ (fun y hy => by have hy := List.mem_singleton.mp hy; rw [hy]; exact ⟨⟨p0, p1⟩, by decide, _, q1180, nc_ioobe_ise⟩), ?_⟩
      exact hd_num (z := 2) (k := 3) (c := 22) ki.1 (pk_X0_threads ki hG) (.astore_n 3) (.iconst 2) (by decide +kernel) (by decide +kernel) (by decide +kernel) (fun lv st h0 x q1 q2 => by show (bif on1 x pR && Nat.blt 3 lv.length then some (([] : List Prop), stl lv 3 x, st) else none) = _; rw [show (on1 x pR && Nat.blt 3 lv.length) = true by rw [on1_eq, q2, (blt_iff _ _).mpr q1]; rfl]; rfl) (fun _ _ _ => rfl) (by rw [ki.2.2.2.2.2.2.2.2.2.2.1]; decide) (by decide) ki.2.2.2.2.2.2.2.2.2.1 ki.2.2.2.1 (by rw [eQ]; exact q)
  refine r_X0_threads_0 ki hG har ?_
  refine ⟨h0, Sem_mono hc (fun z h1 _ q => ?_) (fun _ _ _ _ q => q)⟩
  refine ⟨q.1, Int.le_refl _, q.2.1, fun h2 e => ?_⟩
  subst e
  exact r_X0_threads_9 ki hG q.2.2
theorem t_X0_race {l : Launch} {G : JG} (hG : gO G = true) {h : MH} {v0 v1 v2 v3 : Int} {Q : Int → MH → Prop} {E : Nat → Int → MH → Prop} (h0 : v0 ≠ 0) (hc : S_X1_race l G [(2001, v0), (0, v1), (0, v2)] h (fun z h1 => v3 ≠ 0 ∧ 0 < hn h1 v3 ∧ Q 0 (hset h1 v3 0 z)) (fun c _ h1 => (c = 21 ∧ Q 1 h1) ∨ (c = 22 ∧ Q 2 h1))) : S_X0_race l G [(5, v0), (0, v1), (0, v2), (105, v3)] h Q E := by
  refine s_X0_race rfl fun K ki => ?_
  have eQ : kQ K = Q := ki.2.2.2.2.1
  have har : ∀ pc, 0 ≤ pc → pc < 10 → AR K (fun c _ h1 => (c = 21 ∧ Q 1 h1) ∨ (c = 22 ∧ Q 2 h1)) pc := by
    intro pc p0 p1
    refine ar_inX ki.1 (fun c a h1 e => ?_)
    rcases e with ⟨rfl, q⟩ | ⟨rfl, q⟩
    · refine ⟨13, hd_of (own := RX0) ki.2.2.2.2.2.2.2.2.2.2.2.2 (pre' := []) (q := (0, 10, 13, 15)) (rest' := [(0, 10, 17, 21)]) rfl ⟨p0, p1⟩ rfl (by decide) (C := "java/lang/IllegalStateException") q1180 ⟨_, _, rfl⟩ (fun y hy => by cases hy), ?_⟩
      exact hd_num (z := 1) (k := 4) (c := 21) ki.1 (pk_X0_race ki hG) (.astore 4) (.iconst 1) (by decide +kernel) (by decide +kernel) (by decide +kernel) (fun lv st h0 x q1 q2 => by show (bif on1 x pR && Nat.blt 4 lv.length then some (([] : List Prop), stl lv 4 x, st) else none) = _; rw [show (on1 x pR && Nat.blt 4 lv.length) = true by rw [on1_eq, q2, (blt_iff _ _).mpr q1]; rfl]; rfl) (fun _ _ _ => rfl) (by rw [ki.2.2.2.2.2.2.2.2.2.2.1]; decide) (by decide) ki.2.2.2.2.2.2.2.2.2.1 ki.2.2.2.1 (by rw [eQ]; exact q)
    · refine ⟨17, hd_of (own := RX0) ki.2.2.2.2.2.2.2.2.2.2.2.2 (pre' := [(0, 10, 13, 15)]) (q := (0, 10, 17, 21)) (rest' := []) rfl ⟨p0, p1⟩ rfl (by decide) (C := "java/lang/IndexOutOfBoundsException") q1231 ⟨_, _, rfl⟩ (fun y hy => by have hy := List.mem_singleton.mp hy; rw [hy]; exact ⟨⟨p0, p1⟩, by decide, _, q1180, nc_ioobe_ise⟩), ?_⟩
      exact hd_num (z := 2) (k := 4) (c := 22) ki.1 (pk_X0_race ki hG) (.astore 4) (.iconst 2) (by decide +kernel) (by decide +kernel) (by decide +kernel) (fun lv st h0 x q1 q2 => by show (bif on1 x pR && Nat.blt 4 lv.length then some (([] : List Prop), stl lv 4 x, st) else none) = _; rw [show (on1 x pR && Nat.blt 4 lv.length) = true by rw [on1_eq, q2, (blt_iff _ _).mpr q1]; rfl]; rfl) (fun _ _ _ => rfl) (by rw [ki.2.2.2.2.2.2.2.2.2.2.1]; decide) (by decide) ki.2.2.2.2.2.2.2.2.2.1 ki.2.2.2.1 (by rw [eQ]; exact q)
  refine r_X0_race_0 ki hG har ?_
  refine ⟨h0, Sem_mono hc (fun z h1 _ q => ?_) (fun _ _ _ _ q => q)⟩
  refine ⟨q.1, Int.le_refl _, q.2.1, fun h2 e => ?_⟩
  subst e
  exact r_X0_race_10 ki hG q.2.2
theorem t_X0_runs {l : Launch} {G : JG} (hG : gO G = true) {h : MH} {v0 v1 v2 : Int} {Q : Int → MH → Prop} {E : Nat → Int → MH → Prop} (h0 : v0 ≠ 0) (hc : S_X1_runs l G [(2001, v0), (0, v1)] h (fun z h1 => v2 ≠ 0 ∧ 0 < hn h1 v2 ∧ Q 0 (hset h1 v2 0 z)) (fun c _ h1 => (c = 21 ∧ Q 1 h1) ∨ (c = 22 ∧ Q 2 h1))) : S_X0_runs l G [(5, v0), (0, v1), (105, v2)] h Q E := by
  refine s_X0_runs rfl fun K ki => ?_
  have eQ : kQ K = Q := ki.2.2.2.2.1
  have har : ∀ pc, 0 ≤ pc → pc < 8 → AR K (fun c _ h1 => (c = 21 ∧ Q 1 h1) ∨ (c = 22 ∧ Q 2 h1)) pc := by
    intro pc p0 p1
    refine ar_inX ki.1 (fun c a h1 e => ?_)
    rcases e with ⟨rfl, q⟩ | ⟨rfl, q⟩
    · refine ⟨11, hd_of (own := RX0) ki.2.2.2.2.2.2.2.2.2.2.2.2 (pre' := []) (q := (0, 8, 11, 15)) (rest' := [(0, 8, 14, 21)]) rfl ⟨p0, p1⟩ rfl (by decide) (C := "java/lang/IllegalStateException") q1180 ⟨_, _, rfl⟩ (fun y hy => by cases hy), ?_⟩
      exact hd_num (z := 1) (k := 3) (c := 21) ki.1 (pk_X0_runs ki hG) (.astore_n 3) (.iconst 1) (by decide +kernel) (by decide +kernel) (by decide +kernel) (fun lv st h0 x q1 q2 => by show (bif on1 x pR && Nat.blt 3 lv.length then some (([] : List Prop), stl lv 3 x, st) else none) = _; rw [show (on1 x pR && Nat.blt 3 lv.length) = true by rw [on1_eq, q2, (blt_iff _ _).mpr q1]; rfl]; rfl) (fun _ _ _ => rfl) (by rw [ki.2.2.2.2.2.2.2.2.2.2.1]; decide) (by decide) ki.2.2.2.2.2.2.2.2.2.1 ki.2.2.2.1 (by rw [eQ]; exact q)
    · refine ⟨14, hd_of (own := RX0) ki.2.2.2.2.2.2.2.2.2.2.2.2 (pre' := [(0, 8, 11, 15)]) (q := (0, 8, 14, 21)) (rest' := []) rfl ⟨p0, p1⟩ rfl (by decide) (C := "java/lang/IndexOutOfBoundsException") q1231 ⟨_, _, rfl⟩ (fun y hy => by have hy := List.mem_singleton.mp hy; rw [hy]; exact ⟨⟨p0, p1⟩, by decide, _, q1180, nc_ioobe_ise⟩), ?_⟩
      exact hd_num (z := 2) (k := 3) (c := 22) ki.1 (pk_X0_runs ki hG) (.astore_n 3) (.iconst 2) (by decide +kernel) (by decide +kernel) (by decide +kernel) (fun lv st h0 x q1 q2 => by show (bif on1 x pR && Nat.blt 3 lv.length then some (([] : List Prop), stl lv 3 x, st) else none) = _; rw [show (on1 x pR && Nat.blt 3 lv.length) = true by rw [on1_eq, q2, (blt_iff _ _).mpr q1]; rfl]; rfl) (fun _ _ _ => rfl) (by rw [ki.2.2.2.2.2.2.2.2.2.2.1]; decide) (by decide) ki.2.2.2.2.2.2.2.2.2.1 ki.2.2.2.1 (by rw [eQ]; exact q)
  refine r_X0_runs_0 ki hG har ?_
  refine ⟨h0, Sem_mono hc (fun z h1 _ q => ?_) (fun _ _ _ _ q => q)⟩
  refine ⟨q.1, Int.le_refl _, q.2.1, fun h2 e => ?_⟩
  subst e
  exact r_X0_runs_8 ki hG q.2.2
theorem t_X0_input {l : Launch} {G : JG} (hG : gO G = true) {h : MH} {v0 v1 v2 : Int} {Q : Int → MH → Prop} {E : Nat → Int → MH → Prop} (h0 : v0 ≠ 0) (hc : S_X1_input l G [(2001, v0), (0, v1)] h (fun z h1 => v2 ≠ 0 ∧ 0 < hn h1 v2 ∧ Q 0 (hset h1 v2 0 z)) (fun c _ h1 => (c = 21 ∧ Q 1 h1))) : S_X0_input l G [(5, v0), (0, v1), (105, v2)] h Q E := by
  refine s_X0_input rfl fun K ki => ?_
  have eQ : kQ K = Q := ki.2.2.2.2.1
  have har : ∀ pc, 0 ≤ pc → pc < 9 → AR K (fun c _ h1 => (c = 21 ∧ Q 1 h1)) pc := by
    intro pc p0 p1
    refine ar_inX ki.1 (fun c a h1 e => ?_)
    rcases e with ⟨rfl, q⟩
    · refine ⟨12, hd_of (own := RX0) ki.2.2.2.2.2.2.2.2.2.2.2.2 (pre' := []) (q := (0, 9, 12, 15)) (rest' := []) rfl ⟨p0, p1⟩ rfl (by decide) (C := "java/lang/IllegalStateException") q1180 ⟨_, _, rfl⟩ (fun y hy => by cases hy), ?_⟩
      exact hd_num (z := 1) (k := 3) (c := 21) ki.1 (pk_X0_input ki hG) (.astore_n 3) (.iconst 1) (by decide +kernel) (by decide +kernel) (by decide +kernel) (fun lv st h0 x q1 q2 => by show (bif on1 x pR && Nat.blt 3 lv.length then some (([] : List Prop), stl lv 3 x, st) else none) = _; rw [show (on1 x pR && Nat.blt 3 lv.length) = true by rw [on1_eq, q2, (blt_iff _ _).mpr q1]; rfl]; rfl) (fun _ _ _ => rfl) (by rw [ki.2.2.2.2.2.2.2.2.2.2.1]; decide) (by decide) ki.2.2.2.2.2.2.2.2.2.1 ki.2.2.2.1 (by rw [eQ]; exact q)
  refine r_X0_input_0 ki hG har ?_
  refine ⟨h0, Sem_mono hc (fun z h1 _ q => ?_) (fun _ _ _ _ q => q)⟩
  refine ⟨q.1, Int.le_refl _, q.2.1, fun h2 e => ?_⟩
  subst e
  exact r_X0_input_9 ki hG q.2.2
theorem t_X0_walk {l : Launch} {G : JG} (hG : gO G = true) {h : MH} {v0 v1 v2 v3 v4 : Int} {Q : Int → MH → Prop} {E : Nat → Int → MH → Prop} (h0 : v0 ≠ 0) (hc : S_X1_walk l G [(2001, v0), (0, v1), (0, v2), (0, v3)] h (fun z h1 => v4 ≠ 0 ∧ 0 < hn h1 v4 ∧ Q 0 (hset h1 v4 0 z)) (fun c _ h1 => (c = 21 ∧ Q 1 h1) ∨ (c = 22 ∧ Q 2 h1) ∨ (c = 20 ∧ Q 3 h1))) : S_X0_walk l G [(5, v0), (0, v1), (0, v2), (0, v3), (105, v4)] h Q E := by
  refine s_X0_walk rfl fun K ki => ?_
  have eQ : kQ K = Q := ki.2.2.2.2.1
  have har : ∀ pc, 0 ≤ pc → pc < 12 → AR K (fun c _ h1 => (c = 21 ∧ Q 1 h1) ∨ (c = 22 ∧ Q 2 h1) ∨ (c = 20 ∧ Q 3 h1)) pc := by
    intro pc p0 p1
    refine ar_inX ki.1 (fun c a h1 e => ?_)
    rcases e with ⟨rfl, q⟩ | ⟨rfl, q⟩ | ⟨rfl, q⟩
    · refine ⟨15, hd_of (own := RX0) ki.2.2.2.2.2.2.2.2.2.2.2.2 (pre' := []) (q := (0, 12, 15, 15)) (rest' := [(0, 12, 19, 21), (0, 12, 23, 13)]) rfl ⟨p0, p1⟩ rfl (by decide) (C := "java/lang/IllegalStateException") q1180 ⟨_, _, rfl⟩ (fun y hy => by cases hy), ?_⟩
      exact hd_num (z := 1) (k := 5) (c := 21) ki.1 (pk_X0_walk ki hG) (.astore 5) (.iconst 1) (by decide +kernel) (by decide +kernel) (by decide +kernel) (fun lv st h0 x q1 q2 => by show (bif on1 x pR && Nat.blt 5 lv.length then some (([] : List Prop), stl lv 5 x, st) else none) = _; rw [show (on1 x pR && Nat.blt 5 lv.length) = true by rw [on1_eq, q2, (blt_iff _ _).mpr q1]; rfl]; rfl) (fun _ _ _ => rfl) (by rw [ki.2.2.2.2.2.2.2.2.2.2.1]; decide) (by decide) ki.2.2.2.2.2.2.2.2.2.1 ki.2.2.2.1 (by rw [eQ]; exact q)
    · refine ⟨19, hd_of (own := RX0) ki.2.2.2.2.2.2.2.2.2.2.2.2 (pre' := [(0, 12, 15, 15)]) (q := (0, 12, 19, 21)) (rest' := [(0, 12, 23, 13)]) rfl ⟨p0, p1⟩ rfl (by decide) (C := "java/lang/IndexOutOfBoundsException") q1231 ⟨_, _, rfl⟩ (fun y hy => by have hy := List.mem_singleton.mp hy; rw [hy]; exact ⟨⟨p0, p1⟩, by decide, _, q1180, nc_ioobe_ise⟩), ?_⟩
      exact hd_num (z := 2) (k := 5) (c := 22) ki.1 (pk_X0_walk ki hG) (.astore 5) (.iconst 2) (by decide +kernel) (by decide +kernel) (by decide +kernel) (fun lv st h0 x q1 q2 => by show (bif on1 x pR && Nat.blt 5 lv.length then some (([] : List Prop), stl lv 5 x, st) else none) = _; rw [show (on1 x pR && Nat.blt 5 lv.length) = true by rw [on1_eq, q2, (blt_iff _ _).mpr q1]; rfl]; rfl) (fun _ _ _ => rfl) (by rw [ki.2.2.2.2.2.2.2.2.2.2.1]; decide) (by decide) ki.2.2.2.2.2.2.2.2.2.1 ki.2.2.2.1 (by rw [eQ]; exact q)
    · refine ⟨23, hd_of (own := RX0) ki.2.2.2.2.2.2.2.2.2.2.2.2 (pre' := [(0, 12, 15, 15), (0, 12, 19, 21)]) (q := (0, 12, 23, 13)) (rest' := []) rfl ⟨p0, p1⟩ rfl (by decide) (C := "java/lang/IllegalArgumentException") q1179 ⟨_, _, rfl⟩ (fun y hy => by
        rcases List.mem_cons.mp hy with hy | hy
        · rw [hy]; exact ⟨⟨p0, p1⟩, by decide, _, q1180, nc_iae_ise⟩
        · have hy := List.mem_singleton.mp hy
          rw [hy]; exact ⟨⟨p0, p1⟩, by decide, _, q1231, nc_iae_ioobe⟩), ?_⟩
      exact hd_num (z := 3) (k := 5) (c := 20) ki.1 (pk_X0_walk ki hG) (.astore 5) (.iconst 3) (by decide +kernel) (by decide +kernel) (by decide +kernel) (fun lv st h0 x q1 q2 => by show (bif on1 x pR && Nat.blt 5 lv.length then some (([] : List Prop), stl lv 5 x, st) else none) = _; rw [show (on1 x pR && Nat.blt 5 lv.length) = true by rw [on1_eq, q2, (blt_iff _ _).mpr q1]; rfl]; rfl) (fun _ _ _ => rfl) (by rw [ki.2.2.2.2.2.2.2.2.2.2.1]; decide) (by decide) ki.2.2.2.2.2.2.2.2.2.1 ki.2.2.2.1 (by rw [eQ]; exact q)
  refine r_X0_walk_0 ki hG har ?_
  refine ⟨h0, Sem_mono hc (fun z h1 _ q => ?_) (fun _ _ _ _ q => q)⟩
  refine ⟨q.1, Int.le_refl _, q.2.1, fun h2 e => ?_⟩
  subst e
  exact r_X0_walk_12 ki hG q.2.2
theorem t_X0_walked {l : Launch} {G : JG} (hG : gO G = true) {h : MH} {v0 v1 v2 : Int} {Q : Int → MH → Prop} {E : Nat → Int → MH → Prop} (h0 : v0 ≠ 0) (hc : S_X1_walked l G [(2001, v0), (0, v1)] h (fun z h1 => v2 ≠ 0 ∧ 0 < hn h1 v2 ∧ Q 0 (hset h1 v2 0 z)) (fun c _ h1 => (c = 22 ∧ Q 1 h1))) : S_X0_walked l G [(5, v0), (0, v1), (105, v2)] h Q E := by
  refine s_X0_walked rfl fun K ki => ?_
  have eQ : kQ K = Q := ki.2.2.2.2.1
  have har : ∀ pc, 0 ≤ pc → pc < 9 → AR K (fun c _ h1 => (c = 22 ∧ Q 1 h1)) pc := by
    intro pc p0 p1
    refine ar_inX ki.1 (fun c a h1 e => ?_)
    rcases e with ⟨rfl, q⟩
    · refine ⟨12, hd_of (own := RX0) ki.2.2.2.2.2.2.2.2.2.2.2.2 (pre' := []) (q := (0, 9, 12, 21)) (rest' := []) rfl ⟨p0, p1⟩ rfl (by decide) (C := "java/lang/IndexOutOfBoundsException") q1231 ⟨_, _, rfl⟩ (fun y hy => by cases hy), ?_⟩
      exact hd_num (z := 1) (k := 3) (c := 22) ki.1 (pk_X0_walked ki hG) (.astore_n 3) (.iconst 1) (by decide +kernel) (by decide +kernel) (by decide +kernel) (fun lv st h0 x q1 q2 => by show (bif on1 x pR && Nat.blt 3 lv.length then some (([] : List Prop), stl lv 3 x, st) else none) = _; rw [show (on1 x pR && Nat.blt 3 lv.length) = true by rw [on1_eq, q2, (blt_iff _ _).mpr q1]; rfl]; rfl) (fun _ _ _ => rfl) (by rw [ki.2.2.2.2.2.2.2.2.2.2.1]; decide) (by decide) ki.2.2.2.2.2.2.2.2.2.1 ki.2.2.2.1 (by rw [eQ]; exact q)
  refine r_X0_walked_0 ki hG har ?_
  refine ⟨h0, Sem_mono hc (fun z h1 _ q => ?_) (fun _ _ _ _ q => q)⟩
  refine ⟨q.1, Int.le_refl _, q.2.1, fun h2 e => ?_⟩
  subst e
  exact r_X0_walked_9 ki hG q.2.2
theorem t_X0_output {l : Launch} {G : JG} (hG : gO G = true) {h : MH} {v0 v1 v2 v3 : Int} {Q : Int → MH → Prop} {E : Nat → Int → MH → Prop} (h0 : v0 ≠ 0) (hc : S_X1_output l G [(2001, v0), (0, v1), (0, v2)] h (fun z h1 => v3 ≠ 0 ∧ 0 < hn h1 v3 ∧ Q 0 (hset h1 v3 0 z)) (fun c _ h1 => (c = 22 ∧ Q 1 h1))) : S_X0_output l G [(5, v0), (0, v1), (0, v2), (105, v3)] h Q E := by
  refine s_X0_output rfl fun K ki => ?_
  have eQ : kQ K = Q := ki.2.2.2.2.1
  have har : ∀ pc, 0 ≤ pc → pc < 10 → AR K (fun c _ h1 => (c = 22 ∧ Q 1 h1)) pc := by
    intro pc p0 p1
    refine ar_inX ki.1 (fun c a h1 e => ?_)
    rcases e with ⟨rfl, q⟩
    · refine ⟨13, hd_of (own := RX0) ki.2.2.2.2.2.2.2.2.2.2.2.2 (pre' := []) (q := (0, 10, 13, 21)) (rest' := []) rfl ⟨p0, p1⟩ rfl (by decide) (C := "java/lang/IndexOutOfBoundsException") q1231 ⟨_, _, rfl⟩ (fun y hy => by cases hy), ?_⟩
      exact hd_num (z := 1) (k := 4) (c := 22) ki.1 (pk_X0_output ki hG) (.astore 4) (.iconst 1) (by decide +kernel) (by decide +kernel) (by decide +kernel) (fun lv st h0 x q1 q2 => by show (bif on1 x pR && Nat.blt 4 lv.length then some (([] : List Prop), stl lv 4 x, st) else none) = _; rw [show (on1 x pR && Nat.blt 4 lv.length) = true by rw [on1_eq, q2, (blt_iff _ _).mpr q1]; rfl]; rfl) (fun _ _ _ => rfl) (by rw [ki.2.2.2.2.2.2.2.2.2.2.1]; decide) (by decide) ki.2.2.2.2.2.2.2.2.2.1 ki.2.2.2.1 (by rw [eQ]; exact q)
  refine r_X0_output_0 ki hG har ?_
  refine ⟨h0, Sem_mono hc (fun z h1 _ q => ?_) (fun _ _ _ _ q => q)⟩
  refine ⟨q.1, Int.le_refl _, q.2.1, fun h2 e => ?_⟩
  subst e
  exact r_X0_output_10 ki hG q.2.2
theorem t_X0_met {l : Launch} {G : JG} (hG : gO G = true) {h : MH} {v0 v1 v2 v3 : Int} {Q : Int → MH → Prop} {E : Nat → Int → MH → Prop} (h0 : v0 ≠ 0) (hc : S_X1_met l G [(2001, v0), (0, v1), (0, v2)] h (fun z h1 => v3 ≠ 0 ∧ 0 < hn h1 v3 ∧ Q 0 (hset h1 v3 0 z)) (fun c _ h1 => (c = 21 ∧ Q 1 h1) ∨ (c = 22 ∧ Q 2 h1))) : S_X0_met l G [(5, v0), (0, v1), (0, v2), (105, v3)] h Q E := by
  refine s_X0_met rfl fun K ki => ?_
  have eQ : kQ K = Q := ki.2.2.2.2.1
  have har : ∀ pc, 0 ≤ pc → pc < 9 → AR K (fun c _ h1 => (c = 21 ∧ Q 1 h1) ∨ (c = 22 ∧ Q 2 h1)) pc := by
    intro pc p0 p1
    refine ar_inX ki.1 (fun c a h1 e => ?_)
    rcases e with ⟨rfl, q⟩ | ⟨rfl, q⟩
    · refine ⟨12, hd_of (own := RX0) ki.2.2.2.2.2.2.2.2.2.2.2.2 (pre' := []) (q := (0, 9, 12, 15)) (rest' := [(0, 9, 16, 21)]) rfl ⟨p0, p1⟩ rfl (by decide) (C := "java/lang/IllegalStateException") q1180 ⟨_, _, rfl⟩ (fun y hy => by cases hy), ?_⟩
      exact hd_num (z := 1) (k := 4) (c := 21) ki.1 (pk_X0_met ki hG) (.astore 4) (.iconst 1) (by decide +kernel) (by decide +kernel) (by decide +kernel) (fun lv st h0 x q1 q2 => by show (bif on1 x pR && Nat.blt 4 lv.length then some (([] : List Prop), stl lv 4 x, st) else none) = _; rw [show (on1 x pR && Nat.blt 4 lv.length) = true by rw [on1_eq, q2, (blt_iff _ _).mpr q1]; rfl]; rfl) (fun _ _ _ => rfl) (by rw [ki.2.2.2.2.2.2.2.2.2.2.1]; decide) (by decide) ki.2.2.2.2.2.2.2.2.2.1 ki.2.2.2.1 (by rw [eQ]; exact q)
    · refine ⟨16, hd_of (own := RX0) ki.2.2.2.2.2.2.2.2.2.2.2.2 (pre' := [(0, 9, 12, 15)]) (q := (0, 9, 16, 21)) (rest' := []) rfl ⟨p0, p1⟩ rfl (by decide) (C := "java/lang/IndexOutOfBoundsException") q1231 ⟨_, _, rfl⟩ (fun y hy => by have hy := List.mem_singleton.mp hy; rw [hy]; exact ⟨⟨p0, p1⟩, by decide, _, q1180, nc_ioobe_ise⟩), ?_⟩
      exact hd_num (z := 2) (k := 4) (c := 22) ki.1 (pk_X0_met ki hG) (.astore 4) (.iconst 2) (by decide +kernel) (by decide +kernel) (by decide +kernel) (fun lv st h0 x q1 q2 => by show (bif on1 x pR && Nat.blt 4 lv.length then some (([] : List Prop), stl lv 4 x, st) else none) = _; rw [show (on1 x pR && Nat.blt 4 lv.length) = true by rw [on1_eq, q2, (blt_iff _ _).mpr q1]; rfl]; rfl) (fun _ _ _ => rfl) (by rw [ki.2.2.2.2.2.2.2.2.2.2.1]; decide) (by decide) ki.2.2.2.2.2.2.2.2.2.1 ki.2.2.2.1 (by rw [eQ]; exact q)
  refine r_X0_met_0 ki hG har ?_
  refine ⟨h0, Sem_mono hc (fun z h1 _ q => ?_) (fun _ _ _ _ q => q)⟩
  refine ⟨q.1, Int.le_refl _, q.2.1, fun h2 e => ?_⟩
  subst e
  exact r_X0_met_9 ki hG q.2.2
