/-! J-layer, part 11: the pure steps are right -/
theorem beq_0 {g : Nat} (h : p0 g = true) : g = 0 := Nat.eq_of_beq_eq_true h
theorem beq_1 {g : Nat} (h : p1 g = true) : g = 1 := Nat.eq_of_beq_eq_true h
theorem cond_some {b : Bool} {x y : List Prop × List LV × List LV} (h : cond b (some x) none = some y) : b = true ∧ x = y := by
  cases b with
  | true => exact ⟨rfl, Option.some.inj h⟩
  | false => cases h
theorem ii_ok {r : List LV} {f : Int → Int → Int} {lv lv' r' : List LV} {ps : List Prop} (h : ii r f lv = some (ps, lv', r')) : ∃ a b r0, r = (0, b) :: (0, a) :: r0 ∧ ps = [] ∧ lv' = lv ∧ r' = (0, f a b) :: r0 := by
  unfold ii at h
  split at h
  · rename_i g b g' a st
    obtain ⟨h1, h2⟩ := cond_some h
    simp only [Bool.and_eq_true] at h1
    obtain ⟨e1, e2⟩ := h1
    cases beq_0 e1
    cases beq_0 e2
    cases h2
    exact ⟨a, b, st, rfl, rfl, rfl, rfl⟩
  · cases h
theorem ll_ok {r : List LV} {f : Int → Int → Int} {lv lv' r' : List LV} {ps : List Prop} (h : ll r f lv = some (ps, lv', r')) : ∃ a b r0, r = (1, b) :: (1, a) :: r0 ∧ ps = [] ∧ lv' = lv ∧ r' = (1, f a b) :: r0 := by
  unfold ll at h
  split at h
  · rename_i g b g' a st
    obtain ⟨h1, h2⟩ := cond_some h
    simp only [Bool.and_eq_true] at h1
    obtain ⟨e1, e2⟩ := h1
    cases beq_1 e1
    cases beq_1 e2
    cases h2
    exact ⟨a, b, st, rfl, rfl, rfl, rfl⟩
  · cases h
theorem li_ok {r : List LV} {f : Int → Int → Int} {lv lv' r' : List LV} {ps : List Prop} (h : li r f lv = some (ps, lv', r')) : ∃ a b r0, r = (0, b) :: (1, a) :: r0 ∧ ps = [] ∧ lv' = lv ∧ r' = (1, f a b) :: r0 := by
  unfold li at h
  split at h
  · rename_i g b g' a st
    obtain ⟨h1, h2⟩ := cond_some h
    simp only [Bool.and_eq_true] at h1
    obtain ⟨e1, e2⟩ := h1
    cases beq_0 e1
    cases beq_1 e2
    cases h2
    exact ⟨a, b, st, rfl, rfl, rfl, rfl⟩
  · cases h
theorem u1_ok {p : Nat → Bool} {t : Nat} {r : List LV} {f : Int → Int} {lv lv' r' : List LV} {ps : List Prop} (h : u1 p t r f lv = some (ps, lv', r')) : ∃ g a r0, p g = true ∧ r = (g, a) :: r0 ∧ ps = [] ∧ lv' = lv ∧ r' = (t, f a) :: r0 := by
  unfold u1 at h
  split at h
  · rename_i g a st
    obtain ⟨h1, h2⟩ := cond_some h
    cases h2
    exact ⟨g, a, st, h1, rfl, rfl, rfl, rfl⟩
  · cases h
theorem ldv_ok {p : Nat → Bool} {lv lv' r r' : List LV} {ps : List Prop} {k : Nat} (h : ldv p lv r k = some (ps, lv', r')) : ∃ x, lv[k]? = some x ∧ p x.1 = true ∧ ps = [] ∧ lv' = lv ∧ r' = x :: r := by
  unfold ldv at h
  split at h
  · rename_i x hx
    rw [nth_eq] at hx
    obtain ⟨h1, h2⟩ := cond_some h
    cases h2
    exact ⟨x, hx, h1, rfl, rfl, rfl⟩
  · cases h
theorem stv_ok {p : Nat → Bool} {lv lv' r r' : List LV} {ps : List Prop} {k : Nat} (h : stv p lv r k = some (ps, lv', r')) : ∃ x, r = x :: r' ∧ p x.1 = true ∧ k < lv.length ∧ ps = [] ∧ lv' = stl lv k x := by
  unfold stv at h
  split at h
  · rename_i x st
    obtain ⟨h1, h2⟩ := cond_some h
    simp only [Bool.and_eq_true] at h1
    cases h2
    exact ⟨x, rfl, h1.1, (blt_iff _ _).mp h1.2, rfl, rfl⟩
  · cases h
theorem stw_ok {lv lv' r r' : List LV} {ps : List Prop} {k : Nat} (h : stw lv r k = some (ps, lv', r')) : ∃ z, r = (1, z) :: r' ∧ k + 1 < lv.length ∧ ps = [] ∧ lv' = stl2 lv k (1, z) := by
  unfold stw at h
  split at h
  · rename_i x st
    obtain ⟨g, z⟩ := x
    obtain ⟨h1, h2⟩ := cond_some h
    simp only [Bool.and_eq_true] at h1
    cases beq_1 h1.1
    cases h2
    exact ⟨z, rfl, (blt_iff _ _).mp h1.2, rfl, rfl⟩
  · cases h
theorem aal_ok {t e : Nat} {r : List LV} {h : MH} {lv lv' r' : List LV} {ps : List Prop} (h0 : aal t r h lv e = some (ps, lv', r')) : ∃ i g a r0, r = (0, i) :: (g, a) :: r0 ∧ isRf g = true ∧ arT g = t ∧ ps = nlc g a ++ [0 ≤ i, i < aLn g h a] ∧ lv' = lv ∧ r' = (e, hv h a i) :: r0 := by
  unfold aal at h0
  split at h0
  · rename_i gi i g a st
    obtain ⟨h1, h2⟩ := cond_some h0
    simp only [Bool.and_eq_true] at h1
    cases beq_0 h1.1
    cases h2
    exact ⟨i, g, a, st, rfl, h1.2.1, Nat.eq_of_beq_eq_true h1.2.2, rfl, rfl, rfl⟩
  · cases h0
section OK
variable {K : JC} {own : String} {cc : ByteArray} {pc : Nat} {lv lv' st r r' : List LV} {h : MH} {ps : List Prop} {k : Nat}
theorem st_al {i g t : Nat} {a z : Int} (hr : isRf g = true) (ht : arT g = t) (q : sides (nlc g a ++ [0 ≤ z, z < aLn g h a]) (JW K pc lv st h)) : (okv h (g, a) → obj h t a) ∧ 0 ≤ z ∧ (okv h (g, a) → z < hn h a) ∧ JW K pc lv st h := by
  rw [sides_app] at q
  obtain ⟨q1, q2, q3, q4⟩ := sides_nlc q
  exact ⟨fun o => by rw [← ht]; exact tag_obj hr q1 o, q2, fun o => by rw [← tag_len o]; exact q3, q4⟩
/-- the stack's values may be taken to fit -/
theorem j_use {pc : Nat} (kk : (∀ x ∈ st, okv h x) → JW K pc lv st h) : JW K pc lv st h := by
  intro ls H locs hl hlv hst hR hq
  exact kk hst ls H locs hl hlv hst hR hq
theorem pR_4 {g : Nat} (h : pR g = true) : 4 ≤ g ∧ g ≠ 5000 := by
  unfold pR at h
  simp only [Bool.and_eq_true, Bool.not_eq_true'] at h
  refine ⟨Nat.le_of_ble_eq_true h.1, fun e => ?_⟩
  rw [e] at h
  exact absurd h.2 (by decide)
theorem j_ldA {i : Nat} {x : LV} (hx : lv[i]? = some x) (hp : pR x.1 = true) (r1 : ∀ (q : Nat) (H : Heap) (locs : List Loc) (ls : Array Slot) (rest : List Value), ls[i]? = some (.val (.ref q)) → WK K H locs (pc + k) ls (.ref q :: rest) → WK K H locs pc ls rest)
    (r2 : ∀ (H : Heap) (locs : List Loc) (ls : Array Slot) (rest : List Value), ls[i]? = some (.val .null) → WK K H locs (pc + k) ls (.null :: rest) → WK K H locs pc ls rest) (kk : JW K (pc + k) lv (x :: st) h) : JW K pc lv st h := by
  obtain ⟨h4, h5⟩ := pR_4 hp
  refine j_ld hx h5 (fun H locs ls rest e w => ?_) kk
  rcases vl_ref_or (G := kG K) (x := x) h4 with e1 | ⟨q, e1⟩
  · rw [e1] at e w
    exact r2 H locs ls rest e w
  · rw [e1] at e w
    exact r1 q H locs ls rest e w
theorem j_stA {i : Nat} {x : LV} (hi : i < lv.length) (hp : pR x.1 = true) (r1 : ∀ (q : Nat) (H : Heap) (locs : List Loc) (ls : Array Slot) (rest : List Value) (L : List (Nat × Value)) (n : Nat), lv_has ls n L → i < n → (∀ ls' : Array Slot, lv_has ls' n ((i, .ref q) :: L.filter (fun q => !(q.1 == i) && !(q.1 + 1 == i && q.2.category == 2))) → WK K H locs (pc + k) ls' rest) → WK K H locs pc ls (.ref q :: rest))
    (r2 : ∀ (H : Heap) (locs : List Loc) (ls : Array Slot) (rest : List Value) (L : List (Nat × Value)) (n : Nat), lv_has ls n L → i < n → (∀ ls' : Array Slot, lv_has ls' n ((i, .null) :: L.filter (fun q => !(q.1 == i) && !(q.1 + 1 == i && q.2.category == 2))) → WK K H locs (pc + k) ls' rest) → WK K H locs pc ls (.null :: rest))
    (kk : JW K (pc + k) (stl lv i x) st h) : JW K pc lv (x :: st) h := by
  obtain ⟨h4, h5⟩ := pR_4 hp
  refine j_st hi (by omega) (fun H locs ls rest L n e1 e2 w => ?_) kk
  rcases vl_ref_or (G := kG K) (x := x) h4 with e | ⟨q, e⟩
  · rw [e] at w ⊢
    exact r2 H locs ls rest L n e1 e2 w
  · rw [e] at w ⊢
    exact r1 q H locs ls rest L n e1 e2 w
theorem c1_cat {x : LV} (h : c1 x.1 = true) : (vl (kG K) x).category = 1 := by
  rw [vl_cat, if_neg]
  intro e
  unfold c1 at h
  rw [e] at h
  exact absurd h (by decide)
theorem fin4 {n : Fin 4} : ((n : Fin 4) : Nat) = n.val := rfl
theorem ov_div {a b : Int} (h : c32 b) (hb : ¬ b = 0) : ¬ Int32.ofInt b = 0 := fun e => hb ((x32 h c32_0).mp e)
theorem ov_ldiv {a b : Int} (h : c64 b) (hb : ¬ b = 0) : ¬ Int64.ofInt b = 0 := fun e => hb ((x64 h (by unfold c64; omega)).mp e)
end OK
