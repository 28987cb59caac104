/-! J-layer, part 17: what the executor's helpers mean -/
theorem vl_same {G : JG} {g g' : Nat} {z : Int} (h1 : 4 ≤ g) (h2 : 4 ≤ g') : vl G (g, z) = vl G (g', z) := by
  by_cases hz : z = 0
  · subst hz; rw [vl_0 h1, vl_0 h2]
  · rw [vl_n0 h1 hz, vl_n0 h2 hz]
theorem cvt_cases {g g' : Nat} (h : cvt g g' = true) (h5 : g' ≠ 5000) : g = g' ∨ (4 ≤ g' ∧ g' < 700 ∧ (g = 900 ∨ (2000 ≤ g ∧ g ≠ 5000 ∧ g % 1000 = g' - 4))) ∨ (2000 ≤ g' ∧ g' < 3000 ∧ 1000000 ≤ g ∧ g % 1000 = g' % 1000) := by
  unfold cvt at h
  simp only [Bool.or_eq_true, Bool.and_eq_true, Bool.not_eq_true'] at h
  rcases h with h | h | h | h
  · exact Or.inl (Nat.eq_of_beq_eq_true h)
  · exact absurd (Nat.eq_of_beq_eq_true h) h5
  · obtain ⟨a, b, c⟩ := h
    refine Or.inr (Or.inl ⟨Nat.le_of_ble_eq_true a, (blt_iff _ _).mp b, ?_⟩)
    rcases c with c | ⟨c, d, e⟩
    · exact Or.inl (Nat.eq_of_beq_eq_true c)
    · refine Or.inr ⟨Nat.le_of_ble_eq_true c, fun q => ?_, Nat.eq_of_beq_eq_true e⟩
      rw [q] at d
      exact absurd d (by decide)
  · obtain ⟨a, b, c, d⟩ := h
    exact Or.inr (Or.inr ⟨Nat.le_of_ble_eq_true a, (blt_iff _ _).mp b, Nat.le_of_ble_eq_true c, Nat.eq_of_beq_eq_true d⟩)
theorem cvt_ok {h : MH} {G : JG} {g g' : Nat} {z : Int} (hc : cvt g g' = true) (h5 : g' ≠ 5000) (ho : okv h (g, z)) : okv h (g', z) ∧ vl G (g, z) = vl G (g', z) := by
  rcases cvt_cases hc h5 with e | ⟨a, b, c⟩ | ⟨a, b, c, d⟩
  · subst e; exact ⟨ho, rfl⟩
  · refine ⟨?_, vl_same (by omega) a⟩
    unfold okv
    rw [if_pos (show (g', z).1 < 800 by show g' < 800; omega)]
    unfold okf
    simp only [show ¬ g' = 0 by omega, show ¬ g' = 1 by omega, show ¬ g' = 2 by omega, show ¬ g' = 3 by omega, if_false]
    rcases c with c | ⟨c1, c2, c3⟩
    · subst c
      left
      unfold okv at ho
      simpa using ho
    · right
      have := obj_of_nn c1 c2 ho
      exact ⟨this.1, this.2.1, by rw [this.2.2]; exact c3⟩
  · refine ⟨?_, vl_same (by omega) (by omega)⟩
    have hob := obj_of_nn (by omega) (by omega) ho
    clear hc ho
    obtain ⟨t0, e0⟩ : ∃ t0, g' = 2000 + t0 := ⟨g' - 2000, by omega⟩
    have h1000 : t0 < 1000 := by omega
    have ho2 : obj h t0 z := by
      refine ⟨hob.1, hob.2.1, ?_⟩
      have h3 := hob.2.2
      omega
    rw [e0]
    exact okv_nn h1000 ho2
theorem tk_ok {h : MH} {G : JG} : ∀ {tgs : List Nat} {acc st as st0 : List LV}, tk tgs acc st = some (as, st0) → ∃ ar, as = ar ++ acc ∧ ar.length = tgs.length ∧ ar.map (fun x => x.1) = tgs.reverse ∧ ((∀ x ∈ st, okv h x) → st.map (vl G) = (ar.map (vl G)).reverse ++ st0.map (vl G) ∧ (∀ x ∈ ar, okv h x) ∧ ∀ x ∈ st0, okv h x)
  | [], acc, st, as, st0, e => by
    simp only [tk, Option.some.injEq, Prod.mk.injEq] at e
    obtain ⟨rfl, rfl⟩ := e
    exact ⟨[], rfl, rfl, rfl, fun ho => ⟨rfl, fun x hx => (by cases hx), ho⟩⟩
  | g' :: gs, acc, [], as, st0, e => by simp [tk] at e
  | g' :: gs, acc, (g, z) :: st, as, st0, e => by
    simp only [tk, on1] at e
    cases hb : (cvt g g' && !(Nat.beq g' 5000)) with
    | false => rw [hb] at e; cases e
    | true =>
      rw [hb] at e
      simp only [Bool.and_eq_true, Bool.not_eq_true'] at hb
      have h5 : g' ≠ 5000 := fun q => by rw [q] at hb; exact absurd hb.2 (by decide)
      obtain ⟨ar, a1, a2, a3, a4⟩ := tk_ok (h := h) (G := G) e
      refine ⟨ar ++ [(g', z)], by rw [a1]; simp, by simp [a2], by simp [a3], fun ho => ?_⟩
      obtain ⟨b1, b2, b3⟩ := a4 (all_tail ho)
      obtain ⟨c1, c2⟩ := cvt_ok (G := G) hb.1 h5 (ho _ List.mem_cons_self)
      refine ⟨?_, ?_, b3⟩
      · simp only [List.map_cons, List.map_append, List.reverse_append, List.map_nil]
        rw [b1, c2]
        simp
      · intro x hx
        rcases List.mem_append.mp hx with q | q
        · exact b2 x q
        · rw [List.mem_singleton.mp q]; exact c1
theorem rtg_ok {h : MH} : ∀ {gs : List Nat} {xs ys : List LV}, rtg gs xs = some ys → ys.length = xs.length ∧ ((∀ x ∈ xs, okv h x) → ∀ y ∈ ys, okv h y) ∧ ∀ (G : JG), (∀ x ∈ xs, okv h x) → ∀ (k : Nat) (y : LV), ys[k]? = some y → y.1 ≠ 5000 → ∃ x, xs[k]? = some x ∧ x.1 ≠ 5000 ∧ vl G x = vl G y
  | [], [], ys, e => by
    simp only [rtg, Option.some.injEq] at e
    subst e
    exact ⟨rfl, fun _ y hy => (by cases hy), fun _ _ k y hk => by simp at hk⟩
  | [], x :: xs, ys, e => by simp [rtg] at e
  | g' :: gs, [], ys, e => by simp [rtg] at e
  | g' :: gs, (g, z) :: xs, ys, e => by
    simp only [rtg, on1] at e
    cases hb : cvt g g' with
    | false => rw [hb] at e; cases e
    | true =>
      rw [hb] at e
      simp only [cond_true] at e
      split at e
      · rename_i r hr
        cases e
        obtain ⟨a1, a2, a3⟩ := rtg_ok (h := h) hr
        have key : (∀ x ∈ (g, z) :: xs, okv h x) → okv h (rt1 g' (g, z)) ∧ ∀ G : JG, (rt1 g' (g, z)).1 ≠ 5000 → g ≠ 5000 ∧ vl G (g, z) = vl G (rt1 g' (g, z)) := by
          intro ho
          unfold rt1
          cases h5 : Nat.beq g' 5000 with
          | true => exact ⟨okv_u h 0, fun G q => absurd rfl q⟩
          | false =>
            have h5' : g' ≠ 5000 := fun q => by rw [q] at h5; cases h5
            have := cvt_ok (G := G0) hb h5' (ho _ List.mem_cons_self)
            refine ⟨(cvt_ok (G := G0) hb h5' (ho _ List.mem_cons_self)).1, fun G _ => ⟨?_, (cvt_ok (G := G) hb h5' (ho _ List.mem_cons_self)).2⟩⟩
            rcases cvt_cases hb h5' with e | ⟨_, _, c⟩ | ⟨_, _, c, _⟩
            · rw [e]; exact h5'
            · rcases c with c | ⟨_, c, _⟩
              · rw [c]; decide
              · exact c
            · omega
        refine ⟨by simp [a1], fun ho y hy => ?_, fun G ho k y hk hy => ?_⟩
        · rcases List.mem_cons.mp hy with q | q
          · rw [q]; exact (key ho).1
          · exact a2 (all_tail ho) y q
        · match k, hk with
          | 0, hk =>
            simp at hk
            subst hk
            exact ⟨(g, z), by simp, ((key ho).2 G hy).1, ((key ho).2 G hy).2⟩
          | k + 1, hk =>
            simp at hk
            obtain ⟨x, b1, b2, b3⟩ := a3 G (all_tail ho) k y hk hy
            exact ⟨x, by simpa using b1, b2, b3⟩
      · cases e
where G0 : JG := (fun _ => 0, fun _ _ => 0, fun _ => 0, #[], 0, false)
theorem j_rtg {K : JC} {pc : Nat} {lv lv' st st' : List LV} {h : MH} {g1 g2 : List Nat} (e1 : rtg g1 lv = some lv') (e2 : rtg g2 st = some st') (hs : ∀ y ∈ st', y.1 ≠ 5000) (k : JW K pc lv' st' h) : JW K pc lv st h := by
  intro ls H locs hl hlv hst hR hq
  obtain ⟨a1, a2, a3⟩ := rtg_ok (h := h) e1
  obtain ⟨b1, b2, b3⟩ := rtg_ok (h := h) e2
  have hl' : lhas (kG K) ls (kC K).maxLocals lv' := by
    refine ⟨hl.1, hl.2.1, by rw [a1]; exact hl.2.2.1, fun k y hk hy => ?_⟩
    obtain ⟨x, c1, c2, c3⟩ := a3 (kG K) hlv k y hk hy
    rw [← c3]
    exact hl.2.2.2 k x c1 c2
  have hm : st.map (vl (kG K)) = st'.map (vl (kG K)) := by
    apply List.ext_getElem?
    intro i
    simp only [List.getElem?_map]
    cases hi : st'[i]? with
    | none =>
      have : st'.length ≤ i := by simpa using hi
      have : st[i]? = none := by simp; omega
      rw [this]
    | some y =>
      obtain ⟨x, c1, c2, c3⟩ := b3 (kG K) hst i y hi (hs y (List.mem_of_getElem? hi))
      rw [c1]
      simp [c3]
  rw [hm]
  exact k ls H locs hl' (a2 hlv) (b2 hst) hR hq
