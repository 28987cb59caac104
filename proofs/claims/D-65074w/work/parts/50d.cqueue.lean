/-! Part 50d: the component's queue of places -/
theorem sm_upd {f g : Nat → Nat} {p : Nat} (hf : f p = 0) (hg : g p = 1) (ho : ∀ i, i ≠ p → g i = f i) : ∀ n, sm n g = sm n f + (if p < n then 1 else 0)
  | 0 => by simp [sm]
  | n + 1 => by
    show sm n g + g n = sm n f + f n + _
    rw [sm_upd hf hg ho n]
    by_cases e : n = p
    · subst e
      rw [hf, hg, if_neg (by omega), if_pos (by omega)]
    · rw [ho n e]
      by_cases l : p < n
      · rw [if_pos l, if_pos (by omega)]
        omega
      · rw [if_neg l, if_neg (by omega)]
        omega
theorem sm_one {f : Nat → Nat} (h : ∀ i, f i ≤ 1) : ∀ n, sm n f ≤ n
  | 0 => Nat.le_refl _
  | n + 1 => by
    show sm n f + f n ≤ n + 1
    have := sm_one h n
    have := h n
    omega
/-- how many places wait -/
def wcn (h : MH) (n : Int) : Nat := sm n.toNat (fun p => if hv h 79 (p : Int) = 0 then 0 else 1)
/-- the i-th place that waits -/
def cq (h : MH) (i : Int) : Int := hv h 78 ((hv h 3 14 + i) % 1500)
/-- the queue of places below n -/
def QI (h : MH) (n : Int) : Prop := 0 ≤ n ∧ n ≤ 1500 ∧ 0 ≤ hv h 3 14 ∧ hv h 3 14 < 1500 ∧ hv h 3 15 = (wcn h n : Int) ∧ (∀ i, 0 ≤ i → i < hv h 3 15 → 0 ≤ cq h i ∧ cq h i < n ∧ hv h 79 (cq h i) ≠ 0) ∧
  (∀ i j, 0 ≤ i → i < j → j < hv h 3 15 → cq h i ≠ cq h j) ∧ ∀ p, 0 ≤ p → p < n → hv h 79 p ≠ 0 → ∃ i, 0 ≤ i ∧ i < hv h 3 15 ∧ cq h i = p
/-- the queue alone has another content -/
def onq (h h' : MH) : Prop := h'.2 = h.2 ∧ ∀ b j, b ≠ 78 → b ≠ 79 → ¬ (b = 3 ∧ j = 15) → hv h' b j = hv h b j
theorem onq_rfl (h : MH) : onq h h := ⟨rfl, fun _ _ _ _ _ => rfl⟩
theorem onq_tr {h g k : MH} (p : onq h g) (q : onq g k) : onq h k := ⟨q.1.trans p.1, fun b j x y z => (q.2 b j x y z).trans (p.2 b j x y z)⟩
theorem QI_le {h : MH} {n : Int} (q : QI h n) : hv h 3 15 ≤ n := by
  obtain ⟨n0, n1, -, -, e, -⟩ := q
  rw [e]
  have := sm_one (f := fun p : Nat => if hv h 79 (p : Int) = 0 then 0 else 1) (fun i => by split <;> omega) n.toNat
  unfold wcn
  omega
theorem QI_of {h h' : MH} {n : Int} (q : QI h n) (e1 : hv h' 3 14 = hv h 3 14) (e2 : hv h' 3 15 = hv h 3 15) (e3 : ∀ j, hv h' 78 j = hv h 78 j) (e4 : ∀ j, hv h' 79 j = hv h 79 j) : QI h' n := by
  have ec : ∀ i, cq h' i = cq h i := fun i => by unfold cq; rw [e1, e3]
  have en : wcn h' n = wcn h n := by unfold wcn; simp only [e4]
  unfold QI
  simp only [e1, e2, e4, ec, en]
  exact q
section CQ
variable {l : Launch} {G : JG} {h : MH} {n p : Int} {Q : Int → MH → Prop} {E : Nat → Int → MH → Prop}
theorem c_wake (hG : gO G = true) (q : QI h n) (p0 : 0 ≤ p) (p1 : p < n) (hQ : ∀ h', onq h h' → QI h' n → hv h' 79 p ≠ 0 → (∀ j, j ≠ p → hv h' 79 j = hv h 79 j) → Q 0 h') : S_X2_wake l G [(2002, 3), (0, p)] h Q E := by
  have hle := QI_le q
  obtain ⟨n0, n1, a0, a1, ew, qi, qd, qa⟩ := q
  refine s_X2_wake rfl fun K ki => r_X2_wake_0 ki hG ⟨p0, by omega, fun e0 => ⟨p0, by omega, Or.inr rfl, fun h1 e1 => ?_⟩, fun e0 => ?_⟩
  · have w14 : hv h1 3 14 = hv h 3 14 := by rw [e1, ne_a (by decide)]
    have w15 : hv h1 3 15 = hv h 3 15 := by rw [e1, ne_a (by decide)]
    have g79 : hv h1 79 p = 1 := by rw [e1]; exact eq_a
    have o79 : ∀ j, j ≠ p → hv h1 79 j = hv h 79 j := fun j hj => by rw [e1]; exact ne_k hj
    have ec : wcn h1 n = wcn h n + 1 := by
      unfold wcn
      rw [sm_upd (f := fun i : Nat => if hv h 79 (i : Int) = 0 then 0 else 1) (g := fun i : Nat => if hv h1 79 (i : Int) = 0 then 0 else 1) (p := p.toNat) ?_ ?_ ?_ n.toNat, if_pos (by omega)]
      · rw [show ((p.toNat : Nat) : Int) = p by omega, if_pos e0]
      · rw [show ((p.toNat : Nat) : Int) = p by omega, g79]
        rfl
      · intro i hi
        rw [o79 _ (by omega)]
    have hlt : hv h 3 15 + 1 ≤ n := by
      have := sm_one (f := fun i : Nat => if hv h1 79 (i : Int) = 0 then 0 else 1) (fun i => by split <;> omega) n.toNat
      unfold wcn at ec ew
      omega
    have w0 : 0 ≤ hv h 3 15 := by rw [ew]; omega
    rw [w14, w15, w32_i (by omega) (by omega), i_rem_v (by unfold c32; omega) (by unfold c32; decide), Int.tmod_eq_emod_of_nonneg (by omega), w32_i (by omega) (by omega)]
    refine ⟨by decide, by omega, by omega, fun h2 e2 => ?_⟩
    intro h3 e3
    have v15 : hv h2 3 15 = hv h 3 15 := by rw [e2, ne_a (by decide)]; exact w15
    rw [v15, w32_i (by omega) (by omega)] at e3
    have f14 : hv h3 3 14 = hv h 3 14 := by rw [e3, ne_k (by decide), e2, ne_a (by decide)]; exact w14
    have f15 : hv h3 3 15 = hv h 3 15 + 1 := by rw [e3, eq_a]
    have f79 : ∀ j, hv h3 79 j = hv h1 79 j := fun j => by rw [e3, ne_a (by decide), e2, ne_a (by decide)]
    have f78 : ∀ j, j ≠ (hv h 3 14 + hv h 3 15) % 1500 → hv h3 78 j = hv h 78 j := fun j hj => by rw [e3, ne_a (by decide), e2, ne_k hj, e1, ne_a (by decide)]
    have g78 : hv h3 78 ((hv h 3 14 + hv h 3 15) % 1500) = p := by rw [e3, ne_a (by decide), e2, eq_a]
    have old : ∀ i, 0 ≤ i → i < hv h 3 15 → cq h3 i = cq h i := by
      intro i i0 i1
      unfold cq
      rw [f14, f78 _ (by omega)]
    have new : cq h3 (hv h 3 15) = p := by
      unfold cq
      rw [f14]
      exact g78
    have nep : ∀ i, 0 ≤ i → i < hv h 3 15 → cq h i ≠ p := by
      intro i i0 i1 e
      have := (qi i i0 i1).2.2
      rw [e] at this
      exact this e0
    refine hQ h3 ⟨by rw [e3, e2, e1]; rfl, fun b j b1 b2 b3 => ?_⟩ ⟨n0, n1, by rw [f14]; exact a0, by rw [f14]; exact a1, ?_, fun i i0 i1 => ?_, fun i j i0 ij j1 => ?_, fun r r0 r1 rw_ => ?_⟩ (by rw [f79, g79]; decide) (fun j hj => by rw [f79, o79 j hj])
    · rw [e3, hv_set, if_neg b3, e2, ne_a b1, e1, ne_a b2]
    · rw [f15, ew]
      have : wcn h3 n = wcn h1 n := by unfold wcn; simp only [f79]
      rw [this, ec]
      omega
    · rw [f15] at i1
      by_cases e : i = hv h 3 15
      · subst e
        rw [new, f79, g79]
        exact ⟨p0, p1, by decide⟩
      · rw [old i i0 (by omega), f79, o79 _ (nep i i0 (by omega))]
        exact qi i i0 (by omega)
    · rw [f15] at j1
      by_cases e : j = hv h 3 15
      · subst e
        rw [new, old i i0 ij]
        exact nep i i0 ij
      · rw [old i i0 (by omega), old j (by omega) (by omega)]
        exact qd i j i0 ij (by omega)
    · rw [f15]
      by_cases e : r = p
      · subst e
        exact ⟨hv h 3 15, w0, by omega, new⟩
      · rw [f79, o79 r e] at rw_
        obtain ⟨i, i0, i1, i2⟩ := qa r r0 r1 rw_
        exact ⟨i, i0, by omega, by rw [old i i0 i1]; exact i2⟩
  · exact hQ h (onq_rfl h) ⟨n0, n1, a0, a1, ew, qi, qd, qa⟩ e0 (fun _ _ => rfl)
/-- the first place is taken out of the queue -/
theorem QI_pop {h h' : MH} {n p : Int} (q : QI h n) (hw : 0 < hv h 3 15) (ep : p = hv h 78 (hv h 3 14)) (e1 : hv h' 3 14 = (hv h 3 14 + 1) % 1500) (e2 : hv h' 3 15 = hv h 3 15 - 1) (e3 : ∀ j, hv h' 78 j = hv h 78 j) (e4 : hv h' 79 p = 0) (e5 : ∀ j, j ≠ p → hv h' 79 j = hv h 79 j) : QI h' n ∧ 0 ≤ p ∧ p < n ∧ hv h 79 p ≠ 0 := by
  have hle := QI_le q
  obtain ⟨n0, n1, a0, a1, ew, qi, qd, qa⟩ := q
  have ep0 : cq h 0 = p := by
    unfold cq
    rw [ep, Int.add_zero, Int.emod_eq_of_lt a0 a1]
  obtain ⟨p0, p1, p2⟩ := qi 0 (by decide) hw
  rw [ep0] at p0 p1 p2
  have sh : ∀ i, 0 ≤ i → cq h' i = cq h (i + 1) := by
    intro i i0
    unfold cq
    rw [e1, e3]
    congr 1
    omega
  have nep : ∀ i, 0 < i → i < hv h 3 15 → cq h i ≠ p := fun i i0 i1 e => qd 0 i (by decide) i0 i1 (by rw [ep0, e])
  have ec : wcn h n = wcn h' n + 1 := by
    unfold wcn
    rw [sm_upd (f := fun i : Nat => if hv h' 79 (i : Int) = 0 then 0 else 1) (g := fun i : Nat => if hv h 79 (i : Int) = 0 then 0 else 1) (p := p.toNat) ?_ ?_ ?_ n.toNat, if_pos (by omega)]
    · rw [show ((p.toNat : Nat) : Int) = p by omega, if_pos e4]
    · rw [show ((p.toNat : Nat) : Int) = p by omega, if_neg p2]
    · intro i hi
      rw [e5 _ (by omega)]
  refine ⟨⟨n0, n1, by rw [e1]; omega, by rw [e1]; omega, by rw [e2, ew, ec]; omega, fun i i0 i1 => ?_, fun i j i0 ij j1 => ?_, fun r r0 r1 rw_ => ?_⟩, p0, p1, p2⟩
  · rw [e2] at i1
    rw [sh i i0, e5 _ (nep (i + 1) (by omega) (by omega))]
    exact qi (i + 1) (by omega) (by omega)
  · rw [e2] at j1
    rw [sh i i0, sh j (by omega)]
    exact qd (i + 1) (j + 1) (by omega) (by omega) (by omega)
  · have hr : r ≠ p := by
      intro e
      rw [e] at rw_
      exact rw_ e4
    rw [e5 r hr] at rw_
    obtain ⟨i, i0, i1, i2⟩ := qa r r0 r1 rw_
    have i3 : i ≠ 0 := by
      intro e
      subst e
      exact hr (by rw [← i2, ep0])
    exact ⟨i - 1, by omega, by rw [e2]; omega, by rw [sh _ (by omega), show i - 1 + 1 = i by omega]; exact i2⟩
end CQ
