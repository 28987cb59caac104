/-! Part 50b: the component's states of places (class State) -/
/-- an object of class State, with its array and its sixteen facts behind it -/
def stO (h : MH) (s : Int) : Prop := 1 ≤ s ∧ s + 17 ≤ hz h ∧ ht h s = 3 ∧ hv h s 1 = s + 1 ∧ ht h (s + 1) = 114 ∧ hn h (s + 1) = 16 ∧ ∀ k, 0 ≤ k → k < 16 → hv h (s + 1) k = s + 2 + k ∧ ht h (s + 2 + k) = 4
/-- only this state has another content -/
def ons (s : Int) (h h' : MH) : Prop := h'.2 = h.2 ∧ ∀ b j, ¬ (b = s ∧ (j = 0 ∨ j = 2 ∨ j = 3)) → ¬ (s + 2 ≤ b ∧ b < s + 18) → hv h' b j = hv h b j
theorem ons_rfl (s : Int) (h : MH) : ons s h h := ⟨rfl, fun _ _ _ _ => rfl⟩
theorem ons_tr {s : Int} {h g k : MH} (p : ons s h g) (q : ons s g k) : ons s h k := ⟨q.1.trans p.1, fun b j x y => (q.2 b j x y).trans (p.2 b j x y)⟩
theorem ons_set {s : Int} {h : MH} {k x : Int} (e : k = 0 ∨ k = 2 ∨ k = 3) : ons s h (hset h s k x) := ⟨rfl, fun b j p _ => by rw [hv_set, if_neg (fun q => p ⟨q.1, by rw [q.2]; exact e⟩)]⟩
theorem ons_fw {s : Int} {h : MH} {k : Int} {f : FA} (k0 : 0 ≤ k) (k1 : k < 16) : ons s h (fw h (s + 2 + k) f) := ⟨rfl, fun b j _ q => fw_ne (by omega)⟩
theorem ons_st {s t : Int} {h h' : MH} (o : ons s h h') (ss : stO h s) (st : stO h t) : stO h' t := by
  obtain ⟨s1, s2, s3, s4, s5, s6, s7⟩ := ss
  obtain ⟨t1, t2, t3, t4, t5, t6, t7⟩ := st
  have n3 : ∀ b : Int, ht h b ≠ 4 → ¬ (s + 2 ≤ b ∧ b < s + 18) := by
    intro b hb q
    have := (s7 (b - s - 2) (by omega) (by omega)).2
    rw [show s + 2 + (b - s - 2) = b by omega] at this
    exact hb this
  refine ⟨t1, by rw [h2_hz o.1]; exact t2, by rw [h2_ht o.1]; exact t3, ?_, by rw [h2_ht o.1]; exact t5, by rw [h2_hn o.1]; exact t6, fun k k0 k1 => ⟨?_, by rw [h2_ht o.1]; exact (t7 k k0 k1).2⟩⟩
  · rw [o.2 t 1 (by omega) (n3 t (by rw [t3]; decide))]
    exact t4
  · rw [o.2 (t + 1) k (fun q => by rw [q.1, s3] at t5; cases t5) (n3 (t + 1) (by rw [t5]; decide))]
    exact (t7 k k0 k1).1
section CS
variable {l : Launch} {G : JG} {h : MH} {s t : Int} {Q : Int → MH → Prop} {E : Nat → Int → MH → Prop}
theorem c_Snone (hG : gO G = true) (so : stO h s) (hQ : ∀ h', ons s h h' → hv h' s 0 = 0 → hv h' s 2 = 0 → hv h' s 3 = 0 → (∀ k, 0 ≤ k → k < 16 → fo h' (s + 2 + k) = fz) → Q 0 h') : S_X3_none l G [(2003, s)] h Q E := by
  refine s_X3_none rfl fun K ki => ?_
  have eQ : kQ K = Q := ki.2.2.2.2.1
  have loop : ∀ N : Nat, ∀ (k : Int) (g : MH), N = (16 - k).toNat → 0 ≤ k → k ≤ 16 → ons s h g → hv g s 0 = 0 → hv g s 2 = 0 → hv g s 3 = 0 → (∀ j, 0 ≤ j → j < k → fo g (s + 2 + j) = fz) → JW K 17 [(2003, s), (0, k)] [] g := by
    intro N
    induction N with
    | zero =>
      intro k g eN k0 k1 o z0 z2 z3 zf
      refine r_X3_none_17 ki hG ⟨fun _ => hQ g o z0 z2 z3 (fun j j0 j1 => zf j j0 (by omega)), fun q => by omega⟩
    | succ N ih =>
      intro k g eN k0 k1 o z0 z2 z3 zf
      have so' := ons_st o so so
      obtain ⟨s1, s2, s3, s4, s5, s6, s7⟩ := so'
      refine r_X3_none_17 ki hG ⟨fun q => by omega, fun q => ?_⟩
      obtain ⟨f1, f2⟩ := s7 k k0 (by omega)
      rw [s4, f1]
      refine ⟨by omega, k0, by rw [s6]; omega, by omega, c_none hG fun x ex => ?_⟩
      rw [w32_i (by omega) (by omega)] at ex
      subst ex
      refine ih (k + 1) _ (by omega) (by omega) (by omega) (ons_tr o (ons_fw k0 (by omega))) (by rw [fw_ne (by omega)]; exact z0) (by rw [fw_ne (by omega)]; exact z2) (by rw [fw_ne (by omega)]; exact z3) (fun j j0 j1 => ?_)
      by_cases e : j = k
      · subst e
        exact fo_fw0 rfl
      · rw [fo_ne (by omega)]
        exact zf j j0 (by omega)
  refine r_X3_none_0 ki hG ⟨Or.inl rfl, fun h1 e1 h2 e2 h3 e3 x ex => ?_⟩
  subst e1 e2 e3 ex
  refine loop 16 0 _ (by decide) (by decide) (by decide) (ons_tr (ons_set (by omega)) (ons_tr (ons_set (by omega)) (ons_set (by omega)))) ?_ ?_ eq_a (fun j j0 j1 => by omega)
  · rw [ne_k (by decide), ne_k (by decide), eq_a]
  · rw [ne_k (by decide), eq_a]
/-- what another state has -/
theorem c_Sbecome (hG : gO G = true) (ss : stO h s) (st : stO h t) (hne : s ≠ t) (hQ : ∀ h', ons s h h' → hv h' s 0 = hv h t 0 → hv h' s 2 = hv h t 2 → hv h' s 3 = hv h t 3 → (∀ k, 0 ≤ k → k < 16 → fo h' (s + 2 + k) = fo h (t + 2 + k)) → Q 0 h') : S_X3_become l G [(2003, s), (7, t)] h Q E := by
  refine Sem_hyp fun H ok => ?_
  have t0 : t ≠ 0 := by have := st.1; omega
  have zt := okf_z (hok_fld H st.1 (by have := st.2.1; omega) st.2.2.1 (by decide) 0 (by decide))
  have dis : ∀ k, 0 ≤ k → k < 16 → ¬ (s + 2 ≤ t + 2 + k ∧ t + 2 + k < s + 18) := by
    intro k k0 k1 q
    have a1 := ss.2.2.2.2.2.2
    have a2 := st.2.2.2.2.2.2
    by_cases e : t < s
    · by_cases e1 : s = t + 1
      · have := st.2.2.2.2.1
        rw [← e1, ss.2.2.1] at this
        cases this
      · have := (a2 (s - t - 2) (by omega) (by omega)).2
        rw [show t + 2 + (s - t - 2) = s by omega, ss.2.2.1] at this
        cases this
    · by_cases e1 : t = s + 1
      · have := ss.2.2.2.2.1
        rw [← e1, st.2.2.1] at this
        cases this
      · have := (a1 (t - s - 2) (by omega) (by omega)).2
        rw [show s + 2 + (t - s - 2) = t by omega, st.2.2.1] at this
        cases this
  refine s_X3_become rfl fun K ki => ?_
  have loop : ∀ N : Nat, ∀ (k : Int) (g : MH), N = (16 - k).toNat → 0 ≤ k → k ≤ 16 → ons s h g → hv g s 0 = hv h t 0 → hv g s 2 = hv h t 2 → hv g s 3 = hv h t 3 → (∀ j, 0 ≤ j → j < k → fo g (s + 2 + j) = fo h (t + 2 + j)) → JW K 26 [(2003, s), (7, t), (0, k)] [] g := by
    intro N
    induction N with
    | zero =>
      intro k g eN k0 k1 o z0 z2 z3 zf
      refine r_X3_become_26 ki hG ⟨fun _ => hQ g o z0 z2 z3 (fun j j0 j1 => zf j j0 (by omega)), fun q => by omega⟩
    | succ N ih =>
      intro k g eN k0 k1 o z0 z2 z3 zf
      obtain ⟨s1, s2, s3, s4, s5, s6, s7⟩ := ons_st o ss ss
      obtain ⟨u1, u2, u3, u4, u5, u6, u7⟩ := ons_st o ss st
      refine r_X3_become_26 ki hG ⟨fun q => by omega, fun q => ?_⟩
      obtain ⟨f1, f2⟩ := s7 k k0 (by omega)
      obtain ⟨g1, g2⟩ := u7 k k0 (by omega)
      rw [s4, u4, f1, g1]
      refine ⟨by omega, k0, by rw [s6]; omega, t0, by omega, k0, by rw [u6]; omega, by omega, c_become hG (by omega) fun x ex => ?_⟩
      rw [w32_i (by omega) (by omega)] at ex
      subst ex
      have hf : fo g (t + 2 + k) = fo h (t + 2 + k) := fo_eq (fun j => o.2 _ j (fun q => by
        have := (st.2.2.2.2.2.2 k k0 (by omega)).2
        rw [q.1, ss.2.2.1] at this
        cases this) (dis k k0 (by omega)))
      refine ih (k + 1) _ (by omega) (by omega) (by omega) (ons_tr o (ons_fw k0 (by omega))) (by rw [fw_ne (by omega)]; exact z0) (by rw [fw_ne (by omega)]; exact z2) (by rw [fw_ne (by omega)]; exact z3) (fun j j0 j1 => ?_)
      by_cases e : j = k
      · subst e
        rw [fo_fw0 rfl]
        exact hf
      · rw [fo_ne (by omega)]
        exact zf j j0 (by omega)
  refine r_X3_become_0 ki hG ⟨t0, zt, fun h1 e1 => ⟨t0, fun h2 e2 => ⟨t0, fun h3 e3 x ex => ?_⟩⟩⟩
  subst e1
  rw [ne_a hne.symm] at e2
  subst e2
  rw [ne_a hne.symm, ne_a hne.symm] at e3
  subst e3 ex
  refine loop 16 0 _ (by decide) (by decide) (by decide) (ons_tr (ons_set (by omega)) (ons_tr (ons_set (by omega)) (ons_set (by omega)))) ?_ ?_ eq_a (fun j j0 j1 => by omega)
  · rw [ne_k (by decide), ne_k (by decide), eq_a]
  · rw [ne_k (by decide), eq_a]
end CS
