/-! Part 52f: room for facts: new states, new cells; cells and outcomes are emptied -/
/-- objects that were there are as they were -/
def old (h h' : MH) : Prop := ∀ b, b ≤ hz h → (∀ j, hv h' b j = hv h b j) ∧ ht h' b = ht h b ∧ hn h' b = hn h b
section NW
variable {l : Launch} {G : JG} {h : MH} {Q : Int → MH → Prop} {E : Nat → Int → MH → Prop}
theorem c_X4init (hG : gO G = true) {a : Int} (hQ : Q 0 h) : S_X4_init l G [(2004, a)] h Q E := s_X4_init rfl fun K ki => r_X4_init_0 ki hG hQ
/-- a new state -/
theorem c_newS (hG : gO G = true) (z0 : 0 ≤ hz h) (b1' : hz h + 18 ≤ LIMC) (b2 : hs h + 100 ≤ LIMS) (hQ : ∀ h', hz h' = hz h + 18 → hs h' = hs h + 100 → stO h' (hz h + 1) → old h h' → Q 0 h') : S_X3_init l G [(2003, hz h + 1)] (hnew h 3 0 4) Q E := by
  generalize ha : hz h + 1 = a at *
  refine s_X3_init rfl fun K ki => r_X3_init_0 ki hG ?_
  rw [hz_new, hs_new, ha]
  refine ⟨by decide, by omega, by omega, fun h1 e1 h2 e2 => ?_⟩
  have z2 : hz h2 = a + 1 := by rw [e2, hz_set, e1, hz_new, hz_new]; omega
  have s2 : hs h2 = hs h + 20 := by rw [e2, hs_set, e1, hs_new, hs_new]; omega
  have base : ∀ b, b ≤ hz h → (∀ j, hv h2 b j = hv h b j) ∧ ht h2 b = ht h b ∧ hn h2 b = hn h b := by
    intro b hb
    refine ⟨fun j => ?_, ?_, ?_⟩
    · rw [e2, ne_a (by omega), e1, hv_new, hz_new, if_neg (by omega), hv_new, if_neg (by omega)]
    · rw [e2, ht_set, e1, ht_new, hz_new, if_neg (by omega), ht_new, if_neg (by omega)]
    · rw [e2, hn_set, e1, hn_new, hz_new, if_neg (by omega), hn_new, if_neg (by omega)]
  have ta : ht h2 a = 3 := by rw [e2, ht_set, e1, ht_new, hz_new, if_neg (by omega), ht_new, if_pos (by omega)]
  have va : hv h2 a 1 = a + 1 := by rw [e2, eq_a]
  have tb : ht h2 (a + 1) = 114 := by rw [e2, ht_set, e1, ht_new, hz_new, if_pos (by omega)]
  have nb : hn h2 (a + 1) = 16 := by rw [e2, hn_set, e1, hn_new, hz_new, if_pos (by omega)]
  have fin : ∀ g : MH, hz g = a + 1 + 16 → hs g = hs h + 20 + 5 * 16 → (∀ b, b ≤ hz h → (∀ j, hv g b j = hv h b j) ∧ ht g b = ht h b ∧ hn g b = hn h b) → ht g a = 3 → hv g a 1 = a + 1 → ht g (a + 1) = 114 → hn g (a + 1) = 16 → (∀ k, 0 ≤ k → k < 16 → hv g (a + 1) k = a + 2 + k ∧ ht g (a + 2 + k) = 4) → JW K 15 [(2003, a), (0, 16)] [] g := by
    intro g q1 q2 q3 q4 q5 q6 q7 q8
    exact r_X3_init_15 ki hG ⟨fun _ => hQ g (by omega) (by omega) ⟨by omega, by omega, q4, q5, q6, q7, q8⟩ q3, fun y => by omega⟩
  have loop : ∀ N : Nat, ∀ n : Int, ∀ g : MH, (16 - n).toNat ≤ N → 0 ≤ n → n ≤ 16 → hz g = a + 1 + n → hs g = hs h + 20 + 5 * n → (∀ b, b ≤ hz h → (∀ j, hv g b j = hv h b j) ∧ ht g b = ht h b ∧ hn g b = hn h b) → ht g a = 3 → hv g a 1 = a + 1 → ht g (a + 1) = 114 → hn g (a + 1) = 16 → (∀ k, 0 ≤ k → k < n → hv g (a + 1) k = a + 2 + k ∧ ht g (a + 2 + k) = 4) → JW K 15 [(2003, a), (0, n)] [] g := by
    intro N
    induction N with
    | zero =>
      intro n g n1 n2 n3 q1 q2 q3 q4 q5 q6 q7 q8
      have en : n = 16 := by omega
      subst en
      exact fin g q1 q2 q3 q4 q5 q6 q7 q8
    | succ N ih =>
      intro n g n1 n2 n3 q1 q2 q3 q4 q5 q6 q7 q8
      by_cases en : n = 16
      · subst en
        exact fin g q1 q2 q3 q4 q5 q6 q7 q8
      refine r_X3_init_15 ki hG ⟨fun y => by omega, fun _ => ⟨by omega, by omega, fun g1 e1' => c_X4init hG ?_⟩⟩
      rw [q5]
      have n1' : hn g1 (a + 1) = 16 := by rw [e1', hn_new, if_neg (by omega)]; exact q7
      refine ⟨by omega, n2, by rw [n1']; omega, fun g4 e4 x ex => ?_⟩
      rw [w32_i (by omega) (by omega)] at ex
      subst ex
      refine ih (n + 1) g4 (by omega) (by omega) (by omega) (by rw [e4, hz_set, e1', hz_new]; omega) (by rw [e4, hs_set, e1', hs_new]; omega) (fun b hb => ?_) ?_ ?_ ?_ ?_ (fun k k0 k1 => ?_)
      · obtain ⟨r1, r2, r3⟩ := q3 b hb
        refine ⟨fun j => ?_, ?_, ?_⟩
        · rw [e4, ne_a (by omega), e1', hv_new, if_neg (by omega)]; exact r1 j
        · rw [e4, ht_set, e1', ht_new, if_neg (by omega)]; exact r2
        · rw [e4, hn_set, e1', hn_new, if_neg (by omega)]; exact r3
      · rw [e4, ht_set, e1', ht_new, if_neg (by omega)]; exact q4
      · rw [e4, ne_a (by omega), e1', hv_new, if_neg (by omega)]; exact q5
      · rw [e4, ht_set, e1', ht_new, if_neg (by omega)]; exact q6
      · rw [e4, hn_set]; exact n1'
      · by_cases z : k = n
        · subst z
          refine ⟨by rw [e4, eq_a]; omega, ?_⟩
          rw [e4, ht_set, e1', ht_new, if_pos (by omega)]
        · obtain ⟨r1, r2⟩ := q8 k k0 (by omega)
          refine ⟨?_, ?_⟩
          · rw [e4, ne_k z, e1', hv_new, if_neg (by omega)]; exact r1
          · rw [e4, ht_set, e1', ht_new, if_neg (by omega)]; exact r2
  intro x ex
  subst ex
  exact loop _ 0 h2 (Nat.le_refl _) (by decide) (by decide) (by omega) (by omega) base ta va tb nb (fun k k0 k1 => by omega)
/-- a new cell -/
theorem c_newC (hG : gO G = true) (z0 : 0 ≤ hz h) (b1' : hz h + 3 ≤ LIMC) (b2 : hs h + 31 ≤ LIMS) (hQ : ∀ h', hz h' = hz h + 3 → hs h' = hs h + 31 → clO h' (hz h + 1) → old h h' → Q 0 h') : S_X6_init l G [(2006, hz h + 1)] (hnew h 6 0 2) Q E := by
  generalize ha : hz h + 1 = a at *
  refine s_X6_init rfl fun K ki => r_X6_init_0 ki hG ?_
  rw [hz_new, hs_new, ha]
  refine ⟨by omega, by omega, fun h1 e1 => c_X4init hG ?_⟩
  intro h4 e4
  have z4 : hz h4 = a + 1 := by rw [e4, hz_set, e1, hz_new, hz_new]; omega
  have s4 : hs h4 = hs h + 7 := by rw [e4, hs_set, e1, hs_new, hs_new]; omega
  rw [z4, s4]
  refine ⟨by decide, by omega, by omega, fun h5 e5 h6 e6 => ?_⟩
  have vb : ∀ b j, hv h6 b j = if b = a ∧ j = 1 then a + 1 + 1 else if b = a + 1 + 1 then 0 else if b = a ∧ j = 0 then a + 1 else if b = a + 1 then 0 else if b = a then 0 else hv h b j := by
    intro b j
    rw [e6, hv_set, e5, hv_new, z4, e4, hv_set, e1, hv_new, hz_new, ha, hv_new, ha]
  have tb : ∀ b, ht h6 b = if b = a + 1 + 1 then 101 else if b = a + 1 then 4 else if b = a then 6 else ht h b := by
    intro b
    rw [e6, ht_set, e5, ht_new, z4, e4, ht_set, e1, ht_new, hz_new, ha, ht_new, ha]
  have nb : ∀ b, hn h6 b = if b = a + 1 + 1 then 24 else if b = a + 1 then 0 else if b = a then 0 else hn h b := by
    intro b
    rw [e6, hn_set, e5, hn_new, z4, e4, hn_set, e1, hn_new, hz_new, ha, hn_new, ha]
  have z6 : hz h6 = a + 2 := by rw [e6, hz_set, e5, hz_new, z4]; omega
  have s6 : hs h6 = hs h + 31 := by rw [e6, hs_set, e5, hs_new, s4]; omega
  refine hQ h6 (by omega) s6 ⟨by omega, by omega, ?_, ?_, ?_, ?_, ?_, ?_⟩ (fun b hb => ⟨fun j => ?_, ?_, ?_⟩)
  · rw [tb, if_neg (by omega), if_neg (by omega), if_pos rfl]
  · rw [vb, if_neg (by omega), if_neg (by omega), if_pos ⟨rfl, rfl⟩]
  · rw [tb, if_neg (by omega), if_pos rfl]
  · rw [vb, if_pos ⟨rfl, rfl⟩]; omega
  · rw [tb, if_pos (by omega)]
  · rw [nb, if_pos (by omega)]
  · rw [vb, if_neg (by omega), if_neg (by omega), if_neg (by omega), if_neg (by omega), if_neg (by omega)]
  · rw [tb, if_neg (by omega), if_neg (by omega), if_neg (by omega)]
  · rw [nb, if_neg (by omega), if_neg (by omega), if_neg (by omega)]
/-- a cell is emptied -/
theorem c_Cnone (hG : gO G = true) {c : Int} (co : clO h c) (hQ : ∀ h', h'.2 = h.2 → (∀ b j, b ≠ c + 1 → b ≠ c + 2 → hv h' b j = hv h b j) → fo h' (c + 1) = fz → (∀ j, 0 ≤ j → j < 24 → hv h' (c + 2) j = 0) → Q 0 h') : S_X6_none l G [(2006, c)] h Q E := by
  obtain ⟨c1, c2, c3, c4, c5, c6, c7, c8⟩ := co
  refine s_X6_none rfl fun K ki => r_X6_none_0 ki hG ?_
  rw [c4]
  refine ⟨by omega, c_none hG ?_⟩
  have fin : ∀ g : MH, g.2 = h.2 → (∀ b j, b ≠ c + 1 → b ≠ c + 2 → hv g b j = hv h b j) → fo g (c + 1) = fz → (∀ j, 0 ≤ j → j < 24 → hv g (c + 2) j = 0) → JW K 9 [(2006, c), (0, 24)] [] g := by
    intro g q1 q2 q3 q4
    refine r_X6_none_9 ki hG ?_
    rw [q2 c 1 (by omega) (by omega), c6, h2_hn q1, c8]
    exact ⟨by omega, fun _ => hQ g q1 q2 q3 q4, fun y => by omega⟩
  have loop : ∀ N : Nat, ∀ n : Int, ∀ g : MH, (24 - n).toNat ≤ N → 0 ≤ n → n ≤ 24 → g.2 = h.2 → (∀ b j, b ≠ c + 1 → b ≠ c + 2 → hv g b j = hv h b j) → fo g (c + 1) = fz → (∀ j, 0 ≤ j → j < n → hv g (c + 2) j = 0) → JW K 9 [(2006, c), (0, n)] [] g := by
    intro N
    induction N with
    | zero =>
      intro n g n1 n2 n3 q1 q2 q3 q4
      have en : n = 24 := by omega
      subst en
      exact fin g q1 q2 q3 q4
    | succ N ih =>
      intro n g n1 n2 n3 q1 q2 q3 q4
      by_cases en : n = 24
      · subst en
        exact fin g q1 q2 q3 q4
      refine r_X6_none_9 ki hG ?_
      rw [q2 c 1 (by omega) (by omega), c6, h2_hn q1, c8]
      refine ⟨by omega, fun y => by omega, fun _ => ⟨by omega, n2, by omega, fun g1 e1 x ex => ?_⟩⟩
      rw [w32_i (by omega) (by omega)] at ex
      subst ex
      refine ih (n + 1) g1 (by omega) (by omega) (by omega) (by rw [e1]; exact q1) (fun b j hb hb2 => by rw [e1, ne_a hb2]; exact q2 b j hb hb2) ?_ (fun j j0 j1 => ?_)
      · rw [← q3, e1]
        exact fo_eq (fun j => ne_a (by omega))
      · rw [e1, hv_set]
        by_cases z : j = n
        · rw [if_pos ⟨rfl, z⟩]
        · rw [if_neg (fun q => z q.2)]; exact q4 j j0 (by omega)
  intro x ex
  subst ex
  exact loop _ 0 _ (Nat.le_refl _) (by decide) (by decide) rfl (fun b j hb _ => fw_ne hb) (fo_fw0 rfl) (fun j j0 j1 => by omega)
/-- an outcome is emptied -/
theorem c_Onone (hG : gO G = true) {m : Int} (m0 : 0 ≤ m) (oo : ouO h m) (hQ : ∀ h', h'.2 = h.2 → (∀ b j, ¬ (144 + 3 * m ≤ b ∧ b ≤ 146 + 3 * m) → hv h' b j = hv h b j) → hv h' (144 + 3 * m) 1 = 145 + 3 * m → hv h' (144 + 3 * m) 8 = 146 + 3 * m → hv h' (144 + 3 * m) 0 = 0 → hv h' (144 + 3 * m) 4 = 0 → hv h' (144 + 3 * m) 7 = 0 → fo h' (145 + 3 * m) = fz → (∀ j, 0 ≤ j → j < 24 → hv h' (146 + 3 * m) j = 0) → Q 0 h') : S_X5_none l G [(2005, 144 + 3 * m)] h Q E := by
  obtain ⟨o1, o2, o3, o4, o5, o6, o7⟩ := oo
  refine s_X5_none rfl fun K ki => r_X5_none_0 ki hG ⟨Or.inl rfl, fun h1 e1 => ?_⟩
  have v1 : hv h1 (144 + 3 * m) 1 = 145 + 3 * m := by rw [e1, ne_k (by decide)]; exact o3
  rw [v1]
  refine ⟨by omega, c_none hG ?_⟩
  intro h4 e4 h5 e5
  have b5 : ∀ b j, b ≠ 144 + 3 * m → b ≠ 145 + 3 * m → hv h5 b j = hv h b j := fun b j hb hb2 => by rw [e5, ne_a hb, e4, ne_a hb, fw_ne hb2, e1, ne_a hb]
  have q1 : hv h5 (144 + 3 * m) 1 = 145 + 3 * m := by rw [e5, ne_k (by decide), e4, ne_k (by decide), fw_ne (by omega)]; exact v1
  have q8 : hv h5 (144 + 3 * m) 8 = 146 + 3 * m := by rw [e5, ne_k (by decide), e4, ne_k (by decide), fw_ne (by omega), e1, ne_k (by decide)]; exact o5
  have q0 : hv h5 (144 + 3 * m) 0 = 0 := by rw [e5, ne_k (by decide), e4, ne_k (by decide), fw_ne (by omega), e1, eq_a]
  have q4 : hv h5 (144 + 3 * m) 4 = 0 := by rw [e5, ne_k (by decide), e4, eq_a]
  have q7 : hv h5 (144 + 3 * m) 7 = 0 := by rw [e5, eq_a]
  have qf : fo h5 (145 + 3 * m) = fz := by
    have : fo h5 (145 + 3 * m) = fo (fw h1 (145 + 3 * m) fz) (145 + 3 * m) := fo_eq (fun j => by rw [e5, ne_a (by omega), e4, ne_a (by omega)])
    rw [this, fo_fw0 rfl]
  have qh : h5.2 = h.2 := by rw [e5, e4, e1]; rfl
  have fin : ∀ g : MH, g.2 = h5.2 → (∀ b j, b ≠ 146 + 3 * m → hv g b j = hv h5 b j) → (∀ j, 0 ≤ j → j < 24 → hv g (146 + 3 * m) j = 0) → JW K 24 [(2005, 144 + 3 * m), (0, 24)] [] g := by
    intro g r1 r2 r4
    refine r_X5_none_24 ki hG ?_
    rw [r2 (144 + 3 * m) 8 (by omega), q8, h2_hn r1, h2_hn qh, o7]
    refine ⟨by omega, fun _ => hQ g (r1.trans qh) (fun b j hb => by rw [r2 b j (by omega)]; exact b5 b j (by omega) (by omega)) (by rw [r2 _ _ (by omega)]; exact q1) (by rw [r2 _ _ (by omega)]; exact q8) (by rw [r2 _ _ (by omega)]; exact q0) (by rw [r2 _ _ (by omega)]; exact q4) (by rw [r2 _ _ (by omega)]; exact q7) ?_ r4, fun y => by omega⟩
    rw [← qf]
    exact fo_eq (fun j => r2 _ j (by omega))
  have loop : ∀ N : Nat, ∀ n : Int, ∀ g : MH, (24 - n).toNat ≤ N → 0 ≤ n → n ≤ 24 → g.2 = h5.2 → (∀ b j, b ≠ 146 + 3 * m → hv g b j = hv h5 b j) → (∀ j, 0 ≤ j → j < n → hv g (146 + 3 * m) j = 0) → JW K 24 [(2005, 144 + 3 * m), (0, n)] [] g := by
    intro N
    induction N with
    | zero =>
      intro n g n1 n2 n3 r1 r2 r4
      have en : n = 24 := by omega
      subst en
      exact fin g r1 r2 r4
    | succ N ih =>
      intro n g n1 n2 n3 r1 r2 r4
      by_cases en : n = 24
      · subst en
        exact fin g r1 r2 r4
      refine r_X5_none_24 ki hG ?_
      rw [r2 (144 + 3 * m) 8 (by omega), q8, h2_hn r1, h2_hn qh, o7]
      refine ⟨by omega, fun y => by omega, fun _ => ⟨by omega, n2, by omega, fun g1 e1' x ex => ?_⟩⟩
      rw [w32_i (by omega) (by omega)] at ex
      subst ex
      refine ih (n + 1) g1 (by omega) (by omega) (by omega) (by rw [e1']; exact r1) (fun b j hb => by rw [e1', ne_a hb]; exact r2 b j hb) (fun j j0 j1 => ?_)
      rw [e1', hv_set]
      by_cases z : j = n
      · rw [if_pos ⟨rfl, z⟩]
      · rw [if_neg (fun q => z q.2)]; exact r4 j j0 (by omega)
  intro x ex
  subst ex
  exact loop _ 0 h5 (Nat.le_refl _) (by decide) (by decide) rfl (fun _ _ _ => rfl) (fun j j0 j1 => by omega)
end NW
