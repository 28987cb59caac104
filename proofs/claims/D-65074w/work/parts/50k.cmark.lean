/-! Part 50k: marks below and above -/
theorem lc_leq {a b : Int} : lc a b ≤ 0 ↔ a ≤ b := by
  unfold lc
  split
  · constructor <;> intro q <;> omega
  · split <;> constructor <;> intro q <;> omega
theorem i_half {a : Int} (h0 : 0 ≤ a) (h1 : a ≤ 2147483647) : i_div a 2 = a / 2 := by
  rw [i_div_v (by unfold c32; omega) (by unfold c32; decide), Int.tdiv_eq_ediv_of_nonneg h0, w32_i (by omega) (by omega)]
section MU
variable {l : Launch} {G : JG} {h : MH} {L : PG} {P : Int} {Q : Int → MH → Prop} {E : Nat → Int → MH → Prop}
theorem c_down (hG : gO G = true) (cp : CP h L P) {v : Int} (cv : c32 v) (hQ : Q (dn L v) h) : S_X12_down l G [(2012, P), (1, v)] h Q E := by
  have pa := CP_ad cp
  obtain ⟨-, -, -, -, -, -, -, -, -, ⟨-, g2, g3, g4, g5, g6⟩, -⟩ := cp
  generalize hA : hv h P 12 = A at g2 g3 g4 g5 g6
  unfold c32 at cv
  refine s_X12_down rfl fun K ki => ?_
  have key : ∀ m : Nat, ∀ lo hi : Int, (hi - lo).toNat ≤ m → 0 ≤ lo → lo ≤ hi → hi < hn h A → hv h A lo ≤ v → (∀ j, hi < j → j < hn h A → v < hv h A j) → JW K 11 [(2012, P), (1, v), (5000, 0), (0, lo), (0, hi), (5000, 0)] [] h := by
    have fin : ∀ lo, 0 ≤ lo → lo < hn h A → hv h A lo ≤ v → (∀ j, lo < j → j < hn h A → v < hv h A j) → Q (hv h A lo) h := by
      intro lo b1 b2 b3 b4
      have : isDn L v (hv h A lo) := by
        refine ⟨g5 lo b1 b2, b3, fun u u1 u2 => ?_⟩
        obtain ⟨i, i0, i1, e⟩ := g6 u u1
        by_cases z : i ≤ lo
        · by_cases z2 : i = lo
          · rw [← e, z2]; exact Int.le_refl _
          · have := g4 i lo i0 (by omega) b2; omega
        · have := b4 i (by omega) i1
          omega
      rw [← dn_eq this]; exact hQ
    intro m
    induction m with
    | zero =>
      intro lo hi b0 b1 b2 b3 b4 b5
      refine r_X12_down_11 ki hG ⟨fun q => ?_, fun q => by omega⟩
      rw [hA]
      exact ⟨by omega, b1, by omega, fin lo b1 (by omega) b4 (fun j j0 j1 => b5 j (by omega) j1)⟩
    | succ m ih =>
      intro lo hi b0 b1 b2 b3 b4 b5
      refine r_X12_down_11 ki hG ⟨fun q => ?_, fun q => ⟨by decide, fun x ex => ?_⟩⟩
      · rw [hA]
        exact ⟨by omega, b1, by omega, fin lo b1 (by omega) b4 (fun j j0 j1 => b5 j (by omega) j1)⟩
      · rw [w32_i (z := lo + hi) (by omega) (by omega), w32_i (by omega) (by omega), i_half (by omega) (by omega)] at ex
        rw [hA]
        refine ⟨by omega, by omega, by omega, fun e y ey => ?_, fun e y ey => ?_⟩
        · have e' : v < hv h A x := by
            refine Int.not_le.mp fun r => ?_
            have := lc_leq.mpr r
            omega
          rw [w32_i (by omega) (by omega)] at ey
          subst ey
          refine ih lo (x - 1) (by omega) b1 (by omega) (by omega) b4 (fun j j0 j1 => ?_)
          by_cases z : j = x
          · rw [z]; exact e'
          · have := g4 x j (by omega) (by omega) j1
            omega
        · have e' := lc_leq.mp e
          rw [ey]
          exact ih x hi (by omega) (by omega) (by omega) b3 e' b5
  refine r_X12_down_0 ki hG fun x ex => ⟨by rw [hA]; omega, fun y ey => ?_⟩
  rw [hA, w32_i (by omega) (by omega)] at ey
  subst ex ey
  refine key _ 0 _ (Nat.le_refl _) (by decide) (by omega) (by omega) ?_ (fun j j0 j1 => by omega)
  obtain ⟨i, i0, i1, e⟩ := g6 (-2147483648) (Or.inl rfl)
  by_cases z : i = 0
  · rw [← z, e]; omega
  · have := g4 0 i (by decide) (by omega) i1
    omega
theorem c_up (hG : gO G = true) (cp : CP h L P) {v : Int} (cv : c32 v) (hQ : Q (upm L v) h) : S_X12_up l G [(2012, P), (1, v)] h Q E := by
  have pa := CP_ad cp
  obtain ⟨-, -, -, -, -, -, -, -, -, ⟨-, g2, g3, g4, g5, g6⟩, -⟩ := cp
  generalize hA : hv h P 12 = A at g2 g3 g4 g5 g6
  unfold c32 at cv
  refine s_X12_up rfl fun K ki => ?_
  have key : ∀ m : Nat, ∀ lo hi : Int, (hi - lo).toNat ≤ m → 0 ≤ lo → lo ≤ hi → hi < hn h A → v ≤ hv h A hi → (∀ j, 0 ≤ j → j < lo → hv h A j < v) → JW K 11 [(2012, P), (1, v), (5000, 0), (0, lo), (0, hi), (5000, 0)] [] h := by
    have fin : ∀ lo, 0 ≤ lo → lo < hn h A → v ≤ hv h A lo → (∀ j, 0 ≤ j → j < lo → hv h A j < v) → Q (hv h A lo) h := by
      intro lo b1 b2 b3 b4
      have : isUp L v (hv h A lo) := by
        refine ⟨g5 lo b1 b2, b3, fun u u1 u2 => ?_⟩
        obtain ⟨i, i0, i1, e⟩ := g6 u u1
        by_cases z : lo ≤ i
        · by_cases z2 : i = lo
          · rw [← e, z2]; exact Int.le_refl _
          · have := g4 lo i b1 (by omega) i1; omega
        · have := b4 i i0 (by omega)
          omega
      rw [← up_eq this]; exact hQ
    intro m
    induction m with
    | zero =>
      intro lo hi b0 b1 b2 b3 b4 b5
      refine r_X12_up_11 ki hG ⟨fun q => ?_, fun q => by omega⟩
      rw [hA]
      exact ⟨by omega, b1, by omega, fin lo b1 (by omega) (by rw [show lo = hi by omega]; exact b4) b5⟩
    | succ m ih =>
      intro lo hi b0 b1 b2 b3 b4 b5
      refine r_X12_up_11 ki hG ⟨fun q => ?_, fun q => ⟨by decide, fun x ex => ?_⟩⟩
      · rw [hA]
        exact ⟨by omega, b1, by omega, fin lo b1 (by omega) (by rw [show lo = hi by omega]; exact b4) b5⟩
      · rw [w32_i (by omega) (by omega), i_half (by omega) (by omega)] at ex
        rw [hA]
        refine ⟨by omega, by omega, by omega, fun e y ey => ?_, fun e y ey => ?_⟩
        · have e' := (lc_lt _ _).mp e
          rw [w32_i (by omega) (by omega)] at ey
          subst ey
          refine ih (x + 1) hi (by omega) (by omega) (by omega) b3 b4 (fun j j0 j1 => ?_)
          by_cases z : j = x
          · rw [z]; exact e'
          · have := g4 j x j0 (by omega) (by omega)
            omega
        · have e' : v ≤ hv h A x := by
            refine Int.not_lt.mp fun r => ?_
            have := (lc_lt _ _).mpr r
            omega
          rw [ey]
          exact ih lo x (by omega) b1 (by omega) (by omega) e' b5
  refine r_X12_up_0 ki hG fun x ex => ⟨by rw [hA]; omega, fun y ey => ?_⟩
  rw [hA, w32_i (by omega) (by omega)] at ey
  subst ex ey
  refine key _ 0 _ (Nat.le_refl _) (by decide) (by omega) (by omega) ?_ (fun j j0 j1 => by omega)
  obtain ⟨i, i0, i1, e⟩ := g6 2147483647 (Or.inr (Or.inl rfl))
  by_cases z : i = hn h A - 1
  · rw [← z, e]; omega
  · have := g4 i (hn h A - 1) i0 (by omega) (by omega)
    omega
end MU
