/-! Part 51i: plain instructions of the component -/
theorem ux_self (X : Int → FA) (s j : Int) : ux X s (X s) j = X j := by
  unfold ux
  split
  · rename_i e; rw [e]
  · rfl
theorem kind_slots {g : MH} {L : PG} (c : CW g L) {x : Int} (x0 : 0 ≤ x) (x1 : x < 16) : hv g 80 1 = 81 ∧ hn g 81 = 16 ∧ hv g 81 x = 80 + 2 + x := by
  obtain ⟨s1, s2, s3, s4, s5, s6, s7⟩ := c.2.2.2.1.1
  exact ⟨s4, s6, (s7 x x0 x1).1⟩
section SI
variable {l : Launch} {G : JG} {h g : MH} {L : PG} {k M : Int} {Q : Int → MH → Prop} {E : Nat → Int → MH → Prop}
theorem w_simple (hG : gO G = true) (w : WF L) (t : tiv L (cT h L)) (hr : rch (cT h L) k) (u : usI h L k) (c : wcf h g L k M (cT h L 0 k) (cT h L 6 k 0) (pDp L k) (fun _ => True)) (ho : pOp L k < 7) (hQ : ∀ g', WE h g' L k → Q 0 g') : S_X2_simple l G [(2002, 3), (0, pOp L k), (0, pX L k), (0, pY L k)] g Q E := by
  have hk := c.2.1.1
  obtain ⟨mk, ops, xr, yr, x2, -, -, -, -, -, -, -, -, -, -, -, -, -, -, dp, -⟩ := w.k hk.1 hk.2
  obtain ⟨-, -, -, -, -, -, -, -, -, lc8, -⟩ := w.m mk.1 mk.2.1
  have fin : ∀ {g' : MH} {X' : Int → FA} {lk' : FA} {d' : Int} {P' : TB → Prop}, wcf h g' L k M X' lk' d' P' → (P' (cT g' L) → CLz L (cT h L) (cT g' L) k) → Q 0 g' := fun c f => hQ _ (WE_of w hk t hr u (AdK_w c.1 (fun _ p => f p) (fun _ _ _ q => q)) (by omega))
  have upT : ∀ U V : TB, tle U V → (fun _ : TB => True) U → (fun _ : TB => True) V := fun _ _ _ x => x
  refine s_X2_simple rfl fun K ki => r_X2_simple_0 ki hG ⟨⟨fun e => ?_, fun e => ?_, fun e => ?_, fun e => ?_, trivial⟩, fun e => ?_⟩
  · -- a number
    have m0 : isMk L (pY L k) := by
      unfold isMk
      right; right; right; right; right; right
      exact ⟨k, hk.1, hk.2, Or.inl ⟨Or.inl e, Or.inr (Or.inl rfl)⟩⟩
    have pp : ppo L k = 0 := by unfold ppo; simp [e]
    have pu : ppu L k = 1 := by unfold ppu; simp [e]
    refine c_number hG ?_
    have c1 := wcf_fw (f := 134) (v := fv (pY L k) (pY L k) 0 0) w (by omega) c
    refine W_put (v := fv (pY L k) (pY L k) 0 0) hG w c1 (by omega) (by decide) (by decide) (fo_fw0 rfl) (fgd_n m0 m0 (Int.le_refl _) (by unfold c32; omega) (by unfold c32; omega) (by unfold c32; omega)) fun g2 c2 _ => ?_
    exact W_next hG w t hr upT c2 (by omega) (by omega) (fun U _ q => (CL0 e).mp q) fun g3 c3 _ => fin c3 (fun p => (CL0 e).mpr p.2)
  · have pp : ppo L k = 0 := by unfold ppo; simp [e]
    have pu : ppu L k = 1 := by unfold ppu; simp [e]
    refine c_sites hG ?_
    have c1 := wcf_fw (f := 134) (v := fs 1) w (by omega) c
    refine W_put (v := fs 1) hG w c1 (by omega) (by decide) (by decide) (fo_fw0 rfl) (fgd_1 L _) fun g2 c2 _ => ?_
    exact W_next hG w t hr upT c2 (by omega) (by omega) (fun U _ q => (CL1 e).mp q) fun g3 c3 _ => fin c3 (fun p => (CL1 e).mpr p.2)
  · have e : pOp L k = 2 := e
    have pp : ppo L k = 0 := by unfold ppo; simp [e]
    have pu : ppu L k = 1 := by unfold ppu; simp [e]
    have xl := x2 (by omega)
    obtain ⟨s1, s2, s3⟩ := kind_slots (wcf_st c).1 xr.1 (show pX L k < 16 by omega)
    rw [s1, s2, s3]
    have vv : vld L (pMo L k) (pDp L k) (pX L k) := Or.inl ⟨xr.1, xl⟩
    refine ⟨by decide, xr.1, by omega, W_put (v := cT h L 0 k (pX L k)) hG w c (by omega) (by omega) (by omega) (c.2.2.2.1.1 _ vv) (c.2.2.2.2.1 _ vv) fun g2 c2 _ => ?_⟩
    exact W_next hG w t hr upT c2 (by omega) (by omega) (fun U _ q => (CL2 e).mp q) fun g3 c3 _ => fin c3 (fun p => (CL2 e).mpr p.2)
  · have e : pOp L k = 3 := e
    have pp : ppo L k = 1 := by unfold ppo; simp [e]
    have pu : ppu L k = 0 := by unfold ppu; simp [e]
    have xl := x2 (by omega)
    obtain ⟨s1, s2, s3⟩ := kind_slots (wcf_st c).1 xr.1 (show pX L k < 16 by omega)
    rw [s1, s2, s3]
    refine ⟨by decide, xr.1, by omega, W_take hG w c (by omega) (Or.inl ⟨by decide, by decide⟩) fun g1 c1 f1 gd1 _ => ⟨by omega, c_become hG (by decide) ?_⟩⟩
    have c2 := wcf_slot (s := pX L k) (v := fo g1 134) w c1 xr.1 (by omega) rfl (fun _ => by rw [f1]; exact gd1)
    rw [f1] at c2 ⊢
    exact W_next hG w t hr upT c2 (by omega) (by omega) (fun U _ q => (CL3 e).mp q) fun g3 c3 _ => fin c3 (fun p => (CL3 e).mpr p.2)
  · have pp1 : 1 ≤ ppo L k := by
      have : pOp L k = 4 ∨ pOp L k = 5 ∨ pOp L k = 6 := by omega
      rcases this with e | e | e <;> (unfold ppo; simp [e])
    refine W_take hG w c (by omega) (Or.inl ⟨by decide, by decide⟩) fun g1 c1 f1 gd1 _ x4 e4 => ⟨fun n5 => ⟨fun n6 => ?_, fun e6 => ?_⟩, fun e5 => ?_⟩
    · have e4 : pOp L k = 4 := by omega
      have pp : ppo L k = 1 := by unfold ppo; simp [e4]
      have pu : ppu L k = 0 := by unfold ppu; simp [e4]
      exact W_next hG w t hr upT c1 (by omega) (by omega) (fun U _ q => (CL4 e4).mp q) fun g3 c3 _ => fin c3 (fun p => (CL4 e4).mpr p.2)
    · have pp : ppo L k = 2 := by unfold ppo; simp [e6]
      have pu : ppu L k = 2 := by unfold ppu; simp [e6]
      refine W_take hG w c1 (by omega) (Or.inl ⟨by decide, by decide⟩) fun g2 c2 f2 gd2 fr2 x5 _ => ?_
      have f2' : fo g2 134 = cT h L 0 k (7 + pDp L k) := by rw [← f1]; exact fo_eq (fun j => fr2 _ j (by omega) (by decide) (by omega))
      have t2 : cT g2 L = cT g1 L → fgd L (cT g2 L) (cT h L 0 k (7 + pDp L k)) := fun e => by rw [e]; exact gd1
      have gd1' : fgd L (cT g2 L) (cT h L 0 k (7 + pDp L k)) := fgd_le c2.1.2.2.2.2.1 (tiv_slot t hr (Or.inr ⟨by omega, by omega⟩))
      refine W_put (v := cT h L 0 k (7 + pDp L k)) hG w c2 (by omega) (by decide) (by decide) f2' gd1' fun g3 c3 fr3 => ?_
      have f3 : fo g3 135 = cT h L 0 k (7 + (pDp L k - 1)) := by rw [← f2]; exact fo_eq (fun j => fr3 _ j (by omega) (by omega))
      refine W_put (v := cT h L 0 k (7 + (pDp L k - 1))) hG w c3 (by omega) (by decide) (by decide) f3 (fgd_le c3.1.2.2.2.2.1 (tiv_slot t hr (Or.inr ⟨by omega, by omega⟩))) fun g4 c4 _ => ?_
      have c5 : wcf h g4 L k M (ux (ux (cT h L 0 k) (7 + pDp L k) (cT h L 0 k (6 + pDp L k))) (6 + pDp L k) (cT h L 0 k (7 + pDp L k))) (cT h L 6 k 0) (pDp L k - 1 - 1 + 1 + 1) (fun _ => True) := by
        refine wcf_X c4 (fun j _ => ?_)
        unfold ux
        rw [show 8 + (pDp L k - 1 - 1 + 1) = 7 + pDp L k by omega, show 8 + (pDp L k - 1 - 1) = 6 + pDp L k by omega, show 7 + (pDp L k - 1) = 6 + pDp L k by omega]
        by_cases j7 : j = 7 + pDp L k
        · rw [if_pos j7, if_neg (by omega), if_pos j7]
        · rw [if_neg j7]
          by_cases j6 : j = 6 + pDp L k
          · rw [if_pos j6, if_pos j6]
          · rw [if_neg j6, if_neg j6, if_neg j7]
      exact W_next hG w t hr upT c5 (by omega) (by omega) (fun U _ q => (CL6 e6).mp q) fun g5 c6 _ => fin c6 (fun p => (CL6 e6).mpr p.2)
    · have pp : ppo L k = 1 := by unfold ppo; simp [e5]
      have pu : ppu L k = 2 := by unfold ppu; simp [e5]
      refine W_put (v := cT h L 0 k (7 + pDp L k)) hG w c1 (by omega) (by decide) (by decide) f1 gd1 fun g2 c2 fr2 => ?_
      have f2 : fo g2 134 = cT h L 0 k (7 + pDp L k) := by rw [← f1]; exact fo_eq (fun j => fr2 _ j (by omega) (by omega))
      refine W_put (v := cT h L 0 k (7 + pDp L k)) hG w c2 (by omega) (by decide) (by decide) f2 (fgd_le c2.1.2.2.2.2.1 (tiv_slot t hr (Or.inr ⟨by omega, by omega⟩))) fun g3 c3 _ => ⟨fun _ => ?_, fun e6 => by omega⟩
      have c5 : wcf h g3 L k M (ux (cT h L 0 k) (8 + pDp L k) (cT h L 0 k (7 + pDp L k))) (cT h L 6 k 0) (pDp L k - 1 + 1 + 1) (fun _ => True) := by
        refine wcf_X c3 (fun j _ => ?_)
        unfold ux
        rw [show 8 + (pDp L k - 1 + 1) = 8 + pDp L k by omega, show 8 + (pDp L k - 1) = 7 + pDp L k by omega]
        by_cases j7 : j = 8 + pDp L k
        · rw [if_pos j7, if_pos j7]
        · rw [if_neg j7, if_neg j7]
          by_cases j6 : j = 7 + pDp L k
          · rw [if_pos j6, j6]
          · rw [if_neg j6]
      exact W_next hG w t hr upT c5 (by omega) (by omega) (fun U _ q => (CL5 e5).mp q) fun g5 c6 _ => fin c6 (fun p => (CL5 e5).mpr p.2)
end SI
