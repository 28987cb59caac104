/-! Part 52b: calls, returns, throws, casts in the component -/
theorem lc_m1 {x : Int} : lc x (-1) = 0 ↔ x = -1 := by
  unfold lc
  split
  · omega
  · split
    · omega
    · omega
section CAS
variable {l : Launch} {G : JG} {h g : MH} {L : PG} {k M : Int} {Q : Int → MH → Prop} {E : Nat → Int → MH → Prop}
/-- the ref of a call is among the work's slots -/
theorem w_calls (hG : gO G = true) (w : WF L) (t : tiv L (cT h L)) (hr : rch (cT h L) k) (u : usI h L k) (hz : L 99 0 = 1) (c : wcf h g L k M (cT h L 0 k) (cT h L 6 k 0) (pDp L k) (fun _ => True)) (ho : 29 ≤ pOp L k ∧ pOp L k ≤ 33) (hQ : ∀ g', WE h g' L k → Q 0 g') : S_X2_calls l G [(2002, 3), (0, pOp L k), (0, pX L k), (0, pY L k)] g Q E := by
  have nn := w.n
  unfold WFn at nn
  have hk := c.2.1.1
  have hk1 := hk.1
  have hk2 := hk.2
  obtain ⟨mk, -, xr, yr, -, -, -, -, -, -, -, -, -, cy, cw, -, -, -, -, dp, -⟩ := w.k hk.1 hk.2
  have mk1 := mk.1
  have mk2 := mk.2.1
  have hm : inM L (pMo L k) := ⟨mk1, mk2⟩
  obtain ⟨-, -, hM, cmm, -⟩ := c.2.1
  have cm11 := cmm.1.1
  have upT : ∀ U V : TB, tle U V → (fun _ : TB => True) U → (fun _ : TB => True) V := fun _ _ _ x => x
  have dd := c.2.2.2.1.2.2
  have cp := (wcf_st c).1.1
  have ad := CP_ad cp
  obtain ⟨ms1, ms2⟩ := CP_ms cp
  refine s_X2_calls rfl fun K ki => r_X2_calls_0 ki hG ?_
  rw [hM, cmm.2.1.1, ((wcf_st c).1.2.2.2.2.2.2.1 (pMo L k) mk1 (by omega)).1]
  refine ⟨by omega, mk1, by omega, fun x4 e4 => ?_⟩
  subst e4
  refine ⟨⟨fun e => ?_, fun e => ?_, fun e => ?_, fun e => ?_, trivial⟩, fun e => ?_⟩
  · -- a method of no class
    obtain ⟨cy0, cy1, -⟩ := cy e
    have lk : lik L k = pY L k := by unfold lik; rw [if_pos e]
    have cdy : ∀ q, CD L (cT h L) k q ↔ q = pY L k := by
      intro q
      constructor
      · rintro ⟨s, hs⟩
        rcases hs with hs | hs
        · exact hs.2.2
        · exact absurd e hs.1
      · intro z
        exact ⟨-1, Or.inl ⟨e, rfl, z⟩⟩
    clear cy cw
    have fin : ∀ g1 : MH, wcf h g1 L k M (cT h L 0 k) (cT h L 6 k 0) (pDp L k) (fun _ => True) → (∀ q, 0 ≤ q → q < 40 → hv g1 143 q = if q = pY L k then -1 else 0) → JW K 47 [(2002, 3), (0, pOp L k), (0, pX L k), (0, pY L k), (9, 144 + 3 * pMo L k), (0, 40), (5000, 0), (5000, 0), (5000, 0), (5000, 0), (5000, 0), (5000, 0)] [] g1 := by
      intro g1 c1 rv
      have cp1 := (wcf_st c1).1.1
      have ad1 := CP_ad cp1
      obtain ⟨n1, n2⟩ := CP_ms cp1
      refine r_X2_calls_47 ki hG ⟨fun _ => ⟨by omega, by omega, cy0, by omega, ?_⟩, fun y => by omega⟩
      refine w_call (Q := fun _ x => Q 0 x) (v2 := -1) (own := 0) (rc := fun q => hv g1 143 q) (P0 := fun _ => True) hG w t hr u hz (Or.inl e) upT (fun U _ o => by omega) hQ c1 (by rw [lk]; exact n2 (pY L k) cy0 cy1) (by rw [if_pos (by decide)]) (fun _ => rfl) (fun o => by omega) (fun z => absurd z (by decide)) (fun q q0 q1 => ?_) (fun o => by omega) (fun _ => rfl)
      rw [rv q q0 (by omega), cdy q]
      by_cases z : q = pY L k
      · rw [if_pos z]; exact ⟨fun _ => z, fun _ => by decide⟩
      · rw [if_neg z]; exact ⟨fun y => absurd rfl y, fun y => absurd y z⟩
    have loop : ∀ N : Nat, ∀ n : Int, ∀ g1 : MH, (40 - n).toNat ≤ N → 0 ≤ n → n ≤ 40 → wcf h g1 L k M (cT h L 0 k) (cT h L 6 k 0) (pDp L k) (fun _ => True) → (∀ q, 0 ≤ q → q < n → hv g1 143 q = if q = pY L k then -1 else 0) → JW K 47 [(2002, 3), (0, pOp L k), (0, pX L k), (0, pY L k), (9, 144 + 3 * pMo L k), (0, n), (5000, 0), (5000, 0), (5000, 0), (5000, 0), (5000, 0), (5000, 0)] [] g1 := by
      intro N
      induction N with
      | zero =>
        intro n g1 n1 n2 n3 c1 rv
        have en : n = 40 := by omega
        subst en
        exact fin g1 c1 rv
      | succ N ih =>
        intro n g1 n1 n2 n3 c1 rv
        by_cases en : n = 40
        · subst en
          exact fin g1 c1 rv
        refine r_X2_calls_47 ki hG ⟨fun y => by omega, fun _ => ⟨n2, by omega, fun h3 e3 x5 e5 => ?_⟩⟩
        rw [w32_i (by omega) (by omega)] at e5
        subst e5
        refine ih (n + 1) h3 (by omega) (by omega) (by omega) (by rw [e3]; exact wcf_sm w c1 (smC_set (by unfold scw; omega)) (fun b j hb => ne_a (by omega))) (fun q q0 q1 => ?_)
        rw [e3, hv_set]
        by_cases z : q = n
        · rw [if_pos ⟨rfl, z⟩, z]
        · rw [if_neg (fun y => z y.2)]; exact rv q q0 (by omega)
    intro x5 e5
    subst e5
    exact loop _ 0 g (Nat.le_refl _) (by decide) (by decide) c (fun q q0 q1 => by omega)
  · -- a method of classes
    have e : pOp L k = 30 := e
    obtain ⟨cw0, cw1⟩ := cw (by omega)
    obtain ⟨wn1, -, -⟩ := wnm_ok w cw1
    clear cy cw
    have lk : lik L k = wnm L (pX L k) := by unfold lik; rw [if_neg (by omega)]
    have p1 : ppo L k = pAr L (lik L k) := by unfold ppo; simp [e]
    obtain ⟨-, -, -, ar0, ar1, aow, -⟩ := w.m cw1 wn1
    have dpo := dp.2.2.1
    have ar2 : 1 ≤ pAr L (lik L k) := by rw [lk]; exact (aow (wnm_ok w cw1).2.2).1
    have fr : frs L k = 8 + pDp L k - pAr L (lik L k) := frs_lik
    rw [← lk] at ar0 ar1
    refine ⟨by omega, c_named hG w cp ⟨fun z => by omega, fun z z2 x5 e5 => ?_⟩⟩
    have cmn : CPm g L (lik L k) x5 := by rw [e5, lk]; exact ms2 _ z z2
    have x51 := cmn.1.1
    obtain ⟨s1, s2, s3⟩ := kind_slots (wcf_st c).1 (show 0 ≤ frs L k by omega) (show frs L k < 16 by omega)
    have efr : w32 (w32 (8 + hv g 3 25) - hv g x5 3) = frs L k := by
      rw [dd.1, cmn.2.1.2.2.2.1, w32_i (z := 8 + pDp L k) (by omega) (by omega), w32_i (by omega) (by omega), fr]
    rw [efr, s1, s2, s3]
    refine ⟨by omega, by decide, by omega, by omega, ?_⟩
    have rv : rel L k (frs L k) := Or.inr ⟨by omega, by omega⟩
    have vv : vld L (pMo L k) (pDp L k) (frs L k) := Or.inr ⟨by omega, by omega⟩
    have fX := c.2.2.2.1.1 _ vv
    obtain ⟨cs, bs⟩ := tiv_sok t w 0 k (frs L k)
    have sbx : ∀ s, 0 ≤ s → bl (ast (cT h L 0 k (frs L k))) s = true → sb (cT h L 0 k (frs L k)) s := fun s s0 y => ⟨s0, by have := bs s s0 y; omega, y⟩
    have hcl : ∀ s q, cld L (cT h L 0 k) k s q ↔ (1 ≤ s ∧ bl (ast (cT h L 0 k (frs L k))) s = true ∧ q = sent L s (pX L k) ∧ 0 ≤ q) := by
      intro s q
      constructor
      · rintro (y | y)
        · omega
        · exact ⟨y.2.1, y.2.2.1.2.2, y.2.2.2⟩
      · rintro ⟨y1, y2, y3⟩
        exact Or.inr ⟨by omega, y1, sbx s (by omega) y2, y3⟩
    refine W_recv (x := ast (cT h L 0 k (frs L k))) hG w t hr upT c ⟨by omega, by omega⟩ (congrArg ast fX) bs (fun good bg U _ q => ?_) fun good g7 cgd bg br c7 => ?_
    · have q2 := ((CL29 (Or.inr e)).mp q).2 e
      refine ⟨fun y => (q2 0 (sbx 0 (by decide) y)).1 rfl, fun ⟨s, s1, s2, y1, y2⟩ => (q2 s (sbx s (by omega) y1)).2 (by omega) ?_⟩
      apply Classical.byContradiction
      intro y3
      have := (bg s (by omega)).mpr ⟨y1, s1, by omega⟩
      rw [this] at y2; cases y2
    · have gn : good ≠ -1 := by
        intro y
        have b63 : bl good 63 = true := by rw [y]; exact bl_m1 (by decide)
        have := ((bg 63 (by decide)).mp b63).1
        have := bs 63 (by decide) this
        omega
      have f7 : frC g g7 := ⟨(c7.1.1.1).trans (c.1.1.1).symm, fun b j p q => (frC_tr (frC_sym c.1.1) c7.1.1).2 b j p (by
        unfold whi at q ⊢
        exact q)⟩
      refine w_call (Q := fun _ x => Q 0 x) (v2 := good) (own := 1) (rc := fun q => hv g7 143 q) (P0 := fun U => True ∧ rfx L k (cT h L 0 k) (cT h L 6 k 0) (ast (cT h L 0 k (frs L k))) good U) hG w t hr u hz (Or.inr e) (fun U V p q => ⟨trivial, rfx_up p q.2⟩) (fun U p _ s hs => ⟨fun y => p.2.1 (by have h2 := hs.2.2; rw [y] at h2; exact h2), fun y1 y2 => p.2.2 ⟨s, by have := hs.1; omega, by have := hs.2.1; omega, hs.2.2, ?_⟩⟩) hQ c7 (frX_m (frC_X f7) cmn) (by rw [if_neg (fun z => gn (lc_m1.mp z))]) (fun o => by omega) (fun _ => rfl) (fun gz q ⟨s, hs⟩ => ?_) (fun q q0 q1 => ?_) (fun _ q q0 q1 s s0 => ?_) (fun _ => rfl)
      · cases r : bl good s
        · rfl
        · have := ((bg s hs.1).mp r).2.2
          omega
      · obtain ⟨y1, y2, y3, y4⟩ := (hcl s q).mp hs
        have := (bg s (by omega)).mpr ⟨y2, y1, by omega⟩
        rw [gz, bl_zero] at this; cases this
      · obtain ⟨b1', b2⟩ := br q q0 (by omega)
        constructor
        · intro nz
          obtain ⟨s, s0, s2, b⟩ := l_some b1' nz
          obtain ⟨y1, y2, y3⟩ := (b2 s s0).mp b
          exact ⟨s, (hcl s q).mpr ⟨y2, y1, y3.symm, q0⟩⟩
        · rintro ⟨s, hs⟩ z
          obtain ⟨y1, y2, y3, y4⟩ := (hcl s q).mp hs
          have := (b2 s (by omega)).mpr ⟨y2, y1, y3.symm⟩
          rw [z, bl_zero] at this; cases this
      · rw [bl_and, hcl s q]
        simp only [Bool.and_eq_true]
        rw [(br q q0 (by omega)).2 s s0]
        constructor
        · rintro ⟨y1, y2, y3, y4⟩; exact ⟨y3, y1, y4.symm, q0⟩
        · rintro ⟨y1, y2, y3, y4⟩; exact ⟨y2, y2, y1, y3.symm⟩
  · -- a return
    have e : pOp L k = 31 := e
    clear cy cw
    have giv : hv g M 4 = pGi L (pMo L k) := cmm.2.1.2.2.2.2.1
    have pp : ppo L k = if 0 < pGi L (pMo L k) then 1 else 0 := by unfold ppo; simp [e]
    have dpo := dp.2.2.1
    -- what is left
    have fin : ∀ (g1 : MH) (d : Int) (v : FA), wcf h g1 L k M (cT h L 0 k) (cT h L 6 k 0) d (fun _ => True) → gvb L (pMo L k) v = (if 0 < pGi L (pMo L k) then cT h L 0 k (7 + pDp L k) else fv 0 0 0 0) → ∀ g2, AdK L g1 g2 (fun U => fle (gvb L (pMo L k) v) (U 5 (pMo L k) 0) ∧ fle (fk (hv g1 80 2) (hv g1 80 3)) (U 7 (pMo L k) 0)) (fun U => fle (gvb L (pMo L k) v) (U 5 (pMo L k) 0) ∧ fle (fk (hv g1 80 2) (hv g1 80 3)) (U 7 (pMo L k) 0)) → wsk g1 g2 → Q 0 g2 := by
      intro g1 d v c1 ev g2 a2 ws2
      rw [c1.2.2.2.1.2.1, ev] at a2
      have c2 := wcf_go w t hr upT c1 a2 ws2 (fun U _ q => (CL31 e).mp q)
      exact hQ g2 (WE_of w hk t hr u (AdK_w c2.1 (fun _ p => (CL31 e).mpr p.2) (fun _ _ _ q => q)) (by omega))
    rw [giv]
    refine ⟨by omega, fun gi x6 e6 => ⟨by omega, fun x7 e7 => ?_⟩, fun gi => ?_⟩
    · subst e6
      have ev : gvb L (pMo L k) (fo g 134) = (if 0 < pGi L (pMo L k) then cT h L 0 k (7 + pDp L k) else fv 0 0 0 0) := by
        unfold gvb
        rw [if_neg (by omega), if_neg (by omega)]
      have gk : fgd L (cT g L) (fk (hv g 80 2) (hv g 80 3)) := by rw [c.2.2.2.1.2.1]; exact c.2.2.2.2.2
      exact K_ret hG w (wcf_st c) hm hM cmm rfl (by rw [ev, if_neg (by omega)]; exact fgd_n (mk_0 L) (mk_0 L) (Int.le_refl _) (by unfold c32; omega) (by unfold c32; omega) (by unfold c32; omega)) gk (fun z => by omega) (fun g2 a2 ws2 => fin g _ _ c ev g2 a2 ws2) e7
    · rw [if_pos gi] at pp
      refine W_take hG w c (by omega) (Or.inl ⟨by decide, by decide⟩) fun g1 c1 f1 gd1 fr1 x6 e6 => ⟨by omega, fun x7 e7 => ?_⟩
      subst e6
      have ev : gvb L (pMo L k) (cT h L 0 k (7 + pDp L k)) = (if 0 < pGi L (pMo L k) then cT h L 0 k (7 + pDp L k) else fv 0 0 0 0) := by
        unfold gvb
        rfl
      have gk : fgd L (cT g1 L) (fk (hv g1 80 2) (hv g1 80 3)) := by rw [c1.2.2.2.1.2.1]; exact c1.2.2.2.2.2
      exact K_ret hG w (wcf_st c1) hm c1.2.1.2.2.1 c1.2.1.2.2.2.1 f1 (by rw [ev, if_pos gi]; exact gd1) gk (fun _ => gd1.2.2.2) (fun g2 a2 ws2 => fin g1 _ _ c1 ev g2 a2 ws2) e7
  · exact w_throw hG w t hr u c e hQ
  · exact w_cast hG w t hr u c (by omega) hQ
end CAS
