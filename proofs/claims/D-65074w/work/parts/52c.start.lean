/-! Part 52c: threads are started, in the component -/
section STT
variable {l : Launch} {G : JG} {h g : MH} {L : PG} {k M : Int} {Q : Int → MH → Prop} {E : Nat → Int → MH → Prop}
theorem w_start (hG : gO G = true) (w : WF L) (t : tiv L (cT h L)) (hr : rch (cT h L) k) (u : usI h L k) (hz : L 99 0 = 1) (c : wcf h g L k M (cT h L 0 k) (cT h L 6 k 0) (pDp L k) (fun _ => True)) (e : pOp L k = 36) (hQ : ∀ g', WE h g' L k → Q 0 g') : S_X2_threads l G [(2002, 3), (0, pOp L k), (0, pX L k)] g Q E := by
  have nn := w.n
  unfold WFn at nn
  have hk := c.2.1.1
  have hk1 := hk.1
  have hk2 := hk.2
  obtain ⟨-, -, xr, -, -, -, -, -, -, -, -, -, -, -, cw, c36, -, -, -, dp, -⟩ := w.k hk.1 hk.2
  obtain ⟨cw0, cw1⟩ := cw (by omega)
  obtain ⟨ar1, gi0⟩ := c36 e
  clear cw c36
  have lk : lik L k = wnm L (pX L k) := by unfold lik; rw [if_neg (by omega)]
  have pp : ppo L k = 1 := by unfold ppo; simp [e]
  have pu : ppu L k = 0 := by unfold ppu; simp [e]
  have dpo := dp.2.2.1
  have fr : frs L k = 7 + pDp L k := by rw [frs_lik, lk, ar1]; omega
  have upT : ∀ U V : TB, tle U V → (fun _ : TB => True) U → (fun _ : TB => True) V := fun _ _ _ x => x
  have fin : ∀ {g' : MH} {X' : Int → FA} {lk' : FA} {d' : Int} {P' : TB → Prop}, wcf h g' L k M X' lk' d' P' → (P' (cT g' L) → CLz L (cT h L) (cT g' L) k) → Q 0 g' := fun c f => hQ _ (WE_of w hk t hr u (AdK_w c.1 (fun _ p => f p) (fun _ _ _ q => q)) (by omega))
  refine s_X2_threads rfl fun K ki => r_X2_threads_0 ki hG ?_
  intro x3 e3
  subst e3
  refine ⟨fun _ => ⟨fun _ => ?_, fun y => by omega⟩, fun y => by omega⟩
  obtain ⟨s1, s2, s3⟩ := kind_slots (wcf_st c).1 (show 0 ≤ frs L k by omega) (show frs L k < 16 by omega)
  have efr : w32 (w32 (8 + hv g 3 25) - 1) = frs L k := by
    rw [c.2.2.2.1.2.2.1, w32_i (z := 8 + pDp L k) (by omega) (by omega), w32_i (by omega) (by omega), fr]
    omega
  rw [efr, s1, s2, s3]
  refine ⟨by decide, by omega, by omega, ?_⟩
  have rv : rel L k (frs L k) := Or.inr ⟨by omega, by omega⟩
  have vv : vld L (pMo L k) (pDp L k) (frs L k) := Or.inr ⟨by omega, by omega⟩
  have fX := c.2.2.2.1.1 _ vv
  have gdX := tiv_slot t hr rv
  obtain ⟨cs, bs⟩ := tiv_sok t w 0 k (frs L k)
  have sbx : ∀ s, 0 ≤ s → bl (ast (cT h L 0 k (frs L k))) s = true → sb (cT h L 0 k (frs L k)) s := fun s s0 y => ⟨s0, by have := bs s s0 y; omega, y⟩
  have hcl : ∀ s q, cld L (cT h L 0 k) k s q ↔ (1 ≤ s ∧ bl (ast (cT h L 0 k (frs L k))) s = true ∧ q = sent L s (pX L k) ∧ 0 ≤ q) := by
    intro s q
    constructor
    · rintro (y | y)
      · omega
      · exact ⟨y.2.1, y.2.2.1.2.2, y.2.2.2⟩
    · rintro ⟨y1, y2, y3⟩
      exact Or.inr ⟨by omega, y1, sbx s (by omega) y2, y3⟩
  have cdm : ∀ q, CD L (cT h L) k q → inM L q ∧ pAr L q = 1 := fun q ⟨s, hs⟩ => by
    have := cld_ok w t hk1 hk2 (by omega) hs
    exact ⟨this.1, by rw [this.2.1, lk, ar1]⟩
  refine W_recv (x := ast (cT h L 0 k (frs L k))) hG w t hr upT c ⟨by omega, by omega⟩ (congrArg ast fX) bs (fun good bg U _ q => ?_) fun good g3 cgd bg br c3 => ?_
  · have q2 := ((CL36 e).mp q).2
    refine ⟨fun y => (q2 0 (sbx 0 (by decide) y)).1 rfl, fun ⟨s, s1, s2, y1, y2⟩ => (q2 s (sbx s (by omega) y1)).2 (by omega) ?_⟩
    apply Classical.byContradiction
    intro y3
    have := (bg s (by omega)).mpr ⟨y1, s1, by omega⟩
    rw [this] at y2; cases y2
  intro x4 e4
  subst e4
  rw [(wcf_st c3).1.2.2.2.2.2.2.2.2.2 0 (by decide) (by decide)]
  refine ⟨by decide, by decide, W_take hG w c3 (by omega) (Or.inr ⟨by decide, by decide⟩) fun g6 c6 f6 gd6 fr6 => ?_⟩
  rw [← fr] at f6 gd6
  have rc6 : ∀ q, 0 ≤ q → q < 40 → c64 (hv g6 143 q) ∧ ∀ s, 0 ≤ s → (bl (hv g6 143 q) s = true ↔ cld L (cT h L 0 k) k s q) := by
    intro q q0 q1
    rw [fr6 143 q (by omega) (by decide) (by omega)]
    obtain ⟨b1', b2⟩ := br q q0 q1
    refine ⟨b1', fun s s0 => ?_⟩
    rw [b2 s s0, hcl s q]
    exact ⟨fun y => ⟨y.2.1, y.1, y.2.2.symm, q0⟩, fun y => ⟨y.2.1, y.1, y.2.2.1.symm⟩⟩
  have hle : ∀ U : TB, rfx L k (cT h L 0 k) (cT h L 6 k 0) (ast (cT h L 0 k (frs L k))) x4 U → ∀ s, sb (cT h L 0 k (frs L k)) s → (s = 0 → TS L U k (cT h L 0 k) 1 (cT h L 6 k 0)) ∧ (s ≠ 0 → sent L s (pX L k) < 0 → TS L U k (cT h L 0 k) 5 (cT h L 6 k 0)) := by
    intro U rf s hs
    refine ⟨fun y => rf.1 (by have h2 := hs.2.2; rw [y] at h2; exact h2), fun y1 y2 => rf.2 ⟨s, by have := hs.1; omega, by have := hs.2.1; omega, hs.2.2, ?_⟩⟩
    cases r : bl x4 s
    · rfl
    · have := ((bg s hs.1).mp r).2.2
      omega
  refine ⟨fun y => ?_, fun y => ?_⟩
  · rw [lc_z] at y
    obtain ⟨sg, sg0, sg1, sgb⟩ := l_some cgd y
    obtain ⟨sy1, sy2, sy3⟩ := (bg sg sg0).mp sgb
    have cdS : cld L (cT h L 0 k) k sg (sent L sg (pX L k)) := (hcl _ _).mpr ⟨sy2, sy1, rfl, sy3⟩
    have upS : ∀ n : Int, ∀ U V : TB, tle U V → ((True ∧ rfx L k (cT h L 0 k) (cT h L 6 k 0) (ast (cT h L 0 k (frs L k))) x4 U) ∧ ∀ q, 0 ≤ q → q < n → ∀ s, cld L (cT h L 0 k) k s q → fle (fs 0) (U 10 k q) ∧ Flow L U (pFi L q) (entz L (cT h L 0 k) k s q) (fk 0 0)) → ((True ∧ rfx L k (cT h L 0 k) (cT h L 6 k 0) (ast (cT h L 0 k (frs L k))) x4 V) ∧ ∀ q, 0 ≤ q → q < n → ∀ s, cld L (cT h L 0 k) k s q → fle (fs 0) (V 10 k q) ∧ Flow L V (pFi L q) (entz L (cT h L 0 k) k s q) (fk 0 0)) :=
      fun n U V p r => ⟨⟨trivial, rfx_up p r.1.2⟩, fun q q0 q1 s hs => ⟨fle_trans (r.2 q q0 q1 s hs).1 (p _ _ _), Flow_le (fun _ => fle_rfl _) (fle_rfl _) p (r.2 q q0 q1 s hs).2⟩⟩
    have last : ∀ g1 : MH, wcf h g1 L k M (cT h L 0 k) (cT h L 6 k 0) (pDp L k - 1) (fun U => (True ∧ rfx L k (cT h L 0 k) (cT h L 6 k 0) (ast (cT h L 0 k (frs L k))) x4 U) ∧ ∀ q, 0 ≤ q → q < pNm L → ∀ s, cld L (cT h L 0 k) k s q → fle (fs 0) (U 10 k q) ∧ Flow L U (pFi L q) (entz L (cT h L 0 k) k s q) (fk 0 0)) →
        JW K 225 [(2002, 3), (0, pOp L k), (0, pX L k), (0, i_shl 1 (pX L k)), (1, x4), (5000, 0), (0, pNm L)] [] g1 := by
      intro g1 c1
      have cp1 := (wcf_st c1).1.1
      have ad1 := CP_ad cp1
      obtain ⟨m1, m2⟩ := CP_ms cp1
      refine r_X2_threads_225 ki hG ⟨by omega, by omega, fun _ => ?_, fun z => by rw [m1] at z; omega⟩
      refine W_throw (s := 6) hG w t hr (upS (pNm L)) c1 (by decide) (by decide) (by decide) (fun U _ q => (((CL36 e).mp q).1 _ _ cdS).2.2.1) fun g2 c2 _ => ?_
      refine W_next hG w t hr (fun U V p q => ⟨upS (pNm L) U V p q.1, TS_up p q.2⟩) c2 (by omega) (by omega) (fun U _ q => (((CL36 e).mp q).1 _ _ cdS).2.2.2) fun g3 c3 _ => fin c3 (fun p => (CL36 e).mpr ⟨fun s q hs => ?_, hle _ p.1.1.1.2⟩)
      obtain ⟨im, -⟩ := cdm q ⟨s, hs⟩
      have r := p.1.1.2 q im.1 im.2 s hs
      exact ⟨r.1, r.2, p.1.2, p.2⟩
    have loop : ∀ N : Nat, ∀ n : Int, ∀ g1 : MH, (pNm L - n).toNat ≤ N → 0 ≤ n → n ≤ pNm L → wcf h g1 L k M (cT h L 0 k) (cT h L 6 k 0) (pDp L k - 1) (fun U => (True ∧ rfx L k (cT h L 0 k) (cT h L 6 k 0) (ast (cT h L 0 k (frs L k))) x4 U) ∧ ∀ q, 0 ≤ q → q < n → ∀ s, cld L (cT h L 0 k) k s q → fle (fs 0) (U 10 k q) ∧ Flow L U (pFi L q) (entz L (cT h L 0 k) k s q) (fk 0 0)) →
        (∀ q, hv g1 143 q = hv g6 143 q) → fo g1 139 = cT h L 0 k (frs L k) → JW K 225 [(2002, 3), (0, pOp L k), (0, pX L k), (0, i_shl 1 (pX L k)), (1, x4), (5000, 0), (0, n)] [] g1 := by
      intro N
      induction N with
      | zero =>
        intro n g1 n1 n2 n3 c1 rv f139
        have en : n = pNm L := by omega
        subst en
        exact last g1 c1
      | succ N ih =>
        intro n g1 n1 n2 n3 c1 rv f139
        by_cases en : n = pNm L
        · subst en
          exact last g1 c1
        have aN : (pNm L - (n + 1)).toNat ≤ N ∧ 0 ≤ n + 1 ∧ n + 1 ≤ pNm L ∧ n < pNm L ∧ n < 40 := by omega
        have cp1 := (wcf_st c1).1.1
        have ad1 := CP_ad cp1
        obtain ⟨m1, m2⟩ := CP_ms cp1
        have hn : inM L n := ⟨n2, aN.2.2.2.1⟩
        obtain ⟨r64, rb⟩ := rc6 n n2 aN.2.2.2.2
        have leh : tle (cT h L) (cT g1 L) := c1.1.2.2.2.2.1
        refine r_X2_threads_225 ki hG ⟨by omega, by omega, fun z => by rw [m1] at z; omega, fun _ => ⟨n2, aN.2.2.2.2, ?_⟩⟩
        rw [rv n, m1]
        refine ⟨fun z x6 e6 => ?_, fun z => ⟨by omega, by omega, n2, aN.2.2.2.1, ?_⟩⟩
        · rw [lc_z] at z
          rw [w32_i (by omega) (by omega)] at e6
          subst e6
          refine ih (n + 1) g1 aN.1 aN.2.1 aN.2.2.1 (wcf_P c1 (fun _ p => ⟨p.1, fun q q0 q1 s hs => ?_⟩)) rv f139
          by_cases qn : q = n
          · exfalso
            rw [qn] at hs
            have sp := (hcl s n).mp hs
            have := (rb s (by omega)).mpr hs
            rw [z, bl_zero] at this; cases this
          · exact p.2 q q0 (by omega) s hs
        · rw [lc_z] at z
          obtain ⟨s1', s10, s11, s1b⟩ := l_some r64 z
          have hs1 := (rb s1' s10).mp s1b
          have cd : CD L (cT h L) k n := ⟨s1', hs1⟩
          have arn := (cdm n cd).2
          have xb : ∀ s, 0 ≤ s → (bl (l_and (ast (cT h L 0 k (frs L k))) (hv g6 143 n)) s = true ↔ cld L (cT h L 0 k) k s n) := by
            intro s s0
            rw [bl_and]
            simp only [Bool.and_eq_true]
            rw [rb s s0]
            exact ⟨fun q => q.2, fun q => ⟨((hcl s n).mp q).2.1, q⟩⟩
          have nzx : l_and (ast (cT h L 0 k (frs L k))) (hv g6 143 n) ≠ 0 := fun q => by
            have := (xb s1' s10).mpr hs1
            rw [q, bl_zero] at this; cases this
          have enEq : ∀ U : TB, (fle (fs 0) (U 10 k n) ∧ Flow L U (pFi L n) (enX L n 1 (l_and (ast (cT h L 0 k (frs L k))) (hv g6 143 n)) (fun j => cT h L 0 k (frs L k + j))) (fk 0 0)) ↔ (∀ s, cld L (cT h L 0 k) k s n → fle (fs 0) (U 10 k n) ∧ Flow L U (pFi L n) (entz L (cT h L 0 k) k s n) (fk 0 0)) := by
            intro U
            have fe := Flow_en (L := L) (k := k) (c := n) (U := U) (q := pFi L n) (lk := fk 0 0) (X := cT h L 0 k) (Y := fun j => cT h L 0 k (frs L k + j)) hz (c64_l_and _ _) nzx (by omega) (fun j _ _ => rfl) (fun s s0 b => ((hcl s n).mp ((xb s s0).mp b)).1) (fun j r => by unfold rel at r; omega)
            rw [fe]
            constructor
            · rintro ⟨q1, q2⟩ s hs
              have sp := (hcl s n).mp hs
              have s64 := bs s (by omega) sp.2.1
              exact ⟨q1, q2 s (by omega) (by omega) ((xb s (by omega)).mpr hs)⟩
            · intro q
              exact ⟨(q s1' hs1).1, fun s s0 s2 b => (q s ((xb s s0).mp b)).2⟩
          have gY : ∀ j, 0 ≤ j → j < pAr L n → fgd L (cT g1 L) (cT h L 0 k (frs L k + j)) := fun j j0 j1 => by
            rw [show j = 0 by omega, Int.add_zero]
            exact fgd_le leh gdX
          refine K_enter (own := 1) (Y := fun j => cT h L 0 k (frs L k + j)) (xo := l_and (ast (cT h L 0 k (frs L k))) (hv g6 143 n)) hG w (wcf_st c1) c1.2.1 hn (m2 n n2 aN.2.2.2.1) (fun j j0 j1 => ?_) gY (fun _ => ⟨by omega, by rw [rv n, Int.add_zero], fok_fs (c64_l_and _ _), fun s s0 q => ?_, ⟨⟨mk_0 L, su8_0⟩, mk_0 L⟩, rfl⟩) (fk0_gd L _) fun g7 a7 ws7 x6 e6 => ?_
          · rw [show j = 0 by omega, Int.add_zero, Int.add_zero]; exact f139
          · change bl (l_and (ast (cT h L 0 k (frs L k))) (hv g6 143 n)) s = true at q
            rw [bl_and] at q
            simp only [Bool.and_eq_true] at q
            exact mkd_le leh (gdX.2.1 s s0 q.1)
          · rw [w32_i (by omega) (by omega)] at e6
            subst e6
            have c7 := wcf_goG w (upS n) c1 a7 ws7 (fun U oU p q => (enEq U).mpr (fun s hs => by
              have := ((CL36 e).mp (CL_dn t hr (tle_trans leh p) q)).1 s n hs
              exact ⟨this.1, this.2.1⟩))
            refine ih (n + 1) g7 aN.1 aN.2.1 aN.2.2.1 (wcf_P c7 (fun _ p => ⟨p.1.1, fun q q0 q1 s hs => ?_⟩)) (fun q => by rw [ws7 143 q (by omega)]; exact rv q) (by rw [← f139]; exact fo_eq (fun j => ws7 _ j (by omega)))
            by_cases qn : q = n
            · rw [qn] at hs ⊢
              exact (enEq _).mp p.2 s hs
            · exact p.1.2 q q0 (by omega) s hs
    intro x6 e6
    subst e6
    exact loop _ 0 g6 (Nat.le_refl _) (by decide) (by omega) (wcf_P c6 (fun _ p => ⟨p, fun q q0 q1 => by omega⟩)) (fun _ => rfl) f6
  · rw [lc_z] at y
    refine fin c6 (fun p => (CL36 e).mpr ⟨fun s q hs => ?_, hle _ p.2⟩)
    exfalso
    obtain ⟨y1, y2, y3, y4⟩ := (hcl s q).mp hs
    have := (bg s (by omega)).mpr ⟨y2, y1, by omega⟩
    rw [y, bl_zero] at this; cases this
theorem w_threads (hG : gO G = true) (w : WF L) (t : tiv L (cT h L)) (hr : rch (cT h L) k) (u : usI h L k) (hz : L 99 0 = 1) (c : wcf h g L k M (cT h L 0 k) (cT h L 6 k 0) (pDp L k) (fun _ => True)) (e : 34 ≤ pOp L k ∧ pOp L k ≤ 36) (hQ : ∀ g', WE h g' L k → Q 0 g') : S_X2_threads l G [(2002, 3), (0, pOp L k), (0, pX L k)] g Q E := by
  by_cases e4 : pOp L k = 34
  · exact w_lock hG w t hr u c e4 hQ
  · by_cases e5 : pOp L k = 35
    · exact w_unlock hG w t hr u c e5 hQ
    · exact w_start hG w t hr u hz c (by omega) hQ
end STT
