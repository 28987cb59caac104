/-! Part 51n: statics and lengths in the component -/
section STA
variable {l : Launch} {G : JG} {h g : MH} {L : PG} {k M d : Int} {X : Int → FA} {lk : FA} {P : TB → Prop} {Q : Int → MH → Prop} {E : Nat → Int → MH → Prop}
theorem sm_put {g g' : MH} {A : Int} (hA : 82 ≤ A ∧ A ≤ 97) (e2 : g'.2 = g.2) (fr : ∀ b j, b ≠ A → ¬ (b = 3 ∧ j = 25) → hv g' b j = hv g b j) : smC g g' := ⟨e2, fun b j p => fr b j (fun z => p (by unfold scw; omega)) (fun z => p (by unfold scw; omega))⟩
/-- from what is asked at a place, seen from a later table, to what its first facts ask -/
theorem GT_dn {T T' U : TB} {i x : Int} {v : FA} {lk : FA} (p : tle T T') (q : GT L U k i (ux (T' 0 k) x v) (T' 6 k 0)) : GT L U k i (ux (T 0 k) x v) (T 6 k 0) := GT_le (ux_le (fun _ => p _ _ _) (fle_rfl _)) (p _ _ _) (tle_rfl _) q
theorem w_static (hG : gO G = true) (w : WF L) (t : tiv L (cT h L)) (hr : rch (cT h L) k) (u : usI h L k) (s3 : ∀ i, 0 ≤ i → i < pNs L → ath (cT h L 3 i 0) ≠ 0) (c : wcf h g L k M (cT h L 0 k) (cT h L 6 k 0) (pDp L k) (fun _ => True)) (e : pOp L k = 27) (hQ : ∀ g', WE h g' L k → Q 0 g') :
    S_X4_none l G [(2004, 136)] g (fun _ h16 => (0 ≤ pX L k) ∧ (pX L k < 8) ∧ S_X2_gather l G [(2002, 3), (10, (hv h16 71 (pX L k)))] h16 (fun _ h18 => S_X2_put l G [(2002, 3), (8, 136)] h18 (fun _ h20 => S_X2_goOn l G [(2002, 3), (0, (w32 ((hv h20 3 17) + 1)))] h20 (fun _ h22 => Q 0 h22) E) E) E) E := by
  have nn := w.n
  unfold WFn at nn
  have hk := c.2.1.1
  obtain ⟨mk, ops, xr, yr, x2, x7, x5, x47, xc, xa, xs, x19, -, -, -, -, -, -, si, dp, -⟩ := w.k hk.1 hk.2
  have xs' := xs (by omega)
  have pp : ppo L k = 0 := by unfold ppo; simp [e]
  have pu : ppu L k = 1 := by unfold ppu; simp [e]
  have dd : cdom L 3 (pX L k) 0 := Or.inr (Or.inr ⟨rfl, xr.1, xs', rfl⟩)
  refine c_none hG ⟨xr.1, by omega, ?_⟩
  have c1 := wcf_fw (f := 136) (v := fz) w (by omega) c
  have e71 : hv (fw g 136 fz) 71 (pX L k) = cad (fw g 136 fz) 3 (pX L k) 0 := by
    rw [((wcf_st c1).1.2.2.2.2.2.2.2.2.1 (pX L k) xr.1 (by omega)).1]
    rfl
  rw [e71]
  refine W_gather hG w (ath_le (c1.1.2.2.2.2.1 _ _ _) hr) c1 dd fun g2 c2 rg2 eT2 fo2 fr2 a2 => ?_
  have t2 := (wcf_st c2).2.2.2.1
  have th2 : ath (cT g2 L 3 (pX L k) 0) ≠ 0 := ath_le (c2.1.2.2.2.2.1 _ _ _) (s3 _ xr.1 xs')
  have gd2 : fgd L (cT g2 L) (cT g2 L 3 (pX L k) 0) := ⟨t2.1 _ _ _, t2.2.1 _ _ _, t2.2.2.1 _ _ _, (fok_there (t2.1 _ _ _) th2).1⟩
  have f2 : fo g2 136 = cT g2 L 3 (pX L k) 0 := by rw [fo2, fo_fw0 rfl, ← eT2, fjoin_fz _ (t2.1 _ _ _)]
  refine W_put (v := cT g2 L 3 (pX L k) 0) hG w c2 (by omega) (by decide) (by decide) f2 gd2 fun g3 c3 fr3 => ?_
  have s23 : smC g2 g3 := sm_put (by omega) ((c3.1.1.1).trans (c2.1.1.1).symm) fr3
  have t3 := (wcf_st c3).2.2.2.1
  have hr3 : rch (cT g3 L) k := ath_le (c3.1.2.2.2.2.1 _ _ _) hr
  have e23 : cT g2 L 3 (pX L k) 0 = cT g3 L 3 (pX L k) 0 ∧ ubt g3 (uad g3 3 (pX L k) 0) k = true := ⟨by rw [smC_ext w (wcf_st c2).1 s23], (smC_wkd w (wcf_st c2).1 s23).2.2.2.1 3 (pX L k) 0 (Or.inl dd) k hk rg2⟩
  refine W_nextG hG w (fun _ _ _ x => x) c3 (by omega) (by omega) (fun U oU p q => ?_) fun g4 c4 ws4 wk4 le4 => hQ g4 (WE_rd w hk c3.1 c4.1 hr t wk4 le4 (fun z0 z6 => ?_) (fun _ a i j y => ?_) (fun s s0 b => ?_) (fun _ o1 o2 => by omega))
  · have := (CL27 e).mp (CL_dn t3 hr3 p q)
    rw [← e23.1] at this
    exact GT_dn (lk := fz) c3.1.2.2.2.2.1 this
  · rw [CL27 e, z0, z6, ← e23.1]
    exact c4.1.2.2.2.2.2.1.2
  · have : a = 3 ∧ i = pX L k ∧ j = 0 := by
      unfold inC at y
      rcases y with ⟨-, -, -, y⟩ | ⟨-, -, y⟩ | y | y
      · rcases y with y | y | y <;> omega
      · rcases y with y | y <;> omega
      · exact ⟨y.1, y.2.2⟩
      · have := y.2.1; omega
    obtain ⟨rfl, rfl, rfl⟩ := this
    exact ⟨Or.inl dd, e23.2⟩
  · rw [c4.1.2.2.2.1 k] at b
    have := u s s0 b
    unfold usd at this
    rcases this with ⟨-, y | y | y | y⟩ <;> omega
theorem w_setstatic (hG : gO G = true) (w : WF L) (t : tiv L (cT h L)) (hr : rch (cT h L) k) (u : usI h L k) (c : wcf h g L k M (cT h L 0 k) (cT h L 6 k 0) (pDp L k) (fun _ => True)) (e : pOp L k = 28) (hQ : ∀ g', WE h g' L k → Q 0 g') :
    S_X2_take l G [(2002, 3), (8, 134)] g (fun z23 h24 => S_X2_join l G [(2002, 3), (10, (hv g 71 (pX L k))), (8, z23)] h24 (fun _ h26 => S_X2_goOn l G [(2002, 3), (0, (w32 ((hv h26 3 17) + 1)))] h26 (fun _ h28 => Q 0 h28) E) E) E := by
  have nn := w.n
  unfold WFn at nn
  have hk := c.2.1.1
  obtain ⟨mk, ops, xr, yr, x2, x7, x5, x47, xc, xa, xs, x19, -, -, -, -, -, -, si, dp, -⟩ := w.k hk.1 hk.2
  have xs' := xs (by omega)
  have pp : ppo L k = 1 := by unfold ppo; simp [e]
  have pu : ppu L k = 0 := by unfold ppu; simp [e]
  have fin : ∀ {g' : MH} {X' : Int → FA} {lk' : FA} {d' : Int} {P' : TB → Prop}, wcf h g' L k M X' lk' d' P' → (P' (cT g' L) → CLz L (cT h L) (cT g' L) k) → Q 0 g' := fun c f => hQ _ (WE_of w hk t hr u (AdK_w c.1 (fun _ p => f p) (fun _ _ _ q => q)) (by omega))
  refine W_take hG w c (by omega) (Or.inl ⟨by decide, by decide⟩) fun g1 c1 f1 gd1 fr1 => ?_
  have e71 : hv g 71 (pX L k) = cad g1 3 (pX L k) 0 := by
    rw [((wcf_st c).1.2.2.2.2.2.2.2.2.1 (pX L k) xr.1 (by omega)).1]
    rfl
  rw [e71]
  refine W_cjoin hG w (fun _ _ _ x => x) c1 (Or.inr (Or.inr ⟨rfl, xr.1, xs', rfl⟩)) (by decide) f1 gd1 (fun U oU p q => ((CL28 e).mp (CL_dn t hr (tle_trans c1.1.2.2.2.2.1 p) q)).1) fun g2 c2 _ _ => ?_
  exact W_next hG w t hr (fun U V p q => ⟨trivial, fle_trans q.2 (p _ _ _)⟩) c2 (by omega) (by omega) (fun U _ q => ((CL28 e).mp q).2) fun g3 c3 _ => fin c3 (fun p => (CL28 e).mpr ⟨p.1.2, p.2⟩)
theorem lc_11 : lc 1 1 = 0 := by decide
theorem lc_01 : ¬ lc 0 1 = 0 := by decide
theorem w_length (hG : gO G = true) (w : WF L) (t : tiv L (cT h L)) (hr : rch (cT h L) k) (u : usI h L k) (c : wcf h g L k M (cT h L 0 k) (cT h L 6 k 0) (pDp L k) (fun _ => True)) (e : pOp L k = 22) (hQ : ∀ g', WE h g' L k → Q 0 g') : S_X2_lengthOf l G [(2002, 3)] g Q E := by
  have nn := w.n
  unfold WFn at nn
  have hk := c.2.1.1
  obtain ⟨mk, ops, xr, yr, x2, x7, x5, x47, xc, xa, xs, x19, -, -, -, -, -, -, si, dp, -⟩ := w.k hk.1 hk.2
  have pp : ppo L k = 1 := by unfold ppo; simp [e]
  have pu : ppu L k = 1 := by unfold ppu; simp [e]
  obtain ⟨cs, bs⟩ := tiv_sok t w 0 k (7 + pDp L k)
  have bt := tiv_slot (j := 7 + pDp L k) t hr (Or.inr ⟨by omega, by omega⟩)
  refine s_X2_lengthOf rfl fun K ki => r_X2_lengthOf_0 ki hG (W_take hG w c (by omega) (Or.inl ⟨by decide, by decide⟩) fun g1 c1 f1 gd1 fr1 => ?_)
  have ex : hv g1 134 4 = ast (cT h L 0 k (7 + pDp L k)) := congrArg ast f1
  have cp1 := (wcf_st c1).1.1
  refine ⟨by have := cp1.1.1; omega, ?_⟩
  rw [ex]
  refine c_arrays hG w cp1 (Or.inl rfl) fun z3 fl3 => ⟨by have := cp1.1.1; omega, ?_⟩
  rw [ex]
  refine c_arrays hG w cp1 (Or.inr rfl) fun z5 fl5 x1 e1 => ?_
  have bg : ∀ s, 0 ≤ s → (bl x1 s = true ↔ bl (ast (cT h L 0 k (7 + pDp L k))) s = true ∧ 1 ≤ s ∧ pSc L s < 0) := by
    intro s s0
    rw [e1, bl_or, fl3.2 s s0, fl5.2 s s0]
    simp only [Bool.or_eq_true, Bool.and_eq_true, decide_eq_true_eq]
    constructor
    · rintro (⟨⟨⟨y1, y2⟩, y3⟩, y4⟩ | ⟨⟨⟨y1, y2⟩, y3⟩, y4⟩)
      · exact ⟨y3, y1, by omega⟩
      · exact ⟨y3, y1, by omega⟩
    · rintro ⟨y1, y2, y3⟩
      have sn := bs s s0 y1
      have sr := sc_rng w y2 sn
      by_cases y : pSc L s = -1 - 0
      · exact Or.inl ⟨⟨⟨y2, sn⟩, y1⟩, y⟩
      · exact Or.inr ⟨⟨⟨y2, sn⟩, y1⟩, by omega⟩
  have sbx : ∀ s, 0 ≤ s → bl (ast (cT h L 0 k (7 + pDp L k))) s = true → sb (cT h L 0 k (7 + pDp L k)) s := fun s s0 y => ⟨s0, by have := bs s s0 y; omega, y⟩
  refine W_refuse hG w t hr (fun _ _ _ x => x) c1 (Or.inr ⟨by decide, by decide⟩) ex (fun U _ q => ⟨fun y => ((CL22 e).mp q 0 (sbx 0 (by decide) y)).1 rfl, fun ⟨s, s1, s2, y1, y2⟩ => ?_⟩) fun g2 c2 ws2 => ?_
  · refine ((CL22 e).mp q s (sbx s (by omega) y1)).2.1 (by omega) ?_
    apply Classical.byContradiction
    intro y3
    have := (bg s (by omega)).mpr ⟨y1, s1, by omega⟩
    rw [this] at y2; cases y2
  refine c_none hG ?_
  have c3 := wcf_fw (f := 136) (v := fz) w (by omega) c2
  generalize hg3 : fw g2 136 fz = g3 at *
  have f3 : fo g3 136 = fz := by rw [← hg3, fo_fw0 rfl]
  have t3 := (wcf_st c3).2.2.2.1
  have hr3 : rch (cT g3 L) k := ath_le (c3.1.2.2.2.2.1 _ _ _) hr
  -- lengths of arrays that are made are there
  have len : ∀ s, bl x1 s = true → 0 ≤ s → inS L s ∧ fgd L (cT g3 L) (cT g3 L 2 s 0) := by
    intro s b s0
    obtain ⟨y1, y2, y3⟩ := (bg s s0).mp b
    have sn := bs s s0 y1
    have s7 : 7 ≤ s := by
      apply Classical.byContradiction
      intro y
      have := w.s.1 s y2 (by omega)
      omega
    have md := mkd_le c3.1.2.2.2.2.1 (bt.2.1 s s0 y1)
    rcases md with y | y
    · omega
    · have th := y.2.2 y3
      exact ⟨⟨s7, sn⟩, t3.1 _ _ _, t3.2.1 _ _ _, t3.2.2.1 _ _ _, (fok_there (t3.1 _ _ _) th).1⟩
  have upR : ∀ U V : TB, tle U V → (True ∧ rfx L k (cT h L 0 k) (cT h L 6 k 0) (ast (cT h L 0 k (7 + pDp L k))) x1 U) → (True ∧ rfx L k (cT h L 0 k) (cT h L 6 k 0) (ast (cT h L 0 k (7 + pDp L k))) x1 V) := fun U V p q => ⟨trivial, rfx_up p q.2⟩
  have no27 : ∀ (g' : MH) {P' : TB → Prop}, AdK L h g' P' (fun U => CLz L U U k) → ∀ s, 0 ≤ s → bl (hv g' 77 k) s = true → usd L (cT g3 L) k s := by
    intro g' P' a s s0 b
    rw [a.2.2.2.1 k] at b
    have := u s s0 b
    unfold usd at this
    rcases this with ⟨-, y | y | y | y⟩ <;> omega
  have reg : ∀ (g' : MH), cT g' L = cT g3 L → (∀ s, 7 ≤ s → s < pNt L → bl x1 s = true → ubt g' (uad g' 2 s 0) k = true) → cT g' L 0 k = cT h L 0 k → ∀ a i j, inC L (cT g' L) k a i j → udom L a i j ∧ ubt g' (uad g' a i j) k = true := by
    intro g' eT rg z0 a i j y
    have : a = 2 ∧ j = 0 ∧ i ≠ 0 ∧ sb (cT g' L 0 k (7 + pDp L k)) i ∧ pSc L i < 0 := by
      unfold inC at y
      rcases y with ⟨y1, y2, y3, y⟩ | ⟨-, -, y⟩ | y | y
      · rcases y with y | y | y
        · exact ⟨y1, y2, y3, y.2⟩
        · omega
        · omega
      · rcases y with y | y <;> omega
      · omega
      · have := y.2.1; omega
    obtain ⟨rfl, rfl, y3, y4, y5⟩ := this
    rw [z0] at y4
    have b := (bg i y4.1).mpr ⟨y4.2.2, by have := y4.1; omega, y5⟩
    obtain ⟨i1, -⟩ := len i b y4.1
    exact ⟨Or.inl (Or.inr (Or.inl ⟨rfl, i1, rfl⟩)), rg i i1.1 i1.2 b⟩
  have loop : ∀ N : Nat, ∀ n : Int, ∀ g' : MH, (pNt L - n).toNat ≤ N → 7 ≤ n → n ≤ pNt L → wcf h g' L k M (cT h L 0 k) (cT h L 6 k 0) (pDp L k - 1) (fun U => True ∧ rfx L k (cT h L 0 k) (cT h L 6 k 0) (ast (cT h L 0 k (7 + pDp L k))) x1 U) → cT g' L = cT g3 L →
      lub (fo g' 136) (fun s => 7 ≤ s ∧ s < n ∧ bl x1 s = true) (fun s => cT g3 L 2 s 0) → (fo g' 136 = fz ∨ fgd L (cT g3 L) (fo g' 136)) → (∀ s, 7 ≤ s → s < n → bl x1 s = true → ubt g' (uad g' 2 s 0) k = true) → JW K 60 [(2002, 3), (1, x1), (5000, 0), (0, n)] [] g' := by
    have last : ∀ g' : MH, wcf h g' L k M (cT h L 0 k) (cT h L 6 k 0) (pDp L k - 1) (fun U => True ∧ rfx L k (cT h L 0 k) (cT h L 6 k 0) (ast (cT h L 0 k (7 + pDp L k))) x1 U) → cT g' L = cT g3 L →
        lub (fo g' 136) (fun s => 7 ≤ s ∧ s < pNt L ∧ bl x1 s = true) (fun s => cT g3 L 2 s 0) → (fo g' 136 = fz ∨ fgd L (cT g3 L) (fo g' 136)) → (∀ s, 7 ≤ s → s < pNt L → bl x1 s = true → ubt g' (uad g' 2 s 0) k = true) → JW K 60 [(2002, 3), (1, x1), (5000, 0), (0, pNt L)] [] g' := by
      intro g' cg eT lb gd rg
      have cp := (wcf_st cg).1.1
      have hle : ∀ T : TB, rfx L k (cT h L 0 k) (cT h L 6 k 0) (ast (cT h L 0 k (7 + pDp L k))) x1 T → (∀ s, sb (cT h L 0 k (7 + pDp L k)) s → s ≠ 0 → pSc L s < 0 → GT L T k (nx L k) (ux (cT h L 0 k) (7 + pDp L k) (cT g3 L 2 s 0)) (cT h L 6 k 0)) → cT g' L 0 k = cT h L 0 k → cT g' L 6 k 0 = cT h L 6 k 0 → CLz L (cT g' L) T k := by
        intro T rf gt z0 z6
        rw [CL22 e, z0, z6, eT]
        intro s hs
        refine ⟨fun y => rf.1 (by have h2 := hs.2.2; rw [y] at h2; exact h2), fun y1 y2 => rf.2 ⟨s, by have := hs.1; omega, by have := hs.2.1; omega, hs.2.2, ?_⟩, fun y1 y2 _ => gt s hs y1 y2⟩
        cases r : bl x1 s
        · rfl
        · have := (bg s hs.1).mp r; omega
      refine r_X2_lengthOf_60 ki hG ⟨by have := cp.1.1; omega, ?_⟩
      rw [cp.2.1.2.2, w32_i (by omega) (by omega)]
      refine ⟨fun _ => ⟨fun y => ?_, fun y => ?_⟩, fun y => by omega⟩
      · have gdv : fgd L (cT g3 L) (fo g' 136) := by
          rcases gd with z | z
          · exact absurd (congrArg ath z) y
          · exact z
        have ne : ∃ s, 7 ≤ s ∧ s < pNt L ∧ bl x1 s = true := by
          apply Classical.byContradiction
          intro z
          have := (lb fz).mpr (fun s hs => absurd ⟨s, hs⟩ z)
          exact absurd rfl (this y).1
        refine W_put (v := fo g' 136) hG w cg (by omega) (by decide) (by decide) rfl (by rw [eT]; exact gdv) fun g4 c4 fr4 => ?_
        have sm4 : cT g4 L = cT g' L ∧ wkdC g' g4 L ∧ (∀ s, inS L s → ubt g' (uad g' 2 s 0) k = true → ubt g4 (uad g4 2 s 0) k = true) := by
          have sm : smC g' g4 := sm_put (by omega) ((c4.1.1.1).trans (cg.1.1.1).symm) fr4
          have wd := smC_wkd w (wcf_st cg).1 sm
          exact ⟨smC_ext w (wcf_st cg).1 sm, wd, fun s hs x => wd.2.2.2.1 2 s 0 (Or.inl (Or.inr (Or.inl ⟨rfl, hs, rfl⟩))) k hk x⟩
        obtain ⟨eT4, -, rg4⟩ := sm4
        have e43 : cT g4 L = cT g3 L := eT4.trans eT
        have t4 := (wcf_st c4).2.2.2.1
        have hr4 : rch (cT g4 L) k := ath_le (c4.1.2.2.2.2.1 _ _ _) hr
        rw [show 8 + (pDp L k - 1) = 7 + pDp L k by omega] at c4
        refine W_nextG hG w upR c4 (by omega) (by omega) (fun U oU p q => (GT_lub lb ne).mpr (fun s hs => ?_)) fun g5 c5 ws5 wk5 le5 => hQ g5 (WE_rd w hk c4.1 c5.1 hr t wk5 le5 (fun z0 z6 => ?_) (fun z0 => reg g4 e43 (fun s s7 sn b => rg4 s ⟨s7, sn⟩ (rg s s7 sn b)) z0) (fun s s0 b => by rw [e43]; exact no27 g5 c5.1 s s0 b) (fun _ o1 o2 => by omega))
        · obtain ⟨y1, y2, y3⟩ := (bg s (by omega)).mp hs.2.2
          have q2 := (CL22 e).mp (CL_dn t4 hr4 p q) s (sb_le (t.1 _ _ _) (c4.1.2.2.2.2.1 _ _ _) (sbx s (by omega) y1))
          have q3 := q2.2.2 (by omega) y3 (by rw [e43, (len s hs.2.2 (by omega)).2.2.2.2]; decide)
          rw [e43] at q3
          have le4 : tle (cT h L) (cT g3 L) := c3.1.2.2.2.2.1
          exact GT_dn (lk := fz) le4 q3
        · have hh := hle (cT g5 L) c5.1.2.2.2.2.2.1.1.2 (fun s hs y1 y2 => (GT_lub lb ne).mp c5.1.2.2.2.2.2.1.2 s ?_) (by rw [← eT4]; exact z0) (by rw [← eT4]; exact z6)
          · rw [eT4]; exact hh
          · have b := (bg s hs.1).mpr ⟨hs.2.2, by have := hs.1; omega, y2⟩
            have := (len s b hs.1).1
            exact ⟨this.1, this.2, b⟩
      · have none : ∀ s, 0 ≤ s → bl x1 s = false := by
          intro s s0
          cases r : bl x1 s
          · rfl
          · obtain ⟨i1, gs⟩ := len s r s0
            have le := (lb (fo g' 136)).mp (fle_rfl _) s ⟨i1.1, i1.2, r⟩
            have := (le (by rw [gs.2.2.2]; decide)).1
            exact absurd y this
        refine hQ g' (WE_rd w hk cg.1 cg.1 hr t (wkdC_rfl _ _) (tle_rfl _) (fun z0 z6 => hle _ cg.1.2.2.2.2.2.1.2 (fun s hs y1 y2 => ?_) z0 z6) (fun z0 => reg g' eT rg z0) (fun s s0 b => by rw [eT]; exact no27 g' cg.1 s s0 b) (fun _ o1 o2 => by omega))
        have := (bg s hs.1).mpr ⟨hs.2.2, by have := hs.1; omega, y2⟩
        rw [none s hs.1] at this; cases this
    intro N
    induction N with
    | zero =>
      intro n g' m1 m2 m3 cg eT lb gd rg
      have en : n = pNt L := by omega
      subst en
      exact last g' cg eT lb gd rg
    | succ N ih =>
      intro n g' m1 m2 m3 cg eT lb gd rg
      by_cases en : n = pNt L
      · subst en
        exact last g' cg eT lb gd rg
      have cp := (wcf_st cg).1.1
      refine r_X2_lengthOf_60 ki hG ⟨by have := cp.1.1; omega, ?_⟩
      rw [cp.2.1.2.2, w32_i (by omega) (by omega), l_bit (by omega) (by omega)]
      refine ⟨fun y => by omega, fun _ => ⟨fun y x3 e3 => ?_, fun y => ⟨by omega, by omega, ?_⟩⟩⟩
      · rw [w32_i (by omega) (by omega)] at e3
        subst e3
        have nb : ¬ bl x1 n = true := fun b => y (by rw [if_pos b]; exact lc_11)
        refine ih (n + 1) g' (by omega) (by omega) (by omega) cg eT (lub_n lb (fun s => ?_)) gd (fun s s7 sn b => rg s s7 ?_ b)
        · constructor
          · rintro ⟨y1, y2, y3⟩
            have : s ≠ n := fun z => nb (by rw [← z]; exact y3)
            exact ⟨y1, by omega, y3⟩
          · rintro ⟨y1, y2, y3⟩
            exact ⟨y1, by omega, y3⟩
        · have : s ≠ n := fun z => nb (by rw [← z]; exact b)
          omega
      · have b : bl x1 n = true := by
          cases r : bl x1 n
          · rw [r, if_neg (by decide)] at y
            exact absurd y lc_01
          · rfl
        obtain ⟨i1, gs⟩ := len n b (by omega)
        have ea : hv g' 70 n = cad g' 2 n 0 := rfl
        rw [ea]
        refine W_gather hG w (ath_le (cg.1.2.2.2.2.1 _ _ _) hr) cg (Or.inr (Or.inl ⟨rfl, i1, rfl⟩)) fun g4 c4 rg4 eT4 fo4 fr4 a4 x3 e3 => ?_
        rw [w32_i (by omega) (by omega)] at e3
        subst e3
        refine ih (n + 1) g4 (by omega) (by omega) (by omega) c4 (eT4.trans eT) (lub_1 (n := n) lb (fun s => ?_) (by rw [fo4, eT])) (Or.inr ?_) (fun s s7 sn bs' => ?_)
        · constructor
          · rintro ⟨y1, y2, y3⟩
            by_cases z : s = n
            · exact Or.inr z
            · exact Or.inl ⟨y1, by omega, y3⟩
          · rintro (⟨y1, y2, y3⟩ | z)
            · exact ⟨y1, by omega, y3⟩
            · rw [z]; exact ⟨m2, by omega, b⟩
        · rw [fo4, eT]
          exact fgd_join gd gs
        · by_cases z : s = n
          · rw [z]; exact rg4
          · exact a4.2.2.1.2.2.2.1 2 s 0 (Or.inl (Or.inr (Or.inl ⟨rfl, (len s bs' (by omega)).1, rfl⟩))) k hk (rg s s7 (by omega) bs')
  intro x3 e3
  subst e3
  exact loop _ 7 g3 (Nat.le_refl _) (by decide) (by omega) c3 rfl (by rw [f3]; exact lub_0 (fun s hs => by omega)) (Or.inl f3) (fun s s7 sn b => by omega)
end STA
