/-! Part 51p: fields are set in the component -/
section SF
variable {l : Launch} {G : JG} {h g : MH} {L : PG} {k M d : Int} {X : Int → FA} {lk : FA} {P : TB → Prop} {Q : Int → MH → Prop} {E : Nat → Int → MH → Prop}
theorem w_setfield (hG : gO G = true) (w : WF L) (t : tiv L (cT h L)) (hr : rch (cT h L) k) (u : usI h L k) (c : wcf h g L k M (cT h L 0 k) (cT h L 6 k 0) (pDp L k) (fun _ => True)) (e : pOp L k = 26) (hQ : ∀ g', WE h g' L k → Q 0 g') : S_X2_fieldAct l G [(2002, 3), (0, pOp L k), (0, pX L k), (0, pY L k)] g Q E := by
  have nn := w.n
  unfold WFn at nn
  have hk := c.2.1.1
  have hk1 := hk.1
  have hk2 := hk.2
  obtain ⟨mk, ops, xr, yr, x2, x7, x5, x47, xc, xa, xs, x19, xf, -, -, -, -, -, si, dp, -⟩ := w.k hk.1 hk.2
  have xc' := xc (by omega)
  have xf' := xf (by omega)
  have fc8 := w.c.2.2.1 (pX L k) xr.1 (by omega)
  have pp : ppo L k = 2 := by unfold ppo; simp [e]
  have pu : ppu L k = 0 := by unfold ppu; simp [e]
  have ch := frC_CW (frC_sym c.1.1) w (wcf_st c).1
  obtain ⟨cs, bs⟩ := tiv_sok t w 0 k (6 + pDp L k)
  have bt := tiv_slot (j := 6 + pDp L k) t hr (Or.inr ⟨by omega, by omega⟩)
  have vt := tiv_slot (j := 7 + pDp L k) t hr (Or.inr ⟨by omega, by omega⟩)
  refine s_X2_fieldAct rfl fun K ki => r_X2_fieldAct_0 ki hG ⟨fun y => absurd e y, fun _ => ?_⟩
  refine W_take hG w c (by omega) (Or.inl ⟨by decide, by decide⟩) fun g0 c0 f0 gd0 fr0 => ?_
  refine W_take hG w c0 (by omega) (Or.inl ⟨by decide, by decide⟩) fun g1 c1 f1 gd1 fr1 => ?_
  rw [show 7 + (pDp L k - 1) = 6 + pDp L k by omega] at f1
  have f137 : fo g1 137 = cT h L 0 k (7 + pDp L k) := by rw [← f0]; exact fo_eq (fun j => fr1 _ j (by omega) (by decide) (by omega))
  have ex : hv g1 134 4 = ast (cT h L 0 k (6 + pDp L k)) := congrArg ast f1
  have cp1 := (wcf_st c1).1.1
  refine ⟨by have := cp1.1.1; omega, ?_⟩
  rw [ex]
  refine c_ofClass hG w cp1 fun z3 fl3 x1 e1 => ?_
  subst e1
  have bg : ∀ s, 0 ≤ s → (bl x1 s = true ↔ bl (ast (cT h L 0 k (6 + pDp L k))) s = true ∧ 1 ≤ s ∧ isOf L s (pX L k) = true) := by
    intro s s0
    rw [fl3.2 s s0]
    simp only [Bool.and_eq_true, decide_eq_true_eq]
    constructor
    · rintro ⟨⟨⟨y1, y2⟩, y3⟩, y4⟩
      exact ⟨y3, y1, y4⟩
    · rintro ⟨y1, y2, y3⟩
      exact ⟨⟨⟨y2, bs s s0 y1⟩, y1⟩, y3⟩
  have sbx : ∀ s, 0 ≤ s → bl (ast (cT h L 0 k (6 + pDp L k))) s = true → sb (cT h L 0 k (6 + pDp L k)) s := fun s s0 y => ⟨s0, by have := bs s s0 y; omega, y⟩
  refine W_refuse hG w t hr (fun _ _ _ x => x) c1 (Or.inr ⟨by decide, by decide⟩) ex (fun U _ q => ⟨fun y => ((CL26 e).mp q 0 (sbx 0 (by decide) y)).1 rfl, fun ⟨s, s1, s2, y1, y2⟩ => ?_⟩) fun g2 c2 ws2 => ?_
  · refine ((CL26 e).mp q s (sbx s (by omega) y1)).2.1 (by omega) ?_
    cases r : isOf L s (pX L k)
    · rfl
    · have := (bg s (by omega)).mpr ⟨y1, s1, r⟩
      rw [this] at y2; cases y2
  refine c_none hG ?_
  have c3 := wcf_fw (f := 136) (v := fz) w (by omega) c2
  have f3 : fo (fw g2 136 fz) 137 = cT h L 0 k (7 + pDp L k) := by
    rw [fo_ne (by decide), ← f137]
    exact fo_eq (fun j => ws2 _ j (by omega))
  generalize hg3 : fw g2 136 fz = g3 at *
  have fld : ∀ s, bl x1 s = true → 0 ≤ s → inS L s ∧ pY L k < nfs L s := by
    intro s b s0
    obtain ⟨y1, y2, y3⟩ := (bg s s0).mp b
    have sn := bs s s0 y1
    obtain ⟨s7, -, yn⟩ := of_fld w y2 sn xr.1 (by omega) xf'.1 xf'.2 y3
    exact ⟨⟨s7, sn⟩, yn⟩
  have noin : ∀ T a i j, ¬ inC L T k a i j := by
    intro T a i j y
    unfold inC at y
    rcases y with ⟨y1, y2, y3, y⟩ | ⟨y1, y2, y⟩ | y | y
    · rcases y with y | y | y <;> omega
    · rcases y with y | y <;> omega
    · omega
    · have := y.2.1; omega
  have use1 : ∀ g' : MH, tle (cT h L) (cT g' L) → ∀ s, 0 ≤ s → bl (l_or (hv h 77 k) x1) s = true → usd L (cT g' L) k s := by
    intro g' le s s0 b
    rw [bl_or] at b
    simp only [Bool.or_eq_true] at b
    rcases b with b | b
    · exact usd_le t.1 le (fun j v => t.2.2.2.2.2 k j hr v) dp.2.2.1 (u s s0 b)
    · obtain ⟨y1, y2, y3⟩ := (bg s s0).mp b
      exact ⟨y2, Or.inr (Or.inr (Or.inr ⟨e, sb_le (t.1 _ _ _) (le _ _ _) (sbx s s0 y1), y3⟩))⟩
  have use2 : ∀ g' : MH, tle (cT h L) (cT g' L) → cT g' L 0 k = cT h L 0 k → used L (cT g' L) (l_or (hv h 77 k) x1) k := by
    intro g' le z0 _ _ s s0
    refine ⟨use1 g' le s s0, fun y => ?_⟩
    rw [bl_or]
    unfold usd at y
    rw [z0] at y
    rcases y with ⟨y0, y | y | y | y⟩
    · omega
    · omega
    · omega
    · rw [(bg s s0).mpr ⟨y.2.1.2.2, y0, y.2.2⟩]; simp
  have upR : ∀ n : Int, ∀ U V : TB, tle U V → ((True ∧ rfx L k (cT h L 0 k) (cT h L 6 k 0) (ast (cT h L 0 k (6 + pDp L k))) x1 U) ∧ ∀ s, 7 ≤ s → s < n → bl x1 s = true → fle (cT h L 0 k (7 + pDp L k)) (U 1 s (pY L k))) → ((True ∧ rfx L k (cT h L 0 k) (cT h L 6 k 0) (ast (cT h L 0 k (6 + pDp L k))) x1 V) ∧ ∀ s, 7 ≤ s → s < n → bl x1 s = true → fle (cT h L 0 k (7 + pDp L k)) (V 1 s (pY L k))) := fun n U V p q => ⟨⟨trivial, rfx_up p q.1.2⟩, fun s y1 y2 y3 => fle_trans (q.2 s y1 y2 y3) (p _ _ _)⟩
  have hle : ∀ T : TB, rfx L k (cT h L 0 k) (cT h L 6 k 0) (ast (cT h L 0 k (6 + pDp L k))) x1 T → (∀ s, 7 ≤ s → s < pNt L → bl x1 s = true → fle (cT h L 0 k (7 + pDp L k)) (T 1 s (pY L k))) → ((∃ s, 0 ≤ s ∧ bl x1 s = true) → GT L T k (nx L k) (cT h L 0 k) (cT h L 6 k 0)) → ∀ T2 : TB, T2 0 k = cT h L 0 k → T2 6 k 0 = cT h L 6 k 0 → CLz L T2 T k := by
    intro T rf fl gt T2 z0 z6
    rw [CL26 e, z0, z6]
    intro s hs
    refine ⟨fun y => rf.1 (by have h2 := hs.2.2; rw [y] at h2; exact h2), fun y1 y2 => rf.2 ⟨s, by have := hs.1; omega, by have := hs.2.1; omega, hs.2.2, ?_⟩, fun y1 y2 => ?_⟩
    · cases r : bl x1 s
      · rfl
      · have := ((bg s hs.1).mp r).2.2
        rw [y2] at this; cases this
    · have b := (bg s hs.1).mpr ⟨hs.2.2, by have := hs.1; omega, y2⟩
      obtain ⟨i1, yn⟩ := fld s b hs.1
      exact ⟨fl s i1.1 i1.2 b, gt ⟨s, hs.1, b⟩⟩
  have loop : ∀ N : Nat, ∀ n : Int, ∀ g' : MH, (pNt L - n).toNat ≤ N → 7 ≤ n → n ≤ pNt L → wcf h g' L k M (cT h L 0 k) (cT h L 6 k 0) (pDp L k - 1 - 1) (fun U => (True ∧ rfx L k (cT h L 0 k) (cT h L 6 k 0) (ast (cT h L 0 k (6 + pDp L k))) x1 U) ∧ ∀ s, 7 ≤ s → s < n → bl x1 s = true → fle (cT h L 0 k (7 + pDp L k)) (U 1 s (pY L k))) → fo g' 137 = cT h L 0 k (7 + pDp L k) →
      JW K 62 [(2002, 3), (0, pOp L k), (0, pX L k), (0, pY L k), (1, x1), (5000, 0), (0, n)] [] g' := by
    have last : ∀ g' : MH, wcf h g' L k M (cT h L 0 k) (cT h L 6 k 0) (pDp L k - 1 - 1) (fun U => (True ∧ rfx L k (cT h L 0 k) (cT h L 6 k 0) (ast (cT h L 0 k (6 + pDp L k))) x1 U) ∧ ∀ s, 7 ≤ s → s < pNt L → bl x1 s = true → fle (cT h L 0 k (7 + pDp L k)) (U 1 s (pY L k))) → JW K 62 [(2002, 3), (0, pOp L k), (0, pX L k), (0, pY L k), (1, x1), (5000, 0), (0, pNt L)] [] g' := by
      intro g' cg
      have cp := (wcf_st cg).1.1
      have e18 := cg.2.1.2.1
      have e77 : hv g' 77 k = hv h 77 k := cg.1.2.2.2.1 k
      refine r_X2_fieldAct_62 ki hG ⟨by have := cp.1.1; omega, ?_⟩
      rw [cp.2.1.2.2, w32_i (by omega) (by omega), e18]
      refine ⟨fun _ => ⟨hk1, by omega, hk1, by omega, fun h1 eh1 => ?_⟩, fun y => by omega⟩
      rw [e77] at eh1
      obtain ⟨cb, ebh, ebg⟩ := wcf_77 w cg (l_or (hv h 77 k) x1)
      rw [← eh1] at cb ebg
      have v77 : hv h1 77 k = l_or (hv h 77 k) x1 := by rw [eh1, eq_a]
      have leb : tle (cT h L) (cT h1 L) := by rw [ebg]; exact cg.1.2.2.2.2.1
      have endW : ∀ g5 {P' : TB → Prop}, AdK L (hset h 77 k (l_or (hv h 77 k) x1)) g5 P' (fun U => CLz L U U k) → (∀ T2 : TB, T2 0 k = cT h L 0 k → T2 6 k 0 = cT h L 6 k 0 → CLz L T2 (cT g5 L) k) → Q 0 g5 := by
        intro g5 P' a5 cl5
        have le5 : tle (cT h L) (cT g5 L) := by have := a5.2.2.2.2.1; rw [ebh] at this; exact this
        have v5 : hv g5 77 k = l_or (hv h 77 k) x1 := by rw [a5.2.2.2.1 k, eq_a]
        exact hQ g5 (WE_77 w ch (l_or (hv h 77 k) x1) (WE_rd w hk a5 a5 (by rw [ebh]; exact hr) (by rw [ebh]; exact t) (wkdC_rfl _ _) (tle_rfl _) (fun z0 z6 => cl5 _ (by rw [z0, ebh]) (by rw [z6, ebh])) (fun _ a i j y => absurd y (noin _ a i j)) (by rw [v5]; exact use1 g5 le5) (fun z0 => by rw [v5]; exact use2 g5 le5 (by rw [z0, ebh]))))
      refine ⟨fun y => ?_, fun y => ⟨fun y2 => by have := y2.1; omega, fun _ => ⟨fun _ => ?_, fun y3 => by omega⟩⟩⟩
      · rw [lc_z] at y
        have p := cb.1.2.2.2.2.2.1
        exact endW h1 cb.1 (hle _ p.1.2 p.2 (fun ⟨s, s0, b⟩ => by rw [y, bl_zero] at b; cases b))
      · rw [lc_z] at y
        have cx1 : c64 x1 := fl3.1
        obtain ⟨s, s0, s1, b⟩ := l_some cx1 y
        obtain ⟨y1, y2, y3⟩ := (bg s s0).mp b
        refine W_next hG w (by rw [ebh]; exact t) (by rw [ebh]; exact hr) (upR (pNt L)) cb (by omega) (by omega) (fun U _ q => ?_) fun g5 c5 ws5 => endW g5 c5.1 (hle _ c5.1.2.2.2.2.2.1.1.1.2 c5.1.2.2.2.2.2.1.1.2 (fun _ => c5.1.2.2.2.2.2.1.2))
        rw [ebh] at q
        exact (((CL26 e).mp q s (sbx s s0 y1)).2.2 (by omega) y3).2
    intro N
    induction N with
    | zero =>
      intro n g' m1 m2 m3 cg f137'
      have en : n = pNt L := by omega
      subst en
      exact last g' cg
    | succ N ih =>
      intro n g' m1 m2 m3 cg f137'
      by_cases en : n = pNt L
      · subst en
        exact last g' cg
      have cp := (wcf_st cg).1.1
      obtain ⟨r6, r8⟩ := CW_row (wcf_st cg).1 (show 0 ≤ n by omega) (by omega)
      refine r_X2_fieldAct_62 ki hG ⟨by have := cp.1.1; omega, ?_⟩
      rw [cp.2.1.2.2, w32_i (by omega) (by omega), l_bit (by omega) (by omega), r6, r8]
      refine ⟨fun y => by omega, fun _ => ⟨fun y => ⟨fun y2 => ⟨by omega, by omega, by omega, xf'.1, by omega, ?_⟩, fun y2 => by omega⟩, fun y x3 e3 => ?_⟩⟩
      · have b : bl x1 n = true := by
          cases r : bl x1 n
          · rw [r, if_neg (by decide)] at y
            exact absurd (lc_z.mpr rfl) y
          · rfl
        obtain ⟨i1, yn⟩ := fld n b (by omega)
        obtain ⟨y1, y2', y3⟩ := (bg n (by omega)).mp b
        have ea : hv g' (7 + n) (pY L k) = cad g' 1 n (pY L k) := rfl
        rw [ea]
        refine W_cjoin (v := cT h L 0 k (7 + pDp L k)) hG w (upR n) cg (Or.inl ⟨rfl, i1, xf'.1, yn⟩) (by decide) f137' (fgd_le cg.1.2.2.2.2.1 vt) (fun U oU p q => ?_) fun g4 c4 ws4 _ x3 e3 => ?_
        · exact (((CL26 e).mp (CL_dn t hr (tle_trans cg.1.2.2.2.2.1 p) q) n (sbx n (by omega) y1)).2.2 (by omega) y3).1
        · rw [w32_i (by omega) (by omega)] at e3
          subst e3
          refine ih (n + 1) g4 (by omega) (by omega) (by omega) (wcf_P c4 (fun _ p => ⟨p.1.1, fun s s7 sn bs' => ?_⟩)) (by rw [← f137']; exact fo_eq (fun j => ws4 _ j (by omega)))
          by_cases z : s = n
          · rw [z]; exact p.2
          · exact p.1.2 s s7 (by omega) bs'
      · rw [w32_i (by omega) (by omega)] at e3
        subst e3
        have nb : ¬ bl x1 n = true := fun b => by
          rw [if_pos b] at y
          exact absurd (lc_z.mp y) (by decide)
        refine ih (n + 1) g' (by omega) (by omega) (by omega) (wcf_P cg (fun _ p => ⟨p.1, fun s s7 sn bs' => ?_⟩)) f137'
        have : s ≠ n := fun z => nb (by rw [← z]; exact bs')
        exact p.2 s s7 (by omega) bs'
  intro x3 e3
  subst e3
  exact loop _ 7 g3 (Nat.le_refl _) (by decide) (by omega) (wcf_P c3 (fun _ p => ⟨p, fun s y1 y2 _ => by omega⟩)) f3
end SF
