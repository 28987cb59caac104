/-! Part 51o: fields in the component -/
/-- the array of what is used alone has another content -/
def o77 (x y : MH) : Prop := y.2 = x.2 ∧ ∀ b j, b ≠ 77 → hv y b j = hv x b j
theorem o77_set (x : MH) (k v : Int) : o77 x (hset x 77 k v) := ⟨rfl, fun b j hb => ne_a hb⟩
theorem frC_sym {h g : MH} (f : frC h g) : frC g h := ⟨f.1.symm, fun b j p q => (f.2 b j p (fun z => q (by unfold whi at z ⊢; rw [h2_ht f.1]; exact z))).symm⟩
section O7
variable {x y : MH} {L : PG}
theorem o77_f (o : o77 x y) : frC x y := ⟨o.1, fun b j p _ => o.2 b j (fun z => p (by unfold wlo; omega))⟩
theorem o77_T (w : WF L) (c : CW x L) (o : o77 x y) : cT y L = cT x L ∧ (zC x L → zC y L) := by
  have f := o77_f o
  have e0 : ∀ q, inP L q → vq x y q := fun q hq => vq_of (frC_4 f q) (fun b j hb => o.2 b j (by have := (c.2.1 q hq).2; omega))
  have eo : ∀ m, inM L m → vo x y m := fun m hm => ⟨fun j _ _ => o.2 _ j (by unfold inM at hm; omega), fo_eq (fun j => o.2 _ j (by unfold inM at hm; omega))⟩
  exact ⟨cT_eq w e0 (fun a i j d => vc_of (frC_cad f w d) (fun k => o.2 _ k (by have := (c.2.2.2.2.1 a i j d).2; omega))) (fun i i0 i1 => fo_eq (fun j => o.2 _ j (by omega))) eo (fun q hq => ⟨o.2 _ q (by omega), o.2 _ q (by omega), o.2 _ q (by omega), o.2 _ q (by omega)⟩), zC_eq e0 (fun i i0 i1 => o.2 _ 0 (by omega)) eo⟩
theorem o77_u (w : WF L) (c : CW x L) (o : o77 x y) {a i j : Int} (d : udom L a i j) (p : Int) : ubt y (uad y a i j) p = ubt x (uad x a i j) p := by
  rw [frC_uad (o77_f o) w d]
  exact ubt_ne (fun k => o.2 _ k (by have := (uad_ty w c d).2.2; omega))
theorem o77_R (w : WF L) (c : CW x L) (o : o77 x y) : RWx y L ↔ RWx x L := by
  obtain ⟨e1, -⟩ := o77_T w c o
  unfold RWx
  rw [e1]
  constructor
  · intro r
    exact ⟨fun p hp z => r.1 p hp (by rw [o.2 79 p (by omega)]; exact z), fun a i j d p hp z => r.2 a i j d p hp (by rw [o77_u w c o d p]; exact z)⟩
  · intro r
    exact ⟨fun p hp z => r.1 p hp (by rw [o.2 79 p (by omega)] at z; exact z), fun a i j d p hp z => r.2 a i j d p hp (by rw [o77_u w c o d p] at z; exact z)⟩
theorem o77_ST (w : WF L) (t : STc x L) (o : o77 x y) : STc y L := by
  obtain ⟨c, q, u, tv, z⟩ := t
  obtain ⟨e1, e2⟩ := o77_T w c o
  exact ⟨frC_CW (o77_f o) w c, QI_of q (o.2 3 14 (by omega)) (o.2 3 15 (by omega)) (fun j => o.2 78 j (by omega)) (fun j => o.2 79 j (by omega)), UB_eq w (o77_f o) (fun a i j d k => o.2 _ k (by have := (uad_ty w c d).2.2; omega)) u, by rw [e1]; exact tv, e2 z⟩
end O7
section FI
variable {l : Launch} {G : JG} {h g : MH} {L : PG} {k M d : Int} {X : Int → FA} {lk : FA} {P : TB → Prop} {Q : Int → MH → Prop} {E : Nat → Int → MH → Prop}
/-- what is used is noted, at both ends -/
theorem wcf_77 (w : WF L) (c : wcf h g L k M X lk d P) (v : Int) : wcf (hset h 77 k v) (hset g 77 k v) L k M X lk d P ∧ cT (hset h 77 k v) L = cT h L ∧ cT (hset g 77 k v) L = cT g L := by
  have cg := (wcf_st c).1
  have ch := frC_CW (frC_sym c.1.1) w cg
  obtain ⟨eh, -⟩ := o77_T w ch (o77_set h k v)
  obtain ⟨eg, -⟩ := o77_T w cg (o77_set g k v)
  have fh := o77_f (o77_set h k v)
  have fg := o77_f (o77_set g k v)
  obtain ⟨⟨a1, a2, ⟨w1, w2, w3, w4, w5⟩, a4, a5, a6, a7, a8⟩, c2, c3, ⟨c4, c5, c6, c9⟩, c7, c8⟩ := c
  have e : ∀ b j, b ≠ 77 → hv (hset g 77 k v) b j = hv g b j := fun b j hb => ne_a hb
  have e' : ∀ b j, b ≠ 77 → hv (hset h 77 k v) b j = hv h b j := fun b j hb => ne_a hb
  have hk := c2.1
  refine ⟨⟨⟨frC_tr (frC_sym fh) (frC_tr a1 fg), o77_ST w a2 (o77_set g k v), ⟨fun j x => ?_, fun q hq => ?_, fun a i j dd => ?_, fun a i j dd p hp x => ?_, fun r => (o77_R w cg (o77_set g k v)).mpr (w5 ((o77_R w ch (o77_set h k v)).mp r))⟩, fun j => ?_, by rw [eh, eg]; exact a5, by rw [eg]; exact a6, fun U oU p q => by rw [eg]; rw [eh] at p; exact a7 U oU p q, fun q j hj => by rw [eh, eg] at q; rw [e 79 j (by omega)] at hj; rw [e' 79 j (by omega)]; exact a8 q j hj⟩, wkC_of fg (fun j _ _ => e _ _ (by omega)) c2, ⟨fun j r => ?_, by rw [e 116 2 (by omega), e 116 3 (by omega), eh]; exact c3.2⟩, ⟨fun j v => ?_, by rw [e 80 2 (by omega), e 80 3 (by omega)]; exact c5, by rw [e 3 25 (by omega)]; exact c6, c9⟩, fun j v => by rw [eg]; exact c7 j v, by rw [eg]; exact c8⟩, eh, eg⟩
  · rw [e 79 j (by omega)]; rw [e' 79 j (by omega)] at x; exact w1 j x
  · rw [e 79 q (by omega), eh, eg]; exact w2 q hq
  · rw [eh, eg]
    rcases w3 a i j dd with y | y
    · exact Or.inl y
    · refine Or.inr fun p hp x => ?_
      rw [o77_u w ch (o77_set h k v) dd] at x
      rw [e 79 p (by omega)]
      exact y p hp x
  · rw [o77_u w cg (o77_set g k v) dd]
    rw [o77_u w ch (o77_set h k v) dd] at x
    exact w4 a i j dd p hp x
  · rw [hv_set, hv_set]
    split
    · rfl
    · exact a4 j
  · have rr := rel_rng w hk.1 hk.2 r
    rw [eh, ← c3.1 j r]
    exact fo_eq (fun i => e _ i (by omega))
  · have vr := vld_rng w hk c9 v
    rw [← c4 j v]
    exact fo_eq (fun i => e _ i (by omega))
theorem WE_77 (w : WF L) (c : CW h L) (v : Int) (q : WE (hset h 77 k v) g L k) : WE h g L k := by
  obtain ⟨eh, -⟩ := o77_T w c (o77_set h k v)
  obtain ⟨q1, q2, ⟨w1, w2, w3, w4, w5⟩, q4, q5, q6, q7, q8, q9⟩ := q
  have e' : ∀ b j, b ≠ 77 → hv (hset h 77 k v) b j = hv h b j := fun b j hb => ne_a hb
  refine ⟨frC_tr (o77_f (o77_set h k v)) q1, q2, ⟨fun j x => w1 j (by rw [e' 79 j (by omega)]; exact x), fun p hp => ?_, fun a i j dd => ?_, fun a i j dd p hp x => w4 a i j dd p hp (by rw [o77_u w c (o77_set h k v) dd]; exact x), fun r => w5 ((o77_R w c (o77_set h k v)).mpr r)⟩, by rw [eh] at q4; exact q4, by rw [eh] at q5; exact q5, fun j hj => by rw [q6 j hj, ne_k hj], q7, q8, fun q j hj => by have := q9 (by rw [eh]; exact q) j hj; rw [e' 79 j (by omega)] at this; exact this⟩
  · have := w2 p hp
    rw [eh] at this; exact this
  · have := w3 a i j dd
    rw [eh] at this
    rcases this with y | y
    · exact Or.inl y
    · exact Or.inr fun p hp x => y p hp (by rw [o77_u w c (o77_set h k v) dd]; exact x)
/-- a field is read -/
theorem w_field (hG : gO G = true) (w : WF L) (t : tiv L (cT h L)) (hr : rch (cT h L) k) (u : usI h L k) (c : wcf h g L k M (cT h L 0 k) (cT h L 6 k 0) (pDp L k) (fun _ => True)) (e : pOp L k = 25) (hQ : ∀ g', WE h g' L k → Q 0 g') : S_X2_fieldAct l G [(2002, 3), (0, pOp L k), (0, pX L k), (0, pY L k)] g Q E := by
  have nn := w.n
  unfold WFn at nn
  have hk := c.2.1.1
  have hk1 := hk.1
  have hk2 := hk.2
  obtain ⟨mk, ops, xr, yr, x2, x7, x5, x47, xc, xa, xs, x19, xf, -, -, -, -, -, si, dp, -⟩ := w.k hk.1 hk.2
  have xc' := xc (by omega)
  have xf' := xf (by omega)
  have fc8 := w.c.2.2.1 (pX L k) xr.1 (by omega)
  have pp : ppo L k = 1 := by unfold ppo; simp [e]
  have pu : ppu L k = 1 := by unfold ppu; simp [e]
  have ch := frC_CW (frC_sym c.1.1) w (wcf_st c).1
  obtain ⟨cs, bs⟩ := tiv_sok t w 0 k (7 + pDp L k)
  have bt := tiv_slot (j := 7 + pDp L k) t hr (Or.inr ⟨by omega, by omega⟩)
  refine s_X2_fieldAct rfl fun K ki => r_X2_fieldAct_0 ki hG ⟨fun _ => ?_, fun y => by omega⟩
  refine W_take hG w c (by omega) (Or.inl ⟨by decide, by decide⟩) fun g1 c1 f1 gd1 fr1 => ?_
  have ex : hv g1 134 4 = ast (cT h L 0 k (7 + pDp L k)) := congrArg ast f1
  have cp1 := (wcf_st c1).1.1
  refine ⟨by have := cp1.1.1; omega, ?_⟩
  rw [ex]
  refine c_ofClass hG w cp1 fun z3 fl3 x1 e1 => ?_
  subst e1
  have bg : ∀ s, 0 ≤ s → (bl x1 s = true ↔ bl (ast (cT h L 0 k (7 + pDp L k))) s = true ∧ 1 ≤ s ∧ isOf L s (pX L k) = true) := by
    intro s s0
    rw [fl3.2 s s0]
    simp only [Bool.and_eq_true, decide_eq_true_eq]
    constructor
    · rintro ⟨⟨⟨y1, y2⟩, y3⟩, y4⟩
      exact ⟨y3, y1, y4⟩
    · rintro ⟨y1, y2, y3⟩
      exact ⟨⟨⟨y2, bs s s0 y1⟩, y1⟩, y3⟩
  have sbx : ∀ s, 0 ≤ s → bl (ast (cT h L 0 k (7 + pDp L k))) s = true → sb (cT h L 0 k (7 + pDp L k)) s := fun s s0 y => ⟨s0, by have := bs s s0 y; omega, y⟩
  refine W_refuse hG w t hr (fun _ _ _ x => x) c1 (Or.inr ⟨by decide, by decide⟩) ex (fun U _ q => ⟨fun y => ((CL25 e).mp q 0 (sbx 0 (by decide) y)).1 rfl, fun ⟨s, s1, s2, y1, y2⟩ => ?_⟩) fun g2 c2 ws2 => ?_
  · refine ((CL25 e).mp q s (sbx s (by omega) y1)).2.1 (by omega) ?_
    cases r : isOf L s (pX L k)
    · rfl
    · have := (bg s (by omega)).mpr ⟨y1, s1, r⟩
      rw [this] at y2; cases y2
  refine c_none hG ?_
  have c3 := wcf_fw (f := 136) (v := fz) w (by omega) c2
  generalize hg3 : fw g2 136 fz = g3 at *
  have f3 : fo g3 136 = fz := by rw [← hg3, fo_fw0 rfl]
  have t3 := (wcf_st c3).2.2.2.1
  have hr3 : rch (cT g3 L) k := ath_le (c3.1.2.2.2.2.1 _ _ _) hr
  -- fields of objects that are made are there
  have fld : ∀ s, bl x1 s = true → 0 ≤ s → inS L s ∧ pY L k < nfs L s ∧ fgd L (cT g3 L) (cT g3 L 1 s (pY L k)) := by
    intro s b s0
    obtain ⟨y1, y2, y3⟩ := (bg s s0).mp b
    have sn := bs s s0 y1
    obtain ⟨s7, -, yn⟩ := of_fld w y2 sn xr.1 (by omega) xf'.1 xf'.2 y3
    have md := mkd_le c3.1.2.2.2.2.1 (bt.2.1 s s0 y1)
    rcases md with y | y
    · omega
    · have th := y.2.1 (pY L k) xf'.1 yn
      exact ⟨⟨s7, sn⟩, yn, t3.1 _ _ _, t3.2.1 _ _ _, t3.2.2.1 _ _ _, (fok_there (t3.1 _ _ _) th).1⟩
  have upR : ∀ U V : TB, tle U V → (True ∧ rfx L k (cT h L 0 k) (cT h L 6 k 0) (ast (cT h L 0 k (7 + pDp L k))) x1 U) → (True ∧ rfx L k (cT h L 0 k) (cT h L 6 k 0) (ast (cT h L 0 k (7 + pDp L k))) x1 V) := fun U V p q => ⟨trivial, rfx_up p q.2⟩
  have reg : ∀ (g' : MH), cT g' L = cT g3 L → (∀ s, 7 ≤ s → s < pNt L → bl x1 s = true → ubt g' (uad g' 1 s (pY L k)) k = true) → cT g' L 0 k = cT h L 0 k → ∀ a i j, inC L (cT g' L) k a i j → udom L a i j ∧ ubt g' (uad g' a i j) k = true := by
    intro g' eT rg z0 a i j y
    have : a = 1 ∧ i ≠ 0 ∧ sb (cT g' L 0 k (7 + pDp L k)) i ∧ isOf L i (pX L k) = true ∧ j = pY L k := by
      unfold inC at y
      rcases y with ⟨y1, y2, y3, y⟩ | ⟨y1, y2, y⟩ | y | y
      · rcases y with y | y | y <;> omega
      · rcases y with y | y
        · omega
        · exact ⟨y1, y2, y.2.1, y.2.2.1, y.2.2.2⟩
      · omega
      · have := y.2.1; omega
    obtain ⟨rfl, y3, y4, y5, rfl⟩ := this
    rw [z0] at y4
    have b := (bg i y4.1).mpr ⟨y4.2.2, by have := y4.1; omega, y5⟩
    obtain ⟨i1, yn, -⟩ := fld i b y4.1
    exact ⟨Or.inl (Or.inl ⟨rfl, i1, xf'.1, yn⟩), rg i i1.1 i1.2 b⟩
  -- what is used
  have use1 : ∀ g' : MH, tle (cT h L) (cT g' L) → ∀ s, 0 ≤ s → bl (l_or (hv h 77 k) x1) s = true → usd L (cT g' L) k s := by
    intro g' le s s0 b
    rw [bl_or] at b
    simp only [Bool.or_eq_true] at b
    rcases b with b | b
    · exact usd_le t.1 le (fun j v => t.2.2.2.2.2 k j hr v) dp.2.2.1 (u s s0 b)
    · obtain ⟨y1, y2, y3⟩ := (bg s s0).mp b
      exact ⟨y2, Or.inr (Or.inr (Or.inl ⟨e, sb_le (t.1 _ _ _) (le _ _ _) (sbx s s0 y1), y3⟩))⟩
  have use2 : ∀ g' : MH, tle (cT h L) (cT g' L) → cT g' L 0 k = cT h L 0 k → used L (cT g' L) (l_or (hv h 77 k) x1) k := by
    intro g' le z0 _ _ s s0
    refine ⟨use1 g' le s s0, fun y => ?_⟩
    rw [bl_or]
    unfold usd at y
    rw [z0] at y
    rcases y with ⟨y0, y | y | y | y⟩
    · omega
    · omega
    · rw [(bg s s0).mpr ⟨y.2.1.2.2, y0, y.2.2⟩]; simp
    · omega
  have loop : ∀ N : Nat, ∀ n : Int, ∀ g' : MH, (pNt L - n).toNat ≤ N → 7 ≤ n → n ≤ pNt L → wcf h g' L k M (cT h L 0 k) (cT h L 6 k 0) (pDp L k - 1) (fun U => True ∧ rfx L k (cT h L 0 k) (cT h L 6 k 0) (ast (cT h L 0 k (7 + pDp L k))) x1 U) → cT g' L = cT g3 L →
      lub (fo g' 136) (fun s => 7 ≤ s ∧ s < n ∧ bl x1 s = true) (fun s => cT g3 L 1 s (pY L k)) → (fo g' 136 = fz ∨ fgd L (cT g3 L) (fo g' 136)) → (∀ s, 7 ≤ s → s < n → bl x1 s = true → ubt g' (uad g' 1 s (pY L k)) k = true) → JW K 62 [(2002, 3), (0, pOp L k), (0, pX L k), (0, pY L k), (1, x1), (5000, 0), (0, n)] [] g' := by
    have last : ∀ g' : MH, wcf h g' L k M (cT h L 0 k) (cT h L 6 k 0) (pDp L k - 1) (fun U => True ∧ rfx L k (cT h L 0 k) (cT h L 6 k 0) (ast (cT h L 0 k (7 + pDp L k))) x1 U) → cT g' L = cT g3 L →
        lub (fo g' 136) (fun s => 7 ≤ s ∧ s < pNt L ∧ bl x1 s = true) (fun s => cT g3 L 1 s (pY L k)) → (fo g' 136 = fz ∨ fgd L (cT g3 L) (fo g' 136)) → (∀ s, 7 ≤ s → s < pNt L → bl x1 s = true → ubt g' (uad g' 1 s (pY L k)) k = true) → JW K 62 [(2002, 3), (0, pOp L k), (0, pX L k), (0, pY L k), (1, x1), (5000, 0), (0, pNt L)] [] g' := by
      intro g' cg eT lb gd rg
      have cp := (wcf_st cg).1.1
      have e18 := cg.2.1.2.1
      have e77 : hv g' 77 k = hv h 77 k := cg.1.2.2.2.1 k
      refine r_X2_fieldAct_62 ki hG ⟨by have := cp.1.1; omega, ?_⟩
      rw [cp.2.1.2.2, w32_i (by omega) (by omega), e18]
      refine ⟨fun _ => ⟨hk1, by omega, hk1, by omega, fun h1 eh1 => ?_⟩, fun y => by omega⟩
      rw [e77] at eh1
      obtain ⟨cb, ebh, ebg⟩ := wcf_77 w cg (l_or (hv h 77 k) x1)
      rw [← eh1] at cb ebg
      have e1T : cT h1 L = cT g3 L := ebg.trans eT
      have o1 : o77 g' h1 := by rw [eh1]; exact o77_set _ _ _
      have fo1 : ∀ b, b ≠ 77 → fo h1 b = fo g' b := fun b hb => fo_eq (fun j => o1.2 b j hb)
      have v77 : hv h1 77 k = l_or (hv h 77 k) x1 := by rw [eh1, eq_a]
      have rg1 : ∀ s, 7 ≤ s → s < pNt L → bl x1 s = true → ubt h1 (uad h1 1 s (pY L k)) k = true := fun s s7 sn b => by
        rw [o77_u w (wcf_st cg).1 o1 (Or.inl (Or.inl ⟨rfl, ⟨s7, sn⟩, xf'.1, (fld s b (by omega)).2.1⟩))]
        exact rg s s7 sn b
      have leb : tle (cT h L) (cT h1 L) := by rw [ebg]; exact cg.1.2.2.2.2.1
      have hle : ∀ T : TB, rfx L k (cT h L 0 k) (cT h L 6 k 0) (ast (cT h L 0 k (7 + pDp L k))) x1 T → (∀ s, sb (cT h L 0 k (7 + pDp L k)) s → s ≠ 0 → isOf L s (pX L k) = true → GT L T k (nx L k) (ux (cT h L 0 k) (7 + pDp L k) (cT g3 L 1 s (pY L k))) (cT h L 6 k 0)) → ∀ T2 : TB, T2 = cT g3 L → T2 0 k = cT h L 0 k → T2 6 k 0 = cT h L 6 k 0 → CLz L T2 T k := by
        intro T rf gt T2 eT2 z0 z6
        rw [CL25 e, z0, z6, eT2]
        intro s hs
        refine ⟨fun y => rf.1 (by have h2 := hs.2.2; rw [y] at h2; exact h2), fun y1 y2 => rf.2 ⟨s, by have := hs.1; omega, by have := hs.2.1; omega, hs.2.2, ?_⟩, fun y1 y2 => gt s hs y1 y2⟩
        cases r : bl x1 s
        · rfl
        · have := ((bg s hs.1).mp r).2.2
          rw [y2] at this; cases this
      -- when nothing is made
      have idle : (∀ s, 0 ≤ s → bl x1 s = false) → Q 0 h1 := by
        intro none
        refine hQ h1 (WE_77 w ch (l_or (hv h 77 k) x1) (WE_rd w hk cb.1 cb.1 (by rw [ebh]; exact hr) (by rw [ebh]; exact t) (wkdC_rfl _ _) (tle_rfl _) (fun z0 z6 => hle _ cb.1.2.2.2.2.2.1.2 (fun s hs y1 y2 => ?_) _ e1T (by rw [z0, ebh]) (by rw [z6, ebh])) (fun z0 => reg h1 e1T rg1 (by rw [z0, ebh])) (by rw [v77]; exact use1 h1 leb) (fun z0 => by rw [v77]; exact use2 h1 leb (by rw [z0, ebh]))))
        have := (bg s hs.1).mpr ⟨hs.2.2, by have := hs.1; omega, y2⟩
        rw [none s hs.1] at this; cases this
      refine ⟨fun y => ?_, fun y => ⟨fun y2 => ?_, fun y2 => ⟨fun y3 => absurd e y3, fun _ => ?_⟩⟩⟩
      · rw [lc_z] at y
        exact idle (fun s s0 => by rw [y]; exact bl_zero s)
      · have y2' : ath (fo g' 136) = 0 := by rw [← fo1 136 (by decide)]; exact y2.2
        refine idle (fun s s0 => ?_)
        cases r : bl x1 s
        · rfl
        · obtain ⟨i1, -, gs⟩ := fld s r s0
          have le := (lb (fo g' 136)).mp (fle_rfl _) s ⟨i1.1, i1.2, r⟩
          exact absurd y2' (le (by rw [gs.2.2.2]; decide)).1
      · have na : ath (fo g' 136) ≠ 0 := fun z => y2 ⟨e, by rw [o1.2 136 0 (by decide)]; exact z⟩
        have gdv : fgd L (cT g3 L) (fo g' 136) := by
          rcases gd with z | z
          · exact absurd (congrArg ath z) na
          · exact z
        have ne : ∃ s, 7 ≤ s ∧ s < pNt L ∧ bl x1 s = true := by
          apply Classical.byContradiction
          intro z
          have := (lb fz).mpr (fun s hs => absurd ⟨s, hs⟩ z)
          exact absurd rfl (this na).1
        refine W_put (v := fo g' 136) hG w cb (by omega) (by decide) (by decide) (fo1 136 (by decide)) (by rw [e1T]; exact gdv) fun g4 c4 fr4 => ?_
        have sm : smC h1 g4 := sm_put (by omega) ((c4.1.1.1).trans (cb.1.1.1).symm) fr4
        have wd := smC_wkd w (wcf_st cb).1 sm
        have e43 : cT g4 L = cT g3 L := (smC_ext w (wcf_st cb).1 sm).trans e1T
        have v4 : hv g4 77 k = l_or (hv h 77 k) x1 := by rw [smC_hi sm (by omega), v77]
        have t4 := (wcf_st c4).2.2.2.1
        have le4 : tle (cT h L) (cT g4 L) := by rw [e43, ← e1T]; exact leb
        have hr4 : rch (cT g4 L) k := ath_le (le4 _ _ _) hr
        rw [show 8 + (pDp L k - 1) = 7 + pDp L k by omega] at c4
        refine W_nextG hG w upR c4 (by omega) (by omega) (fun U oU p q => (GT_lub lb ne).mpr (fun s hs => ?_)) fun g5 c5 ws5 wk5 le5 => hQ g5 (WE_77 w ch (l_or (hv h 77 k) x1) (WE_rd w hk c4.1 c5.1 (by rw [ebh]; exact hr) (by rw [ebh]; exact t) wk5 le5 (fun z0 z6 => hle _ c5.1.2.2.2.2.2.1.1.2 (fun s hs y1 y2 => (GT_lub lb ne).mp c5.1.2.2.2.2.2.1.2 s ?_) _ e43 (by rw [z0, ebh]) (by rw [z6, ebh])) (fun z0 => reg g4 e43 (fun s s7 sn b => wd.2.2.2.1 1 s (pY L k) (Or.inl (Or.inl ⟨rfl, ⟨s7, sn⟩, xf'.1, (fld s b (by omega)).2.1⟩)) k hk (rg1 s s7 sn b)) (by rw [z0, ebh])) (fun s s0 b => ?_) (fun z0 => ?_)))
        · obtain ⟨y1, y2, y3⟩ := (bg s (by omega)).mp hs.2.2
          have q2 := (CL25 e).mp (CL_dn t4 hr4 p q) s (sb_le (t.1 _ _ _) (le4 _ _ _) (sbx s (by omega) y1))
          have q3 := q2.2.2 (by omega) y3
          rw [e43] at q3
          exact GT_dn (lk := fz) (T := cT h L) (T' := cT g3 L) (by rw [← e43]; exact le4) q3
        · have b := (bg s hs.1).mpr ⟨hs.2.2, by have := hs.1; omega, y2⟩
          have := (fld s b hs.1).1
          exact ⟨this.1, this.2, b⟩
        · rw [c5.1.2.2.2.1 k, eq_a] at b
          exact use1 g4 le4 s s0 b
        · rw [c5.1.2.2.2.1 k, eq_a]
          exact use2 g4 le4 (by rw [z0, ebh])
    intro N
    induction N with
    | zero =>
      intro n g' m1 m2 m3 cg eT lb gd rg
      have en : n = pNt L := by omega
      subst en
      exact last g' cg eT lb gd rg
    | succ N ih =>
      intro n g' m1 m2 m3 cg eT lb gd rg
      by_cases en : n = pNt L
      · subst en
        exact last g' cg eT lb gd rg
      have cp := (wcf_st cg).1.1
      obtain ⟨r6, r8⟩ := CW_row (wcf_st cg).1 (show 0 ≤ n by omega) (by omega)
      refine r_X2_fieldAct_62 ki hG ⟨by have := cp.1.1; omega, ?_⟩
      rw [cp.2.1.2.2, w32_i (by omega) (by omega), l_bit (by omega) (by omega), r6, r8]
      refine ⟨fun y => by omega, fun _ => ⟨fun y => ⟨fun y2 => absurd e y2, fun _ => ⟨by omega, by omega, by omega, xf'.1, by omega, ?_⟩⟩, fun y x3 e3 => ?_⟩⟩
      · have b : bl x1 n = true := by
          cases r : bl x1 n
          · rw [r, if_neg (by decide)] at y
            exact absurd (lc_z.mpr rfl) y
          · rfl
        obtain ⟨i1, yn, gs⟩ := fld n b (by omega)
        have ea : hv g' (7 + n) (pY L k) = cad g' 1 n (pY L k) := rfl
        rw [ea]
        refine W_gather hG w (ath_le (cg.1.2.2.2.2.1 _ _ _) hr) cg (Or.inl ⟨rfl, i1, xf'.1, yn⟩) fun g4 c4 rg4 eT4 fo4 fr4 a4 x3 e3 => ?_
        rw [w32_i (by omega) (by omega)] at e3
        subst e3
        refine ih (n + 1) g4 (by omega) (by omega) (by omega) c4 (eT4.trans eT) (lub_1 (n := n) lb (fun s => ?_) (by rw [fo4, eT])) (Or.inr ?_) (fun s s7 sn bs' => ?_)
        · constructor
          · rintro ⟨y1, y2, y3⟩
            by_cases z : s = n
            · exact Or.inr z
            · exact Or.inl ⟨y1, by omega, y3⟩
          · rintro (⟨y1, y2, y3⟩ | z)
            · exact ⟨y1, by omega, y3⟩
            · rw [z]; exact ⟨m2, by omega, b⟩
        · rw [fo4, eT]
          exact fgd_join gd gs
        · by_cases z : s = n
          · rw [z]; exact rg4
          · obtain ⟨j1, jn, -⟩ := fld s bs' (by omega)
            exact a4.2.2.1.2.2.2.1 1 s (pY L k) (Or.inl (Or.inl ⟨rfl, j1, xf'.1, jn⟩)) k hk (rg s s7 (by omega) bs')
      · rw [w32_i (by omega) (by omega)] at e3
        subst e3
        have nb : ¬ bl x1 n = true := fun b => by
          rw [if_pos b] at y
          exact absurd (lc_z.mp y) (by decide)
        refine ih (n + 1) g' (by omega) (by omega) (by omega) cg eT (lub_n lb (fun s => ?_)) gd (fun s s7 sn b => rg s s7 ?_ b)
        · constructor
          · rintro ⟨y1, y2, y3⟩
            have : s ≠ n := fun z => nb (by rw [← z]; exact y3)
            exact ⟨y1, by omega, y3⟩
          · rintro ⟨y1, y2, y3⟩
            exact ⟨y1, by omega, y3⟩
        · have : s ≠ n := fun z => nb (by rw [← z]; exact b)
          omega
  intro x3 e3
  subst e3
  exact loop _ 7 g3 (Nat.le_refl _) (by decide) (by omega) c3 rfl (by rw [f3]; exact lub_0 (fun s hs => by omega)) (Or.inl f3) (fun s s7 sn b => by omega)
end FI
