/-! Part 51s: locks, what is thrown, casts in the component -/
theorem and_bit {y x : Int} (x0 : 0 ≤ x) (x1 : x < 32) : i_and y (i_shl 1 x) = 0 ↔ bi y x = false := by
  constructor
  · intro e
    have := congrArg (fun z => bi z x) e
    simp only [bi_and, bi_shl x0 x1 x0, bi_zero] at this
    simpa using this
  · intro e
    refine bi_ext (c32_i_and _ _) (by unfold c32; omega) (fun s s0 s1 => ?_)
    rw [bi_and, bi_shl x0 x1 s0, bi_zero]
    by_cases z : s = x
    · rw [z, e]; rfl
    · simp [z]
theorem lub_fs {x : Int} (cx : c64 x) (nz : x ≠ 0) : lub (fs x) (fun s => 0 ≤ s ∧ s < 64 ∧ bl x s = true) b1 := fun u => by
  rw [fs_le cx nz]
  exact ⟨fun p s hs => p s hs.1 hs.2.1 hs.2.2, fun p s s0 s1 b => p s ⟨s0, s1, b⟩⟩
section LO
variable {l : Launch} {G : JG} {h g : MH} {L : PG} {k M d : Int} {X : Int → FA} {lk : FA} {P : TB → Prop} {Q : Int → MH → Prop} {E : Nat → Int → MH → Prop}
/-- the work's locks are others -/
theorem wcf_lk {su pe : Int} (w : WF L) (c : wcf h g L k M X lk d P) (gd : fgd L (cT g L) (fk su pe)) : wcf h (hset (hset g 80 2 su) 80 3 pe) L k M X (fk su pe) d P := by
  obtain ⟨c1, c2, c3, ⟨c4, c5, c6, c9⟩, c7, c8⟩ := c
  have sm : smC g (hset (hset g 80 2 su) 80 3 pe) := smC_tr (smC_set (by unfold scw; omega)) (smC_set (by unfold scw; omega))
  have eT := smC_ext w c1.2.1.1 sm
  have hk := c2.1
  have e : ∀ b j, b ≠ 80 → hv (hset (hset g 80 2 su) 80 3 pe) b j = hv g b j := fun b j hb => by rw [ne_a hb, ne_a hb]
  refine ⟨AdK_ms w c1 sm, wkC_of (smC_fr sm) (fun j _ _ => e _ _ (by omega)) c2, ⟨fun j r => ?_, by rw [e 116 2 (by omega), e 116 3 (by omega)]; exact c3.2⟩, ⟨fun j v' => ?_, ?_, by rw [e 3 25 (by omega)]; exact c6, c9⟩, fun j v' => by rw [eT]; exact c7 j v', by rw [eT]; exact gd⟩
  · have rr := rel_rng w hk.1 hk.2 r
    rw [← c3.1 j r]
    exact fo_eq (fun i => e _ i (by omega))
  · have vr := vld_rng w hk c9 v'
    rw [← c4 j v']
    exact fo_eq (fun i => e _ i (by omega))
  · rw [ne_k (by decide), eq_a, eq_a]
theorem w_lock (hG : gO G = true) (w : WF L) (t : tiv L (cT h L)) (hr : rch (cT h L) k) (u : usI h L k) (c : wcf h g L k M (cT h L 0 k) (cT h L 6 k 0) (pDp L k) (fun _ => True)) (e : pOp L k = 34) (hQ : ∀ g', WE h g' L k → Q 0 g') : S_X2_threads l G [(2002, 3), (0, pOp L k), (0, pX L k)] g Q E := by
  have hk := c.2.1.1
  obtain ⟨mk, ops, xr, yr, x2, x7, x5, x47, xc, xa, xs, x19, xf, -, -, -, -, -, si, dp, -⟩ := w.k hk.1 hk.2
  have x7' := x7 (by omega)
  have pp : ppo L k = 0 := by unfold ppo; simp [e]
  have pu : ppu L k = 0 := by unfold ppu; simp [e]
  have fin : ∀ {g' : MH} {X' : Int → FA} {lk' : FA} {d' : Int} {P' : TB → Prop}, wcf h g' L k M X' lk' d' P' → (P' (cT g' L) → CLz L (cT h L) (cT g' L) k) → Q 0 g' := fun c f => hQ _ (WE_of w hk t hr u (AdK_w c.1 (fun _ p => f p) (fun _ _ _ q => q)) (by omega))
  have upT : ∀ U V : TB, tle U V → (fun _ : TB => True) U → (fun _ : TB => True) V := fun _ _ _ x => x
  have gk := tiv_lock t hr
  have csu : c32 (asu (cT h L 6 k 0)) := (fok_there gk.1 hr).2.2.2.2.2.2
  refine s_X2_threads rfl fun K ki => r_X2_threads_0 ki hG ?_
  intro x3 e3
  subst e3
  refine ⟨fun y => absurd e y, fun _ => ?_⟩
  have rest : ∀ (g1 : MH) (P' : TB → Prop), (∀ U V, tle U V → P' U → P' V) → wcf h g1 L k M (cT h L 0 k) (cT h L 6 k 0) (pDp L k) P' → (∀ U, P' U → bi (alb (cT h L 6 k 0)) (pX L k) = true → TS L U k (cT h L 0 k) 6 (cT h L 6 k 0)) →
      (((i_and (hv g1 80 2) (i_shl 1 (pX L k))) = 0 → (∀ h20, h20 = hset g1 80 2 (i_or (hv g1 80 2) (i_shl 1 (pX L k))) → (∀ h21, h21 = hset h20 80 3 (i_or (hv h20 80 3) (i_shl 1 (pX L k))) → S_X2_goOn l G [(2002, 3), (0, (w32 ((hv h21 3 17) + 1)))] h21 (fun _ h23 => Q 0 h23) E))) ∧ (¬ (i_and (hv g1 80 2) (i_shl 1 (pX L k))) = 0 → Q 0 g1)) := by
    intro g1 P' upP c1 th
    have e2 : hv g1 80 2 = asu (cT h L 6 k 0) := congrArg asu c1.2.2.2.1.2.1
    have e3 : hv g1 80 3 = alb (cT h L 6 k 0) := congrArg alb c1.2.2.2.1.2.1
    rw [e2, and_bit xr.1 (by omega)]
    refine ⟨fun y h20 e20 h21 e21 => ?_, fun y => ?_⟩
    · have e203 : hv h20 80 3 = alb (cT h L 6 k 0) := by rw [e20, ne_k (by decide)]; exact e3
      rw [e203, e20] at e21
      have s8 : su8 (i_or (asu (cT h L 6 k 0)) (i_shl 1 (pX L k))) := by
        intro x hx
        rw [bi_or, gk.2.2.1.1.2 x hx]
        by_cases x32 : x < 32
        · rw [bi_shl xr.1 (by omega) (by omega)]; simp; omega
        · rw [bi_hi (by omega)]; rfl
      have c2 := wcf_lk (su := i_or (asu (cT h L 6 k 0)) (i_shl 1 (pX L k))) (pe := i_or (alb (cT h L 6 k 0)) (i_shl 1 (pX L k))) w c1 (fgd_fk (c32_i_or _ _) s8 (c32_i_or _ _))
      rw [← e21] at c2
      exact W_next hG w t hr upP c2 (by omega) (by omega) (fun U _ q => ((CL34 e).mp q).1 y) fun g3 c3 _ => fin c3 (fun p => (CL34 e).mpr ⟨fun _ => p.2, th _ p.1⟩)
    · exact fin c1 (fun p => (CL34 e).mpr ⟨fun z => absurd z y, th _ p⟩)
  have e3 : hv g 80 3 = alb (cT h L 6 k 0) := congrArg alb c.2.2.2.1.2.1
  rw [e3, and_bit xr.1 (by omega)]
  refine ⟨fun y => rest g _ upT c (fun U _ z => by rw [y] at z; cases z), fun y => ?_⟩
  have y' : bi (alb (cT h L 6 k 0)) (pX L k) = true := by
    cases z : bi (alb (cT h L 6 k 0)) (pX L k)
    · exact absurd z y
    · rfl
  exact W_throw (s := 6) hG w t hr upT c (by decide) (by decide) (by decide) (fun U _ q => ((CL34 e).mp q).2 y') fun g1 c1 _ => rest g1 _ (fun U V p q => ⟨trivial, TS_up p q.2⟩) c1 (fun U p _ => p.2)
theorem w_unlock (hG : gO G = true) (w : WF L) (t : tiv L (cT h L)) (hr : rch (cT h L) k) (u : usI h L k) (c : wcf h g L k M (cT h L 0 k) (cT h L 6 k 0) (pDp L k) (fun _ => True)) (e : pOp L k = 35) (hQ : ∀ g', WE h g' L k → Q 0 g') : S_X2_threads l G [(2002, 3), (0, pOp L k), (0, pX L k)] g Q E := by
  have nn := w.n
  unfold WFn at nn
  have hk := c.2.1.1
  obtain ⟨mk, ops, xr, yr, x2, x7, x5, x47, xc, xa, xs, x19, xf, -, -, -, -, -, si, dp, -⟩ := w.k hk.1 hk.2
  have x7' := x7 (by omega)
  have pp : ppo L k = 0 := by unfold ppo; simp [e]
  have pu : ppu L k = 0 := by unfold ppu; simp [e]
  have fin : ∀ {g' : MH} {X' : Int → FA} {lk' : FA} {d' : Int} {P' : TB → Prop}, wcf h g' L k M X' lk' d' P' → (P' (cT g' L) → CLz L (cT h L) (cT g' L) k) → Q 0 g' := fun c f => hQ _ (WE_of w hk t hr u (AdK_w c.1 (fun _ p => f p) (fun _ _ _ q => q)) (by omega))
  have gk := tiv_lock t hr
  refine s_X2_threads rfl fun K ki => r_X2_threads_0 ki hG ?_
  intro x3 e3
  subst e3
  refine ⟨fun _ => ⟨fun y => absurd e y, fun _ => ?_⟩, fun y => by omega⟩
  obtain ⟨-, -, hM, cm, -⟩ := c.2.1
  have cm1 := cm.1.1
  have hm : inM L (pMo L k) := ⟨mk.1, mk.2.1⟩
  rw [hM, cm.2.1.1, ((wcf_st c).1.2.2.2.2.2.2.1 (pMo L k) mk.1 (by omega)).1]
  refine ⟨by omega, mk.1, by omega, ?_⟩
  have ef : fbi (i_shl 1 (pX L k)) = fv 0 0 (i_shl 1 (pX L k)) 0 := by
    unfold fbi
    rw [if_neg (ishl_ne xr.1 (by omega))]
  refine K_unlock hG w (wcf_st c) hm (c32_i_shl _ _) fun g0 a0 ws0 => ?_
  rw [ef] at a0
  have c0 := wcf_go w t hr (fun _ _ _ x => x) c a0 ws0 (fun U _ q => ((CL35 e).mp q).1)
  have up0 : ∀ U V : TB, tle U V → (True ∧ fle (fv 0 0 (i_shl 1 (pX L k)) 0) (U 15 (pMo L k) 0)) → (True ∧ fle (fv 0 0 (i_shl 1 (pX L k)) 0) (V 15 (pMo L k) 0)) := fun U V p q => ⟨trivial, fle_trans q.2 (p _ _ _)⟩
  have rest : ∀ (g1 : MH) (P' : TB → Prop), (∀ U V, tle U V → P' U → P' V) → wcf h g1 L k M (cT h L 0 k) (cT h L 6 k 0) (pDp L k) P' → (∀ U, P' U → fle (fv 0 0 (i_shl 1 (pX L k)) 0) (U 15 (pMo L k) 0) ∧ (bi (asu (cT h L 6 k 0)) (pX L k) = false → TS L U k (cT h L 0 k) 6 (cT h L 6 k 0))) →
      ((¬ (i_and (hv g1 80 3) (i_shl 1 (pX L k))) = 0 → (∀ h10, h10 = hset g1 80 2 (i_and (hv g1 80 2) (i_xor (i_shl 1 (pX L k)) (-1))) → (∀ h11, h11 = hset h10 80 3 (i_and (hv h10 80 3) (i_xor (i_shl 1 (pX L k)) (-1))) → S_X2_goOn l G [(2002, 3), (0, (w32 ((hv h11 3 17) + 1)))] h11 (fun _ h13 => Q 0 h13) E))) ∧ ((i_and (hv g1 80 3) (i_shl 1 (pX L k))) = 0 → Q 0 g1)) := by
    intro g1 P' upP c1 th
    have e2 : hv g1 80 2 = asu (cT h L 6 k 0) := congrArg asu c1.2.2.2.1.2.1
    have e3 : hv g1 80 3 = alb (cT h L 6 k 0) := congrArg alb c1.2.2.2.1.2.1
    rw [e2, e3, and_bit xr.1 (by omega)]
    refine ⟨fun y h20 e20 h21 e21 => ?_, fun y => ?_⟩
    · have y' : bi (alb (cT h L 6 k 0)) (pX L k) = true := by
        cases z : bi (alb (cT h L 6 k 0)) (pX L k)
        · exact absurd z y
        · rfl
      have e203 : hv h20 80 3 = alb (cT h L 6 k 0) := by rw [e20, ne_k (by decide)]; exact e3
      rw [e203, e20] at e21
      have s8 : su8 (i_and (asu (cT h L 6 k 0)) (i_xor (i_shl 1 (pX L k)) (-1))) := by
        intro x hx
        rw [bi_and, gk.2.2.1.1.2 x hx]; rfl
      have c2 := wcf_lk (su := i_and (asu (cT h L 6 k 0)) (i_xor (i_shl 1 (pX L k)) (-1))) (pe := i_and (alb (cT h L 6 k 0)) (i_xor (i_shl 1 (pX L k)) (-1))) w c1 (fgd_fk (c32_i_and _ _) s8 (c32_i_and _ _))
      rw [← e21] at c2
      exact W_next hG w t hr upP c2 (by omega) (by omega) (fun U _ q => ((CL35 e).mp q).2.1 y') fun g3 c3 _ => fin c3 (fun p => (CL35 e).mpr ⟨(th _ p.1).1, fun _ => p.2, (th _ p.1).2⟩)
    · exact fin c1 (fun p => (CL35 e).mpr ⟨(th _ p).1, (fun z => by rw [y] at z; cases z), (th _ p).2⟩)
  have e2 : hv g0 80 2 = asu (cT h L 6 k 0) := congrArg asu c0.2.2.2.1.2.1
  refine ⟨fun y => rest g0 _ up0 c0 (fun U p => ⟨p.2, fun z => absurd ((and_bit xr.1 (by omega)).mpr z) (by rw [e2] at y; exact y)⟩), fun y => ?_⟩
  rw [e2, and_bit xr.1 (by omega)] at y
  exact W_throw (s := 6) hG w t hr up0 c0 (by decide) (by decide) (by decide) (fun U _ q => ((CL35 e).mp q).2.2 y) fun g1 c1 _ => rest g1 _ (fun U V p q => ⟨up0 U V p q.1, TS_up p q.2⟩) c1 (fun U p => ⟨p.1.2, fun _ => p.2⟩)
/-- an object is thrown -/
theorem w_throw (hG : gO G = true) (w : WF L) (t : tiv L (cT h L)) (hr : rch (cT h L) k) (u : usI h L k) (c : wcf h g L k M (cT h L 0 k) (cT h L 6 k 0) (pDp L k) (fun _ => True)) (e : pOp L k = 32) (hQ : ∀ g', WE h g' L k → Q 0 g') :
    S_X2_take l G [(2002, 3), (8, 134)] g (fun z62 h63 => ((hv h63 3 0) ≠ 0) ∧ S_X12_ofClass l G [(2012, (hv h63 3 0)), (1, (hv h63 134 4)), (0, 1)] h63 (fun z64 h65 => (∀ x8_66 : Int, x8_66 = z64 → S_X2_refuse l G [(2002, 3), (8, 134), (1, x8_66)] h65 (fun _ h68 => (((lc x8_66 0) = 0 → Q 0 h68) ∧ (¬ (lc x8_66 0) = 0 → S_X2_hurl l G [(2002, 3), (1, x8_66)] h68 (fun _ h70 => Q 0 h70) E))) E)) E) E := by
  have nn := w.n
  unfold WFn at nn
  have hk := c.2.1.1
  obtain ⟨mk, ops, xr, yr, x2, x7, x5, x47, xc, xa, xs, x19, xf, -, -, -, -, -, si, dp, -⟩ := w.k hk.1 hk.2
  have pp : ppo L k = 1 := by unfold ppo; simp [e]
  have fin : ∀ {g' : MH} {X' : Int → FA} {lk' : FA} {d' : Int} {P' : TB → Prop}, wcf h g' L k M X' lk' d' P' → (P' (cT g' L) → CLz L (cT h L) (cT g' L) k) → Q 0 g' := fun c f => hQ _ (WE_of w hk t hr u (AdK_w c.1 (fun _ p => f p) (fun _ _ _ q => q)) (by omega))
  obtain ⟨cs, bs⟩ := tiv_sok t w 0 k (7 + pDp L k)
  have bt := tiv_slot (j := 7 + pDp L k) t hr (Or.inr ⟨by omega, by omega⟩)
  refine W_take hG w c (by omega) (Or.inl ⟨by decide, by decide⟩) fun g1 c1 f1 gd1 fr1 => ?_
  have ex : hv g1 134 4 = ast (cT h L 0 k (7 + pDp L k)) := congrArg ast f1
  have cp1 := (wcf_st c1).1.1
  refine ⟨by have := cp1.1.1; omega, ?_⟩
  rw [ex]
  refine c_ofClass hG w cp1 fun z3 fl3 x1 e1 => ?_
  subst e1
  have bg : ∀ s, 0 ≤ s → (bl x1 s = true ↔ bl (ast (cT h L 0 k (7 + pDp L k))) s = true ∧ 1 ≤ s ∧ isOf L s 1 = true) := by
    intro s s0
    rw [fl3.2 s s0]
    simp only [Bool.and_eq_true, decide_eq_true_eq]
    constructor
    · rintro ⟨⟨⟨y1, y2⟩, y3⟩, y4⟩
      exact ⟨y3, y1, y4⟩
    · rintro ⟨y1, y2, y3⟩
      exact ⟨⟨⟨y2, bs s s0 y1⟩, y1⟩, y3⟩
  have sbx : ∀ s, 0 ≤ s → bl (ast (cT h L 0 k (7 + pDp L k))) s = true → sb (cT h L 0 k (7 + pDp L k)) s := fun s s0 y => ⟨s0, by have := bs s s0 y; omega, y⟩
  have hle : ∀ T : TB, rfx L k (cT h L 0 k) (cT h L 6 k 0) (ast (cT h L 0 k (7 + pDp L k))) x1 T → tsX L k (cT h L 0 k) x1 (cT h L 6 k 0) T → CLz L (cT h L) T k := by
    intro T rf ts
    rw [CL32 e]
    intro s hs
    refine ⟨fun y => rf.1 (by have h2 := hs.2.2; rw [y] at h2; exact h2), fun y => ?_⟩
    by_cases o : isOf L s 1 = true
    · rw [if_pos o]
      exact ts s (by have := hs.1; omega) (by have := hs.2.1; omega) ((bg s hs.1).mpr ⟨hs.2.2, by have := hs.1; omega, o⟩)
    · rw [if_neg o]
      refine rf.2 ⟨s, by have := hs.1; omega, by have := hs.2.1; omega, hs.2.2, ?_⟩
      cases r : bl x1 s
      · rfl
      · exact absurd ((bg s hs.1).mp r).2.2 o
  refine W_refuse hG w t hr (fun _ _ _ x => x) c1 (Or.inr ⟨by decide, by decide⟩) ex (fun U _ q => ⟨fun y => ((CL32 e).mp q 0 (sbx 0 (by decide) y)).1 rfl, fun ⟨s, s1, s2, y1, y2⟩ => ?_⟩) fun g2 c2 ws2 => ⟨fun y => ?_, fun y => ?_⟩
  · have := ((CL32 e).mp q s (sbx s (by omega) y1)).2 (by omega)
    rw [if_neg (fun o => by have := (bg s (by omega)).mpr ⟨y1, s1, o⟩; rw [this] at y2; cases y2)] at this
    exact this
  · rw [lc_z] at y
    exact fin c2 (fun p => hle _ p.2 (fun s s1 s2 b => by rw [y, bl_zero] at b; cases b))
  · rw [lc_z] at y
    have b0 : bl x1 0 = false := by
      cases r : bl x1 0
      · rfl
      · have := ((bg 0 (by decide)).mp r).2.1; omega
    have gx : fgd L (cT g2 L) (fs x1) := ⟨fok_fs fl3.1, fun s s0 q => mkd_le c2.1.2.2.2.2.1 (bt.2.1 s s0 ((bg s s0).mp q).1), ⟨⟨mk_0 L, su8_0⟩, mk_0 L⟩, rfl⟩
    refine W_hurl hG w t hr (fun U V p q => ⟨trivial, rfx_up p q.2⟩) c2 b0 y gx (fun U _ q s s1 s2 b => ?_) fun g3 c3 _ => fin c3 (fun p => hle _ p.1.2 p.2)
    obtain ⟨y1, y2, y3⟩ := (bg s (by omega)).mp b
    have := ((CL32 e).mp q s (sbx s (by omega) y1)).2 (by omega)
    rw [if_pos y3] at this
    exact this
/-- a reference is cast -/
theorem w_cast (hG : gO G = true) (w : WF L) (t : tiv L (cT h L)) (hr : rch (cT h L) k) (u : usI h L k) (c : wcf h g L k M (cT h L 0 k) (cT h L 6 k 0) (pDp L k) (fun _ => True)) (e : pOp L k = 33) (hQ : ∀ g', WE h g' L k → Q 0 g') :
    S_X2_take l G [(2002, 3), (8, 134)] g (fun z71 h72 => ((hv h72 3 0) ≠ 0) ∧ S_X12_ofClass l G [(2012, (hv h72 3 0)), (1, (hv h72 134 4)), (0, pX L k)] h72 (fun z73 h74 => (∀ x10_75 : Int, x10_75 = (l_or z73 (l_and (hv h74 134 4) 1)) →
      (((lc (l_and (hv h74 134 4) (l_xor x10_75 (-1))) 0) = 0 → ((¬ (lc x10_75 0) = 0 → S_X4_sites l G [(2004, 134), (1, x10_75)] h74 (fun z76 h77 => S_X2_put l G [(2002, 3), (8, z76)] h77 (fun _ h79 => S_X2_goOn l G [(2002, 3), (0, (w32 ((hv h79 3 17) + 1)))] h79 (fun _ h81 => Q 0 h81) E) E) E) ∧ ((lc x10_75 0) = 0 → Q 0 h74))) ∧
      (¬ (lc (l_and (hv h74 134 4) (l_xor x10_75 (-1))) 0) = 0 → S_X2_hurl l G [(2002, 3), (1, 32)] h74 (fun _ h83 => ((¬ (lc x10_75 0) = 0 → S_X4_sites l G [(2004, 134), (1, x10_75)] h83 (fun z84 h85 => S_X2_put l G [(2002, 3), (8, z84)] h85 (fun _ h87 => S_X2_goOn l G [(2002, 3), (0, (w32 ((hv h87 3 17) + 1)))] h87 (fun _ h89 => Q 0 h89) E) E) E) ∧ ((lc x10_75 0) = 0 → Q 0 h83))) E)))) E) E := by
  have nn := w.n
  unfold WFn at nn
  have hk := c.2.1.1
  obtain ⟨mk, ops, xr, yr, x2, x7, x5, x47, xc, xa, xs, x19, xf, -, -, -, -, -, si, dp, -⟩ := w.k hk.1 hk.2
  have pp : ppo L k = 1 := by unfold ppo; simp [e]
  have pu : ppu L k = 1 := by unfold ppu; simp [e]
  have fin : ∀ {g' : MH} {X' : Int → FA} {lk' : FA} {d' : Int} {P' : TB → Prop}, wcf h g' L k M X' lk' d' P' → (P' (cT g' L) → CLz L (cT h L) (cT g' L) k) → Q 0 g' := fun c f => hQ _ (WE_of w hk t hr u (AdK_w c.1 (fun _ p => f p) (fun _ _ _ q => q)) (by omega))
  have upT : ∀ U V : TB, tle U V → (fun _ : TB => True) U → (fun _ : TB => True) V := fun _ _ _ x => x
  obtain ⟨cs, bs⟩ := tiv_sok t w 0 k (7 + pDp L k)
  have bt := tiv_slot (j := 7 + pDp L k) t hr (Or.inr ⟨by omega, by omega⟩)
  refine W_take hG w c (by omega) (Or.inl ⟨by decide, by decide⟩) fun g1 c1 f1 gd1 fr1 => ?_
  have ex : hv g1 134 4 = ast (cT h L 0 k (7 + pDp L k)) := congrArg ast f1
  have cp1 := (wcf_st c1).1.1
  refine ⟨by have := cp1.1.1; omega, ?_⟩
  rw [ex]
  refine c_ofClass hG w cp1 fun z3 fl3 x1 e1 => ?_
  rw [ex] at e1 ⊢
  have bg : ∀ s, 0 ≤ s → (bl x1 s = true ↔ bl (ast (cT h L 0 k (7 + pDp L k))) s = true ∧ (s = 0 ∨ isOf L s (pX L k) = true)) := by
    intro s s0
    rw [e1, bl_or, fl3.2 s s0, bl_and, bl_one s0]
    simp only [Bool.or_eq_true, Bool.and_eq_true, decide_eq_true_eq]
    constructor
    · rintro (⟨⟨⟨y1, y2⟩, y3⟩, y4⟩ | ⟨y1, y2⟩)
      · exact ⟨y3, Or.inr y4⟩
      · exact ⟨y1, Or.inl y2⟩
    · rintro ⟨y1, y2⟩
      by_cases z : s = 0
      · exact Or.inr ⟨y1, z⟩
      · exact Or.inl ⟨⟨⟨by omega, bs s s0 y1⟩, y1⟩, by rcases y2 with y | y; exact absurd y z; exact y⟩
  have cx1 : c64 x1 := by rw [e1]; exact c64_l_or _ _
  have sbx : ∀ s, 0 ≤ s → bl (ast (cT h L 0 k (7 + pDp L k))) s = true → sb (cT h L 0 k (7 + pDp L k)) s := fun s s0 y => ⟨s0, by have := bs s s0 y; omega, y⟩
  have bad : l_and (ast (cT h L 0 k (7 + pDp L k))) (l_xor x1 (-1)) = 0 ↔ ∀ s : Int, bl (ast (cT h L 0 k (7 + pDp L k))) s = true → bl x1 s = true := land_not
  have rest : ∀ (g2 : MH) (P' : TB → Prop), (∀ U V, tle U V → P' U → P' V) → wcf h g2 L k M (cT h L 0 k) (cT h L 6 k 0) (pDp L k - 1) P' → (∀ U, P' U → ∀ s, sb (cT h L 0 k (7 + pDp L k)) s → s ≠ 0 → isOf L s (pX L k) = false → TS L U k (cT h L 0 k) 5 (cT h L 6 k 0)) →
      ((¬ (lc x1 0) = 0 → S_X4_sites l G [(2004, 134), (1, x1)] g2 (fun z76 h77 => S_X2_put l G [(2002, 3), (8, z76)] h77 (fun _ h79 => S_X2_goOn l G [(2002, 3), (0, (w32 ((hv h79 3 17) + 1)))] h79 (fun _ h81 => Q 0 h81) E) E) E) ∧ ((lc x1 0) = 0 → Q 0 g2)) := by
    intro g2 P' upP c2 th
    refine ⟨fun y => c_sites hG ?_, fun y => ?_⟩
    · rw [lc_z] at y
      have c3 := wcf_fw (f := 134) (v := fs x1) w (by omega) c2
      have gx : fgd L (cT (fw g2 134 (fs x1)) L) (fs x1) := ⟨fok_fs cx1, fun s s0 q => mkd_le c3.1.2.2.2.2.1 (bt.2.1 s s0 ((bg s s0).mp q).1), ⟨⟨mk_0 L, su8_0⟩, mk_0 L⟩, rfl⟩
      have lb := lub_fs cx1 y
      have ne : ∃ s, 0 ≤ s ∧ s < 64 ∧ bl x1 s = true := l_some cx1 y
      refine W_put (v := fs x1) hG w c3 (by omega) (by decide) (by decide) (fo_fw0 rfl) gx fun g4 c4 _ => ?_
      rw [show 8 + (pDp L k - 1) = 7 + pDp L k by omega] at c4
      refine W_next hG w t hr upP c4 (by omega) (by omega) (fun U _ q => (GT_lub lb ne).mpr (fun s hs => ?_)) fun g5 c5 _ => fin c5 (fun p => (CL33 e).mpr (fun s hs => ⟨fun z => (GT_lub lb ne).mp p.2 s ⟨hs.1, by have := hs.2.1; omega, (bg s hs.1).mpr ⟨hs.2.2, z⟩⟩, th _ p.1 s hs⟩))
      obtain ⟨y1, y2⟩ := (bg s hs.1).mp hs.2.2
      exact ((CL33 e).mp q s (sbx s hs.1 y1)).1 y2
    · rw [lc_z] at y
      refine fin c2 (fun p => (CL33 e).mpr (fun s hs => ⟨fun z => ?_, th _ p s hs⟩))
      have := (bg s hs.1).mpr ⟨hs.2.2, z⟩
      rw [y, bl_zero] at this; cases this
  refine ⟨fun y => ?_, fun y => ?_⟩
  · rw [lc_z, bad] at y
    refine rest g1 _ upT c1 (fun U _ s hs z1 z2 => ?_)
    rcases ((bg s hs.1).mp (y s hs.2.2)).2 with z | z
    · exact absurd z z1
    · rw [z2] at z; cases z
  · rw [lc_z, bad] at y
    have ex5 : ∃ s, sb (cT h L 0 k (7 + pDp L k)) s ∧ s ≠ 0 ∧ isOf L s (pX L k) = false := by
      apply Classical.byContradiction
      intro no
      apply y
      have go : ∀ s : Int, 0 ≤ s → bl (ast (cT h L 0 k (7 + pDp L k))) s = true → bl x1 s = true := by
        intro s s0 b
        refine (bg s s0).mpr ⟨b, ?_⟩
        by_cases z : s = 0
        · exact Or.inl z
        · right
          cases r : isOf L s (pX L k)
          · exact absurd ⟨s, sbx s s0 b, z, r⟩ no
          · rfl
      intro s b
      by_cases s0 : 0 ≤ s
      · exact go s s0 b
      · rw [bl_neg (by omega)] at b ⊢
        exact go 0 (by omega) b
    obtain ⟨s, hs, z1, z2⟩ := ex5
    exact W_throw (s := 5) hG w t hr upT c1 (by decide) (by decide) (by decide) (fun U _ q => ((CL33 e).mp q s hs).2 z1 z2) fun g2 c2 _ => rest g2 _ (fun U V p q => ⟨trivial, TS_up p q.2⟩) c2 (fun U p _ _ _ _ => p.2)
end LO
