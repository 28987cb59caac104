/-! Part 38r: goOn: fields -/
set_option maxRecDepth 100000
/-- null, and sites that will not do, are thrown for; then on with C -/
def rfs2 (l : Launch) (G : JG) (E : Nat → Int → MH → Prop) (k all good : Int) (C : MH → Prop) (g : MH) : Prop :=
  (((lc (l_and all 1) 0) = 0 →
    (((lc (l_and (l_and all (l_xor good (-1))) (-2)) 0) = 0 → C g) ∧
    (¬ (lc (l_and (l_and all (l_xor good (-1))) (-2)) 0) = 0 → S_X9_toss l G [(2009, 396), (0, k), (0, 5)] g (fun _ h' => C h') E))) ∧
  (¬ (lc (l_and all 1) 0) = 0 →
    S_X9_toss l G [(2009, 396), (0, k), (0, 1)] g (fun _ h5 =>
    (((lc (l_and (l_and all (l_xor good (-1))) (-2)) 0) = 0 → C h5) ∧
    (¬ (lc (l_and (l_and all (l_xor good (-1))) (-2)) 0) = 0 → S_X9_toss l G [(2009, 396), (0, k), (0, 5)] h5 (fun _ h' => C h') E))) E))
theorem t_refuse {l : Launch} {G : JG} (hG : gO G = true) {h h2 : MH} {L : PG} {k : Int} (q : wrk h L k h2) {E : Nat → Int → MH → Prop} {all good : Int}
    (cn : bl all 0 = true → ∀ U, tbok U → tle (tT h L) U → CLz L U U k → TS L U k (U 0 k) 1 (U 6 k 0))
    (cs : ∀ s, 1 ≤ s → s < 64 → bl all s = true → bl good s = false → ∀ U, tbok U → tle (tT h L) U → CLz L U U k → TS L U k (U 0 k) 5 (U 6 k 0))
    {g : MH} {P : TB → Prop} (a : AdvC L k h g P) (up : ∀ U V, tle U V → P U → P V) {C : MH → Prop}
    (hC : ∀ h', AdvC L k h h' (fun U => P U ∧ (bl all 0 = true → TS L U k (tT h L 0 k) 1 (tT h L 6 k 0)) ∧ (∀ s, 1 ≤ s → s < 64 → bl all s = true → bl good s = false → TS L U k (tT h L 0 k) 5 (tT h L 6 k 0))) → C h') : rfs2 l G E k all good C g := by
  unfold rfs2
  refine opt_toss hG q a up _ 1 (by omega) (by omega) (fun z => ?_) (cont := fun g => (((lc (l_and (l_and all (l_xor good (-1))) (-2)) 0) = 0 → C g) ∧ (¬ (lc (l_and (l_and all (l_xor good (-1))) (-2)) 0) = 0 → S_X9_toss l G [(2009, 396), (0, k), (0, 5)] g (fun _ h' => C h') E))) (fun g1 a1 => ?_)
  · rw [lc_eq, and1] at z
    exact cn (by simpa using z)
  · refine opt_toss hG q a1 (fun U V p y => ⟨up U V p y.1, fun z => TS_up p (y.2 z)⟩) _ 5 (by omega) (by omega) (fun z U oU pU cz => ?_) (cont := C) (fun g2 a2 => hC g2 (AdvC_w a2 (fun _ p => ⟨p.1.1, fun y => p.1.2 (fun z => ?_), fun s s0 s1 y1 y2 => p.2 (fun z => ?_)⟩)))
    · rw [lc_eq, andn2] at z
      apply Classical.byContradiction
      intro no
      apply z
      intro s s0 s1 y
      cases r : bl good s
      · exact absurd (cs s s0 s1 y r U oU pU cz) no
      · rfl
    · rw [lc_eq, and1] at z
      rw [z] at y; cases y
    · rw [lc_eq, andn2] at z
      rw [z s s0 s1 y1] at y2; cases y2
/-- forward, but for what is used at the place -/
def AdvG (L : PG) (k : Int) (h h' : MH) (P : TB → Prop) : Prop := frA h h' ∧ flg h h' L ∧ tiv L (tT h' L) ∧ tle (tT h L) (tT h' L) ∧ P (tT h' L) ∧ (∀ U, tbok U → tle (tT h L) U → CLz L U U k → tle (tT h' L) U) ∧ (cgt h L → cgt h' L) ∧ (∀ j, j ≠ k → hv h' 471 j = hv h 471 j)
theorem AdvC.g {L : PG} {k : Int} {h h' : MH} {P : TB → Prop} (a : AdvC L k h h' P) : AdvG L k h h' P := ⟨a.1, a.2.1, a.2.2.1, a.2.2.2.1, a.2.2.2.2.1, a.2.2.2.2.2.1, a.2.2.2.2.2.2.1, fun j _ => a.2.2.2.2.2.2.2 j⟩
theorem us_T {h : MH} {L : PG} {k v : Int} : tT (hset h 471 k v) L = tT h L := tT_eq' (fun a j _ _ _ r => ne_a r)
theorem u_cgt {h : MH} {L : PG} {k v : Int} : cgt (hset h 471 k v) L ↔ cgt h L := by
  constructor
  · exact cgt_of (fun j => (ne_a (by omega)).symm) (fun j => (ne_a (by omega)).symm) (fun a j ha => (ne_a (by unfold za at ha; omega)).symm)
  · exact cgt_of (fun j => ne_a (by omega)) (fun j => ne_a (by omega)) (fun a j ha => ne_a (by unfold za at ha; omega))
theorem u_flg {h g : MH} {L : PG} {k v v' : Int} (f : flg h g L) : flg (hset h 471 k v) (hset g 471 k v') L := by
  unfold flg qui at *
  simp only [us_T, show ∀ (x : MH) (v j : Int), hv (hset x 471 k v) 472 j = hv x 472 j from fun x v j => ne_a (by omega), show ∀ (x : MH) (v j : Int), hv (hset x 471 k v) 458 j = hv x 458 j from fun x v j => ne_a (by omega), show ∀ (x : MH) (v j : Int), hv (hset x 471 k v) 396 j = hv x 396 j from fun x v j => ne_a (by omega)]
  exact f
theorem u_frA {h g : MH} {k v v' : Int} (f : frA h g) : frA (hset h 471 k v) (hset g 471 k v') := ⟨f.1, fun a j p1 p2 => by rw [ne_a (by omega), ne_a (by omega)]; exact f.2 a j p1 p2⟩
/-- what is used is set: the start of the work may be seen as if it had been so -/
theorem u_Adv {L : PG} {k v : Int} {h g : MH} {P : TB → Prop} (a : AdvC L k h g P) : AdvC L k (hset h 471 k v) (hset g 471 k v) P := by
  obtain ⟨a1, a2, a3, a4, a5, a6, a7, a8⟩ := a
  refine ⟨u_frA a1, u_flg a2, by rw [us_T]; exact a3, by rw [us_T, us_T]; exact a4, by rw [us_T]; exact a5, fun U oU p c => by rw [us_T] at p ⊢; exact a6 U oU p c, fun c => u_cgt.mpr (a7 (u_cgt.mp c)), fun j => ?_⟩
  rw [hv_set, hv_set, a8 j]
theorem u_back {L : PG} {k v : Int} {h g : MH} {P : TB → Prop} (a : AdvC L k (hset h 471 k v) g P) : AdvG L k h g P ∧ hv g 471 k = v := by
  obtain ⟨a1, a2, a3, a4, a5, a6, a7, a8⟩ := a
  have f2 : flg h g L := by
    unfold flg qui at *
    simp only [us_T, show ∀ j : Int, hv (hset h 471 k v) 472 j = hv h 472 j from fun j => ne_a (by omega), show ∀ j : Int, hv (hset h 471 k v) 458 j = hv h 458 j from fun j => ne_a (by omega), show ∀ j : Int, hv (hset h 471 k v) 396 j = hv h 396 j from fun j => ne_a (by omega)] at a2
    exact a2
  refine ⟨⟨⟨a1.1, fun a j p1 p2 => by rw [a1.2 a j p1 p2, ne_a (by omega)]⟩, f2, a3, by rw [us_T] at a4; exact a4, a5, fun U oU p c => a6 U oU (by rw [us_T]; exact p) c, fun c => a7 (u_cgt.mpr c), fun j hj => by rw [a8 j, ne_k hj]⟩, by rw [a8 k, eq_a]⟩
theorem u_wrk {h h2 : MH} {L : PG} {k v : Int} (q : wrk h L k h2) : wrk (hset h 471 k v) L k (hset h2 471 k v) := by
  obtain ⟨tf, w, mk, t, k0, k1, hr, s2, c2⟩ := q
  refine ⟨tf.of (ne_a (by omega)) (fun a j p1 p2 => ne_a (by omega)), w, mk.of (ne_a (by omega)) (fun j => ne_a (by omega)), by rw [us_T]; exact t, k0, k1, by rw [ne_a (by omega)]; exact hr, ⟨u_frA s2.1, fun a j p1 p2 => ?_, fun j p1 p2 => by rw [ne_a (by omega), ne_a (by omega)]; exact s2.2.2 j p1 p2⟩, ?_⟩
  · rw [hv_set, hv_set, s2.2.1 a j p1 p2]
  · rw [us_T]
    exact wsm_cur (fun a j ha => ne_a (by omega)) c2
theorem CL25 {L : PG} {T U : TB} {k : Int} (e : pOp L k = 25) : CLz L T U k ↔ ∀ s, sb (T 0 k (7 + pDp L k)) s → (s = 0 → TS L U k (T 0 k) 1 (T 6 k 0)) ∧ (s ≠ 0 → isOf L s (pX L k) = false → TS L U k (T 0 k) 5 (T 6 k 0)) ∧
    (s ≠ 0 → isOf L s (pX L k) = true → GT L U k (nx L k) (ux (T 0 k) (7 + pDp L k) (T 1 s (pY L k))) (T 6 k 0)) := by simp [CLz, Csz, Co, Ccz, e]
theorem CL26 {L : PG} {T U : TB} {k : Int} (e : pOp L k = 26) : CLz L T U k ↔ ∀ s, sb (T 0 k (6 + pDp L k)) s → (s = 0 → TS L U k (T 0 k) 1 (T 6 k 0)) ∧ (s ≠ 0 → isOf L s (pX L k) = false → TS L U k (T 0 k) 5 (T 6 k 0)) ∧
    (s ≠ 0 → isOf L s (pX L k) = true → fle (T 0 k (7 + pDp L k)) (U 1 s (pY L k)) ∧ GT L U k (nx L k) (T 0 k) (T 6 k 0)) := by simp [CLz, Csz, Co, Ccz, e]
/-- a class with fields is not the machine's; a site of it has so many -/
theorem blw_ge {L : PG} (w : WF L) : ∀ (n : Nat) (c d : Int), 0 ≤ c → c < 24 → 8 ≤ d → blw L n c d = true → 8 ≤ c ∧ pFc L d ≤ pFc L c ∧ ∀ f, 0 ≤ f → f < pFc L d → pFk L c f = pFk L d f
  | 0, c, d, h0, h1, h2, h => by
    unfold blw at h
    simp at h
    subst h
    exact ⟨h2, Int.le_refl _, fun _ _ _ => rfl⟩
  | n + 1, c, d, h0, h1, h2, h => by
    unfold blw at h
    by_cases e : c = d
    · subst e; exact ⟨h2, Int.le_refl _, fun _ _ _ => rfl⟩
    · rw [if_neg e] at h
      by_cases z : c ≤ 0
      · rw [if_pos z] at h; cases h
      · rw [if_neg z] at h
        have pc := w.c.2.1 c (by omega) h1
        have ih := blw_ge w n (pPa L c) d pc.1 (by omega) h2 h
        have fc := w.c.2.2.2.2.2.1 c (by omega) h1
        exact ⟨by omega, by omega, fun f f0 f1 => by rw [fc.2 f f0 (by omega)]; exact ih.2.2 f f0 f1⟩
theorem of_fld {L : PG} (w : WF L) {s x y : Int} (s0 : 1 ≤ s) (s1 : s < pNt L) (x0 : 0 ≤ x) (x1 : x < 24) (y0 : 0 ≤ y) (y1 : y < pFc L x) (h : isOf L s x = true) : 7 ≤ s ∧ 0 ≤ pSc L s ∧ y < nfs L s := by
  have x8 : 8 ≤ x := by
    by_cases c : x < 8
    · have := w.c.2.2.2.1 x x0 c; omega
    · omega
  have sc := w.sc s0 s1
  unfold isOf at h
  by_cases z : pSc L s < 0
  · rw [if_pos z] at h; simp at h; omega
  · rw [if_neg z] at h
    have b := blw_ge w 30 (pSc L s) x (by omega) (by omega) x8 h
    refine ⟨?_, by omega, ?_⟩
    · by_cases c : s < 7
      · have := w.s.1 s s0 c; omega
      · omega
    · unfold nfs; rw [if_neg z]; omega
/-- what is used at a place -/
def usd (L : PG) (T : TB) (k s : Int) : Prop := 1 ≤ s ∧
  ((pOp L k = 23 ∧ sb (T 0 k (6 + pDp L k)) s ∧ isarr L s (pX L k) ∧ ath (T 2 s 0) ≠ 0 ∧ 0 ≤ ahi (T 0 k (7 + pDp L k)) ∧ alo (T 0 k (7 + pDp L k)) < ahi (T 2 s 0)) ∨
   (pOp L k = 24 ∧ sb (T 0 k (5 + pDp L k)) s ∧ isarr L s (pX L k) ∧ ath (T 2 s 0) ≠ 0 ∧ 0 ≤ ahi (T 0 k (6 + pDp L k)) ∧ alo (T 0 k (6 + pDp L k)) < ahi (T 2 s 0)) ∨
   (pOp L k = 25 ∧ sb (T 0 k (7 + pDp L k)) s ∧ isOf L s (pX L k) = true) ∨ (pOp L k = 26 ∧ sb (T 0 k (6 + pDp L k)) s ∧ isOf L s (pX L k) = true))
/-- what a value put together stands for -/
def lub (v : FA) (I : Int → Prop) (f : Int → FA) : Prop := ∀ u, fle v u ↔ ∀ s, I s → fle (f s) u
theorem lub_0 {I : Int → Prop} {f : Int → FA} (h : ∀ s, ¬ I s) : lub fz I f := fun u => ⟨fun _ s hs => absurd hs (h s), fun _ => fle_fz u⟩
theorem lub_1 {I J : Int → Prop} {f : Int → FA} {v w : FA} {n : Int} (h : lub v I f) (hJ : ∀ s, J s ↔ (I s ∨ s = n)) (e : w = fjoin v (f n)) : lub w J f := by
  intro u
  rw [e, fjoin_le, h u]
  constructor
  · rintro ⟨p, q⟩ s hs
    rcases (hJ s).mp hs with r | r
    · exact p s r
    · rw [r]; exact q
  · intro p
    exact ⟨fun s hs => p s ((hJ s).mpr (Or.inl hs)), p n ((hJ n).mpr (Or.inr rfl))⟩
theorem lub_n {I J : Int → Prop} {f : Int → FA} {v : FA} (h : lub v I f) (hJ : ∀ s, J s ↔ I s) : lub v J f := fun u => by
  rw [h u]
  exact ⟨fun p s hs => p s ((hJ s).mp hs), fun p s hs => p s ((hJ s).mpr hs)⟩
/-- a flow with a value that stands for several is a flow with each -/
theorem GT_lub {L : PG} {U : TB} {k i x : Int} {X : Int → FA} {lk v : FA} {I : Int → Prop} {f : Int → FA} (h : lub v I f) (ne : ∃ s, I s) : GT L U k i (ux X x v) lk ↔ ∀ s, I s → GT L U k i (ux X x (f s)) lk := by
  constructor
  · intro p s hs
    exact GT_le (ux_le (fun _ => fle_rfl _) ((h v).mp (fle_rfl v) s hs)) (fle_rfl _) (tle_rfl _) p
  · intro p
    obtain ⟨s0, h0⟩ := ne
    refine ⟨(p s0 h0).1, fun j hj => ?_, (p s0 h0).2.2⟩
    unfold ux
    by_cases jx : j = x
    · rw [if_pos jx]
      refine (h _).mpr (fun s hs => ?_)
      have := (p s hs).2.1 j hj
      unfold ux at this
      rw [if_pos jx] at this
      exact this
    · rw [if_neg jx]
      have := (p s0 h0).2.1 j hj
      unfold ux at this
      rw [if_neg jx] at this
      exact this
theorem fgd_join {L : PG} {T : TB} {a b : FA} (ha : a = fz ∨ fgd L T a) (hb : fgd L T b) : fgd L T (fjoin a b) := by
  rcases ha with ha | ha
  · rw [ha, fjoin_zv hb.2.2.2]; exact hb
  · refine ⟨fjoin_ok ha.1 hb.1, fmk_join ha.2.1 hb.2.1, fmr_join ha.2.2.1 hb.2.2.1, ?_⟩
    unfold fjoin
    rw [if_neg (by rw [hb.2.2.2]; decide), if_neg (by rw [ha.2.2.2]; decide)]
    rfl
/-- what a made site holds -/
theorem t1_row {h : MH} {L : PG} {s f : Int} (hs : ath (tT h L 1 s f) ≠ 0) : tT h L 1 s f = hrw h (8 * s + f) ∧ inS L s ∧ hv h 472 s = 1 ∧ 0 ≤ f ∧ f < nfs L s := by
  change ath (t1 h L s f) ≠ 0 at hs
  have c := iff_b hs
  refine ⟨?_, c⟩
  show t1 h L s f = _
  unfold t1
  rw [iff_p c]; rfl
theorem nvl_72 {g : MH} (h : hv g 396 72 = 1) : nvl g = pld g := by unfold nvl; rw [if_neg (by omega)]
theorem t_field {l : Launch} {G : JG} (hG : gO G = true) {h h2 : MH} {L : PG} {k : Int} (q : wrk h L k h2) (e : pOp L k = 25 ∨ pOp L k = 26) {Q : Int → MH → Prop} {E : Nat → Int → MH → Prop}
    (hQ : ∀ h', AdvG L k h h' (fun U => CLz L (tT h L) U k) → (∀ s, 0 ≤ s → (bl (hv h' 471 k) s = true ↔ usd L (tT h L) k s)) → Q 0 h') : S_X9_field l G [(2009, 396), (0, k)] h2 (fun _ h' => Q 0 h') E := by
  have q' := q
  obtain ⟨tf, w, mk, t, k0, k1, hr, s2, c2⟩ := q'
  have nn := w.n
  unfold WFn at nn
  obtain ⟨mo, -, xr, yr, -, -, -, -, xc, -, -, -, yf, -, -, -, -, -, -, dp, -⟩ := w.k k0 k1
  have xc' := xc (by omega)
  have yf' := yf e
  have p0 : ppo L k = if pOp L k = 25 then 1 else 2 := by
    rcases e with e | e
    · rw [if_pos e]; unfold ppo; simp [e]
    · rw [if_neg (by omega)]; unfold ppo; simp [e]
  have p1 : ppu L k = if pOp L k = 25 then 1 else 0 := by
    rcases e with e | e
    · rw [if_pos e]; unfold ppu; simp [e]
    · rw [if_neg (by omega)]; unfold ppu; simp [e]
  have tf2 := frA_TF s2.1 tf
  refine s_X9_field rfl fun K ki => r_X9_field_0 ki hG ⟨tf2.ne, k0, by omega, ?_⟩
  intro op eop
  rw [tf2.op] at eop
  subst eop
  refine ⟨tf2.ne, k0, by omega, ?_⟩
  intro yy eyy
  rw [tf2.y] at eyy
  subst eyy
  intro x4 e4 x5 e5 x6 e6 x7 e7
  -- the loop and what follows: R the slot of the reference
  have main : ∀ (R : Int) (v4 v5 v6 v7 : Int) (g : MH), same h g → R = (if pOp L k = 25 then 7 + pDp L k else 6 + pDp L k) →
      cur L (pMo L k) g (tT h L 0 k) (tT h L 6 k 0) (R - 8) → (pOp L k = 26 → fv v4 v5 v6 v7 = tT h L 0 k (7 + pDp L k)) → ∀ x9 : Int, x9 = ast (tT h L 0 k R) → ∀ good : Int, flt (fun s => isOf L s (pX L k)) good 63 x9 → ∀ g1 : MH, g1 = hset g 396 72 0 →
      JW K 101 [(2009, 396), (0, k), (0, pOp L k), (0, pY L k), (0, v4), (0, v5), (0, v6), (1, v7), (5000, 0), (1, x9), (5000, 0), (1, good), (5000, 0), (0, 1), (5000, 0)] [] g1 := by
    intro R v4 v5 v6 v7 g sg eR cR vv x9 e9 good flg1 g1 eg1
    have R8 : 8 ≤ R ∧ R < 8 + pDp L k := by
      rcases e with e | e
      · rw [eR, if_pos e]; rw [if_pos e] at p0; omega
      · rw [eR, if_neg (by omega)]; rw [if_neg (by omega)] at p0; omega
    have gr := q.st R8.1 R8.2
    have skr := tiv_sok t w 0 k R
    have bg : ∀ s, 0 ≤ s → bl good s = (decide (1 ≤ s ∧ s < 63) && bl x9 s && isOf L s (pX L k)) := flg1.2
    have sbx : ∀ s, 0 ≤ s → bl x9 s = true → sb (tT h L 0 k R) s := fun s s0 y => by
      rw [e9] at y
      have := skr.2 s s0 y
      exact ⟨s0, by omega, y⟩
    have gsp : ∀ s, 0 ≤ s → bl good s = true → 1 ≤ s ∧ s < 63 ∧ sb (tT h L 0 k R) s ∧ isOf L s (pX L k) = true ∧ inS L s ∧ pY L k < nfs L s ∧ ath (tT h L 1 s (pY L k)) ≠ 0 := by
      intro s s0 y
      rw [bg s s0] at y
      simp at y
      have sx := sbx s s0 y.1.2
      have slt' := skr.2 s s0 sx.2.2
      have of' := of_fld w y.1.1.1 slt' xr.1 (by omega) yf'.1 yf'.2 y.2
      refine ⟨y.1.1.1, y.1.1.2, sx, y.2, ⟨of'.1, slt'⟩, of'.2.2, ?_⟩
      rcases t.2.1 0 k R s s0 sx.2.2 with z | z
      · omega
      · exact z.2.1 _ yf'.1 of'.2.2
    have ug : ∀ s, 0 ≤ s → (bl good s = true ↔ usd L (tT h L) k s) := by
      intro s s0
      constructor
      · intro y
        have := gsp s s0 y
        refine ⟨this.1, ?_⟩
        rcases e with e | e
        · rw [if_pos e] at eR; rw [eR] at this
          exact Or.inr (Or.inr (Or.inl ⟨e, this.2.2.1, this.2.2.2.1⟩))
        · rw [if_neg (by omega)] at eR; rw [eR] at this
          exact Or.inr (Or.inr (Or.inr ⟨e, this.2.2.1, this.2.2.2.1⟩))
      · rintro ⟨u1, u2⟩
        have : sb (tT h L 0 k R) s ∧ isOf L s (pX L k) = true := by
          rcases u2 with u | u | u | u
          · omega
          · omega
          · rw [eR, if_pos u.1]; exact u.2
          · rw [eR, if_neg (by omega)]; exact u.2
        rw [bg s s0, e9, this.1.2.2, this.2]
        have := this.1.2.1
        simp
        omega
    -- the loop
    have key : ∀ N : Nat, ∀ n : Int, ∀ g2 : MH, (63 - n).toNat ≤ N → 1 ≤ n → n ≤ 63 →
        AdvC L k h g2 (fun U => pOp L k = 26 → ∀ s, 1 ≤ s → s < n → bl good s = true → fle (tT h L 0 k (7 + pDp L k)) (U 1 s (pY L k))) →
        cur L (pMo L k) g2 (tT h L 0 k) (tT h L 6 k 0) (R - 8) →
        (pOp L k = 25 → tT g2 L = tT h L ∧ lub (nvl g2) (fun s => 1 ≤ s ∧ s < n ∧ bl good s = true) (fun s => tT h L 1 s (pY L k)) ∧ (nvl g2 = fz ∨ fgd L (tT h L) (nvl g2)) ∧ ((∃ s, 1 ≤ s ∧ s < n ∧ bl good s = true) → hv g2 396 72 = 1)) →
        JW K 101 [(2009, 396), (0, k), (0, pOp L k), (0, pY L k), (0, v4), (0, v5), (0, v6), (1, v7), (5000, 0), (1, x9), (5000, 0), (1, good), (5000, 0), (0, n), (5000, 0)] [] g2 := by
      have fin : ∀ g2 : MH, AdvC L k h g2 (fun U => pOp L k = 26 → ∀ s, 1 ≤ s → s < 63 → bl good s = true → fle (tT h L 0 k (7 + pDp L k)) (U 1 s (pY L k))) →
          cur L (pMo L k) g2 (tT h L 0 k) (tT h L 6 k 0) (R - 8) →
          (pOp L k = 25 → tT g2 L = tT h L ∧ lub (nvl g2) (fun s => 1 ≤ s ∧ s < 63 ∧ bl good s = true) (fun s => tT h L 1 s (pY L k)) ∧ (nvl g2 = fz ∨ fgd L (tT h L) (nvl g2)) ∧ ((∃ s, 1 ≤ s ∧ s < 63 ∧ bl good s = true) → hv g2 396 72 = 1)) →
          JW K 101 [(2009, 396), (0, k), (0, pOp L k), (0, pY L k), (0, v4), (0, v5), (0, v6), (1, v7), (5000, 0), (1, x9), (5000, 0), (1, good), (5000, 0), (0, 63), (5000, 0)] [] g2 := by
        intro g2 a c5 lv
        refine r_X9_field_101 ki hG ⟨fun _ => ⟨k0, by omega, fun gu egu => ?_⟩, fun z => by omega⟩
        -- from here on, as if what is used had been set from the start
        have qU := u_wrk (v := good) q
        have aU := u_Adv (v := good) a
        rw [← egu] at aU
        have TU : tT (hset h 471 k good) L = tT h L := us_T
        have Tgu : tT gu L = tT g2 L := by rw [egu]; exact us_T
        have cU : cur L (pMo L k) gu (tT h L 0 k) (tT h L 6 k 0) (R - 8) := by rw [egu]; exact wsm_cur (fun a j ha => ne_a (by omega)) c5
        have upU : ∀ U V : TB, tle U V → (pOp L k = 26 → ∀ s, 1 ≤ s → s < 63 → bl good s = true → fle (tT h L 0 k (7 + pDp L k)) (U 1 s (pY L k))) → (pOp L k = 26 → ∀ s, 1 ≤ s → s < 63 → bl good s = true → fle (tT h L 0 k (7 + pDp L k)) (V 1 s (pY L k))) := fun U V p y z s s0 s1 b => fle_trans (y z s s0 s1 b) (p _ _ _)
        have cn : bl x9 0 = true → ∀ U, tbok U → tle (tT (hset h 471 k good) L) U → CLz L U U k → TS L U k (U 0 k) 1 (U 6 k 0) := by
          intro y U oU pU cz
          rw [TU] at pU
          have sx := sb_le (t.1 _ _ _) (pU 0 k R) (sbx 0 (by omega) y)
          rcases e with e | e
          · rw [eR, if_pos e] at sx; exact ((CL25 e).mp cz 0 sx).1 rfl
          · rw [eR, if_neg (by omega)] at sx; exact ((CL26 e).mp cz 0 sx).1 rfl
        have cs : ∀ s, 1 ≤ s → s < 64 → bl x9 s = true → bl good s = false → ∀ U, tbok U → tle (tT (hset h 471 k good) L) U → CLz L U U k → TS L U k (U 0 k) 5 (U 6 k 0) := by
          intro s s0 s1 y1 y2 U oU pU cz
          rw [TU] at pU
          have sx0 := sbx s (by omega) y1
          have sx := sb_le (t.1 _ _ _) (pU 0 k R) sx0
          have io : isOf L s (pX L k) = false := by
            rw [bg s (by omega), y1] at y2
            have := sx0.2.1
            rw [decide_eq_true (show 1 ≤ s ∧ s < 63 by omega)] at y2
            simpa using y2
          rcases e with e | e
          · rw [eR, if_pos e] at sx; exact ((CL25 e).mp cz s sx).2.1 (by omega) io
          · rw [eR, if_neg (by omega)] at sx; exact ((CL26 e).mp cz s sx).2.1 (by omega) io
        -- the end
        have done : ∀ h' {P : TB → Prop}, AdvC L k (hset h 471 k good) h' (fun U => (P U ∧ (bl x9 0 = true → TS L U k (tT (hset h 471 k good) L 0 k) 1 (tT (hset h 471 k good) L 6 k 0)) ∧ (∀ s, 1 ≤ s → s < 64 → bl x9 s = true → bl good s = false → TS L U k (tT (hset h 471 k good) L 0 k) 5 (tT (hset h 471 k good) L 6 k 0)))) →
            (∀ U, P U → ∀ s, bl good s = true → 0 ≤ s → (pOp L k = 25 → GT L U k (nx L k) (ux (tT h L 0 k) (7 + pDp L k) (tT h L 1 s (pY L k))) (tT h L 6 k 0)) ∧ (pOp L k = 26 → fle (tT h L 0 k (7 + pDp L k)) (U 1 s (pY L k)) ∧ GT L U k (nx L k) (tT h L 0 k) (tT h L 6 k 0))) → Q 0 h' := by
          intro h' P b fP
          rw [TU] at b
          have ub := u_back (AdvC_w b (P' := fun U => CLz L (tT h L) U k) (fun _ p => ?_))
          · exact hQ h' ub.1 (fun s s0 => by rw [ub.2]; exact ug s s0)
          · have hx : ∀ s, sb (tT h L 0 k R) s → (s = 0 → TS L (tT h' L) k (tT h L 0 k) 1 (tT h L 6 k 0)) ∧ (s ≠ 0 → isOf L s (pX L k) = false → TS L (tT h' L) k (tT h L 0 k) 5 (tT h L 6 k 0)) ∧ (s ≠ 0 → isOf L s (pX L k) = true → bl good s = true) := by
              intro s sx
              have s0 := sx.1
              have s63 := sx.2.1
              refine ⟨fun z => p.2.1 (by have y := sx.2.2; rw [z] at y; rw [e9]; exact y), fun z z2 => p.2.2 s (by omega) (by omega) (by rw [e9]; exact sx.2.2) (by rw [bg s s0, z2]; simp), fun z z2 => ?_⟩
              rw [bg s s0, e9, sx.2.2, z2]
              simp
              omega
            rcases e with e | e
            · refine (CL25 e).mpr (fun s sx => ?_)
              have := hx s (by rw [eR, if_pos e]; exact sx)
              exact ⟨this.1, this.2.1, fun z z2 => (fP _ p.1 s (this.2.2 z z2) sx.1).1 e⟩
            · refine (CL26 e).mpr (fun s sx => ?_)
              have := hx s (by rw [eR, if_neg (by omega)]; exact sx)
              exact ⟨this.1, this.2.1, fun z z2 => (fP _ p.1 s (this.2.2 z z2) sx.1).2 e⟩
        refine ⟨fun z => ?_, fun z => ⟨fun z2 => ?_, fun z2 => ?_⟩⟩
        · rw [lc_eq] at z
          refine t_refuse hG qU cn cs aU upU (C := fun h' => Q 0 h') (fun h' b => done h' b (fun U pU s y s0 => ?_))
          rw [z, bl_zero] at y; cases y
        · have e26 : pOp L k = 26 := by omega
          have gne : ∃ s, 0 ≤ s ∧ bl good s = true := by
            rw [lc_eq] at z
            apply Classical.byContradiction
            intro no
            apply z
            rw [bl_eq0 flg1.1]
            intro s s0 s1
            cases r : bl good s
            · rfl
            · exact absurd ⟨s, s0, r⟩ no
          obtain ⟨sg0, sg1, sg2⟩ := gne
          refine w_flowOn hG qU aU upU (by omega) (by omega) (by omega) cU (by rw [eR, if_neg (by omega)]; rw [if_neg (by omega)] at p0 p1; omega) (fun j hj => fgd_le aU.2.2.2.1 (by rw [TU]; exact q.sl (vld_up hj (by omega)))) (fgd_le aU.2.2.2.1 (by rw [TU]; exact q.lk)) (fun U oU p cz => ?_) (fun h' b _ => ?_)
          · have pU : tle (tT h L) U := by have := tle_trans aU.2.2.2.1 p; rw [TU] at this; exact this
            have gp := gsp sg0 sg1 sg2
            rw [eR, if_neg (by omega)] at gp
            exact (((CL26 e26).mp (CL_dn t q.r pU cz) sg0 gp.2.2.1).2.2 (by omega) gp.2.2.2.1).2
          · refine t_refuse hG qU cn cs b (fun U V p y => ⟨upU U V p y.1, GT_up p y.2⟩) (C := fun h' => Q 0 h') (fun h'' b2 => done h'' b2 (fun U pU s y s0 => ⟨fun z3 => by omega, fun _ => ⟨pU.1 e26 s (by have := (gsp s s0 y).1; omega) (by have := (gsp s s0 y).2.1; omega) y, pU.2⟩⟩))
        · have e25 : pOp L k = 25 := by omega
          obtain ⟨T2e, lb, gz, h72⟩ := lv e25
          have gne : ∃ s, 1 ≤ s ∧ s < 63 ∧ bl good s = true := by
            rw [lc_eq] at z
            apply Classical.byContradiction
            intro no
            apply z
            rw [bl_eq0 flg1.1]
            intro s s0 s1
            cases r : bl good s
            · rfl
            · have := gsp s s0 r
              exact absurd ⟨s, this.1, this.2.1, r⟩ no
          have n72 : hv gu 396 72 = 1 := by rw [egu, ne_a (by omega)]; exact h72 gne
          have nv : pld gu = nvl g2 := by
            rw [nvl_72 (h72 gne), egu]
            unfold pld
            rw [ne_a (by omega), ne_a (by omega), ne_a (by omega), ne_a (by omega)]
          have gn : fgd L (tT h L) (nvl g2) := by
            rcases gz with y | y
            · exfalso
              obtain ⟨s, s0, s1, sy⟩ := gne
              have := (lb fz).mp (by rw [y]; exact fle_rfl _) s ⟨s0, s1, sy⟩
              exact (ath_le this (gsp s (by omega) sy).2.2.2.2.2.2) rfl
            · exact y
          rw [if_pos e25] at p0 p1 eR
          refine t_lay2 hG cU (by omega) (by omega) fun g3 s3 c3 => ?_
          rw [show 8 + (R - 8) = 7 + pDp L k by omega, show R - 8 + 1 = pDp L k by omega, show fv (hv gu 396 64) (hv gu 396 65) (hv gu 396 66) (hv gu 396 67) = pld gu from rfl, nv] at c3
          have a3 : AdvC L k (hset h 471 k good) g3 (fun U => pOp L k = 26 → ∀ s, 1 ≤ s → s < 63 → bl good s = true → fle (tT h L 0 k (7 + pDp L k)) (U 1 s (pY L k))) := AdvC_w (AdvC_tr aU (AdvC_same s3 aU.2.2.1) upU) (fun _ p => p.1)
          refine w_flowOn hG qU a3 upU (by omega) (by omega) (by omega) c3 (by omega) (gX_ux (fun j hj _ => fgd_le a3.2.2.2.1 (by rw [TU]; exact q.sl (vld_up hj (by omega)))) (fgd_le a3.2.2.2.1 (by rw [TU]; exact gn))) (fgd_le a3.2.2.2.1 (by rw [TU]; exact q.lk)) (fun U oU p cz => ?_) (fun h' b _ => ?_)
          · have pU : tle (tT h L) U := by have := tle_trans a3.2.2.2.1 p; rw [TU] at this; exact this
            refine (GT_lub lb gne).mpr (fun s hs => ?_)
            have gp := gsp s (by omega) hs.2.2
            rw [eR] at gp
            exact ((CL25 e25).mp (CL_dn t q.r pU cz) s gp.2.2.1).2.2 (by omega) gp.2.2.2.1
          · refine t_refuse hG qU cn cs b (fun U V p y => ⟨upU U V p y.1, GT_up p y.2⟩) (C := fun h' => Q 0 h') (fun h'' b2 => done h'' b2 (fun U pU s y s0 => ⟨fun _ => (GT_lub lb gne).mp pU.2 s ⟨(gsp s s0 y).1, (gsp s s0 y).2.1, y⟩, fun z3 => by omega⟩))
      intro N
      induction N with
      | zero =>
        intro n g2 n1 n2 n3 a c5 lv
        have : n = 63 := by omega
        subst this
        exact fin g2 a c5 lv
      | succ N ih =>
        intro n g2 n1 n2 n3 a c5 lv
        by_cases n63 : n = 63
        · subst n63; exact fin g2 a c5 lv
        · refine r_X9_field_101 ki hG ⟨fun z => by omega, fun _ => ⟨fun z => ?_, fun z => ?_⟩⟩
          · rw [lc_eq, l_bit (by omega) (by omega)] at z
            have gb : bl good n = true := bt2 z
            have gp := gsp n (by omega) gb
            intro x14 e14
            rw [w32_i (z := 8 * n) (by omega) (by omega), w32_i (by omega) (by omega)] at e14
            have lev := a.2.2.2.1
            have th2 : ath (tT g2 L 1 n (pY L k)) ≠ 0 := ath_le (lev _ _ _) gp.2.2.2.2.2.2
            have rw2 := t1_row th2
            have nf8 := nfs_le w gp.2.2.2.2.1
            refine ⟨fun z2 => ?_, fun z2 => ?_⟩
            · have e26 : pOp L k = 26 := by omega
              have gt7 := q.st (j := 7 + pDp L k) (by omega) (by rw [if_neg (by omega)] at p0; omega)
              have gvv := vv e26
              have gv7 : fgd L (tT g2 L) (fv v4 v5 v6 v7) := by rw [gvv]; exact fgd_le lev gt7
              obtain ⟨-, -, -, -, d1, d2, -⟩ := fok_there gv7.1 (by decide : (1 : Int) ≠ 0)
              refine t_joinHeld hG (by omega) (by omega) yf'.1 (by omega) (Or.inl rfl) d1 d2 (fun g5 p5 => ?_)
              rw [if_pos rfl] at p5
              intro n' en'
              rw [w32_i (by omega) (by omega)] at en'
              subst en'
              have b := Adv_held w a.2.2.1 gp.2.2.2.2.1 yf'.1 gp.2.2.2.2.2.1 rw2.2.2.1 gv7 p5
              have b' : AdvC L k g2 g5 (fun U => fle (tT h L 0 k (7 + pDp L k)) (U 1 n (pY L k))) := Adv_w b (fun _ p => by rw [← gvv]; exact p) (fun U oU p cz => by
                rw [gvv]
                have gpn := gp.2.2.1
                rw [eR, if_neg (by omega)] at gpn
                exact (((CL26 e26).mp (CL_dn t q.r (tle_trans lev p) cz) n gpn).2.2 (by omega) gp.2.2.2.1).1)
              refine ih _ _ (by omega) (by omega) (by omega) (AdvC_w (AdvC_tr a b' (fun U V p y z3 s s0 s1 sy => fle_trans (y z3 s s0 s1 sy) (p _ _ _))) (fun _ p z3 s s0 s1 sy => ?_)) (wsm'_cur ⟨fun x j q1 q2 => p5.2.1 x j (by omega) (by omega), fun j q1 => p5.2.2.1 j q1⟩ c5) (fun z3 => by omega)
              by_cases sn : s = n
              · rw [sn]; exact p.2
              · exact p.1 z3 s s0 (by omega) sy
            · have e25 : pOp L k = 25 := z2
              obtain ⟨T2e, lb, gz, h72⟩ := lv e25
              refine ⟨by omega, by omega, by omega, by omega, by omega, by omega, by omega, by omega, ?_⟩
              have rowv : fv (hv g2 473 x14) (hv g2 474 x14) (hv g2 475 x14) (hv g2 476 x14) = tT h L 1 n (pY L k) := by
                rw [← T2e, rw2.1, e14]; rfl
              refine t_addValue hG (fun g5 s5 k5 kx nv h1 => ?_)
              rw [rowv] at nv
              intro n' en'
              rw [w32_i (by omega) (by omega)] at en'
              subst en'
              have gT : fgd L (tT h L) (tT h L 1 n (pY L k)) := ⟨t.1 _ _ _, t.2.1 _ _ _, t.2.2.1 _ _ _, (fok_there (t.1 _ _ _) gp.2.2.2.2.2.2).1⟩
              refine ih _ _ (by omega) (by omega) (by omega) (AdvC_w (AdvC_tr a (AdvC_same s5 a.2.2.1) (fun U V p y z3 s s0 s1 sy => fle_trans (y z3 s s0 s1 sy) (p _ _ _))) (fun _ p z3 => by omega)) ?_ (fun _ => ⟨by rw [same_T s5]; exact T2e, lub_1 (n := n) lb (fun s => ?_) nv, Or.inr (by rw [nv]; exact fgd_join gz gT), fun _ => h1⟩)
              · refine ⟨fun j hj => ?_, ?_, ?_⟩
                · rw [← c5.1 j hj]; unfold cX
                  rw [kx 499 j (by omega) (by omega), kx 500 j (by omega) (by omega), kx 501 j (by omega) (by omega), kx 502 j (by omega) (by omega)]
                · rw [← c5.2.1]; unfold lkc_; rw [k5 62 (by omega) (by omega), k5 63 (by omega) (by omega)]
                · rw [k5 61 (by omega) (by omega)]; exact c5.2.2
              · constructor
                · rintro ⟨y1, y2, y3⟩
                  by_cases sn : s = n
                  · exact Or.inr sn
                  · exact Or.inl ⟨y1, by omega, y3⟩
                · rintro (⟨y1, y2, y3⟩ | y)
                  · exact ⟨y1, by omega, y3⟩
                  · rw [y]; exact ⟨by omega, by omega, gb⟩
          · rw [lc_eq, l_bit (by omega) (by omega)] at z
            have gb : bl good n = false := bf1 z
            intro n' en'
            rw [w32_i (by omega) (by omega)] at en'
            subst en'
            have ge : ∀ s, (1 ≤ s ∧ s < n + 1 ∧ bl good s = true) ↔ (1 ≤ s ∧ s < n ∧ bl good s = true) := by
              intro s
              constructor
              · rintro ⟨y1, y2, y3⟩
                by_cases sn : s = n
                · rw [sn, gb] at y3; cases y3
                · exact ⟨y1, by omega, y3⟩
              · rintro ⟨y1, y2, y3⟩
                exact ⟨y1, by omega, y3⟩
            refine ih _ _ (by omega) (by omega) (by omega) (AdvC_w a (fun _ p z3 s s0 s1 sy => ?_)) c5 (fun z3 => ?_)
            · have := (ge s).mp ⟨s0, s1, sy⟩
              exact p z3 s s0 this.2.1 sy
            · obtain ⟨T2e, lb, gz, h72⟩ := lv z3
              exact ⟨T2e, lub_n lb ge, gz, fun ⟨s, hs⟩ => h72 ⟨s, (ge s).mp hs⟩⟩
    have sg1 : same h g1 := by rw [eg1]; exact same_tr sg (same_set (by omega))
    have c1 : cur L (pMo L k) g1 (tT h L 0 k) (tT h L 6 k 0) (R - 8) := by
      refine ⟨fun j hj => ?_, ?_, ?_⟩
      · rw [← cR.1 j hj, eg1]; unfold cX
        rw [ne_a (by omega), ne_a (by omega), ne_a (by omega), ne_a (by omega)]
      · rw [← cR.2.1, eg1]; unfold lkc_; rw [ne_k (by omega), ne_k (by omega)]
      · rw [eg1, ne_k (by omega)]; exact cR.2.2
    have nz1 : nvl g1 = fz := by unfold nvl; rw [eg1, eq_a, if_pos rfl]
    refine key _ 1 g1 (Nat.le_refl _) (by omega) (by omega) (AdvC_w (AdvC_same sg1 t) (fun _ _ z3 s s0 s1 => by omega)) c1 (fun _ => ⟨same_T sg1, by rw [nz1]; exact lub_0 (fun s hs => by omega), Or.inl nz1, fun ⟨s, s0, s1, _⟩ => by omega⟩)
  refine ⟨fun z => ?_, fun z => ?_⟩
  · have e25 : pOp L k = 25 := by omega
    rw [if_pos e25] at p0
    refine t_pull hG c2 (by omega) (by omega) fun g s c p _ => ?_
    intro x9 e9
    have tg := frA_TF (same_tr s2 s).1 tf
    refine ⟨tg.ne, k0, by omega, ?_⟩
    rw [tg.x]
    have ex : x9 = ast (tT h L 0 k (7 + pDp L k)) := by rw [e9, ← p]; rfl
    refine t_of hG tg w (by rw [ex]; exact tiv_sok t w 0 k _) ?_
    intro good fl x11 e11
    refine ⟨by simp, ?_⟩
    intro h13 e13 x13 e13'
    subst e13'; subst e11
    exact main (7 + pDp L k) _ _ _ _ g (same_tr s2 s) (by rw [if_pos e25]) (by rw [show 7 + pDp L k - 8 = pDp L k - 1 by omega]; exact c) (fun z3 => by omega) x9 ex x11 fl h13 e13
  · rw [if_neg (by omega)] at p0
    refine t_pull hG c2 (by omega) (by omega) fun g s c p _ => ?_
    intro v4 ev4 v5 ev5 v6 ev6 v7 ev7
    refine t_pull hG c (by omega) (by omega) fun g' s' c' p' _ => ?_
    rw [show 7 + (pDp L k - 1) = 6 + pDp L k by omega] at p'
    intro x9 e9
    have sgg := same_tr (same_tr s2 s) s'
    have tg := frA_TF sgg.1 tf
    refine ⟨tg.ne, k0, by omega, ?_⟩
    rw [tg.x]
    have ex : x9 = ast (tT h L 0 k (6 + pDp L k)) := by rw [e9, ← p']; rfl
    refine t_of hG tg w (by rw [ex]; exact tiv_sok t w 0 k _) ?_
    intro good fl x11 e11
    refine ⟨by simp, ?_⟩
    intro h13 e13 x13 e13'
    subst e13'; subst e11
    exact main (6 + pDp L k) _ _ _ _ g' sgg (by rw [if_neg (by omega)]) (by rw [show 6 + pDp L k - 8 = pDp L k - 1 - 1 by omega]; exact c') (fun z3 => by rw [← p, ev4, ev5, ev6, ev7]; rfl) x9 ex x11 fl h13 e13
