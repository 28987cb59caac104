/-! Part 39c: locks, throws, calls, returns, threads, objects keep to facts (plain) -/
set_option maxRecDepth 100000
/-! locks -/
theorem s_lock {L : PG} {T : TB} {A A' : MA} {t k : Int} (g : wkg L T A t k) (e : pOp L k = 34) (fre : A 514 (pX L k) = -1)
    (same : ∀ a j, ¬ (a = 514 ∧ j = pX L k) → ¬ (a = 511 ∧ j = 30 * t + A 509 t - 1) → A' a j = A a j) (e511 : A' 511 (30 * t + A 509 t - 1) = k + 1) (e514 : A' 514 (pX L k) = t) : INV L T A' := by
  have tp := g.tp
  obtain ⟨mo, -, xr, -, x2, x7, -⟩ := g.1.1.k tp.1.1.1 tp.1.1.2
  have x8 := x7 (by omega)
  have lc8 := (g.1.1.m mo.1 mo.2.1).2.2.2.2.2.2.2.2.2.1
  have wt := g.1.2.1.1 k tp.1.1
  obtain ⟨n1, n2, n3, n4⟩ := nxt_ok g.1.1 tp.1.1 (by omega) (by omega) (by omega)
  have p1 : ppo L k = 0 := by unfold ppo; rw [if_neg (by omega), if_neg (by omega), if_neg (by omega), if_neg (by omega), if_neg (by omega)]
  have p2 : ppu L k = 0 := by unfold ppu; rw [if_neg (by omega), if_neg (by omega), if_neg (by omega)]
  have cl := g.c.2.2.2.2.2.2.2.2.1 e
  have t0 := g.n
  have na : bi (asu (T 6 k 0)) (pX L k) = false := by
    cases r : bi (asu (T 6 k 0)) (pX L k)
    · rfl
    · have := (tp.2.2.2.2 _ xr.1 (by omega)).1 r; omega
  have fl := (cl.1 na).2
  rw [n3] at fl
  have d1 : pDp L (k + 1) = pDp L k := by omega
  have s513 : ∀ j, A' 513 j = A 513 j := fun j => same 513 j (by omega) (by omega)
  have oth : ∀ y, y ≠ pX L k → A' 514 y = A 514 y := fun y ne => same 514 y (by omega) (by omega)
  obtain ⟨ct, I, t0', t1', lv, ek⟩ := g
  refine mv ct I t0' t1' lv n1 fl (by rw [ek]; exact n2) (fun a j p q _ => same a j (by omega) (by omega)) e511 (by rw [same 512 _ (by omega) (by omega), tp.2.1, d1]) (fun s hs => ?_) ⟨(by decide : (1 : Int) ≠ 0), fun y y0 y1 => ⟨fun r => ?_, fun r => ?_⟩⟩ (fun y y0 y1 t' b0 ne => ?_) (fun y y0 y1 r => ?_) (fun y y0 y1 => ?_)
  · have rg := rel_rng ct.1 n1.1 n1.2 hs
    rw [s513]
    unfold rel at hs
    rw [n2, d1] at hs
    have := tp.2.2.1 s hs
    rcases hs with hs | hs
    · rw [kd_l (by omega)] at this ⊢
      rw [n2]; exact this
    · rw [kd_s hs.1] at this ⊢
      rw [wt.1 (by omega) (by omega) (by omega) _ (by omega) (by omega)]; exact this
  · have r' : bi (i_or (asu (T 6 k 0)) (i_shl 1 (pX L k))) y = true := r
    rw [bi_or, bi_shl xr.1 (by omega) y0, Bool.or_eq_true] at r'
    by_cases ey : y = pX L k
    · rw [ey]; exact e514
    · rcases r' with r' | r'
      · rw [oth y ey]; exact (tp.2.2.2.2 y y0 y1).1 r'
      · exact absurd (of_decide_eq_true r') ey
  · show bi (i_or (alb (T 6 k 0)) (i_shl 1 (pX L k))) y = true
    rw [bi_or, bi_shl xr.1 (by omega) y0, Bool.or_eq_true]
    by_cases ey : y = pX L k
    · exact Or.inr (decide_eq_true ey)
    · rw [oth y ey] at r
      exact Or.inl ((tp.2.2.2.2 y y0 y1).2 r)
  · by_cases ey : y = pX L k
    · rw [ey, e514, fre]; exact ⟨fun z => by omega, fun z => by omega⟩
    · rw [oth y ey]
  · refine Or.inl ?_
    by_cases ey : y = pX L k
    · rw [ey]; exact e514
    · rw [oth y ey]; exact r
  · by_cases ey : y = pX L k
    · rw [ey]; exact Or.inr (Or.inl e514)
    · exact Or.inl (oth y ey)
theorem s_unlock {L : PG} {T : TB} {A A' : MA} {t k : Int} (g : wkg L T A t k) (e : pOp L k = 35) (hld : A 514 (pX L k) = t)
    (same : ∀ a j, ¬ (a = 514 ∧ j = pX L k) → ¬ (a = 511 ∧ j = 30 * t + A 509 t - 1) → A' a j = A a j) (e511 : A' 511 (30 * t + A 509 t - 1) = k + 1) (e514 : A' 514 (pX L k) = -1) : INV L T A' := by
  have tp := g.tp
  obtain ⟨mo, -, xr, -, x2, x7, -⟩ := g.1.1.k tp.1.1.1 tp.1.1.2
  have x8 := x7 (by omega)
  have lc8 := (g.1.1.m mo.1 mo.2.1).2.2.2.2.2.2.2.2.2.1
  have wt := g.1.2.1.1 k tp.1.1
  obtain ⟨n1, n2, n3, n4⟩ := nxt_ok g.1.1 tp.1.1 (by omega) (by omega) (by omega)
  have p1 : ppo L k = 0 := by unfold ppo; rw [if_neg (by omega), if_neg (by omega), if_neg (by omega), if_neg (by omega), if_neg (by omega)]
  have p2 : ppu L k = 0 := by unfold ppu; rw [if_neg (by omega), if_neg (by omega), if_neg (by omega)]
  have cl := g.c.2.2.2.2.2.2.2.2.2 e
  have t0 := g.n
  have fl := (cl.2.1 ((tp.2.2.2.2 _ xr.1 (by omega)).2 hld)).2
  rw [n3] at fl
  have d1 : pDp L (k + 1) = pDp L k := by omega
  have s513 : ∀ j, A' 513 j = A 513 j := fun j => same 513 j (by omega) (by omega)
  have oth : ∀ y, y ≠ pX L k → A' 514 y = A 514 y := fun y ne => same 514 y (by omega) (by omega)
  obtain ⟨ct, I, t0', t1', lv, ek⟩ := g
  refine mv ct I t0' t1' lv n1 fl (by rw [ek]; exact n2) (fun a j p q _ => same a j (by omega) (by omega)) e511 (by rw [same 512 _ (by omega) (by omega), tp.2.1, d1]) (fun s hs => ?_) ⟨(by decide : (1 : Int) ≠ 0), fun y y0 y1 => ⟨fun r => ?_, fun r => ?_⟩⟩ (fun y y0 y1 t' b0 ne => ?_) (fun y y0 y1 r => ?_) (fun y y0 y1 => ?_)
  · have rg := rel_rng ct.1 n1.1 n1.2 hs
    rw [s513]
    unfold rel at hs
    rw [n2, d1] at hs
    have := tp.2.2.1 s hs
    rcases hs with hs | hs
    · rw [kd_l (by omega)] at this ⊢
      rw [n2]; exact this
    · rw [kd_s hs.1] at this ⊢
      rw [wt.1 (by omega) (by omega) (by omega) _ (by omega) (by omega)]; exact this
  · have r' : bi (i_and (asu (T 6 k 0)) (i_xor (i_shl 1 (pX L k)) (-1))) y = true := r
    rw [bi_andn, bi_shl xr.1 (by omega) y0, Bool.and_eq_true] at r'
    by_cases ey : y = pX L k
    · exfalso
      have := r'.2
      rw [ey] at this
      simp at this
    · rw [oth y ey]; exact (tp.2.2.2.2 y y0 y1).1 r'.1
  · show bi (i_and (alb (T 6 k 0)) (i_xor (i_shl 1 (pX L k)) (-1))) y = true
    have ey : y ≠ pX L k := fun ey => by rw [ey, e514] at r; omega
    rw [bi_andn, bi_shl xr.1 (by omega) y0, Bool.and_eq_true]
    rw [oth y ey] at r
    exact ⟨(tp.2.2.2.2 y y0 y1).2 r, by simp [ey]⟩
  · by_cases ey : y = pX L k
    · rw [ey, e514, hld]; exact ⟨fun z => by omega, fun z => by omega⟩
    · rw [oth y ey]
  · by_cases ey : y = pX L k
    · refine Or.inr ?_
      rw [ek, ey]
      exact (cl.1 (by decide : (1 : Int) ≠ 0)).2.2.2.1 (pX L k) (by show bi (i_shl 1 (pX L k)) (pX L k) = true; rw [bi_shl xr.1 (by omega) xr.1]; simp)
    · exact Or.inl (by rw [oth y ey]; exact r)
  · by_cases ey : y = pX L k
    · rw [ey]; exact Or.inr (Or.inr e514)
    · exact Or.inl (oth y ey)
/-! throws -/
/-- a site is being thrown in the last call of a thread -/
def rsg (L : PG) (T : TB) (A : MA) (t s : Int) (lk : FA) : Prop := (INVx L T A t ∧ 0 ≤ t ∧ t < bgn A ∧ A 508 t = 0) ∧ (1 ≤ A 509 t ∧ A 509 t ≤ 30 ∧ frms L T A t (A 509 t)) ∧ (inP L (A 511 (30 * t + A 509 t - 1)) ∧ rch T (A 511 (30 * t + A 509 t - 1))) ∧
  (∀ x, 0 ≤ x → x < pLc L (pMo L (A 511 (30 * t + A 509 t - 1))) → gm A (pLk L (pMo L (A 511 (30 * t + A 509 t - 1))) x) (T 0 (A 511 (30 * t + A 509 t - 1)) x) (A 513 (16 * (30 * t + A 509 t - 1) + x))) ∧ TS L T (A 511 (30 * t + A 509 t - 1)) (T 0 (A 511 (30 * t + A 509 t - 1))) s lk ∧ lkok A t lk
theorem wkg_rsg {L : PG} {T : TB} {A : MA} {t k s : Int} (g : wkg L T A t k) (ts : TS L T k (T 0 k) s (T 6 k 0)) : rsg L T A t s (T 6 k 0) := by
  have lc := fun {x : Int} => g.lc (s := x)
  have tp := g.tp
  obtain ⟨ct, I, t0, t1, lv, e⟩ := g
  obtain ⟨n1, n30, fr, -⟩ := (I.2.2.2.2 t t0 t1).2 lv
  unfold rsg
  rw [e]
  exact ⟨⟨I.x t, t0, t1, lv⟩, ⟨n1, n30, fr⟩, tp.1, fun x x0 x1 => lc x0 x1, ts, tp.2.2.2⟩
/-- it is caught -/
theorem hu_1 {L : PG} {T : TB} {A A' : MA} {t s v : Int} {lk : FA} (ct : CT L T) (r : rsg L T A t s lk) (s1 : 1 ≤ s) (s2 : s < 63) (ov : oref A v) (sv : sit A v = s) (h0 : 0 ≤ hnd L (A 511 (30 * t + A 509 t - 1)) s) (same : onf A A' t)
    (e511 : A' 511 (30 * t + A 509 t - 1) = pFi L (pMo L (A 511 (30 * t + A 509 t - 1))) + pHa L (pMo L (A 511 (30 * t + A 509 t - 1))) (hnd L (A 511 (30 * t + A 509 t - 1)) s) 2) (e512 : A' 512 (30 * t + A 509 t - 1) = 1)
    (e513 : ∀ x, 0 ≤ x → x < 16 → A' 513 (16 * (30 * t + A 509 t - 1) + x) = if x = 8 then v else A 513 (16 * (30 * t + A 509 t - 1) + x)) : INV L T A' := by
  obtain ⟨⟨I, t0, t1, lv⟩, ⟨n1, n30, fr⟩, ⟨hk, rk⟩, lc, ts, lo⟩ := r
  have mo := (ct.1.k hk.1 hk.2).1
  have wm := ct.1.m mo.1 mo.2.1
  obtain ⟨-, -, -, -, -, -, -, -, -, lc8, -, -, -, hn0, hn4, -, -, fi0, fi1, fim, -, hh⟩ := wm
  have hl := frm_lt _ _ _ h0
  have hb := hh (hnd L (A 511 (30 * t + A 509 t - 1)) s) h0 (by unfold hnd at *; omega)
  have mq := fim _ hb.2.2.2.1 hb.2.2.2.2.1
  have hq : inP L (pFi L (pMo L (A 511 (30 * t + A 509 t - 1))) + pHa L (pMo L (A 511 (30 * t + A 509 t - 1))) (hnd L (A 511 (30 * t + A 509 t - 1)) s) 2) := ⟨by omega, by omega⟩
  have dq := hb.2.2.2.2.2.2.2
  have sk := ct.2.1.2 (pMo L (A 511 (30 * t + A 509 t - 1))) (hnd L (A 511 (30 * t + A 509 t - 1)) s) ⟨mo.1, mo.2.1⟩ h0 (by unfold hnd at *; omega)
  have fl := ts.2.2 h0
  have s514 : ∀ x, A' 514 x = A 514 x := fun x => same 514 x (by omega) (by omega)
  refine mvx ct I t0 t1 lv n1 n30 fr hq fl mq (fun a j _ p q => same a j p q) e511 (by rw [e512, dq]) (fun x hx => ?_) ⟨lo.1, fun x x0 x1 => by rw [s514]; exact lo.2 x x0 x1⟩ (fun x _ _ t' _ _ => by rw [s514]) (fun x _ _ y => Or.inl (by rw [s514]; exact y)) (fun x _ _ => Or.inl (s514 x))
  have rg := rel_rng ct.1 hq.1 hq.2 hx
  rw [e513 x rg.1 rg.2]
  unfold ux
  unfold rel at hx
  rw [mq, dq] at hx
  by_cases e8 : x = 8
  · rw [if_pos e8, if_pos e8, kd_s (by omega), show x - 8 = 0 by omega, sk, gm_r rfl]
    refine ⟨(by decide : (1 : Int) ≠ 0), ov, ?_⟩
    show bl (l_shl 1 s) (sit A v) = true
    rw [sv, bl_shl (by omega) (by omega) (by omega)]; simp
  · rw [if_neg e8, if_neg e8]
    have hx' : 0 ≤ x ∧ x < pLc L (pMo L (A 511 (30 * t + A 509 t - 1))) := by omega
    rw [kd_l (by omega), mq]
    exact lc x hx'.1 hx'.2
/-- who waits for the call is thrown at -/
theorem hu_2 {L : PG} {T : TB} {A A' : MA} {t s : Int} {lk : FA} (ct : CT L T) (r : rsg L T A t s lk) (s1 : 1 ≤ s) (s2 : s < 63) (h0 : hnd L (A 511 (30 * t + A 509 t - 1)) s < 0) (n2 : 2 ≤ A 509 t)
    (same : ∀ a j, ¬ (a = 509 ∧ j = t) → A' a j = A a j) (e509 : A' 509 t = A 509 t - 1) : rsg L T A' t s (lke T (A 511 (30 * t + A 509 t - 2)) (pMo L (A 511 (30 * t + A 509 t - 1)))) := by
  obtain ⟨⟨I, t0, t1, lv⟩, ⟨n1, n30, fr⟩, ⟨hk, rk⟩, lc, ts, lo⟩ := r
  have fm := fr (A 509 t - 2) (by omega) (by omega)
  rw [show 30 * t + (A 509 t - 2) = 30 * t + A 509 t - 2 by omega] at fm
  obtain ⟨⟨hk', rk'⟩, o, de, vl, cl, lkm⟩ := fm
  rw [show 30 * t + A 509 t - 2 + 1 = 30 * t + A 509 t - 1 by omega] at cl lkm
  obtain ⟨s0, cl⟩ := cl
  have z := (ct.2.2.2.2 _ hk' rk').2.2.1 o s0 _ cl
  have un := ts.2.1 h0
  have sb14 : sb (T 14 (pMo L (A 511 (30 * t + A 509 t - 1))) 0) s := by
    refine ⟨by omega, s2, (un.1 (by decide : (1 : Int) ≠ 0)).2.2.2.2.1 s ?_⟩
    show bl (l_shl 1 s) s = true
    rw [bl_shl (by omega) (by omega) (by omega)]; simp
  have ts' := z.2.2.2.1 s sb14
  have s511 : ∀ j, A' 511 j = A 511 j := fun j => same 511 j (by omega)
  have s512 : ∀ j, A' 512 j = A 512 j := fun j => same 512 j (by omega)
  have s513 : ∀ j, A' 513 j = A 513 j := fun j => same 513 j (by omega)
  have s514 : ∀ j, A' 514 j = A 514 j := fun j => same 514 j (by omega)
  have s508 : ∀ j, A' 508 j = A 508 j := fun j => same 508 j (by omega)
  have s396 : ∀ j, A' 396 j = A 396 j := fun j => same 396 j (by omega)
  have hb : bgn A' = bgn A := s396 83
  have hn : nob A' = nob A := s396 91
  have g : grw A A' := ⟨by omega, fun o _ _ => same 515 o (by omega)⟩
  have eq1 : 30 * t + A' 509 t - 1 = 30 * t + A 509 t - 2 := by rw [e509]; omega
  have fme : ∀ t' f, fmid L T A t' f → fmid L T A' t' f := by
    intro t' f q
    unfold fmid at *
    rw [s511, s511, s512]
    exact ⟨q.1, q.2.1, q.2.2.1, fun x hx => by rw [s513]; exact gm_up g (q.2.2.2.1 x hx), q.2.2.2.2.1, fun x x0 x1 y1 y2 => by rw [s514]; exact q.2.2.2.2.2 x x0 x1 y1 y2⟩
  unfold rsg
  rw [eq1, s511]
  refine ⟨⟨⟨by rw [hb]; exact I.1, ?_, ?_, ?_, ?_⟩, t0, by rw [hb]; exact t1, by rw [s508]; exact lv⟩, ⟨by omega, by omega, ?_⟩, ⟨hk', rk'⟩, ?_, ts', ?_⟩
  · refine ⟨by rw [hn]; exact I.2.1.1, by rw [hn]; exact I.2.1.2.1, fun o o0 o1 => ?_⟩
    rw [hn] at o1
    rw [same 515 o (by omega), same 516 o (by omega)]
    have q := I.2.1.2.2 o o0 o1
    exact ⟨q.1, fun f f0 f1 => by rw [same 517 _ (by omega)]; exact gm_up g (q.2.1 f f0 f1), q.2.2⟩
  · intro i i0 i1
    rw [same 521 i (by omega)]; exact gm_up g (I.2.2.1 i i0 i1)
  · intro x x0 x1
    rw [s514, hb]; exact I.2.2.2.1 x x0 x1
  · intro t' t0' t1'
    rw [hb] at t1'
    rw [s508]
    have q := I.2.2.2.2 t' t0' t1'
    refine ⟨q.1, fun ne lv' => ?_⟩
    have q2 := q.2 ne lv'
    unfold thr
    rw [same 509 t' (by omega)]
    refine ⟨q2.1, q2.2.1, fun j j0 j1 => fme t' _ (q2.2.2.1 j j0 j1), ?_⟩
    have q3 := q2.2.2.2
    unfold ftop at *
    rw [s511, s512]
    exact ⟨q3.1, q3.2.1, fun x hx => by rw [s513]; exact gm_up g (q3.2.2.1 x hx), q3.2.2.2.1, fun x x0 x1 => by rw [s514]; exact q3.2.2.2.2 x x0 x1⟩
  · intro j j0 j1
    exact fme t _ (fr j j0 (by omega))
  · intro x x0 x1
    rw [s513]
    have q := vl x (Or.inl ⟨x0, x1⟩)
    have mo := (ct.1.k hk'.1 hk'.2).1
    have lc8 := (ct.1.m mo.1 mo.2.1).2.2.2.2.2.2.2.2.2.1
    rw [kd_l (by omega)] at q
    exact gm_up g q
  · have l8 := lkok_le un.2 lo
    refine ⟨(by decide : (1 : Int) ≠ 0), fun x x0 x1 => ⟨fun y => ?_, fun y => ?_⟩⟩
    · rw [s514]
      have y' : bi (i_or (asu (T 8 (pMo L (A 511 (30 * t + A 509 t - 1))) 0)) (i_and (asu (T 6 (A 511 (30 * t + A 509 t - 2)) 0)) (i_xor (alb (T 15 (pMo L (A 511 (30 * t + A 509 t - 1))) 0)) (-1)))) x = true := y
      rw [bi_or, bi_andn, Bool.or_eq_true, Bool.and_eq_true] at y'
      rcases y' with y' | y'
      · exact (l8.2 x x0 x1).1 y'
      · refine lkm x x0 x1 y'.1 ?_
        cases r : bi (alb (T 15 (pMo L (A 511 (30 * t + A 509 t - 1))) 0)) x
        · rfl
        · rw [r] at y'; simp at y'
    · rw [s514] at y
      exact (l8.2 x x0 x1).2 y
/-- a thread ends -/
theorem t_end {L : PG} {T : TB} {A A' : MA} {t : Int} (I : INVx L T A t) (t0 : 0 ≤ t) (t1 : t < bgn A) (same : ∀ a j, ¬ ((a = 509 ∨ a = 508) ∧ j = t) → A' a j = A a j ∨ (a = 396 ∧ j ≠ 83 ∧ j ≠ 91)) (e508 : A' 508 t = 1) : INV L T A' := by
  have sm : ∀ a j, a ≠ 396 → ¬ ((a = 509 ∨ a = 508) ∧ j = t) → A' a j = A a j := fun a j h p => by
    rcases same a j p with y | y
    · exact y
    · exact absurd y.1 h
  have hb : bgn A' = bgn A := by
    rcases same 396 83 (by omega) with y | y
    · exact y
    · omega
  have hn : nob A' = nob A := by
    rcases same 396 91 (by omega) with y | y
    · exact y
    · omega
  have g : grw A A' := ⟨by omega, fun o _ _ => sm 515 o (by omega) (by omega)⟩
  refine ⟨by rw [hb]; exact I.1, ⟨by rw [hn]; exact I.2.1.1, by rw [hn]; exact I.2.1.2.1, fun o o0 o1 => ?_⟩, fun i i0 i1 => ?_, fun x x0 x1 => ?_, fun t' t0' t1' => ?_⟩
  · rw [hn] at o1
    rw [sm 515 o (by omega) (by omega), sm 516 o (by omega) (by omega)]
    have q := I.2.1.2.2 o o0 o1
    exact ⟨q.1, fun f f0 f1 => by rw [sm 517 _ (by omega) (by omega)]; exact gm_up g (q.2.1 f f0 f1), q.2.2⟩
  · rw [sm 521 i (by omega) (by omega)]; exact gm_up g (I.2.2.1 i i0 i1)
  · rw [sm 514 x (by omega) (by omega), hb]; exact I.2.2.2.1 x x0 x1
  · rw [hb] at t1'
    by_cases e : t' = t
    · subst e
      rw [e508]
      exact ⟨Or.inr rfl, fun z => by omega⟩
    · rw [sm 508 t' (by omega) (by omega)]
      have q := I.2.2.2.2 t' t0' t1'
      refine ⟨q.1, fun lv' => ?_⟩
      have q2 := q.2 e lv'
      unfold thr
      rw [sm 509 t' (by omega) (by omega)]
      refine ⟨q2.1, q2.2.1, fun j j0 j1 => ?_, ?_⟩
      · have q3 := q2.2.2.1 j j0 j1
        unfold fmid at *
        rw [sm 511 _ (by omega) (by omega), sm 511 _ (by omega) (by omega), sm 512 _ (by omega) (by omega)]
        exact ⟨q3.1, q3.2.1, q3.2.2.1, fun x hx => by rw [sm 513 _ (by omega) (by omega)]; exact gm_up g (q3.2.2.2.1 x hx), q3.2.2.2.2.1, fun x x0 x1 y1 y2 => by rw [sm 514 _ (by omega) (by omega)]; exact q3.2.2.2.2.2 x x0 x1 y1 y2⟩
      · have q3 := q2.2.2.2
        unfold ftop at *
        rw [sm 511 _ (by omega) (by omega), sm 512 _ (by omega) (by omega)]
        exact ⟨q3.1, q3.2.1, fun x hx => by rw [sm 513 _ (by omega) (by omega)]; exact gm_up g (q3.2.2.1 x hx), q3.2.2.2.1, fun x x0 x1 => by rw [sm 514 _ (by omega) (by omega)]; exact q3.2.2.2.2 x x0 x1⟩
