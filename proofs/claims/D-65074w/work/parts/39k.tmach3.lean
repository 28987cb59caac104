/-! Part 39k: the twin's machine: elements, calls, threads -/
set_option maxRecDepth 100000
/-! the steps as a function -/
def elA (L : PG) (A : MA) (t k : Int) : MA :=
  if pOp L k = 22 then (if topA A t 0 = 0 then hurlA L A t 1 else if 0 ≤ pSc L (sit A (topA A t 0)) then hurlA L A t 5 else lieA (dropA A t 1) t (A 516 (topA A t 0 - 7)))
  else if pOp L k = 23 then (if topA A t 1 = 0 then hurlA L A t 1 else if ¬ pSc L (sit A (topA A t 1)) = -1 - pX L k then hurlA L A t 5 else if topA A t 0 < 0 ∨ A 516 (topA A t 1 - 7) ≤ topA A t 0 then hurlA L A t 2 else lieA (dropA A t 2) t (A 517 (100 * (topA A t 1 - 7) + topA A t 0)))
  else (if topA A t 2 = 0 then hurlA L A t 1 else if ¬ pSc L (sit A (topA A t 2)) = -1 - pX L k then hurlA L A t 5 else if topA A t 1 < 0 ∨ A 516 (topA A t 2 - 7) ≤ topA A t 1 then hurlA L A t 2 else stepA (dropA (mset A 517 (100 * (topA A t 2 - 7) + topA A t 1) (topA A t 0)) t 3) t)
def ecA (L : PG) (A : MA) (t k : Int) : MA :=
  if pOp L k = 29 then (if A 509 t = 30 then mset A 396 103 1 else calA L A t (pY L k) (pAr L (lik L k)))
  else (if topA A t (pAr L (lik L k) - 1) = 0 then hurlA L A t 1 else if sent L (sit A (topA A t (pAr L (lik L k) - 1))) (pX L k) < 0 then hurlA L A t 5 else if A 509 t = 30 then mset A 396 103 1 else calA L A t (sent L (sit A (topA A t (pAr L (lik L k) - 1))) (pX L k)) (pAr L (lik L k)))
def bgA (L : PG) (A : MA) (t k : Int) : MA :=
  if topA A t 0 = 0 then hurlA L A t 1 else if sent L (sit A (topA A t 0)) (pX L k) < 0 then hurlA L A t 5 else if bgn A = 8 then hurlA L A t 6 else bgnA L (stepA (dropA A t 1) t) (bgn A) (sent L (sit A (topA A t 0)) (pX L k)) (topA A t 0)
/-- the twin's machine is at work -/
def mwk (h : MH) (L : PG) (T : TB) (t k : Int) : Prop := TF h L ∧ tT h L = T ∧ wkg L T (hv h) t k ∧ hv h 396 102 = 0 ∧ hv h 396 103 = 0
theorem mwk.b {h : MH} {L : PG} {T : TB} {t k : Int} (q : mwk h L T t k) : frk (hv h) t ∧ hv h 512 (fA (hv h) t) = pDp L k ∧ hv h 511 (fA (hv h) t) = k ∧ (0 ≤ k ∧ k < 1500) ∧ (0 ≤ pDp L k ∧ pDp L k ≤ 8) := by
  obtain ⟨tf, eT, g, -, -⟩ := q
  have nn := g.1.1.n
  unfold WFn at nn
  have n := g.n
  have tp := g.tp
  have d := g.d
  have k0 := tp.1.1.1
  have k1 := tp.1.1.2
  exact ⟨⟨⟨n.2.2.1, by omega⟩, n.1, n.2.1⟩, tp.2.1, g.2.2.2.2.2, ⟨k0, by omega⟩, ⟨d.1.1, d.1.2.1⟩⟩
/-- a throw of one of the machine's own -/
theorem t_hur {l : Launch} {G : JG} (hG : gO G = true) {h : MH} {L : PG} {T : TB} {t k s : Int} (q : mwk h L T t k) (s1 : 1 ≤ s) (s6 : s ≤ 6) (ts : TS L T k (T 0 k) s (T 6 k 0)) {Q : Int → MH → Prop} {E : Nat → Int → MH → Prop} (hQ : INV L T (hurlA L (hv h) t s) → Q 0 (lft h (hurlA L (hv h) t s))) : S_X9_hurl l G [(2009, 396), (0, t), (0, s)] h Q E := by
  obtain ⟨tf, eT, g, b0, -⟩ := q
  have o0 := g.2.1.2.1.1
  have sv : sit (hv h) s = s := by unfold sit; rw [if_pos (by omega)]
  exact t_hurl hG tf eT g.1 (wkg_rsg g ts) ⟨by omega, by omega⟩ sv (by omega) b0 hQ
/-- values on top -/
theorem mwk.top {l : Launch} {G : JG} (hG : gO G = true) {h : MH} {L : PG} {T : TB} {t k i : Int} (q : mwk h L T t k) (i0 : 0 ≤ i) (i1 : i < pDp L k) {Q : Int → MH → Prop} {E : Nat → Int → MH → Prop} (hQ : Q (topA (hv h) t i) h) : S_X9_top l G [(2009, 396), (0, t), (0, i)] h Q E := by
  have b := q.b
  exact t_top hG b.1 i0 (by rw [b.2.1]; exact i1) (by rw [b.2.1]; exact b.2.2.2.2.2) hQ
theorem drop_ms {A : MA} {t n a k x : Int} (h1 : a ≠ 512) (h2 : a ≠ 509) : dropA (mset A a k x) t n = mset (dropA A t n) a k x := by
  funext b j
  rw [drop_v, fA_ne h2, m_ne (by omega)]
  unfold mset
  rw [drop_v]
  by_cases c1 : b = 512 ∧ j = fA A t
  · rw [if_pos c1, if_neg (by omega), if_pos c1]
  · rw [if_neg c1]
    by_cases c2 : b = a ∧ j = k
    · rw [if_pos c2, if_pos c2]
    · rw [if_neg c2, if_neg c2, if_neg c1]
/-- n values are dropped and one is laid, by the twin -/
theorem mwk.ld {l : Launch} {G : JG} (hG : gO G = true) {h : MH} {L : PG} {T : TB} {t k n v : Int} (q : mwk h L T t k) (n0 : 0 ≤ n) (n1 : n ≤ pDp L k) (n8 : pDp L k - n < 8) {Q : Int → MH → Prop} {E : Nat → Int → MH → Prop} (hQ : Q 0 (lft h (lieA (dropA (hv h) t n) t v))) : S_X9_lie l G [(2009, 396), (0, t), (0, v)] (lft h (dropA (hv h) t n)) Q E := by
  have b := q.b
  have ff : fA (hv (lft h (dropA (hv h) t n))) t = fA (hv h) t := drop_f _ _ _
  have e9 : hv (lft h (dropA (hv h) t n)) 509 t = hv h 509 t := by rw [lft_hv, drop_v, if_neg (by omega)]
  have e12 : hv (lft h (dropA (hv h) t n)) 512 (fA (hv h) t) = pDp L k - n := by rw [lft_hv, drop_v, if_pos ⟨rfl, rfl⟩, b.2.1]
  have e11 : hv (lft h (dropA (hv h) t n)) 511 (fA (hv h) t) = k := by rw [lft_hv, drop_v, if_neg (by omega)]; exact b.2.2.1
  refine t_lie hG ⟨b.1.1, by rw [e9]; exact b.1.2.1, by rw [e9]; exact b.1.2.2⟩ (by rw [ff, e12]; omega) (by rw [ff, e12]; omega) (by rw [ff, e11]; exact b.2.2.2.1.1) (by rw [ff, e11]; have := b.2.2.2.1.2; omega) ?_
  exact hQ
theorem mwk.dr {l : Launch} {G : JG} (hG : gO G = true) {h : MH} {L : PG} {T : TB} {t k n : Int} (q : mwk h L T t k) (n0 : 0 ≤ n) (n1 : n ≤ pDp L k) {Q : Int → MH → Prop} {E : Nat → Int → MH → Prop} (hQ : Q 0 (lft h (dropA (hv h) t n))) : S_X9_drop l G [(2009, 396), (0, t), (0, n)] h Q E := by
  have b := q.b
  have d8 := b.2.2.2.2.2
  exact t_drop hG b.1 n0 (by omega) (by rw [b.2.1]; exact b.2.2.2.2.1) (by rw [b.2.1]; exact d8) hQ
theorem mwk.sd {l : Launch} {G : JG} (hG : gO G = true) {h : MH} {A : MA} {L : PG} {T : TB} {t k : Int} (q : mwk h L T t k) (e9 : A 509 t = hv h 509 t) (e11 : A 511 (fA (hv h) t) = k) {Q : Int → MH → Prop} {E : Nat → Int → MH → Prop} (hQ : Q 0 (lft h (stepA A t))) : S_X9_step l G [(2009, 396), (0, t)] (lft h A) Q E := by
  have b := q.b
  have ff : fA A t = fA (hv h) t := by unfold fA; rw [e9]
  refine t_stp hG ⟨b.1.1, by rw [lft_hv, e9]; exact b.1.2.1, by rw [lft_hv, e9]; exact b.1.2.2⟩ (by rw [lft_hv, ff, e11]; exact b.2.2.2.1.1) (by rw [lft_hv, ff, e11]; have := b.2.2.2.1.2; omega) ?_
  exact hQ
/-- facts of a reference in a slot -/
theorem mwk.rf {h : MH} {L : PG} {T : TB} {t k i : Int} (q : mwk h L T t k) (i0 : 0 ≤ i) (i1 : i < pDp L k) (sk : skd L k (pDp L k - 1 - i) = 1) : inR (hv h) (T 0 k (7 + pDp L k - i)) (topA (hv h) t i) ∧ 0 ≤ topA (hv h) t i ∧ topA (hv h) t i < 407 := by
  have g := q.2.2.1
  have hb := g.top i0 i1
  rw [sk, gm_r rfl] at hb
  have o4 := g.2.1.2.1.2.1
  have a := hb.2.1.1
  have b := hb.2.1.2
  exact ⟨hb, a, by omega⟩
theorem t_element {l : Launch} {G : JG} (hG : gO G = true) {h : MH} {L : PG} {T : TB} {t k : Int} (q : mwk h L T t k) (e : pOp L k = 22 ∨ pOp L k = 23 ∨ pOp L k = 24) {Q : Int → MH → Prop} {E : Nat → Int → MH → Prop} (hQ : INV L T (elA L (hv h) t k) → Q 0 (lft h (elA L (hv h) t k))) : S_X9_element l G [(2009, 396), (0, t), (0, k)] h Q E := by
  have b := q.b
  obtain ⟨-, e12, e11, kb, db⟩ := b
  have tf := q.1
  have g := q.2.2.1
  have nn := g.1.1.n
  unfold WFn at nn
  have d := g.d
  have dk := g.1.1.k g.tp.1.1.1 g.tp.1.1.2
  have xr := dk.2.2.1
  have wt := g.1.2.1.1 k g.tp.1.1
  obtain ⟨-, -, -, -, -, -, p22, p23, p24, -⟩ := wt
  have po : ppo L k = if pOp L k = 22 then 1 else if pOp L k = 23 then 2 else 3 := by
    unfold ppo
    rcases e with e | e | e
    · rw [if_pos (by omega), if_pos e]
    · rw [if_neg (by omega), if_pos (by omega), if_neg (by omega), if_pos e]
    · rw [if_neg (by omega), if_neg (by omega), if_pos e, if_neg (by omega), if_neg (by omega)]
  have pu : ppu L k = if pOp L k = 24 then 0 else 1 := by
    unfold ppu
    rcases e with e | e | e
    · rw [if_pos (by omega), if_neg (by omega)]
    · rw [if_pos (by omega), if_neg (by omega)]
    · rw [if_neg (by omega), if_neg (by omega), if_neg (by omega), if_pos e]
  -- the slot of the reference
  have rf : ∀ i, (pOp L k = 22 ∧ i = 0) ∨ (pOp L k = 23 ∧ i = 1) ∨ (pOp L k = 24 ∧ i = 2) → (0 ≤ i ∧ i < pDp L k) ∧ inR (hv h) (T 0 k (7 + pDp L k - i)) (topA (hv h) t i) ∧ 0 ≤ topA (hv h) t i ∧ topA (hv h) t i < 407 := by
    intro i hi
    have hd : 0 ≤ i ∧ i < pDp L k := by
      rcases hi with ⟨o, rfl⟩ | ⟨o, rfl⟩ | ⟨o, rfl⟩
      · rw [if_pos o] at po; omega
      · rw [if_neg (by omega), if_pos o] at po; omega
      · rw [if_neg (by omega), if_neg (by omega)] at po; omega
    refine ⟨hd, q.rf hd.1 hd.2 ?_⟩
    rcases hi with ⟨o, rfl⟩ | ⟨o, rfl⟩ | ⟨o, rfl⟩
    · rw [show pDp L k - 1 - 0 = pDp L k - 1 by omega]; exact p22 (by omega)
    · rw [show pDp L k - 1 - 1 = pDp L k - 2 by omega]; exact (p23 o).2.1
    · rw [show pDp L k - 1 - 2 = pDp L k - 3 by omega]; exact (p24 o).2.2
  -- what is thrown
  have ts : ∀ i, (pOp L k = 22 ∧ i = 0) ∨ (pOp L k = 23 ∧ i = 1) ∨ (pOp L k = 24 ∧ i = 2) → (topA (hv h) t i = 0 → TS L T k (T 0 k) 1 (T 6 k 0)) ∧ (topA (hv h) t i ≠ 0 → (if pOp L k = 22 then 0 ≤ pSc L (sit (hv h) (topA (hv h) t i)) else ¬ pSc L (sit (hv h) (topA (hv h) t i)) = -1 - pX L k) → TS L T k (T 0 k) 5 (T 6 k 0)) := by
    intro i hi
    have r := rf i hi
    have so := sit_ok g.1.1 g.2.1 r.2.1.2.1
    have sbx := inR_sb g.1.1 g.2.1 r.2.1
    rcases hi with ⟨o, rfl⟩ | ⟨o, rfl⟩ | ⟨o, rfl⟩
    · rw [show 7 + pDp L k - 0 = 7 + pDp L k by omega] at sbx
      have c := ((CL22 o).mp g.c) _ sbx
      rw [if_pos o]
      exact ⟨fun y => c.1 (so.2.2.2.1.mpr y), fun y z => c.2.1 (fun w => y (so.2.2.2.1.mp w)) z⟩
    · rw [show 7 + pDp L k - 1 = 6 + pDp L k by omega] at sbx
      have c := ((CL23 o).mp g.c) _ sbx
      rw [if_neg (by omega)]
      exact ⟨fun y => c.1 (so.2.2.2.1.mpr y), fun y z => c.2.1 (fun w => y (so.2.2.2.1.mp w)) z⟩
    · rw [show 7 + pDp L k - 2 = 5 + pDp L k by omega] at sbx
      have c := ((CL24 o).mp g.c) _ sbx
      rw [if_neg (by omega)]
      exact ⟨fun y => c.1 (so.2.2.2.1.mpr y), fun y z => c.2.1 (fun w => y (so.2.2.2.1.mp w)) z⟩
  refine s_X9_element rfl fun K ki => r_X9_element_0 ki hG ⟨tf.ne, kb.1, kb.2, ?_⟩
  rw [tf.op]
  intro op eop
  subst eop
  intro x4 e4
  rcases e with e | e | e
  · -- a length
    rw [if_pos e] at e4 po
    subst e4
    have r := rf 0 (Or.inl ⟨e, rfl⟩)
    have th := ts 0 (Or.inl ⟨e, rfl⟩)
    rw [if_pos e] at th
    unfold elA at hQ
    rw [if_pos e] at hQ
    have so := sit_ok g.1.1 g.2.1 r.2.1.2.1
    refine q.top hG r.1.1 r.1.2 ?_
    intro x5 e5
    refine ⟨fun y => absurd e y, fun _ => ?_⟩
    intro x6 e6
    refine q.top hG r.1.1 r.1.2 ?_
    intro x7 e7
    subst e5
    refine ⟨fun nz => ⟨tf.ne, ?_⟩, fun z => ?_⟩
    · rw [if_neg nz] at hQ
      refine t_siteOf hG r.2.2.1 r.2.2.2 ⟨so.1, so.2.2.1, ?_⟩
      rw [tf.ss]
      intro x8 e8
      subst e8
      refine ⟨fun c => ?_, fun c => ⟨fun y => absurd e y, fun y => absurd e y.1, fun _ => ?_⟩⟩
      · rw [if_pos c] at hQ
        exact t_hur hG q (by decide) (by decide) (th.2 nz c) hQ
      · rw [if_neg (by omega)] at hQ
        have ar := ar_ok g.1.1 g.2.1 r.2.1.2.1 nz c
        have o4 := g.2.1.2.1.2.1
        rw [w32_i (by omega) (by omega)]
        refine ⟨by omega, by omega, ?_⟩
        intro x9 e9
        refine ⟨fun y => absurd e y.1, fun _ => ?_⟩
        rw [show w32 (0 + 1) = 1 by decide]
        refine q.dr hG (by decide) (by omega) ⟨fun _ => ⟨fun y => absurd e y, ?_⟩, fun y => by omega⟩
        rw [if_pos e, e9]
        refine q.ld hG (by decide) (by omega) (by omega) (hQ (d_22 g e nz c))
    · rw [if_pos z] at hQ
      exact t_hur hG q (by decide) (by decide) (th.1 z) hQ
  · -- an element is got
    rw [if_neg (by omega), if_pos e] at e4 po
    subst e4
    have r := rf 1 (Or.inr (Or.inl ⟨e, rfl⟩))
    have th := ts 1 (Or.inr (Or.inl ⟨e, rfl⟩))
    rw [if_neg (by omega)] at th
    unfold elA at hQ
    rw [if_neg (by omega), if_pos e] at hQ
    have so := sit_ok g.1.1 g.2.1 r.2.1.2.1
    refine q.top hG r.1.1 r.1.2 ?_
    intro x5 e5
    subst e5
    refine ⟨fun _ => ?_, fun y => by omega⟩
    rw [show w32 (1 - 1) = 0 by decide]
    refine q.top hG (by decide) (by omega) ?_
    intro x6 e6
    subst e6
    refine q.top hG (by decide) (by omega) ?_
    intro x7 e7
    refine ⟨fun nz => ⟨tf.ne, ?_⟩, fun z => ?_⟩
    · rw [if_neg nz] at hQ
      refine t_siteOf hG r.2.2.1 r.2.2.2 ⟨so.1, so.2.2.1, ?_⟩
      rw [tf.ss]
      intro x8 e8
      subst e8
      rw [tf.x, w32_i (z := -1 - pX L k) (by omega) (by omega)]
      refine ⟨fun c => ?_, fun c => ⟨fun _ => ⟨tf.ne, kb.1, kb.2⟩, fun y => ?_, fun y => ?_⟩⟩
      · have nc : ¬ pSc L (sit (hv h) (topA (hv h) t 1)) = -1 - pX L k := by omega
        rw [if_pos nc] at hQ
        exact t_hur hG q (by decide) (by decide) (th.2 nz nc) hQ
      · rw [if_pos y.2] at hQ
        exact t_hur hG q (by decide) (by decide) (th.2 nz y.2) hQ
      · have sc : pSc L (sit (hv h) (topA (hv h) t 1)) = -1 - pX L k := by
          apply Classical.byContradiction
          intro z; exact y ⟨by omega, z⟩
        rw [if_neg (fun z => z sc)] at hQ
        have ar := ar_ok g.1.1 g.2.1 r.2.1.2.1 nz c
        have o4 := g.2.1.2.1.2.1
        rw [w32_i (by omega) (by omega)]
        refine ⟨by omega, by omega, ?_⟩
        intro x9 e9
        have a100 := ar.2.2.2.2.2.1
        have a000 := ar.2.2.2.2.1
        rw [w32_i (z := x9 - 1) (by omega) (by omega)]
        refine ⟨fun y2 => ?_, fun y2 => ?_⟩
        · have io := isin_0.mp y2.2
          rw [if_pos (by omega)] at hQ
          have p := p23 e
          have hi := g.top (i := 0) (by omega) (by omega)
          rw [show pDp L k - 1 - 0 = pDp L k - 1 by omega, p.1, gm_n (by decide), show 7 + pDp L k - 0 = 7 + pDp L k by omega] at hi
          have hb := r.2.1
          rw [show 7 + pDp L k - 1 = 6 + pDp L k by omega] at hb
          have l2 := ar.2.2.2.2.2.2.1
          have c23 := ((((CL23 e).mp g.c) _ (inR_sb g.1.1 g.2.1 hb)).2.2 (fun y => nz (so.2.2.2.1.mp y)) sc l2.1 hi.1).1
          exact t_hur hG q (by decide) (by decide) (c23 (by have h1 := hi.2.1; have h2 := hi.2.2; have h3 := l2.2.1; omega)) hQ
        · have io : 0 ≤ topA (hv h) t 0 ∧ topA (hv h) t 0 < hv h 516 (topA (hv h) t 1 - 7) := by
            apply Classical.byContradiction
            intro z
            exact y2 ⟨by omega, isin_0.mpr (by omega)⟩
          rw [if_neg (by omega)] at hQ
          rw [show w32 (1 + 1) = 2 by decide]
          refine q.dr hG (by decide) (by omega) ⟨fun _ => ?_, fun y => by omega⟩
          rw [w32_i (z := 100 * (topA (hv h) t 1 - 7)) (by omega) (by omega), w32_i (z := 100 * (topA (hv h) t 1 - 7) + topA (hv h) t 0) (by omega) (by omega)]
          refine ⟨fun _ => ⟨by omega, by omega⟩, ?_⟩
          rw [if_neg (by omega)]
          have ev : hv (lft h (dropA (hv h) t 2)) 517 (100 * (topA (hv h) t 1 - 7) + topA (hv h) t 0) = hv h 517 (100 * (topA (hv h) t 1 - 7) + topA (hv h) t 0) := by rw [lft_hv, drop_v, if_neg (by omega)]
          rw [ev]
          exact q.ld hG (by decide) (by omega) (by omega) (hQ (d_23 g e nz sc io.1 io.2))
    · rw [if_pos z] at hQ
      exact t_hur hG q (by decide) (by decide) (th.1 z) hQ
  · -- an element is put
    rw [if_neg (by omega), if_neg (by omega)] at e4 po
    subst e4
    have r := rf 2 (Or.inr (Or.inr ⟨e, rfl⟩))
    have th := ts 2 (Or.inr (Or.inr ⟨e, rfl⟩))
    rw [if_neg (by omega)] at th
    unfold elA at hQ
    rw [if_neg (by omega), if_neg (by omega)] at hQ
    have so := sit_ok g.1.1 g.2.1 r.2.1.2.1
    refine q.top hG r.1.1 r.1.2 ?_
    intro x5 e5
    subst e5
    refine ⟨fun _ => ?_, fun y => by omega⟩
    rw [show w32 (2 - 1) = 1 by decide]
    refine q.top hG (by decide) (by omega) ?_
    intro x6 e6
    subst e6
    refine q.top hG (by decide) (by omega) ?_
    intro x7 e7
    subst e7
    refine ⟨fun nz => ⟨tf.ne, ?_⟩, fun z => ?_⟩
    · rw [if_neg nz] at hQ
      refine t_siteOf hG r.2.2.1 r.2.2.2 ⟨so.1, so.2.2.1, ?_⟩
      rw [tf.ss]
      intro x8 e8
      subst e8
      rw [tf.x, w32_i (z := -1 - pX L k) (by omega) (by omega)]
      refine ⟨fun c => ?_, fun c => ⟨fun _ => ⟨tf.ne, kb.1, kb.2⟩, fun y => ?_, fun y => ?_⟩⟩
      · have nc : ¬ pSc L (sit (hv h) (topA (hv h) t 2)) = -1 - pX L k := by omega
        rw [if_pos nc] at hQ
        exact t_hur hG q (by decide) (by decide) (th.2 nz nc) hQ
      · rw [if_pos y.2] at hQ
        exact t_hur hG q (by decide) (by decide) (th.2 nz y.2) hQ
      · have sc : pSc L (sit (hv h) (topA (hv h) t 2)) = -1 - pX L k := by
          apply Classical.byContradiction
          intro z; exact y ⟨by omega, z⟩
        rw [if_neg (fun z => z sc)] at hQ
        have ar := ar_ok g.1.1 g.2.1 r.2.1.2.1 nz c
        have o4 := g.2.1.2.1.2.1
        rw [w32_i (by omega) (by omega)]
        refine ⟨by omega, by omega, ?_⟩
        intro x9 e9
        have a100 := ar.2.2.2.2.2.1
        have a000 := ar.2.2.2.2.1
        rw [w32_i (z := x9 - 1) (by omega) (by omega)]
        refine ⟨fun y2 => ?_, fun y2 => ?_⟩
        · have io := isin_0.mp y2.2
          rw [if_pos (by omega)] at hQ
          have p := p24 e
          have hi := g.top (i := 1) (by omega) (by omega)
          rw [show pDp L k - 1 - 1 = pDp L k - 2 by omega, p.2.1, gm_n (by decide), show 7 + pDp L k - 1 = 6 + pDp L k by omega] at hi
          have hb := r.2.1
          rw [show 7 + pDp L k - 2 = 5 + pDp L k by omega] at hb
          have l2 := ar.2.2.2.2.2.2.1
          have c24 := ((((CL24 e).mp g.c) _ (inR_sb g.1.1 g.2.1 hb)).2.2 (fun y => nz (so.2.2.2.1.mp y)) sc l2.1 hi.1).1
          exact t_hur hG q (by decide) (by decide) (c24 (by have h1 := hi.2.1; have h2 := hi.2.2; have h3 := l2.2.1; omega)) hQ
        · have io : 0 ≤ topA (hv h) t 1 ∧ topA (hv h) t 1 < hv h 516 (topA (hv h) t 2 - 7) := by
            apply Classical.byContradiction
            intro z
            exact y2 ⟨by omega, isin_0.mpr (by omega)⟩
          rw [if_neg (by omega)] at hQ
          rw [show w32 (2 + 1) = 3 by decide]
          refine q.dr hG (by decide) (by omega) ⟨fun y => by omega, fun _ => ?_⟩
          rw [w32_i (z := 100 * (topA (hv h) t 2 - 7)) (by omega) (by omega), w32_i (z := 100 * (topA (hv h) t 2 - 7) + topA (hv h) t 1) (by omega) (by omega)]
          refine ⟨by omega, by omega, ?_⟩
          intro g2 eg2
          have eg3 : g2 = lft h (dropA (mset (hv h) 517 (100 * (topA (hv h) t 2 - 7) + topA (hv h) t 1) (topA (hv h) t 0)) t 3) := by
            rw [eg2, drop_ms (by decide) (by decide)]; rfl
          rw [eg3]
          refine q.sd hG ?_ ?_ (hQ (d_24 g e nz sc io.1 io.2))
          · rw [drop_v, if_neg (by omega), m_ne (by omega)]
          · rw [drop_v, if_neg (by omega), m_ne (by omega)]; exact e11
    · rw [if_pos z] at hQ
      exact t_hur hG q (by decide) (by decide) (th.1 z) hQ
