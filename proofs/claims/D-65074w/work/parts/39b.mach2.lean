/-! Part 39b: steps of the machine keep to facts (plain) -/
set_option maxRecDepth 100000
theorem nxt_ok {L : PG} (w : WF L) {k : Int} (hk : inP L k) (o1 : pOp L k ≠ 15) (o2 : pOp L k ≠ 31) (o3 : pOp L k ≠ 32) : inP L (k + 1) ∧ pMo L (k + 1) = pMo L k ∧ pFi L (pMo L k) + nx L k = k + 1 ∧ pDp L (k + 1) = pDp L k - ppo L k + ppu L k := by
  obtain ⟨mo, -, -, -, -, -, -, -, -, -, -, -, -, -, -, -, -, -, -, -, nxt⟩ := w.k hk.1 hk.2
  obtain ⟨-, -, -, -, -, -, -, -, -, -, -, -, -, -, -, -, -, fi0, fi1, fim, -⟩ := w.m mo.1 mo.2.1
  have n := nxt o1 o2 o3
  have e := fim (k + 1 - pFi L (pMo L k)) (by omega) (by omega)
  rw [show pFi L (pMo L k) + (k + 1 - pFi L (pMo L k)) = k + 1 by omega] at e
  exact ⟨⟨by have := hk.1; omega, by omega⟩, e, by unfold nx; omega, n.2⟩
theorem jmp_ok {L : PG} (w : WF L) {k : Int} (hk : inP L k) (o1 : 15 ≤ pOp L k) (o2 : pOp L k ≤ 19) : inP L (pFi L (pMo L k) + pZ L k) ∧ pMo L (pFi L (pMo L k) + pZ L k) = pMo L k ∧ pDp L (pFi L (pMo L k) + pZ L k) = 0 ∧ pDp L k = ppo L k := by
  obtain ⟨mo, -, -, -, -, -, -, -, -, -, -, -, -, -, -, -, -, jz, -, -, -⟩ := w.k hk.1 hk.2
  obtain ⟨-, -, -, -, -, -, -, -, -, -, -, -, -, -, -, -, -, fi0, fi1, fim, -⟩ := w.m mo.1 mo.2.1
  have n := jz ⟨o1, o2⟩
  exact ⟨⟨by omega, by omega⟩, fim _ n.1 n.2.1, n.2.2.1, n.2.2.2⟩
/-- a thread at work at a place -/
def wkg (L : PG) (T : TB) (A : MA) (t k : Int) : Prop := CT L T ∧ INV L T A ∧ 0 ≤ t ∧ t < bgn A ∧ A 508 t = 0 ∧ A 511 (30 * t + A 509 t - 1) = k
theorem wkg.tp {L : PG} {T : TB} {A : MA} {t k : Int} (g : wkg L T A t k) : (inP L k ∧ rch T k) ∧ A 512 (30 * t + A 509 t - 1) = pDp L k ∧ vls L T A (30 * t + A 509 t - 1) k (pDp L k) ∧ lkok A t (T 6 k 0) := by
  obtain ⟨ct, I, t0, t1, lv, e⟩ := g
  have := ((I.2.2.2.2 t t0 t1).2 lv).2.2.2
  unfold ftop at this
  rw [e] at this
  exact this
theorem wkg.n {L : PG} {T : TB} {A : MA} {t k : Int} (g : wkg L T A t k) : 1 ≤ A 509 t ∧ A 509 t ≤ 30 ∧ 0 ≤ t ∧ t ≤ 7 := by
  obtain ⟨ct, I, t0, t1, lv, e⟩ := g
  have := (I.2.2.2.2 t t0 t1).2 lv
  have b := I.1.2
  exact ⟨this.1, this.2.1, t0, by omega⟩
theorem wkg.c {L : PG} {T : TB} {A : MA} {t k : Int} (g : wkg L T A t k) : CLz L T T k := g.1.2.2.2.2 k g.tp.1.1 g.tp.1.2
/-- only the call at work changes -/
def onf (A A' : MA) (t : Int) : Prop := ∀ a j, ¬ ((a = 511 ∨ a = 512) ∧ j = 30 * t + A 509 t - 1) → ¬ (a = 513 ∧ 16 * (30 * t + A 509 t - 1) ≤ j ∧ j < 16 * (30 * t + A 509 t - 1) + 16) → A' a j = A a j
theorem mv0 {L : PG} {T : TB} {A A' : MA} {t k : Int} (g : wkg L T A t k) {q : Int} {X : Int → FA} (hq : inP L q) (fl : Flow L T q X (T 6 k 0)) (mq : pMo L q = pMo L k) (same : onf A A' t)
    (e511 : A' 511 (30 * t + A 509 t - 1) = q) (e512 : A' 512 (30 * t + A 509 t - 1) = pDp L q) (vs : ∀ s, rel L q s → gm A (kd L q s) (X s) (A' 513 (16 * (30 * t + A 509 t - 1) + s))) : INV L T A' := by
  have tp := g.tp
  obtain ⟨ct, I, t0, t1, lv, e⟩ := g
  have s514 : ∀ x, A' 514 x = A 514 x := fun x => same 514 x (by omega) (by omega)
  refine mv ct I t0 t1 lv hq fl (by rw [e]; exact mq) (fun a j _ p q => same a j p q) e511 e512 vs ⟨tp.2.2.2.1, fun x x0 x1 => by rw [s514]; exact tp.2.2.2.2 x x0 x1⟩ (fun x _ _ t' _ _ => by rw [s514]) (fun x _ _ y => Or.inl (by rw [s514]; exact y)) (fun x _ _ => Or.inl (s514 x))
theorem kd_l {L : PG} {k s : Int} (h : s < 8) : kd L k s = pLk L (pMo L k) s := by unfold kd; rw [if_pos h]
theorem kd_s {L : PG} {k s : Int} (h : 8 ≤ s) : kd L k s = skd L k (s - 8) := by unfold kd; rw [if_neg (by omega)]
/-- values below the top stay, one is laid on top of them; the call goes on to the next place -/
theorem s_lay {L : PG} {T : TB} {A A' : MA} {t k : Int} (g : wkg L T A t k) (o1 : pOp L k ≠ 15) (o2 : pOp L k ≠ 31) (o3 : pOp L k ≠ 32) {d v : Int} {w : FA} (d0 : 0 ≤ d) (d1 : d ≤ pDp L k) (dn : pDp L (k + 1) = d + 1) (lo : ∀ i, 0 ≤ i → i < d → skd L (k + 1) i = skd L k i)
    (gt : GT L T k (nx L k) (ux (T 0 k) (8 + d) w) (T 6 k 0)) (hv' : gm A (skd L (k + 1) d) w v) (same : onf A A' t) (e511 : A' 511 (30 * t + A 509 t - 1) = k + 1) (e512 : A' 512 (30 * t + A 509 t - 1) = d + 1)
    (e513 : ∀ s, 0 ≤ s → s < 16 → A' 513 (16 * (30 * t + A 509 t - 1) + s) = if s = 8 + d then v else A 513 (16 * (30 * t + A 509 t - 1) + s)) : INV L T A' := by
  have tp := g.tp
  obtain ⟨n1, n2, n3, n4⟩ := nxt_ok g.1.1 tp.1.1 o1 o2 o3
  have fl := gt.2
  rw [n3] at fl
  refine mv0 g n1 fl n2 same e511 (by rw [e512, dn]) (fun s hs => ?_)
  have rg := rel_rng g.1.1 n1.1 n1.2 hs
  rw [e513 s rg.1 rg.2]
  unfold ux
  by_cases e : s = 8 + d
  · rw [if_pos e, if_pos e, kd_s (by omega), show s - 8 = d by omega]; exact hv'
  · rw [if_neg e, if_neg e]
    unfold rel at hs
    rw [n2, dn] at hs
    rcases hs with hs | hs
    · have lc : s < 8 := by
        obtain ⟨mo, -⟩ := g.1.1.k tp.1.1.1 tp.1.1.2
        have := (g.1.1.m mo.1 mo.2.1).2.2.2.2.2.2.2.2.2.1
        omega
      have := tp.2.2.1 s (Or.inl hs)
      rw [kd_l lc] at this ⊢
      rw [n2]; exact this
    · have := tp.2.2.1 s (Or.inr ⟨hs.1, by omega⟩)
      rw [kd_s hs.1] at this ⊢
      rw [lo _ (by omega) (by omega)]; exact this
/-- values are dropped; the call goes on to the next place -/
theorem s_drop {L : PG} {T : TB} {A A' : MA} {t k : Int} (g : wkg L T A t k) (o1 : pOp L k ≠ 15) (o2 : pOp L k ≠ 31) (o3 : pOp L k ≠ 32) (dn : pDp L (k + 1) ≤ pDp L k) (lo : ∀ i, 0 ≤ i → i < pDp L (k + 1) → skd L (k + 1) i = skd L k i)
    (gt : GT L T k (nx L k) (T 0 k) (T 6 k 0)) (same : onf A A' t) (e511 : A' 511 (30 * t + A 509 t - 1) = k + 1) (e512 : A' 512 (30 * t + A 509 t - 1) = pDp L (k + 1))
    (e513 : ∀ s, 0 ≤ s → s < 16 → A' 513 (16 * (30 * t + A 509 t - 1) + s) = A 513 (16 * (30 * t + A 509 t - 1) + s)) : INV L T A' := by
  have tp := g.tp
  obtain ⟨n1, n2, n3, n4⟩ := nxt_ok g.1.1 tp.1.1 o1 o2 o3
  have fl := gt.2
  rw [n3] at fl
  refine mv0 g n1 fl n2 same e511 e512 (fun s hs => ?_)
  have rg := rel_rng g.1.1 n1.1 n1.2 hs
  rw [e513 s rg.1 rg.2]
  unfold rel at hs
  rw [n2] at hs
  rcases hs with hs | hs
  · have lc : s < 8 := by
      obtain ⟨mo, -⟩ := g.1.1.k tp.1.1.1 tp.1.1.2
      have := (g.1.1.m mo.1 mo.2.1).2.2.2.2.2.2.2.2.2.1
      omega
    have := tp.2.2.1 s (Or.inl hs)
    rw [kd_l lc] at this ⊢
    rw [n2]; exact this
  · have := tp.2.2.1 s (Or.inr ⟨hs.1, by omega⟩)
    rw [kd_s hs.1] at this ⊢
    rw [lo _ (by omega) (by omega)]; exact this
/-- a local is set, one value is dropped -/
theorem s_store {L : PG} {T : TB} {A A' : MA} {t k : Int} (g : wkg L T A t k) (e : pOp L k = 3) (same : onf A A' t) (e511 : A' 511 (30 * t + A 509 t - 1) = k + 1) (e512 : A' 512 (30 * t + A 509 t - 1) = pDp L k - 1)
    (e513 : ∀ s, 0 ≤ s → s < 16 → A' 513 (16 * (30 * t + A 509 t - 1) + s) = if s = pX L k then A 513 (16 * (30 * t + A 509 t - 1) + (7 + pDp L k)) else A 513 (16 * (30 * t + A 509 t - 1) + s)) : INV L T A' := by
  have tp := g.tp
  have wt := g.1.2.1.1 k tp.1.1
  obtain ⟨mo, -, xr, -, x2, -, -, -, -, -, -, -, -, -, -, -, -, -, -, dp, -⟩ := g.1.1.k tp.1.1.1 tp.1.1.2
  have lc8 := (g.1.1.m mo.1 mo.2.1).2.2.2.2.2.2.2.2.2.1
  have xl := x2 (by omega)
  obtain ⟨n1, n2, n3, n4⟩ := nxt_ok g.1.1 tp.1.1 (by omega) (by omega) (by omega)
  have p1 : ppo L k = 1 := by unfold ppo; rw [if_pos (by omega)]
  have p2 : ppu L k = 0 := by unfold ppu; rw [if_neg (by omega), if_neg (by omega), if_neg (by omega)]
  have fl := ((CL3 e).mp g.c).2
  rw [n3] at fl
  have d1 : pDp L (k + 1) = pDp L k - 1 := by omega
  refine mv0 g n1 fl n2 same e511 (by rw [e512, d1]) (fun s hs => ?_)
  have rg := rel_rng g.1.1 n1.1 n1.2 hs
  rw [e513 s rg.1 rg.2]
  unfold ux
  by_cases ex : s = pX L k
  · rw [if_pos ex, if_pos ex, kd_l (by omega), n2, ex]
    have := tp.2.2.1 (7 + pDp L k) (Or.inr ⟨by omega, by omega⟩)
    rw [kd_s (by omega), show 7 + pDp L k - 8 = pDp L k - 1 by omega, wt.2.1 e] at this
    exact this
  · rw [if_neg ex, if_neg ex]
    unfold rel at hs
    rw [n2] at hs
    rcases hs with hs | hs
    · have := tp.2.2.1 s (Or.inl hs)
      rw [kd_l (by omega)] at this ⊢
      rw [n2]; exact this
    · have := tp.2.2.1 s (Or.inr ⟨hs.1, by omega⟩)
      rw [kd_s hs.1] at this ⊢
      rw [wt.1 (by omega) (by omega) (by omega) _ (by omega) (by omega)]; exact this
/-- two values change places -/
theorem s_swap {L : PG} {T : TB} {A A' : MA} {t k : Int} (g : wkg L T A t k) (e : pOp L k = 6) (same : onf A A' t) (e511 : A' 511 (30 * t + A 509 t - 1) = k + 1) (e512 : A' 512 (30 * t + A 509 t - 1) = pDp L k)
    (e513 : ∀ s, 0 ≤ s → s < 16 → A' 513 (16 * (30 * t + A 509 t - 1) + s) = if s = 6 + pDp L k then A 513 (16 * (30 * t + A 509 t - 1) + (7 + pDp L k)) else if s = 7 + pDp L k then A 513 (16 * (30 * t + A 509 t - 1) + (6 + pDp L k)) else A 513 (16 * (30 * t + A 509 t - 1) + s)) : INV L T A' := by
  have tp := g.tp
  have wt := g.1.2.1.1 k tp.1.1
  obtain ⟨mo, -, xr, -, x2, -, -, -, -, -, -, -, -, -, -, -, -, -, -, dp, -⟩ := g.1.1.k tp.1.1.1 tp.1.1.2
  have lc8 := (g.1.1.m mo.1 mo.2.1).2.2.2.2.2.2.2.2.2.1
  obtain ⟨n1, n2, n3, n4⟩ := nxt_ok g.1.1 tp.1.1 (by omega) (by omega) (by omega)
  have p1 : ppo L k = 2 := by unfold ppo; rw [if_neg (by omega), if_pos (by omega)]
  have p2 : ppu L k = 2 := by unfold ppu; rw [if_neg (by omega), if_pos (by omega)]
  have fl := ((CL6 e).mp g.c).2
  rw [n3] at fl
  have d1 : pDp L (k + 1) = pDp L k := by omega
  obtain ⟨w0, -, -, -, -, -, -, -, -, -, -, -, -, -, -, -, -, u6, -⟩ := wt
  have u6' := u6 e
  refine mv0 g n1 fl n2 same e511 (by rw [e512, d1]) (fun s hs => ?_)
  have rg := rel_rng g.1.1 n1.1 n1.2 hs
  rw [e513 s rg.1 rg.2]
  unfold ux
  by_cases e6 : s = 6 + pDp L k
  · rw [if_pos e6, if_pos e6, kd_s (by omega), show s - 8 = pDp L k - 2 by omega, u6'.1]
    have := tp.2.2.1 (7 + pDp L k) (Or.inr ⟨by omega, by omega⟩)
    rw [kd_s (by omega), show 7 + pDp L k - 8 = pDp L k - 1 by omega] at this
    exact this
  · rw [if_neg e6, if_neg e6]
    by_cases e7 : s = 7 + pDp L k
    · rw [if_pos e7, if_pos e7, kd_s (by omega), show s - 8 = pDp L k - 1 by omega, u6'.2]
      have := tp.2.2.1 (6 + pDp L k) (Or.inr ⟨by omega, by omega⟩)
      rw [kd_s (by omega), show 6 + pDp L k - 8 = pDp L k - 2 by omega] at this
      exact this
    · rw [if_neg e7, if_neg e7]
      unfold rel at hs
      rw [n2] at hs
      rcases hs with hs | hs
      · have := tp.2.2.1 s (Or.inl hs)
        rw [kd_l (by omega)] at this ⊢
        rw [n2]; exact this
      · have := tp.2.2.1 s (Or.inr ⟨hs.1, by omega⟩)
        rw [kd_s hs.1] at this ⊢
        rw [w0 (by omega) (by omega) (by omega) _ (by omega) (by omega)]; exact this
/-- a call goes on to a place with no values at hand; one local may be told more of -/
theorem s_jump {L : PG} {T : TB} {A A' : MA} {t k : Int} (g : wkg L T A t k) {i : Int} {X : Int → FA} (hq : inP L (pFi L (pMo L k) + i)) (mq : pMo L (pFi L (pMo L k) + i) = pMo L k) (dq : pDp L (pFi L (pMo L k) + i) = 0)
    (gt : GT L T k i X (T 6 k 0)) (hX : ∀ s, 0 ≤ s → s < pLc L (pMo L k) → gm A (pLk L (pMo L k) s) (X s) (A 513 (16 * (30 * t + A 509 t - 1) + s))) (same : onf A A' t) (e511 : A' 511 (30 * t + A 509 t - 1) = pFi L (pMo L k) + i) (e512 : A' 512 (30 * t + A 509 t - 1) = 0)
    (e513 : ∀ s, 0 ≤ s → s < 16 → A' 513 (16 * (30 * t + A 509 t - 1) + s) = A 513 (16 * (30 * t + A 509 t - 1) + s)) : INV L T A' := by
  have tp := g.tp
  obtain ⟨mo, -⟩ := g.1.1.k tp.1.1.1 tp.1.1.2
  have lc8 := (g.1.1.m mo.1 mo.2.1).2.2.2.2.2.2.2.2.2.1
  refine mv0 g hq gt.2 mq same e511 (by rw [e512, dq]) (fun s hs => ?_)
  unfold rel at hs
  rw [mq, dq] at hs
  have hs' : 0 ≤ s ∧ s < pLc L (pMo L k) := by omega
  rw [e513 s hs'.1 (by omega), kd_l (by omega), mq]
  exact hX s hs'.1 hs'.2
theorem wkg.lc {L : PG} {T : TB} {A : MA} {t k : Int} (g : wkg L T A t k) {s : Int} (s0 : 0 ≤ s) (s1 : s < pLc L (pMo L k)) : gm A (pLk L (pMo L k) s) (T 0 k s) (A 513 (16 * (30 * t + A 509 t - 1) + s)) := by
  have tp := g.tp
  obtain ⟨mo, -⟩ := g.1.1.k tp.1.1.1 tp.1.1.2
  have lc8 := (g.1.1.m mo.1 mo.2.1).2.2.2.2.2.2.2.2.2.1
  have := tp.2.2.1 s (Or.inl ⟨s0, s1⟩)
  rw [kd_l (by omega)] at this
  exact this
theorem wkg.sk {L : PG} {T : TB} {A : MA} {t k : Int} (g : wkg L T A t k) {i : Int} (i0 : 0 ≤ i) (i1 : i < pDp L k) : gm A (skd L k i) (T 0 k (8 + i)) (A 513 (16 * (30 * t + A 509 t - 1) + (8 + i))) := by
  have tp := g.tp
  have := tp.2.2.1 (8 + i) (Or.inr ⟨by omega, by omega⟩)
  rw [kd_s (by omega), show 8 + i - 8 = i by omega] at this
  exact this
/-! numbers -/
/-- a fact without locks -/
def bar (f : FA) : FA := (ath f, alo f, ahi f, alb f, ast f, 0)
theorem bar_ok {f : FA} (h : fok f) (n : ath f ≠ 0) : fok (bar f) := by
  obtain ⟨e, a, b, c, d, e2, -⟩ := fok_there h n
  exact Or.inr ⟨e, a, ⟨b, c⟩, d, e2, c32_0⟩
theorem rk_bar (L : PG) (op : Int) (a b : FA) : rk L op (bar a) (bar b) = rk L op a b := rfl
theorem inN_1 {f : FA} {v : Int} (h : inN f v) : fle (fv v v 0 0) (bar f) := by
  intro _
  refine ⟨h.1, h.2.1, h.2.2, fun s y => ?_, fun s y => ?_, fun s y => ?_⟩
  · rw [show alb (fv v v 0 0) = 0 from rfl, bi_zero] at y; cases y
  · rw [show ast (fv v v 0 0) = 0 from rfl, bl_zero] at y; cases y
  · rw [show asu (bar f) = 0 from rfl, bi_zero] at y; cases y
theorem inN_c {f : FA} {v : Int} (o : fok f) (h : inN f v) : c32 v := by
  obtain ⟨-, a, b, -⟩ := fok_there o h.1
  have h1 := h.2.1
  have h2 := h.2.2
  unfold c32 at *
  omega
theorem rnd_in {L : PG} {l h b z : Int} (h1 : l ≤ z) (h2 : z ≤ h) : inN (rnd L l h b) (w32 z) := by
  unfold rnd
  by_cases c : l < -2147483648 ∨ 2147483647 < h
  · rw [if_pos c]
    have := w32_c z
    exact ⟨(by decide : (1 : Int) ≠ 0), this.1, this.2⟩
  · rw [if_neg c, w32_i (by omega) (by omega)]
    have d1 := (dn_ex L (v := l) (by omega)).2.1
    have d2 := (up_ex L (v := h) (by omega)).2.1
    exact ⟨(by decide : (1 : Int) ≠ 0), (by show dn L l ≤ z; omega), (by show z ≤ upm L h; omega)⟩
theorem inN_le {f g : FA} {v : Int} (p : fle f g) (h : inN f v) : inN g v := (gm_n (A := fun _ _ => 0) (κ := 0) (by decide)).mp (gm_le p ((gm_n (by decide)).mpr h))
/-- numbers that are reckoned of numbers -/
theorem rk_in {L : PG} {op u v r : Int} {a b : FA} (oa : fok a) (ob : fok b) (ha : inN a u) (hb : inN b v) (h : inN (rk L op (fv u u 0 0) (fv v v 0 0)) r) : inN (rk L op a b) r := by
  have cu := inN_c oa ha
  have cv := inN_c ob hb
  have p := rk_mono (L := L) (op := op) (fok_fv cu cu (Int.le_refl _) c32_0 (by unfold c64; omega)) (fok_fv cv cv (Int.le_refl _) c32_0 (by unfold c64; omega)) (inN_1 ha) (inN_1 hb)
  rw [rk_bar] at p
  exact inN_le p h
theorem n00 {u u' v v' : Int} : ¬ (ath (fv u u' 0 0) = 0 ∨ ath (fv v v' 0 0) = 0) := fun y => by
  rcases y with y | y
  · exact absurd y (by decide : ¬ (1 : Int) = 0)
  · exact absurd y (by decide : ¬ (1 : Int) = 0)
theorem rk_7 {L : PG} {u v : Int} : inN (rk L 7 (fv u u 0 0) (fv v v 0 0)) (w32 (u + v)) := by
  unfold rk
  rw [if_neg n00, if_neg (by decide), if_pos rfl]
  exact rnd_in (Int.le_refl _) (Int.le_refl _)
theorem rk_8 {L : PG} {u v : Int} : inN (rk L 8 (fv u u 0 0) (fv v v 0 0)) (w32 (u - v)) := by
  unfold rk
  rw [if_neg n00, if_neg (by decide), if_neg (by decide), if_pos rfl]
  exact rnd_in (Int.le_refl _) (Int.le_refl _)
theorem rk_12 {L : PG} {u : Int} : inN (rk L 12 (fv u u 0 0) (fv u u 0 0)) (w32 (-u)) := by
  unfold rk
  rw [if_neg n00, if_pos rfl]
  exact rnd_in (Int.le_refl _) (Int.le_refl _)
theorem rk_9 {L : PG} {u v : Int} : inN (rk L 9 (fv u u 0 0) (fv v v 0 0)) (w32 (u * v)) := by
  unfold rk
  rw [if_neg n00, if_neg (by decide), if_neg (by decide), if_neg (by decide), if_pos rfl]
  refine rnd_in ?_ ?_
  · show mn4 (u * v) (u * v) (u * v) (u * v) ≤ u * v
    unfold mn4; omega
  · show u * v ≤ mx4 (u * v) (u * v) (u * v) (u * v)
    unfold mx4; omega
theorem rk_10 {L : PG} {u v : Int} (nz : v ≠ 0) : inN (rk L 10 (fv u u 0 0) (fv v v 0 0)) (w32 (u.tdiv v)) := by
  unfold rk
  rw [if_neg n00, if_neg (by decide), if_neg (by decide), if_neg (by decide), if_neg (by decide), if_neg (fun y => nz y.1), if_neg (by decide)]
  show inN (rnd L (qlo u u v v) (qhi u u v v) _) _
  by_cases c : v < 0
  · refine rnd_in ?_ ?_
    · unfold qlo; rw [if_pos c, if_neg (by omega), show min (-1) v = v by omega]; unfold mn4; omega
    · unfold qhi; rw [if_pos c, if_neg (by omega), show min (-1) v = v by omega]; unfold mx4; omega
  · refine rnd_in ?_ ?_
    · unfold qlo; rw [if_neg c, show max 1 v = v by omega]; unfold mn4; omega
    · unfold qhi; rw [if_neg c, show max 1 v = v by omega]; unfold mx4; omega
theorem tmod_b {u v : Int} (nz : v ≠ 0) : (if u < 0 then max (1 - max (iabs v) (iabs v)) u else 0) ≤ u.tmod v ∧ u.tmod v ≤ (if 0 < u then min (max (iabs v) (iabs v) - 1) u else 0) := by
  have h1 : ∀ a b : Int, 0 ≤ a → 0 < b → 0 ≤ a.tmod b ∧ a.tmod b < b ∧ a.tmod b ≤ a := by
    intro a b a0 b0
    rw [Int.tmod_eq_emod_of_nonneg a0]
    have m1 := Int.emod_nonneg a (show b ≠ 0 by omega)
    have m2 := Int.emod_lt_of_pos a b0
    have m3 : a % b ≤ a := by
      have e := Int.emod_add_mul_ediv a b
      have q := Int.ediv_nonneg a0 (show 0 ≤ b by omega)
      have := Int.mul_nonneg (show 0 ≤ b by omega) q
      omega
    exact ⟨m1, m2, m3⟩
  have hv : u.tmod v = u.tmod (iabs v) := by
    unfold iabs
    by_cases c : v < 0
    · rw [if_pos c, Int.tmod_neg]
    · rw [if_neg c]
  have b0 : 0 < iabs v := by unfold iabs; split <;> omega
  rw [hv]
  by_cases c : u < 0
  · have e : u.tmod (iabs v) = -((-u).tmod (iabs v)) := by rw [Int.neg_tmod]; omega
    have q := h1 (-u) (iabs v) (by omega) b0
    rw [if_pos c, if_neg (by omega), e]
    omega
  · have q := h1 u (iabs v) (by omega) b0
    rw [if_neg c]
    by_cases c2 : 0 < u
    · rw [if_pos c2]; omega
    · rw [if_neg c2]; omega
theorem rk_11 {L : PG} {u v : Int} (nz : v ≠ 0) : inN (rk L 11 (fv u u 0 0) (fv v v 0 0)) (w32 (u.tmod v)) := by
  unfold rk
  rw [if_neg n00, if_neg (by decide), if_neg (by decide), if_neg (by decide), if_neg (by decide), if_neg (fun y => nz y.1), if_pos rfl]
  have := tmod_b (u := u) nz
  exact rnd_in this.1 this.2
/-- numbers compared are as may tells -/
theorem may_in {w u v : Int} {a b : FA} (oa : fok a) (ob : fok b) (ha : inN a u) (hb : inN b v) (h : mayf w u u v v = 1) : mayp w a b := by
  have cu := inN_c oa ha
  have cv := inN_c ob hb
  have q : mayp w (fv u u 0 0) (fv v v 0 0) := ⟨(by decide : (1 : Int) ≠ 0), (by decide : (1 : Int) ≠ 0), h⟩
  have r := may_mono (fok_fv cu cu (Int.le_refl _) c32_0 (by unfold c64; omega)) (fok_fv cv cv (Int.le_refl _) c32_0 (by unfold c64; omega)) (inN_1 ha) (inN_1 hb) q
  exact r
