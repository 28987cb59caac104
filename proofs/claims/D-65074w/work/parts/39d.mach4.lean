/-! Part 39d: calls, returns, threads, objects keep to facts (plain) -/
set_option maxRecDepth 100000
/-- a call that waits stays one when its rows, those of the next one and its locks stay -/
theorem fm_eq {L : PG} {T : TB} {A A' : MA} (w : WF L) (g : grw A A') {t f : Int} (e1 : A' 511 f = A 511 f) (e2 : pMo L (A' 511 (f + 1)) = pMo L (A 511 (f + 1))) (e3 : A' 512 f = A 512 f) (e4 : ∀ s, 0 ≤ s → s < 16 → A' 513 (16 * f + s) = A 513 (16 * f + s)) (e5 : ∀ x, 0 ≤ x → x < 8 → A 514 x = t → A' 514 x = t) (q : fmid L T A t f) : fmid L T A' t f := by
  unfold fmid at *
  rw [e1, e2, e3]
  obtain ⟨⟨hk, rk⟩, o, de, vl, cl, lkm⟩ := q
  refine ⟨⟨hk, rk⟩, o, de, fun s hs => ?_, cl, fun x x0 x1 y1 y2 => e5 x x0 x1 (lkm x x0 x1 y1 y2)⟩
  have dn' : pDp L (A 511 f) - pAr L (lik L (A 511 f)) ≤ pDp L (A 511 f) := by
    obtain ⟨-, -, -, -, -, -, -, -, -, -, -, -, -, cy, cw, -⟩ := w.k hk.1 hk.2
    have : 0 ≤ pAr L (lik L (A 511 f)) := by
      unfold lik
      rcases o with o | o
      · rw [if_pos o]
        have := cy o
        exact (w.m this.1 this.2.1).2.2.2.1
      · rw [if_neg (by omega)]
        have := wnm_ok w (cw (Or.inl o)).2
        exact (w.m (cw (Or.inl o)).2 this.1).2.2.2.1
    omega
  have rg := rel_rng w hk.1 hk.2 (vld_up hs dn')
  rw [e4 s rg.1 rg.2]
  exact gm_up g (vl s hs)
theorem ft_eq {L : PG} {T : TB} {A A' : MA} (w : WF L) (g : grw A A') {t f : Int} (e1 : A' 511 f = A 511 f) (e3 : A' 512 f = A 512 f) (e4 : ∀ s, 0 ≤ s → s < 16 → A' 513 (16 * f + s) = A 513 (16 * f + s)) (e5 : ∀ x, 0 ≤ x → x < 8 → (A' 514 x = t ↔ A 514 x = t)) (q : ftop L T A t f) : ftop L T A' t f := by
  unfold ftop at *
  rw [e1, e3]
  obtain ⟨⟨hk, rk⟩, de, vl, lo⟩ := q
  refine ⟨⟨hk, rk⟩, de, fun s hs => ?_, lo.1, fun x x0 x1 => by rw [e5 x x0 x1]; exact lo.2 x x0 x1⟩
  have rg := rel_rng w hk.1 hk.2 hs
  rw [e4 s rg.1 rg.2]
  exact gm_up g (vl s hs)
theorem ob_eq {L : PG} {T : TB} {A A' : MA} (hn : nob A' = nob A) (e5 : ∀ j, A' 515 j = A 515 j) (e6 : ∀ j, A' 516 j = A 516 j) (e7 : ∀ j, A' 517 j = A 517 j) (q : objs L T A) : objs L T A' := by
  have g : grw A A' := ⟨by omega, fun o _ _ => e5 o⟩
  refine ⟨by rw [hn]; exact q.1, by rw [hn]; exact q.2.1, fun o o0 o1 => ?_⟩
  rw [hn] at o1
  rw [e5, e6]
  have r := q.2.2 o o0 o1
  exact ⟨r.1, fun f f0 f1 => by rw [e7]; exact gm_up g (r.2.1 f f0 f1), r.2.2⟩
theorem lik_ok {L : PG} (w : WF L) {k : Int} (hk : inP L k) (e : pOp L k = 29 ∨ pOp L k = 30 ∨ pOp L k = 36) : inM L (lik L k) := by
  obtain ⟨-, -, -, -, -, -, -, -, -, -, -, -, -, cy, cw, -⟩ := w.k hk.1 hk.2
  unfold lik
  by_cases o : pOp L k = 29
  · rw [if_pos o]
    have := cy o
    exact ⟨this.1, this.2.1⟩
  · rw [if_neg o]
    have c := (cw (by omega)).2
    exact ⟨c, (wnm_ok w c).1⟩
theorem frs_lik {L : PG} {k : Int} : frs L k = 8 + pDp L k - pAr L (lik L k) := by unfold frs lik; rfl
theorem und_bt {L : PG} {T : TB} {k s c x : Int} (hc : inM L c) (cl : cld L (T 0 k) k s c) (h : bi (alb (T 15 c 0)) x = true) : bi (und L T k) x = true := by
  have key : ∀ n : Nat, c < n → bi (undI L T k n) x = true := by
    intro n
    induction n with
    | zero => intro h; have := hc.1; omega
    | succ n ih =>
      intro hn
      unfold undI
      by_cases e : c = n
      · have : ∃ s, cld L (T 0 k) k s n := ⟨s, by rw [← e]; exact cl⟩
        rw [if_pos this, bi_or, ← e, h]; simp
      · have := ih (by omega)
        split
        · rw [bi_or, this]; rfl
        · exact this
  unfold und
  exact key _ (by have := hc.1; have := hc.2; omega)
/-- a call returns to who waits for it -/
theorem s_ret {L : PG} {T : TB} {A A' : MA} {t k : Int} (g : wkg L T A t k) (e : pOp L k = 31) (n2 : 2 ≤ A 509 t) {v k' d' : Int} (ek' : A 511 (30 * t + A 509 t - 2) = k') (ed' : A 512 (30 * t + A 509 t - 2) = d') (hv' : 0 < pGi L (pMo L k) → v = A 513 (16 * (30 * t + A 509 t - 1) + (7 + pDp L k)))
    (same : ∀ a j, ¬ (a = 509 ∧ j = t) → ¬ ((a = 511 ∨ a = 512) ∧ j = 30 * t + A 509 t - 2) → ¬ (a = 513 ∧ j = 16 * (30 * t + A 509 t - 2) + (8 + d')) → A' a j = A a j) (e509 : A' 509 t = A 509 t - 1) (e511 : A' 511 (30 * t + A 509 t - 2) = k' + 1)
    (e512 : A' 512 (30 * t + A 509 t - 2) = if 0 < pGi L (pMo L k) then d' + 1 else d') (e513 : A' 513 (16 * (30 * t + A 509 t - 2) + (8 + d')) = if 0 < pGi L (pMo L k) then v else A 513 (16 * (30 * t + A 509 t - 2) + (8 + d'))) : INV L T A' := by
  have tp := g.tp
  have sk := fun {i : Int} => g.sk (i := i)
  have cz := g.c
  have nb := g.n
  obtain ⟨ct, I, t0, t1, lv, ek⟩ := g
  have w := ct.1
  obtain ⟨n1, n30, fr, -⟩ := (I.2.2.2.2 t t0 t1).2 lv
  have fm := fr (A 509 t - 2) (by omega) (by omega)
  rw [show 30 * t + (A 509 t - 2) = 30 * t + A 509 t - 2 by omega] at fm
  obtain ⟨⟨hk', rk'⟩, o, de, vl, cl, lkm⟩ := fm
  rw [show 30 * t + A 509 t - 2 + 1 = 30 * t + A 509 t - 1 by omega, ek] at cl lkm
  rw [ek'] at hk' rk' o de vl cl lkm
  rw [ed'] at de
  obtain ⟨s0, cl⟩ := cl
  have hm : inM L (pMo L k) := by have := (w.k tp.1.1.1 tp.1.1.2).1; exact ⟨this.1, this.2.1⟩
  have co := cld_ok w ct.2.2.2.1 hk'.1 hk'.2 (by omega) cl
  have c31 := cz.2.2.2.2.2.1 e
  have z := (ct.2.2.2.2 _ hk' rk').2.2.1 o s0 _ cl
  have a5 : ath (T 5 (pMo L k) 0) ≠ 0 := by
    by_cases gi : 0 < pGi L (pMo L k)
    · have c1 := c31.1
      rw [if_pos gi] at c1
      have dp := (w.k tp.1.1.1 tp.1.1.2).2.2.2.2.2.2.2.2.2.2.2.2.2.2.2.2.2.2.2.1
      have po : ppo L k = 1 := by unfold ppo; rw [if_neg (by omega), if_neg (by omega), if_neg (by omega), if_neg (by omega), if_pos e, if_pos gi]
      have := gm_ath (sk (i := pDp L k - 1) (by omega) (by omega))
      rw [show 8 + (pDp L k - 1) = 7 + pDp L k by omega] at this
      exact ath_le c1 this
    · have c1 := c31.1
      rw [if_neg gi] at c1
      exact ath_le c1 (by decide : (1 : Int) ≠ 0)
  have gt := z.2.2.2.2 a5
  obtain ⟨q1, q2, q3, q4⟩ := nxt_ok w hk' (by omega) (by omega) (by omega)
  have fl := gt.2
  rw [q3] at fl
  have wt := ct.2.1.1 k tp.1.1
  have wt' := ct.2.1.1 k' hk'
  have li := lik_ok w hk' (by omega)
  have lin := (w.m li.1 li.2)
  have dp' := (w.k hk'.1 hk'.2).2.2.2.2.2.2.2.2.2.2.2.2.2.2.2.2.2.2.2.1
  have po : ppo L k' = pAr L (lik L k') := by unfold ppo; rw [if_neg (by omega), if_neg (by omega), if_neg (by omega), if_pos o]
  have pu : ppu L k' = if 0 < pGi L (pMo L k) then 1 else 0 := by unfold ppu; rw [if_neg (by omega), if_neg (by omega), if_pos o, co.2.2.1]
  have lc8 := (w.m (w.k hk'.1 hk'.2).1.1 (w.k hk'.1 hk'.2).1.2.1).2.2.2.2.2.2.2.2.2.1
  -- the last call is gone
  have A1s : ∀ a j, ¬ (a = 509 ∧ j = t) → mset A 509 t (A 509 t - 1) a j = A a j := fun a j p => by unfold mset; rw [if_neg p]
  have A1n : mset A 509 t (A 509 t - 1) 509 t = A 509 t - 1 := by unfold mset; rw [if_pos ⟨rfl, rfl⟩]
  have gr : grw A (mset A 509 t (A 509 t - 1)) := ⟨by unfold nob; rw [A1s _ _ (by omega)]; omega, fun o _ _ => A1s 515 o (by omega)⟩
  have bn : bgn (mset A 509 t (A 509 t - 1)) = bgn A := A1s 396 83 (by omega)
  have eqf : 30 * t + mset A 509 t (A 509 t - 1) 509 t - 1 = 30 * t + A 509 t - 2 := by rw [A1n]; omega
  have Ix : INVx L T (mset A 509 t (A 509 t - 1)) t := by
    refine ⟨by rw [bn]; exact I.1, ob_eq (A1s 396 91 (by omega)) (fun j => A1s _ _ (by omega)) (fun j => A1s _ _ (by omega)) (fun j => A1s _ _ (by omega)) I.2.1, fun i i0 i1 => ?_, fun x x0 x1 => ?_, fun t' t0' t1' => ?_⟩
    · rw [A1s 521 i (by omega)]; exact gm_up gr (I.2.2.1 i i0 i1)
    · rw [A1s 514 x (by omega), bn]; exact I.2.2.2.1 x x0 x1
    · rw [bn] at t1'
      rw [A1s 508 t' (by omega)]
      have r := I.2.2.2.2 t' t0' t1'
      refine ⟨r.1, fun ne lv' => ?_⟩
      have r2 := r.2 lv'
      unfold thr
      rw [A1s 509 t' (by omega)]
      exact ⟨r2.1, r2.2.1, fun j j0 j1 => fm_eq w gr (A1s _ _ (by omega)) (by rw [A1s _ _ (by omega)]) (A1s _ _ (by omega)) (fun s _ _ => A1s _ _ (by omega)) (fun x _ _ y => by rw [A1s _ _ (by omega)]; exact y) (r2.2.2.1 j j0 j1), ft_eq w gr (A1s _ _ (by omega)) (A1s _ _ (by omega)) (fun s _ _ => A1s _ _ (by omega)) (fun x _ _ => by rw [A1s _ _ (by omega)]) r2.2.2.2⟩
  have s514 : ∀ x, A' 514 x = A 514 x := fun x => same 514 x (by omega) (by omega) (by omega)
  have l7 := lkok_le c31.2 tp.2.2.2
  refine mvx ct Ix t0 (by rw [bn]; exact t1) (by rw [A1s _ _ (by omega)]; exact lv) (by omega) (by omega) ?_ q1 fl (by rw [eqf, A1s _ _ (by omega), ek']; exact q2) ?_ (by rw [eqf]; exact e511) (by rw [eqf, e512, q4, po, pu, de]; split <;> omega) ?_ ?_ ?_ ?_ ?_
  · rw [A1n]
    exact fun j j0 j1 => fm_eq w gr (A1s _ _ (by omega)) (by rw [A1s _ _ (by omega)]) (A1s _ _ (by omega)) (fun s _ _ => A1s _ _ (by omega)) (fun x _ _ y => by rw [A1s _ _ (by omega)]; exact y) (fr j j0 (by omega))
  · intro a j p q r
    rw [eqf] at q r
    by_cases z : a = 509 ∧ j = t
    · obtain ⟨rfl, rfl⟩ := z
      rw [A1n]; exact e509
    · rw [A1s a j z]
      by_cases zz : a = 513 ∧ j = 16 * (30 * t + A 509 t - 2) + (8 + d')
      · by_cases gi : 0 < pGi L (pMo L k)
        · rw [if_pos gi] at pu
          exfalso
          exact r ⟨zz.1, by omega, by omega⟩
        · rw [zz.1, zz.2, e513, if_neg gi]
      · exact same a j z q zz
  · rw [eqf]
    intro s hs
    have rg := rel_rng w q1.1 q1.2 hs
    unfold rel at hs
    rw [q2, q4, po, pu] at hs
    by_cases e8 : s = 8 + d'
    · by_cases gi : 0 < pGi L (pMo L k)
      · rw [if_pos gi] at hs ⊢
        rw [e8, e513, if_pos gi]
        have eX : ux (T 0 k') (frs L k') (T 5 (pMo L k) 0) (8 + d') = T 5 (pMo L k) 0 := by unfold ux; rw [if_pos (by rw [frs_lik]; omega)]
        rw [eX, kd_s (by omega), show 8 + d' - 8 = d' by omega]
        obtain ⟨-, -, -, -, -, -, -, -, -, -, -, -, p31, -, -, -, -, -, -, -, -⟩ := wt
        obtain ⟨-, -, -, -, -, -, -, -, -, -, -, -, -, -, -, -, -, -, -, -, u29⟩ := wt'
        have k1 := u29 o (by rw [← co.2.2.1]; exact gi)
        rw [← de, ← co.2.2.1] at k1
        rw [k1]
        have k2 := p31 e gi
        have dp := (w.k tp.1.1.1 tp.1.1.2).2.2.2.2.2.2.2.2.2.2.2.2.2.2.2.2.2.2.2.1
        have po' : ppo L k = 1 := by unfold ppo; rw [if_neg (by omega), if_neg (by omega), if_neg (by omega), if_neg (by omega), if_pos e, if_pos gi]
        have k3 := sk (i := pDp L k - 1) (by omega) (by omega)
        rw [k2, show 8 + (pDp L k - 1) = 7 + pDp L k by omega, ← hv' gi] at k3
        have c1 := c31.1
        rw [if_pos gi] at c1
        exact gm_up gr (gm_le c1 k3)
      · rw [if_neg gi] at hs
        exfalso
        omega
    · have eX : (if 0 < pGi L (pMo L k) then ux (T 0 k') (frs L k') (T 5 (pMo L k) 0) else T 0 k') s = T 0 k' s := by
        split
        · unfold ux; rw [if_neg (by rw [frs_lik]; omega)]
        · rfl
      rw [eX, same 513 _ (by omega) (by omega) (by omega)]
      have hs2 : (0 ≤ s ∧ s < pLc L (pMo L k')) ∨ (8 ≤ s ∧ s < 8 + (pDp L k' - pAr L (lik L k'))) := by
        split at hs <;> omega
      have := vl s hs2
      rcases hs2 with hs2 | hs2
      · rw [kd_l (by omega)] at this ⊢
        rw [q2]
        exact gm_up gr this
      · rw [kd_s hs2.1] at this ⊢
        rw [wt'.1 (by omega) (by omega) (by omega) _ (by omega) (by omega)]
        exact gm_up gr this
  · refine ⟨(by decide : (1 : Int) ≠ 0), fun x x0 x1 => ⟨fun y => ?_, fun y => ?_⟩⟩
    · rw [s514]
      have y' : bi (i_or (asu (T 7 (pMo L k) 0)) (i_and (asu (T 6 k' 0)) (i_xor (und L T k') (-1)))) x = true := y
      rw [bi_or, bi_andn, Bool.or_eq_true, Bool.and_eq_true] at y'
      rcases y' with y' | y'
      · exact (l7.2 x x0 x1).1 y'
      · refine lkm x x0 x1 y'.1 ?_
        cases r : bi (alb (T 15 (pMo L k) 0)) x
        · rfl
        · have := und_bt (T := T) (k := k') hm cl r
          rw [this] at y'; simp at y'
    · rw [s514] at y
      exact (l7.2 x x0 x1).2 y
  · intro x x0 x1 t' b0 ne
    rw [s514, A1s 514 x (by omega)]
  · intro x x0 x1 y
    rw [A1s 514 x (by omega)] at y
    exact Or.inl (by rw [s514]; exact y)
  · intro x x0 x1
    exact Or.inl (by rw [s514, A1s 514 x (by omega)])
/-- values that a called method begins with -/
theorem ent_ok {L : PG} {T : TB} {A : MA} {t k s c : Int} (g : wkg L T A t k) (o : pOp L k = 29 ∨ pOp L k = 30 ∨ pOp L k = 36) (cl : cld L (T 0 k) k s c) (hs : pOp L k ≠ 29 → sit A (A 513 (16 * (30 * t + A 509 t - 1) + frs L k)) = s) (k36 : pOp L k = 36 → pAr L (lik L k) = 1) {j v : Int} (j0 : 0 ≤ j) (j1 : j < pLc L c)
    (hv' : v = if j < pAr L c then A 513 (16 * (30 * t + A 509 t - 1) + (frs L k + j)) else 0) : gm A (pLk L c j) (entz L (T 0 k) k s c j) v := by
  have tp := g.tp
  have w := g.1.1
  have co := cld_ok w g.1.2.2.2.1 tp.1.1.1 tp.1.1.2 o cl
  have li := lik_ok w tp.1.1 o
  have wk := w.k tp.1.1.1 tp.1.1.2
  have dp := wk.2.2.2.2.2.2.2.2.2.2.2.2.2.2.2.2.2.2.2.1
  have po : pAr L (lik L k) ≤ pDp L k := by
    have : ppo L k = pAr L (lik L k) ∨ (ppo L k = 1 ∧ pOp L k = 36) := by
      unfold ppo
      by_cases e : pOp L k = 36
      · rw [if_pos (by omega)]; exact Or.inr ⟨rfl, e⟩
      · rw [if_neg (by omega), if_neg (by omega), if_neg (by omega), if_pos (by omega)]; exact Or.inl rfl
    rcases this with y | y
    · omega
    · have := k36 y.2; omega
  have a0 := (w.m li.1 li.2).2.2.2.1
  unfold entz
  by_cases ja : j < pAr L c
  · rw [if_pos ja] at hv' ⊢
    -- the kind of an argument
    have kj : skd L k (pDp L k - pAr L (lik L k) + j) = pLk L c j := by
      have wt := g.1.2.1.1 k tp.1.1
      have al : pOp L k ≠ 29 → pLk L (lik L k) j = pLk L c j := by
        intro e
        have lo : pOw L (lik L k) ≠ 255 ∧ pNa L (lik L k) = pX L k := by
          have cw := wk.2.2.2.2.2.2.2.2.2.2.2.2.2.2.1 (by omega)
          have := wnm_ok w cw.2
          unfold lik
          rw [if_neg e]
          exact ⟨this.2.2, this.2.1⟩
        rcases cl with cl | cl
        · exact absurd cl.1 e
        · obtain ⟨-, s1, s2, ec, c0⟩ := cl
          have sN : s < pNt L := (tiv_sok g.1.2.2.2.1 w 0 k (frs L k)).2 s s2.1 s2.2.2
          have sk' := sent_ok w (nm := pX L k) s1 sN (by rw [← ec]; exact c0)
          rw [← ec] at sk'
          exact (w.l (lik L k) c li.1 li.2 c0 sk'.1 lo.1 sk'.2.2 (by rw [lo.2, sk'.2.1])).2.2 j j0 (by rw [← co.2.1]; exact ja)
      by_cases e : pOp L k = 36
      · have ar := k36 e
        have j00 : j = 0 := by rw [co.2.1, ar] at ja; omega
        have k1 := wt.2.2.2.2.2.2.1 (by omega)
        rw [j00, ar, show pDp L k - 1 + 0 = pDp L k - 1 by omega, k1]
        -- a method of a class takes a reference first
        have hc := co.1
        rcases cl with cl | cl
        · omega
        · obtain ⟨-, s1, s2, ec, c0⟩ := cl
          have sN : s < pNt L := (tiv_sok g.1.2.2.2.1 w 0 k (frs L k)).2 s s2.1 s2.2.2
          have sk' := sent_ok w (nm := pX L k) s1 sN (by rw [← ec]; exact c0)
          rw [← ec] at sk'
          have := (w.m hc.1 hc.2).2.2.2.2.2.1 sk'.2.2
          exact this.2.symm
      · have k1 := wt.2.2.2.2.2.2.2.2.2.2.2.1 (by omega) j j0 (by rw [← co.2.1]; exact ja)
        rw [k1]
        by_cases e2 : pOp L k = 29
        · rcases cl with cl | cl
          · rw [cl.2.2]; unfold lik; rw [if_pos e2]
          · exact absurd e2 cl.1
        · exact al e2
    have q := g.sk (i := pDp L k - pAr L (lik L k) + j) (by omega) (by rw [co.2.1] at ja; omega)
    rw [kj, show 8 + (pDp L k - pAr L (lik L k) + j) = frs L k + j by rw [frs_lik]; omega, ← hv'] at q
    by_cases z : j = 0 ∧ s ≠ -1
    · rw [if_pos z, if_neg g.1.2.2.1]
      have ne : pOp L k ≠ 29 := by
        rcases cl with cl | cl
        · exact absurd cl.2.1 z.2
        · exact cl.1
      rw [z.1, show frs L k + 0 = frs L k by omega] at q hv'
      rw [z.1]
      -- a reference
      have k1 : pLk L c 0 = 1 := by
        rcases cl with cl | cl
        · exact absurd cl.1 ne
        · obtain ⟨-, s1, s2, ec, c0⟩ := cl
          have sN : s < pNt L := (tiv_sok g.1.2.2.2.1 w 0 k (frs L k)).2 s s2.1 s2.2.2
          have sk' := sent_ok w (nm := pX L k) s1 sN (by rw [← ec]; exact c0)
          rw [← ec] at sk'
          exact ((w.m co.1.1 co.1.2).2.2.2.2.2.1 sk'.2.2).2
      rw [gm_r k1] at q ⊢
      unfold rs
      rw [if_neg q.1]
      refine ⟨(by decide : (1 : Int) ≠ 0), q.2.1, ?_⟩
      have es := hs ne
      rw [← hv'] at es
      show bl (l_shl 1 s) (sit A v) = true
      have s0 : 0 ≤ s ∧ s < 64 := by
        rcases cl with cl | cl
        · exact absurd cl.1 ne
        · exact ⟨cl.2.2.1.1, by have := cl.2.2.1.2.1; omega⟩
      rw [es, bl_shl s0.1 s0.2 s0.1]; simp
    · rw [if_neg z]; exact q
  · rw [if_neg ja] at hv' ⊢
    rw [hv']
    unfold f1st
    by_cases k1 : pLk L c j = 1
    · rw [if_pos k1, gm_r k1]
      refine ⟨(by decide : (1 : Int) ≠ 0), ⟨by omega, by have := g.2.1.2.1.1; omega⟩, ?_⟩
      show bl 1 (sit A 0) = true
      unfold sit
      rw [if_pos (by decide), bl_one (by decide)]; rfl
    · rw [if_neg k1, gm_n k1]
      exact ⟨(by decide : (1 : Int) ≠ 0), Int.le_refl _, Int.le_refl _⟩
/-- a method is called -/
theorem s_call {L : PG} {T : TB} {A A' : MA} {t k s c : Int} (g : wkg L T A t k) (o : pOp L k = 29 ∨ pOp L k = 30) (cl : cld L (T 0 k) k s c) (hs : pOp L k ≠ 29 → sit A (A 513 (16 * (30 * t + A 509 t - 1) + frs L k)) = s) (n30 : A 509 t < 30)
    (same : ∀ a j, a ≠ 510 → ¬ (a = 509 ∧ j = t) → ¬ (a = 512 ∧ j = 30 * t + A 509 t - 1) → ¬ ((a = 511 ∨ a = 512) ∧ j = 30 * t + A 509 t) → ¬ (a = 513 ∧ 16 * (30 * t + A 509 t) ≤ j ∧ j < 16 * (30 * t + A 509 t) + 16) → A' a j = A a j)
    (e509 : A' 509 t = A 509 t + 1) (e512 : A' 512 (30 * t + A 509 t - 1) = pDp L k - pAr L (lik L k)) (f511 : A' 511 (30 * t + A 509 t) = pFi L c) (f512 : A' 512 (30 * t + A 509 t) = 0)
    (f513 : ∀ j, 0 ≤ j → j < 16 → A' 513 (16 * (30 * t + A 509 t) + j) = if j < pAr L c then A 513 (16 * (30 * t + A 509 t - 1) + (frs L k + j)) else 0) : INV L T A' := by
  have tp := g.tp
  have cz := g.c
  have nb := g.n
  have w := g.1.1
  have ent := fun {j v : Int} => ent_ok (j := j) (v := v) g (by omega) cl hs (fun y => by omega)
  have co := cld_ok w g.1.2.2.2.1 tp.1.1.1 tp.1.1.2 (by omega) cl
  obtain ⟨ct, I, t0, t1, lv, ek⟩ := g
  obtain ⟨m1, m30, fr, -⟩ := (I.2.2.2.2 t t0 t1).2 lv
  have z := cz.2.2.1 o s c cl
  have wm := w.m co.1.1 co.1.2
  obtain ⟨-, -, -, ar0, ar4, -, -, -, arl, lc8, -, -, -, -, -, co1, -, fi0, fi1, fim, fid, -⟩ := wm
  have mf : pMo L (pFi L c) = c := by have := fim 0 (by omega) (by omega); rw [show pFi L c + 0 = pFi L c by omega] at this; exact this
  have hq : inP L (pFi L c) := ⟨fi0, by omega⟩
  have li := lik_ok w tp.1.1 (by omega)
  have a0 := (w.m li.1 li.2).2.2.2.1
  have s396 : ∀ j, A' 396 j = A 396 j := fun j => same 396 j (by omega) (by omega) (by omega) (by omega) (by omega)
  have bn : bgn A' = bgn A := s396 83
  have nn : nob A' = nob A := s396 91
  have gr : grw A A' := ⟨by omega, fun o _ _ => same 515 o (by omega) (by omega) (by omega) (by omega) (by omega)⟩
  have s514 : ∀ x, A' 514 x = A 514 x := fun x => same 514 x (by omega) (by omega) (by omega) (by omega) (by omega)
  refine ⟨by rw [bn]; exact I.1, ob_eq nn (fun j => same _ _ (by omega) (by omega) (by omega) (by omega) (by omega)) (fun j => same _ _ (by omega) (by omega) (by omega) (by omega) (by omega)) (fun j => same _ _ (by omega) (by omega) (by omega) (by omega) (by omega)) I.2.1, fun i i0 i1 => ?_, fun x x0 x1 => ?_, fun t' t0' t1' => ?_⟩
  · rw [same 521 i (by omega) (by omega) (by omega) (by omega) (by omega)]; exact gm_up gr (I.2.2.1 i i0 i1)
  · rw [s514, bn]; exact I.2.2.2.1 x x0 x1
  · rw [bn] at t1'
    rw [same 508 t' (by omega) (by omega) (by omega) (by omega) (by omega)]
    have r := I.2.2.2.2 t' t0' t1'
    refine ⟨r.1, fun lv' => ?_⟩
    by_cases et : t' = t
    · subst et
      unfold thr
      rw [e509]
      refine ⟨by omega, by omega, fun j j0 j1 => ?_, ?_⟩
      · by_cases ej : j = A 509 t' - 1
        · have ef : 30 * t' + j = 30 * t' + A 509 t' - 1 := by omega
          unfold fmid
          rw [ef, show 30 * t' + A 509 t' - 1 + 1 = 30 * t' + A 509 t' by omega, f511, mf, same 511 _ (by omega) (by omega) (by omega) (by omega) (by omega), ek, e512]
          refine ⟨tp.1, o, rfl, fun x hx => ?_, ⟨s, cl⟩, fun x x0 x1 y1 _ => by rw [s514]; exact (tp.2.2.2.2 x x0 x1).1 y1⟩
          have hx' := vld_up hx (show pDp L k - pAr L (lik L k) ≤ pDp L k by omega)
          have rg := rel_rng w tp.1.1.1 tp.1.1.2 hx'
          rw [same 513 _ (by omega) (by omega) (by omega) (by omega) (by omega)]
          exact gm_up gr (tp.2.2.1 x hx')
        · refine fm_eq w gr (same _ _ (by omega) (by omega) (by omega) (by omega) (by omega)) (by rw [same _ _ (by omega) (by omega) (by omega) (by omega) (by omega)]) (same _ _ (by omega) (by omega) (by omega) (by omega) (by omega)) (fun x _ _ => same _ _ (by omega) (by omega) (by omega) (by omega) (by omega)) (fun x _ _ y => by rw [s514]; exact y) (fr j j0 (by omega))
      · unfold ftop
        rw [show 30 * t' + (A 509 t' + 1) - 1 = 30 * t' + A 509 t' by omega, f511, f512, fid]
        have fl := z.2.1
        refine ⟨⟨hq, ath_le fl.2 tp.2.2.2.1⟩, rfl, fun x hx => ?_, ?_⟩
        · unfold vld at hx
          rw [mf] at hx
          have hx' : 0 ≤ x ∧ x < pLc L c := by omega
          rw [kd_l (by omega), mf]
          refine gm_up gr (gm_le (fl.1 x ?_) (ent hx'.1 hx'.2 (f513 x hx'.1 (by omega))))
          unfold rel
          rw [mf]
          exact Or.inl hx'
        · have l6 := lkok_le fl.2 tp.2.2.2
          exact ⟨l6.1, fun x x0 x1 => by rw [s514]; exact l6.2 x x0 x1⟩
    · have r2 := r.2 lv'
      have bt : t ≤ 7 := nb.2.2.2
      have nf : ∀ j, 0 ≤ j → j < 30 → 30 * t' + j ≠ 30 * t + A 509 t - 1 ∧ 30 * t' + j ≠ 30 * t + A 509 t := by
        intro j j0 j1
        constructor
        · intro e
          have : t' = t := by omega
          exact et this
        · intro e
          have : t' = t := by omega
          exact et this
      unfold thr
      rw [same 509 t' (by omega) (by omega) (by omega) (by omega) (by omega)]
      have b1' : 1 ≤ A 509 t' := r2.1
      have b2' : A 509 t' ≤ 30 := r2.2.1
      refine ⟨r2.1, r2.2.1, fun j j0 j1 => ?_, ?_⟩
      · have h1 := nf j j0 (by omega)
        have h2 := nf (j + 1) (by omega) (by omega)
        exact fm_eq w gr (same _ _ (by omega) (by omega) (by omega) (by omega) (by omega)) (by rw [same _ _ (by omega) (by omega) (by omega) (by omega) (by omega)]) (same _ _ (by omega) (by omega) (by omega) (by omega) (by omega)) (fun x _ _ => same _ _ (by omega) (by omega) (by omega) (by omega) (by omega)) (fun x _ _ y => by rw [s514]; exact y) (r2.2.2.1 j j0 j1)
      · have h1 := nf (A 509 t' - 1) (by omega) (by omega)
        exact ft_eq w gr (same _ _ (by omega) (by omega) (by omega) (by omega) (by omega)) (same _ _ (by omega) (by omega) (by omega) (by omega) (by omega)) (fun x _ _ => same _ _ (by omega) (by omega) (by omega) (by omega) (by omega)) (fun x _ _ => by rw [s514]) r2.2.2.2
/-- a thread is begun by what is as told otherwise -/
theorem s_begin {L : PG} {T : TB} {A A' : MA} {c : Int} {X : Int → FA} (ct : CT L T) (I : INV L T A) (u8 : bgn A < 8) (hc : inM L c) (fl : Flow L T (pFi L c) X (fk 0 0)) (vs : ∀ j, 0 ≤ j → j < pLc L c → gm A (pLk L c j) (X j) (A' 513 (16 * (30 * bgn A) + j)))
    (same : ∀ a j, a ≠ 510 → ¬ (a = 396 ∧ j = 83) → ¬ ((a = 508 ∨ a = 509) ∧ j = bgn A) → ¬ ((a = 511 ∨ a = 512) ∧ j = 30 * bgn A) → ¬ (a = 513 ∧ 16 * (30 * bgn A) ≤ j ∧ j < 16 * (30 * bgn A) + 16) → A' a j = A a j)
    (e83 : A' 396 83 = bgn A + 1) (e508 : A' 508 (bgn A) = 0) (e509 : A' 509 (bgn A) = 1) (f511 : A' 511 (30 * bgn A) = pFi L c) (f512 : A' 512 (30 * bgn A) = 0) : INV L T A' := by
  have w := ct.1
  have wm := w.m hc.1 hc.2
  obtain ⟨-, -, -, ar0, ar4, -, -, -, arl, lc8, -, -, -, -, -, co1, -, fi0, fi1, fim, fid, -⟩ := wm
  have mf : pMo L (pFi L c) = c := by have := fim 0 (by omega) (by omega); rw [show pFi L c + 0 = pFi L c by omega] at this; exact this
  have hq : inP L (pFi L c) := ⟨fi0, by omega⟩
  have b0 := I.1.1
  have bn : bgn A' = bgn A + 1 := e83
  have nn : nob A' = nob A := same 396 91 (by omega) (by omega) (by omega) (by omega) (by omega)
  have gr : grw A A' := ⟨by omega, fun o _ _ => same 515 o (by omega) (by omega) (by omega) (by omega) (by omega)⟩
  have s514 : ∀ x, A' 514 x = A 514 x := fun x => same 514 x (by omega) (by omega) (by omega) (by omega) (by omega)
  refine ⟨by omega, ob_eq nn (fun j => same _ _ (by omega) (by omega) (by omega) (by omega) (by omega)) (fun j => same _ _ (by omega) (by omega) (by omega) (by omega) (by omega)) (fun j => same _ _ (by omega) (by omega) (by omega) (by omega) (by omega)) I.2.1, fun i i0 i1 => ?_, fun x x0 x1 => ?_, fun t' t0' t1' => ?_⟩
  · rw [same 521 i (by omega) (by omega) (by omega) (by omega) (by omega)]; exact gm_up gr (I.2.2.1 i i0 i1)
  · rw [s514, bn]
    have := I.2.2.2.1 x x0 x1
    omega
  · rw [bn] at t1'
    by_cases et : t' = bgn A
    · rw [et]
      refine ⟨Or.inl e508, fun _ => ?_⟩
      unfold thr
      rw [e509]
      refine ⟨by omega, by omega, fun j j0 j1 => by omega, ?_⟩
      unfold ftop
      rw [show 30 * bgn A + 1 - 1 = 30 * bgn A by omega, f511, f512, fid]
      refine ⟨⟨hq, ath_le fl.2 (by decide : (1 : Int) ≠ 0)⟩, rfl, fun x hx => ?_, ?_⟩
      · unfold vld at hx
        rw [mf] at hx
        have hx' : 0 ≤ x ∧ x < pLc L c := by omega
        rw [kd_l (by omega), mf]
        refine gm_up gr (gm_le (fl.1 x ?_) (vs x hx'.1 hx'.2))
        unfold rel
        rw [mf]
        exact Or.inl hx'
      · refine lkok_le fl.2 ⟨(by decide : (1 : Int) ≠ 0), fun x x0 x1 => ⟨fun y => ?_, fun y => ?_⟩⟩
        · rw [show asu (fk 0 0) = 0 from rfl, bi_zero] at y; cases y
        · rw [s514] at y
          have := I.2.2.2.1 x x0 x1
          omega
    · rw [same 508 t' (by omega) (by omega) (by omega) (by omega) (by omega)]
      have r := I.2.2.2.2 t' t0' (by omega)
      refine ⟨r.1, fun lv' => ?_⟩
      have r2 := r.2 lv'
      unfold thr
      rw [same 509 t' (by omega) (by omega) (by omega) (by omega) (by omega)]
      have b1' : 1 ≤ A 509 t' := r2.1
      have b2' : A 509 t' ≤ 30 := r2.2.1
      refine ⟨r2.1, r2.2.1, fun j j0 j1 => ?_, ?_⟩
      · exact fm_eq w gr (same _ _ (by omega) (by omega) (by omega) (by omega) (by omega)) (by rw [same _ _ (by omega) (by omega) (by omega) (by omega) (by omega)]) (same _ _ (by omega) (by omega) (by omega) (by omega) (by omega)) (fun x _ _ => same _ _ (by omega) (by omega) (by omega) (by omega) (by omega)) (fun x _ _ y => by rw [s514]; exact y) (r2.2.2.1 j j0 j1)
      · exact ft_eq w gr (same _ _ (by omega) (by omega) (by omega) (by omega) (by omega)) (same _ _ (by omega) (by omega) (by omega) (by omega) (by omega)) (fun x _ _ => same _ _ (by omega) (by omega) (by omega) (by omega) (by omega)) (fun x _ _ => by rw [s514]) r2.2.2.2
/-! objects -/
/-- calls and locks stay -/
theorem th_eq {L : PG} {T : TB} {A A' : MA} (w : WF L) (gr : grw A A') (e : ∀ a j, 508 ≤ a → a ≤ 514 → A' a j = A a j) {t : Int} (r : thr L T A t) : thr L T A' t := by
  unfold thr
  rw [e 509 t (by omega) (by omega)]
  exact ⟨r.1, r.2.1, fun j j0 j1 => fm_eq w gr (e _ _ (by omega) (by omega)) (by rw [e _ _ (by omega) (by omega)]) (e _ _ (by omega) (by omega)) (fun x _ _ => e _ _ (by omega) (by omega)) (fun x _ _ y => by rw [e _ _ (by omega) (by omega)]; exact y) (r.2.2.1 j j0 j1), ft_eq w gr (e _ _ (by omega) (by omega)) (e _ _ (by omega) (by omega)) (fun x _ _ => e _ _ (by omega) (by omega)) (fun x _ _ => by rw [e _ _ (by omega) (by omega)]) r.2.2.2⟩
/-- an object is made -/
theorem s_make {L : PG} {T : TB} {A A' : MA} (w : WF L) (I : INV L T A) (lt : nob A < 400) {s n : Int} (hs : inS L s) (hf : ∀ f, 0 ≤ f → f < nfs L s → fle (f1st (knd L s f)) (T 1 s f)) (hl : pSc L s < 0 → 0 ≤ n ∧ n ≤ 100 ∧ inN (T 2 s 0) n)
    (same : ∀ a j, ¬ (a = 396 ∧ j = 91) → ¬ ((a = 515 ∨ a = 516) ∧ j = nob A) → ¬ (a = 517 ∧ 100 * nob A ≤ j ∧ j < 100 * nob A + 100) → A' a j = A a j) (e91 : A' 396 91 = nob A + 1) (e515 : A' 515 (nob A) = s) (e516 : A' 516 (nob A) = n) (e517 : ∀ j, 0 ≤ j → j < 100 → A' 517 (100 * nob A + j) = 0) : INV L T A' ∧ sit A' (nob A + 7) = s ∧ oref A' (nob A + 7) := by
  have b0 := I.2.1.1
  have hn : nob A' = nob A + 1 := e91
  have bn : bgn A' = bgn A := same 396 83 (by omega) (by omega) (by omega)
  have gr : grw A A' := ⟨by omega, fun o o0 o1 => same 515 o (by omega) (by omega) (by omega)⟩
  refine ⟨⟨by rw [bn]; exact I.1, ⟨by omega, by omega, fun o o0 o1 => ?_⟩, fun i i0 i1 => ?_, fun x x0 x1 => ?_, fun t' t0' t1' => ?_⟩, ?_, by unfold oref; omega⟩
  · by_cases e : o = nob A
    · rw [e, e515, e516]
      have sc := w.sc (s := s) (by have := hs.1; omega) hs.2
      refine ⟨hs, fun f f0 f1 => ?_, hl⟩
      have f100 : f < 100 := by
        split at f1
        · rename_i z; have := hl z; omega
        · rename_i z; have := w.c.2.2.1 (pSc L s) (by omega) (by omega); omega
      rw [e517 f f0 f100]
      have key : ∀ g, 0 ≤ g → g < nfs L s → knd L s g = knd L s f → gm A' (knd L s f) (T 1 s g) 0 := by
        intro g' g0 g1 ek
        refine gm_le (hf g' g0 g1) ?_
        rw [ek]
        unfold f1st
        by_cases k1 : knd L s f = 1
        · rw [if_pos k1, gm_r k1]
          refine ⟨(by decide : (1 : Int) ≠ 0), ⟨by omega, by omega⟩, ?_⟩
          show bl 1 (sit A' 0) = true
          unfold sit
          rw [if_pos (by decide), bl_one (by decide)]; rfl
        · rw [if_neg k1, gm_n k1]
          exact ⟨(by decide : (1 : Int) ≠ 0), Int.le_refl _, Int.le_refl _⟩
      by_cases z : pSc L s < 0
      · rw [if_pos z]
        refine key 0 (by omega) ?_ ?_
        · unfold nfs; rw [if_pos z]; omega
        · unfold knd; rw [if_pos z, if_pos z]
      · rw [if_neg z]
        rw [if_neg z] at f1
        refine key f f0 ?_ rfl
        unfold nfs; rw [if_neg z]; exact f1
    · rw [same 515 o (by omega) (by omega) (by omega), same 516 o (by omega) (by omega) (by omega)]
      have q := I.2.1.2.2 o o0 (by omega)
      refine ⟨q.1, fun f f0 f1 => ?_, q.2.2⟩
      have sc := w.sc (s := A 515 o) (by have := q.1.1; omega) q.1.2
      have f100 : f < 100 := by
        split at f1
        · rename_i z; have := q.2.2 z; omega
        · rename_i z; have := w.c.2.2.1 (pSc L (A 515 o)) (by omega) (by omega); omega
      rw [same 517 _ (by omega) (by omega) (by omega)]
      exact gm_up gr (q.2.1 f f0 f1)
  · rw [same 521 i (by omega) (by omega) (by omega)]; exact gm_up gr (I.2.2.1 i i0 i1)
  · rw [same 514 x (by omega) (by omega) (by omega), bn]; exact I.2.2.2.1 x x0 x1
  · rw [bn] at t1'
    rw [same 508 t' (by omega) (by omega) (by omega)]
    have r := I.2.2.2.2 t' t0' t1'
    exact ⟨r.1, fun lv' => th_eq w gr (fun a j _ _ => same a j (by omega) (by omega) (by omega)) (r.2 lv')⟩
  · unfold sit
    rw [if_neg (by omega), show nob A + 7 - 7 = nob A by omega]; exact e515
/-- a cell is set -/
theorem s_cell {L : PG} {T : TB} {A A' : MA} (w : WF L) (I : INV L T A) {o i v : Int} (o0 : 0 ≤ o) (o1 : o < nob A) (i0 : 0 ≤ i) (i1 : i < (if pSc L (A 515 o) < 0 then A 516 o else pFc L (pSc L (A 515 o)))) (gv : gm A (knd L (A 515 o) i) (T 1 (A 515 o) (if pSc L (A 515 o) < 0 then 0 else i)) v)
    (same : ∀ a j, ¬ (a = 517 ∧ j = 100 * o + i) → A' a j = A a j) (e517 : A' 517 (100 * o + i) = v) : INV L T A' := by
  have bn : bgn A' = bgn A := same 396 83 (by omega)
  have hn : nob A' = nob A := same 396 91 (by omega)
  have gr : grw A A' := ⟨by omega, fun o _ _ => same 515 o (by omega)⟩
  have h100 : ∀ o, 0 ≤ o → o < nob A → ∀ f, f < (if pSc L (A 515 o) < 0 then A 516 o else pFc L (pSc L (A 515 o))) → f < 100 := by
    intro o o0 o1 f f1
    have q := I.2.1.2.2 o o0 o1
    have sc := w.sc (s := A 515 o) (by have := q.1.1; omega) q.1.2
    split at f1
    · rename_i z; have := q.2.2 z; omega
    · rename_i z; have := w.c.2.2.1 (pSc L (A 515 o)) (by omega) (by omega); omega
  refine ⟨by rw [bn]; exact I.1, ⟨by rw [hn]; exact I.2.1.1, by rw [hn]; exact I.2.1.2.1, fun p p0 p1 => ?_⟩, fun i i0 i1 => ?_, fun x x0 x1 => ?_, fun t' t0' t1' => ?_⟩
  · rw [hn] at p1
    rw [same 515 p (by omega), same 516 p (by omega)]
    have q := I.2.1.2.2 p p0 p1
    refine ⟨q.1, fun f f0 f1 => ?_, q.2.2⟩
    have b1' := h100 p p0 p1 f f1
    have b2 := h100 o o0 o1 i i1
    by_cases e : p = o ∧ f = i
    · obtain ⟨rfl, rfl⟩ := e
      rw [e517]; exact gm_up gr gv
    · rw [same 517 _ (by omega)]
      exact gm_up gr (q.2.1 f f0 f1)
  · rw [same 521 i (by omega)]; exact gm_up gr (I.2.2.1 i i0 i1)
  · rw [same 514 x (by omega), bn]; exact I.2.2.2.1 x x0 x1
  · rw [bn] at t1'
    rw [same 508 t' (by omega)]
    have r := I.2.2.2.2 t' t0' t1'
    exact ⟨r.1, fun lv' => th_eq w gr (fun a j _ _ => same a j (by omega)) (r.2 lv')⟩
/-- a static is set -/
theorem s_stat {L : PG} {T : TB} {A A' : MA} (w : WF L) (I : INV L T A) {i v : Int} (i0 : 0 ≤ i) (i1 : i < pNs L) (gv : gm A (pSk L i) (T 3 i 0) v)
    (same : ∀ a j, ¬ (a = 521 ∧ j = i) → A' a j = A a j) (e521 : A' 521 i = v) : INV L T A' := by
  have bn : bgn A' = bgn A := same 396 83 (by omega)
  have hn : nob A' = nob A := same 396 91 (by omega)
  have gr : grw A A' := ⟨by omega, fun o _ _ => same 515 o (by omega)⟩
  refine ⟨by rw [bn]; exact I.1, ob_eq hn (fun j => same _ _ (by omega)) (fun j => same _ _ (by omega)) (fun j => same _ _ (by omega)) I.2.1, fun p p0 p1 => ?_, fun x x0 x1 => ?_, fun t' t0' t1' => ?_⟩
  · by_cases e : p = i
    · rw [e, e521]; exact gm_up gr gv
    · rw [same 521 p (by omega)]; exact gm_up gr (I.2.2.1 p p0 p1)
  · rw [same 514 x (by omega), bn]; exact I.2.2.2.1 x x0 x1
  · rw [bn] at t1'
    rw [same 508 t' (by omega)]
    have r := I.2.2.2.2 t' t0' t1'
    exact ⟨r.1, fun lv' => th_eq w gr (fun a j _ _ => same a j (by omega)) (r.2 lv')⟩
/-- what nothing is told of may change -/
theorem INV_eq {L : PG} {T : TB} {A A' : MA} (w : WF L) (I : INV L T A) (e : ∀ a j, (508 ≤ a ∧ a ≤ 517 ∧ a ≠ 510) ∨ a = 521 ∨ (a = 396 ∧ (j = 83 ∨ j = 91)) → A' a j = A a j) : INV L T A' := by
  have bn : bgn A' = bgn A := e 396 83 (by omega)
  have hn : nob A' = nob A := e 396 91 (by omega)
  have gr : grw A A' := ⟨by omega, fun o _ _ => e 515 o (by omega)⟩
  refine ⟨by rw [bn]; exact I.1, ob_eq hn (fun j => e _ _ (by omega)) (fun j => e _ _ (by omega)) (fun j => e _ _ (by omega)) I.2.1, fun p p0 p1 => ?_, fun x x0 x1 => ?_, fun t' t0' t1' => ?_⟩
  · rw [e 521 p (by omega)]; exact gm_up gr (I.2.2.1 p p0 p1)
  · rw [e 514 x (by omega), bn]; exact I.2.2.2.1 x x0 x1
  · rw [bn] at t1'
    rw [e 508 t' (by omega)]
    have r := I.2.2.2.2 t' t0' t1'
    refine ⟨r.1, fun lv' => ?_⟩
    have q := r.2 lv'
    unfold thr
    rw [e 509 t' (by omega)]
    exact ⟨q.1, q.2.1, fun j j0 j1 => fm_eq w gr (e _ _ (by omega)) (by rw [e _ _ (by omega)]) (e _ _ (by omega)) (fun x _ _ => e _ _ (by omega)) (fun x _ _ y => by rw [e _ _ (by omega)]; exact y) (q.2.2.1 j j0 j1), ft_eq w gr (e _ _ (by omega)) (e _ _ (by omega)) (fun x _ _ => e _ _ (by omega)) (fun x _ _ => by rw [e _ _ (by omega)]) q.2.2.2⟩
