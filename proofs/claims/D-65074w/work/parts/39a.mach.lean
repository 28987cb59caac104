/-! Part 39a: the machine (plain): values are as facts tell -/
set_option maxRecDepth 100000
abbrev MA : Type := Int → Int → Int
def mset (A : MA) (a k x : Int) : MA := fun b j => if b = a ∧ j = k then x else A b j
theorem hv_mset (h : MH) (a k x : Int) : hv (hset h a k x) = mset (hv h) a k x := rfl
def nob (A : MA) : Int := A 396 91
def bgn (A : MA) : Int := A 396 83
/-- the site of a reference -/
def sit (A : MA) (v : Int) : Int := if v < 7 then v else A 515 (v - 7)
def oref (A : MA) (v : Int) : Prop := 0 ≤ v ∧ v < nob A + 7
def inN (f : FA) (v : Int) : Prop := ath f ≠ 0 ∧ alo f ≤ v ∧ v ≤ ahi f
def inR (A : MA) (f : FA) (v : Int) : Prop := ath f ≠ 0 ∧ oref A v ∧ bl (ast f) (sit A v) = true
/-- a value is among what a fact tells -/
def gm (A : MA) (κ : Int) (f : FA) (v : Int) : Prop := if κ = 1 then inR A f v else inN f v
theorem gm_r {A : MA} {κ : Int} {f : FA} {v : Int} (e : κ = 1) : gm A κ f v ↔ inR A f v := by unfold gm; rw [if_pos e]
theorem gm_n {A : MA} {κ : Int} {f : FA} {v : Int} (e : κ ≠ 1) : gm A κ f v ↔ inN f v := by unfold gm; rw [if_neg e]
theorem gm_ath {A : MA} {κ : Int} {f : FA} {v : Int} (h : gm A κ f v) : ath f ≠ 0 := by
  unfold gm at h
  split at h
  · exact h.1
  · exact h.1
theorem gm_le {A : MA} {κ : Int} {f g : FA} {v : Int} (p : fle f g) (h : gm A κ f v) : gm A κ g v := by
  have q := p (gm_ath h)
  unfold gm at *
  split
  · rename_i e
    rw [if_pos e] at h
    exact ⟨q.1, h.2.1, q.2.2.2.2.1 _ h.2.2⟩
  · rename_i e
    rw [if_neg e] at h
    have := h.2.1
    have := h.2.2
    exact ⟨q.1, by omega, by omega⟩
/-- objects stay what they are -/
def grw (A A' : MA) : Prop := nob A ≤ nob A' ∧ ∀ o, 0 ≤ o → o < nob A → A' 515 o = A 515 o
theorem grw_sit {A A' : MA} (g : grw A A') {v : Int} (h : oref A v) : sit A' v = sit A v := by
  unfold sit
  by_cases c : v < 7
  · rw [if_pos c, if_pos c]
  · rw [if_neg c, if_neg c]
    have := h.2
    exact g.2 _ (by omega) (by omega)
theorem gm_up {A A' : MA} (g : grw A A') {κ : Int} {f : FA} {v : Int} (h : gm A κ f v) : gm A' κ f v := by
  unfold gm at *
  split
  · rename_i e
    rw [if_pos e] at h
    have := h.2.1.2
    have := g.1
    exact ⟨h.1, ⟨h.2.1.1, by omega⟩, by rw [grw_sit g h.2.1]; exact h.2.2⟩
  · rename_i e
    rw [if_neg e] at h
    exact h
/-- kinds of stack slots, of slots -/
def skd (L : PG) (k i : Int) : Int := if bi (pKi L k) i = true then 1 else 0
def kd (L : PG) (k s : Int) : Int := if s < 8 then pLk L (pMo L k) s else skd L k (s - 8)
def WTk (L : PG) (k : Int) : Prop :=
  (pOp L k ≠ 15 → pOp L k ≠ 31 → pOp L k ≠ 32 → ∀ i, 0 ≤ i → i < pDp L k - ppo L k → skd L (k + 1) i = skd L k i) ∧
  (pOp L k = 3 → skd L k (pDp L k - 1) = pLk L (pMo L k) (pX L k)) ∧
  ((7 ≤ pOp L k ∧ pOp L k ≤ 11) ∨ pOp L k = 16 → skd L k (pDp L k - 1) = 0 ∧ skd L k (pDp L k - 2) = 0) ∧
  (pOp L k = 12 ∨ pOp L k = 14 ∨ pOp L k = 21 → skd L k (pDp L k - 1) = 0) ∧
  (pOp L k = 17 → pLk L (pMo L k) (pX L k % 8) = 0) ∧ (pOp L k = 18 ∨ pOp L k = 19 → pLk L (pMo L k) (pX L k) = 1) ∧
  (pOp L k = 22 ∨ pOp L k = 25 ∨ pOp L k = 32 ∨ pOp L k = 33 ∨ pOp L k = 36 → skd L k (pDp L k - 1) = 1) ∧
  (pOp L k = 23 → skd L k (pDp L k - 1) = 0 ∧ skd L k (pDp L k - 2) = 1 ∧ skd L (k + 1) (pDp L k - 2) = pX L k) ∧
  (pOp L k = 24 → skd L k (pDp L k - 1) = pX L k ∧ skd L k (pDp L k - 2) = 0 ∧ skd L k (pDp L k - 3) = 1) ∧
  (pOp L k = 26 → skd L k (pDp L k - 1) = pFk L (pX L k) (pY L k) ∧ skd L k (pDp L k - 2) = 1) ∧
  (pOp L k = 28 → skd L k (pDp L k - 1) = pSk L (pX L k)) ∧
  (pOp L k = 29 ∨ pOp L k = 30 → ∀ j, 0 ≤ j → j < pAr L (lik L k) → skd L k (pDp L k - pAr L (lik L k) + j) = pLk L (lik L k) j) ∧
  (pOp L k = 31 → 0 < pGi L (pMo L k) → skd L k (pDp L k - 1) = pGi L (pMo L k) - 1) ∧
  (pOp L k = 0 ∨ pOp L k = 13 ∨ (7 ≤ pOp L k ∧ pOp L k ≤ 12) ∨ pOp L k = 22 → skd L (k + 1) (pDp L k - ppo L k) = 0) ∧
  (pOp L k = 1 ∨ pOp L k = 20 ∨ pOp L k = 21 ∨ pOp L k = 33 → skd L (k + 1) (pDp L k - ppo L k) = 1) ∧
  (pOp L k = 2 → skd L (k + 1) (pDp L k) = pLk L (pMo L k) (pX L k)) ∧
  (pOp L k = 5 → skd L (k + 1) (pDp L k - 1) = skd L k (pDp L k - 1) ∧ skd L (k + 1) (pDp L k) = skd L k (pDp L k - 1)) ∧
  (pOp L k = 6 → skd L (k + 1) (pDp L k - 2) = skd L k (pDp L k - 1) ∧ skd L (k + 1) (pDp L k - 1) = skd L k (pDp L k - 2)) ∧
  (pOp L k = 25 → skd L (k + 1) (pDp L k - 1) = pFk L (pX L k) (pY L k)) ∧
  (pOp L k = 27 → skd L (k + 1) (pDp L k) = pSk L (pX L k)) ∧
  (pOp L k = 29 ∨ pOp L k = 30 → 0 < pGi L (lik L k) → skd L (k + 1) (pDp L k - pAr L (lik L k)) = pGi L (lik L k) - 1)
/-- what a judged program has besides -/
def WFt (L : PG) : Prop := (∀ k, inP L k → WTk L k) ∧ ∀ m j, inM L m → 0 ≤ j → j < pHn L m → skd L (pFi L m + pHa L m j 2) 0 = 1
/-- the values of a call are as told -/
def vls (L : PG) (T : TB) (A : MA) (f k d : Int) : Prop := ∀ s, vld L (pMo L k) d s → gm A (kd L k s) (T 0 k s) (A 513 (16 * f + s))
/-- the locks of a thread are as told -/
def lkok (A : MA) (t : Int) (lk : FA) : Prop := ath lk ≠ 0 ∧ ∀ x, 0 ≤ x → x < 8 → (bi (asu lk) x = true → A 514 x = t) ∧ (A 514 x = t → bi (alb lk) x = true)
theorem lkok_le {A : MA} {t : Int} {a b : FA} (p : fle a b) (h : lkok A t a) : lkok A t b := by
  have q := p h.1
  exact ⟨q.1, fun x x0 x1 => ⟨fun y => (h.2 x x0 x1).1 (q.2.2.2.2.2 x y), fun y => q.2.2.2.1 x ((h.2 x x0 x1).2 y)⟩⟩
/-- a call that is at work, one that waits for another -/
def ftop (L : PG) (T : TB) (A : MA) (t f : Int) : Prop := (inP L (A 511 f) ∧ rch T (A 511 f)) ∧ A 512 f = pDp L (A 511 f) ∧ vls L T A f (A 511 f) (pDp L (A 511 f)) ∧ lkok A t (T 6 (A 511 f) 0)
def fmid (L : PG) (T : TB) (A : MA) (t f : Int) : Prop := (inP L (A 511 f) ∧ rch T (A 511 f)) ∧ (pOp L (A 511 f) = 29 ∨ pOp L (A 511 f) = 30) ∧ A 512 f = pDp L (A 511 f) - pAr L (lik L (A 511 f)) ∧ vls L T A f (A 511 f) (pDp L (A 511 f) - pAr L (lik L (A 511 f))) ∧
  (∃ s, cld L (T 0 (A 511 f)) (A 511 f) s (pMo L (A 511 (f + 1)))) ∧ ∀ x, 0 ≤ x → x < 8 → bi (asu (T 6 (A 511 f) 0)) x = true → bi (alb (T 15 (pMo L (A 511 (f + 1))) 0)) x = false → A 514 x = t
/-- calls of a thread up to n, all but the last one waiting -/
def frms (L : PG) (T : TB) (A : MA) (t n : Int) : Prop := ∀ j, 0 ≤ j → j < n - 1 → fmid L T A t (30 * t + j)
def thr (L : PG) (T : TB) (A : MA) (t : Int) : Prop := 1 ≤ A 509 t ∧ A 509 t ≤ 30 ∧ frms L T A t (A 509 t) ∧ ftop L T A t (30 * t + A 509 t - 1)
def objs (L : PG) (T : TB) (A : MA) : Prop := 0 ≤ nob A ∧ nob A ≤ 400 ∧ ∀ o, 0 ≤ o → o < nob A → inS L (A 515 o) ∧
  (∀ f, 0 ≤ f → f < (if pSc L (A 515 o) < 0 then A 516 o else pFc L (pSc L (A 515 o))) → gm A (knd L (A 515 o) f) (T 1 (A 515 o) (if pSc L (A 515 o) < 0 then 0 else f)) (A 517 (100 * o + f))) ∧
  (pSc L (A 515 o) < 0 → 0 ≤ A 516 o ∧ A 516 o ≤ 100 ∧ inN (T 2 (A 515 o) 0) (A 516 o))
def stsn (L : PG) (T : TB) (A : MA) : Prop := ∀ i, 0 ≤ i → i < pNs L → gm A (pSk L i) (T 3 i 0) (A 521 i)
def ownr (A : MA) : Prop := ∀ x, 0 ≤ x → x < 8 → -1 ≤ A 514 x ∧ A 514 x < bgn A
/-- THE MACHINE IS AS FACTS TELL -/
def INV (L : PG) (T : TB) (A : MA) : Prop := (1 ≤ bgn A ∧ bgn A ≤ 8) ∧ objs L T A ∧ stsn L T A ∧ ownr A ∧ ∀ t, 0 ≤ t → t < bgn A → (A 508 t = 0 ∨ A 508 t = 1) ∧ (A 508 t = 0 → thr L T A t)
/-- all but one thread is as facts tell -/
def INVx (L : PG) (T : TB) (A : MA) (t : Int) : Prop := (1 ≤ bgn A ∧ bgn A ≤ 8) ∧ objs L T A ∧ stsn L T A ∧ ownr A ∧ ∀ t', 0 ≤ t' → t' < bgn A → (A 508 t' = 0 ∨ A 508 t' = 1) ∧ (t' ≠ t → A 508 t' = 0 → thr L T A t')
theorem INV.x {L : PG} {T : TB} {A : MA} (I : INV L T A) (t : Int) : INVx L T A t := ⟨I.1, I.2.1, I.2.2.1, I.2.2.2.1, fun t' a b => ⟨(I.2.2.2.2 t' a b).1, fun _ => (I.2.2.2.2 t' a b).2⟩⟩
/-- what facts have -/
def CT (L : PG) (T : TB) : Prop := WF L ∧ WFt L ∧ ¬ L 99 0 = 1 ∧ tiv L T ∧ ∀ k, inP L k → rch T k → CLz L T T k
/-- what one call may unlock, those that wait for it may -/
theorem unl_up {L : PG} {T : TB} {A : MA} {t : Int} (ct : CT L T) {n : Int} (fr : frms L T A t n) : ∀ N : Nat, ∀ j : Int, (n - 1 - j).toNat ≤ N → 0 ≤ j → j ≤ n - 1 → ∀ x, bi (alb (T 15 (pMo L (A 511 (30 * t + (n - 1)))) 0)) x = true → bi (alb (T 15 (pMo L (A 511 (30 * t + j))) 0)) x = true := by
  intro N
  induction N with
  | zero =>
    intro j a b c x h
    have : j = n - 1 := by omega
    rw [this]; exact h
  | succ N ih =>
    intro j a b c x h
    by_cases e : j = n - 1
    · rw [e]; exact h
    have q := ih (j + 1) (by omega) (by omega) (by omega) x h
    obtain ⟨⟨hk, rk⟩, o, -, -, ⟨s, cl⟩, -⟩ := fr j b (by omega)
    rw [show 30 * t + (j + 1) = 30 * t + j + 1 by omega] at q
    have z := ct.2.2.2.2 _ hk rk
    have := (z.2.2.1 o s _ cl).2.2.1
    exact alb_le (ct.2.2.2.1.1 _ _ _) this x q
/-- THE CALL AT WORK GOES ON to a place of its method -/
theorem mvx {L : PG} {T : TB} {A A' : MA} (ct : CT L T) {t : Int} (I : INVx L T A t) (t0 : 0 ≤ t) (t1 : t < bgn A) (lv : A 508 t = 0) (n1 : 1 ≤ A 509 t) (n30 : A 509 t ≤ 30) (fr : frms L T A t (A 509 t)) {q : Int} {X : Int → FA} {lk : FA} (hq : inP L q) (fl : Flow L T q X lk) (mq : pMo L q = pMo L (A 511 (30 * t + A 509 t - 1)))
    (same : ∀ a j, a ≠ 514 → ¬ ((a = 511 ∨ a = 512) ∧ j = 30 * t + A 509 t - 1) → ¬ (a = 513 ∧ 16 * (30 * t + A 509 t - 1) ≤ j ∧ j < 16 * (30 * t + A 509 t - 1) + 16) → A' a j = A a j)
    (e511 : A' 511 (30 * t + A 509 t - 1) = q) (e512 : A' 512 (30 * t + A 509 t - 1) = pDp L q) (vs : ∀ s, rel L q s → gm A (kd L q s) (X s) (A' 513 (16 * (30 * t + A 509 t - 1) + s))) (lo : lkok A' t lk)
    (o1 : ∀ x, 0 ≤ x → x < 8 → ∀ t', 0 ≤ t' → t' ≠ t → (A' 514 x = t' ↔ A 514 x = t')) (o2 : ∀ x, 0 ≤ x → x < 8 → A 514 x = t → A' 514 x = t ∨ bi (alb (T 15 (pMo L (A 511 (30 * t + A 509 t - 1))) 0)) x = true) (o3 : ∀ x, 0 ≤ x → x < 8 → A' 514 x = A 514 x ∨ A' 514 x = t ∨ A' 514 x = -1) : INV L T A' := by
  obtain ⟨⟨b0, b1'⟩, ob, st, ow, th⟩ := I
  have s396 : ∀ j, A' 396 j = A 396 j := fun j => same 396 j (by omega) (by omega) (by omega)
  have hb : bgn A' = bgn A := s396 83
  have hn : nob A' = nob A := s396 91
  have g : grw A A' := ⟨by omega, fun o _ _ => same 515 o (by omega) (by omega) (by omega)⟩
  have e509 : ∀ t, A' 509 t = A 509 t := fun t => same 509 t (by omega) (by omega) (by omega)
  have e508 : ∀ t, A' 508 t = A 508 t := fun t => same 508 t (by omega) (by omega) (by omega)
  have bt : t ≤ 7 := by omega
  -- frames other than the one at work are untouched
  have of : ∀ f, f ≠ 30 * t + A 509 t - 1 → A' 511 f = A 511 f ∧ A' 512 f = A 512 f ∧ ∀ s, 0 ≤ s → s < 16 → A' 513 (16 * f + s) = A 513 (16 * f + s) := fun f ne =>
    ⟨same 511 f (by omega) (by omega) (by omega), same 512 f (by omega) (by omega) (by omega), fun s s0 s1 => same 513 _ (by omega) (by omega) (by omega)⟩
  have vlr : ∀ {k d s : Int}, inP L k → d ≤ pDp L k → vld L (pMo L k) d s → 0 ≤ s ∧ s < 16 := fun hk hd hs => rel_rng ct.1 hk.1 hk.2 (vld_up hs hd)
  refine ⟨by rw [hb]; exact ⟨b0, b1'⟩, ⟨by rw [hn]; exact ob.1, by rw [hn]; exact ob.2.1, fun o o0 o1' => ?_⟩, fun i i0 i1 => ?_, fun x x0 x1 => ?_, fun t' t0' t1' => ?_⟩
  · rw [hn] at o1'
    obtain ⟨q1, q2, q3⟩ := ob.2.2 o o0 o1'
    rw [same 515 o (by omega) (by omega) (by omega), same 516 o (by omega) (by omega) (by omega)]
    refine ⟨q1, fun f f0 f1 => ?_, q3⟩
    rw [same 517 _ (by omega) (by omega) (by omega)]
    exact gm_up g (q2 f f0 f1)
  · rw [same 521 i (by omega) (by omega) (by omega)]
    exact gm_up g (st i i0 i1)
  · rw [hb]
    have := ow x x0 x1
    rcases o3 x x0 x1 with y | y | y
    · rw [y]; exact this
    · rw [y]; omega
    · rw [y]; omega
  · rw [hb] at t1'
    rw [e508]
    refine ⟨(th t' t0' t1').1, fun lv' => ?_⟩
    by_cases et : t' = t
    · subst et
      unfold thr
      rw [e509]
      refine ⟨n1, n30, fun j j0 j1 => ?_, ?_⟩
      · obtain ⟨⟨hk, rk⟩, o, de, vl, cl, lkm⟩ := fr j j0 j1
        have fj := of (30 * t' + j) (by omega)
        have nx1 : pMo L (A' 511 (30 * t' + j + 1)) = pMo L (A 511 (30 * t' + j + 1)) := by
          by_cases e : 30 * t' + j + 1 = 30 * t' + A 509 t' - 1
          · rw [e, e511]; exact mq
          · rw [(of _ e).1]
        unfold fmid
        rw [fj.1, fj.2.1, nx1]
        have dn' : pDp L (A 511 (30 * t' + j)) - pAr L (lik L (A 511 (30 * t' + j))) ≤ pDp L (A 511 (30 * t' + j)) := by
          have wk := ct.1.k hk.1 hk.2
          obtain ⟨-, -, -, -, -, -, -, -, -, -, -, -, -, cy, cw, -⟩ := wk
          have : 0 ≤ pAr L (lik L (A 511 (30 * t' + j))) := by
            unfold lik
            rcases o with o | o
            · rw [if_pos o]
              have := cy o
              exact (ct.1.m this.1 this.2.1).2.2.2.1
            · rw [if_neg (by omega)]
              have := wnm_ok ct.1 (cw (Or.inl o)).2
              exact (ct.1.m (cw (Or.inl o)).2 this.1).2.2.2.1
          omega
        refine ⟨⟨hk, rk⟩, o, de, fun s hs => ?_, cl, fun x x0 x1 y1 y2 => ?_⟩
        · have rg := vlr hk dn' hs
          rw [fj.2.2 s rg.1 rg.2]
          exact gm_up g (vl s hs)
        · rcases o2 x x0 x1 (lkm x x0 x1 y1 y2) with y | y
          · exact y
          · exfalso
            have up := unl_up ct fr _ (j + 1) (Nat.le_refl _) (by omega) (by omega) x (by rw [show 30 * t' + (A 509 t' - 1) = 30 * t' + A 509 t' - 1 by omega]; exact y)
            rw [show 30 * t' + (j + 1) = 30 * t' + j + 1 by omega, y2] at up
            cases up
      · unfold ftop
        rw [e511, e512]
        exact ⟨⟨hq, ath_le fl.2 lo.1⟩, rfl, fun s hs => gm_up g (gm_le (fl.1 s hs) (vs s hs)), lkok_le fl.2 lo⟩
    · have nf : ∀ j, 0 ≤ j → j < 30 → 30 * t' + j ≠ 30 * t + A 509 t - 1 := by
        intro j j0 j1 e
        have : t' = t := by omega
        exact et this
      obtain ⟨m1, m30, fr', tp'⟩ := (th t' t0' t1').2 et lv'
      unfold thr
      rw [e509]
      refine ⟨m1, m30, fun j j0 j1 => ?_, ?_⟩
      · obtain ⟨⟨hk, rk⟩, o, de, vl, cl, lkm⟩ := fr' j j0 j1
        have fj := of (30 * t' + j) (nf j j0 (by omega))
        have fj1 := of (30 * t' + j + 1) (by have := nf (j + 1) (by omega) (by omega); omega)
        unfold fmid
        rw [fj.1, fj.2.1, fj1.1]
        have dn' : pDp L (A 511 (30 * t' + j)) - pAr L (lik L (A 511 (30 * t' + j))) ≤ pDp L (A 511 (30 * t' + j)) := by
          have wk := ct.1.k hk.1 hk.2
          obtain ⟨-, -, -, -, -, -, -, -, -, -, -, -, -, cy, cw, -⟩ := wk
          have : 0 ≤ pAr L (lik L (A 511 (30 * t' + j))) := by
            unfold lik
            rcases o with o | o
            · rw [if_pos o]
              have := cy o
              exact (ct.1.m this.1 this.2.1).2.2.2.1
            · rw [if_neg (by omega)]
              have := wnm_ok ct.1 (cw (Or.inl o)).2
              exact (ct.1.m (cw (Or.inl o)).2 this.1).2.2.2.1
          omega
        refine ⟨⟨hk, rk⟩, o, de, fun s hs => ?_, cl, fun x x0 x1 y1 y2 => ?_⟩
        · have rg := vlr hk dn' hs
          rw [fj.2.2 s rg.1 rg.2]
          exact gm_up g (vl s hs)
        · exact (o1 x x0 x1 t' t0' et).mpr (lkm x x0 x1 y1 y2)
      · obtain ⟨⟨hk, rk⟩, de, vl, lo'⟩ := tp'
        have ff := of (30 * t' + A 509 t' - 1) (by have := nf (A 509 t' - 1) (by omega) (by omega); omega)
        unfold ftop
        rw [ff.1, ff.2.1]
        refine ⟨⟨hk, rk⟩, de, fun s hs => ?_, lo'.1, fun x x0 x1 => ?_⟩
        · have rg := vlr hk (Int.le_refl _) hs
          rw [ff.2.2 s rg.1 rg.2]
          exact gm_up g (vl s hs)
        · have := lo'.2 x x0 x1
          rw [o1 x x0 x1 t' t0' et]
          exact this
theorem mv {L : PG} {T : TB} {A A' : MA} (ct : CT L T) (I : INV L T A) {t : Int} (t0 : 0 ≤ t) (t1 : t < bgn A) (lv : A 508 t = 0) {q : Int} {X : Int → FA} {lk : FA} (hq : inP L q) (fl : Flow L T q X lk) (mq : pMo L q = pMo L (A 511 (30 * t + A 509 t - 1)))
    (same : ∀ a j, a ≠ 514 → ¬ ((a = 511 ∨ a = 512) ∧ j = 30 * t + A 509 t - 1) → ¬ (a = 513 ∧ 16 * (30 * t + A 509 t - 1) ≤ j ∧ j < 16 * (30 * t + A 509 t - 1) + 16) → A' a j = A a j)
    (e511 : A' 511 (30 * t + A 509 t - 1) = q) (e512 : A' 512 (30 * t + A 509 t - 1) = pDp L q) (vs : ∀ s, rel L q s → gm A (kd L q s) (X s) (A' 513 (16 * (30 * t + A 509 t - 1) + s))) (lo : lkok A' t lk)
    (o1 : ∀ x, 0 ≤ x → x < 8 → ∀ t', 0 ≤ t' → t' ≠ t → (A' 514 x = t' ↔ A 514 x = t')) (o2 : ∀ x, 0 ≤ x → x < 8 → A 514 x = t → A' 514 x = t ∨ bi (alb (T 15 (pMo L (A 511 (30 * t + A 509 t - 1))) 0)) x = true) (o3 : ∀ x, 0 ≤ x → x < 8 → A' 514 x = A 514 x ∨ A' 514 x = t ∨ A' 514 x = -1) : INV L T A' := by
  obtain ⟨n1, n30, fr, -⟩ := (I.2.2.2.2 t t0 t1).2 lv
  exact mvx ct (I.x t) t0 t1 lv n1 n30 fr hq fl mq same e511 e512 vs lo o1 o2 o3
