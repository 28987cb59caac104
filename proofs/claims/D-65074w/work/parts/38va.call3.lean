/-! Part 38va: the end of a call that is no start -/
set_option maxRecDepth 100000
/-- a method may be called at a place -/
def CD (L : PG) (T : TB) (k c : Int) : Prop := ∃ s, cld L (T 0 k) k s c
/-- what has been put together of the first n methods that are called: whether one gives back; the locks -/
def GI (L : PG) (T : TB) (k n v13 v14 v15 : Int) (V : TB) : Prop := (c32 v14) ∧ (c32 v15) ∧ (su8 v14) ∧ (∀ c, 0 ≤ c → c < n → CD L T k c → ath (T 5 c 0) ≠ 0 → v13 ≠ 0 ∧ (∀ x : Int, bi v14 x = true → bi (asu (T 7 c 0)) x = true) ∧ (∀ x : Int, bi (alb (T 7 c 0)) x = true → bi v15 x = true)) ∧ (v13 ≠ 0 → ∃ c, 0 ≤ c ∧ c < n ∧ CD L T k c ∧ ath (V 5 c 0) ≠ 0) ∧ (∀ x : Int, x < 8 → (∀ c, 0 ≤ c → c < n → CD L T k c → ath (V 5 c 0) ≠ 0 → bi (asu (V 7 c 0)) x = true) → bi v14 x = true) ∧ (∀ x : Int, bi v15 x = true → ∃ c, 0 ≤ c ∧ c < n ∧ CD L T k c ∧ ath (V 5 c 0) ≠ 0 ∧ bi (alb (V 7 c 0)) x = true)
theorem GI.a14 {L : PG} {T : TB} {k n v13 v14 v15 : Int} {V : TB} (g : GI L T k n v13 v14 v15 V) : c32 v14 := g.1
theorem GI.a15 {L : PG} {T : TB} {k n v13 v14 v15 : Int} {V : TB} (g : GI L T k n v13 v14 v15 V) : c32 v15 := g.2.1
theorem GI.s14 {L : PG} {T : TB} {k n v13 v14 v15 : Int} {V : TB} (g : GI L T k n v13 v14 v15 V) : su8 v14 := g.2.2.1
theorem GI.low {L : PG} {T : TB} {k n v13 v14 v15 : Int} {V : TB} (g : GI L T k n v13 v14 v15 V) : ∀ c, 0 ≤ c → c < n → CD L T k c → ath (T 5 c 0) ≠ 0 → v13 ≠ 0 ∧ (∀ x : Int, bi v14 x = true → bi (asu (T 7 c 0)) x = true) ∧ (∀ x : Int, bi (alb (T 7 c 0)) x = true → bi v15 x = true) := g.2.2.2.1
theorem GI.one {L : PG} {T : TB} {k n v13 v14 v15 : Int} {V : TB} (g : GI L T k n v13 v14 v15 V) : v13 ≠ 0 → ∃ c, 0 ≤ c ∧ c < n ∧ CD L T k c ∧ ath (V 5 c 0) ≠ 0 := g.2.2.2.2.1
theorem GI.hi {L : PG} {T : TB} {k n v13 v14 v15 : Int} {V : TB} (g : GI L T k n v13 v14 v15 V) : ∀ x : Int, x < 8 → (∀ c, 0 ≤ c → c < n → CD L T k c → ath (V 5 c 0) ≠ 0 → bi (asu (V 7 c 0)) x = true) → bi v14 x = true := g.2.2.2.2.2.1
theorem GI.per {L : PG} {T : TB} {k n v13 v14 v15 : Int} {V : TB} (g : GI L T k n v13 v14 v15 V) : ∀ x : Int, bi v15 x = true → ∃ c, 0 ≤ c ∧ c < n ∧ CD L T k c ∧ ath (V 5 c 0) ≠ 0 ∧ bi (alb (V 7 c 0)) x = true := g.2.2.2.2.2.2
theorem GI.mk {L : PG} {T : TB} {k n v13 v14 v15 : Int} {V : TB} (a14 : c32 v14) (a15 : c32 v15) (s14 : su8 v14) (low : ∀ c, 0 ≤ c → c < n → CD L T k c → ath (T 5 c 0) ≠ 0 → v13 ≠ 0 ∧ (∀ x : Int, bi v14 x = true → bi (asu (T 7 c 0)) x = true) ∧ (∀ x : Int, bi (alb (T 7 c 0)) x = true → bi v15 x = true)) (one : v13 ≠ 0 → ∃ c, 0 ≤ c ∧ c < n ∧ CD L T k c ∧ ath (V 5 c 0) ≠ 0) (hi : ∀ x : Int, x < 8 → (∀ c, 0 ≤ c → c < n → CD L T k c → ath (V 5 c 0) ≠ 0 → bi (asu (V 7 c 0)) x = true) → bi v14 x = true) (per : ∀ x : Int, bi v15 x = true → ∃ c, 0 ≤ c ∧ c < n ∧ CD L T k c ∧ ath (V 5 c 0) ≠ 0 ∧ bi (alb (V 7 c 0)) x = true) : GI L T k n v13 v14 v15 V := ⟨a14, a15, s14, low, one, hi, per⟩
theorem bi_255 (x : Int) : bi 255 x = true ↔ x < 8 := by
  constructor
  · intro h
    by_cases c : x < 8
    · exact c
    · exfalso
      by_cases d : 32 ≤ x
      · rw [bi_hi d] at h; cases h
      · obtain ⟨y, rfl⟩ : ∃ y : Nat, x = y := ⟨x.toNat, by omega⟩
        have q : ∀ y : Fin 32, 8 ≤ y.val → bi 255 (y.val : Int) = false := by decide
        have := q ⟨y, by omega⟩ (by show 8 ≤ y; omega)
        rw [show bi 255 (((⟨y, by omega⟩ : Fin 32).val : Nat) : Int) = bi 255 (y : Int) from rfl] at this
        rw [this] at h; cases h
  · intro h
    by_cases d : x < 0
    · rw [bi_neg d]; decide
    · obtain ⟨y, rfl⟩ : ∃ y : Nat, x = y := ⟨x.toNat, by omega⟩
      have q : ∀ y : Fin 8, bi 255 (y.val : Int) = true := by decide
      exact q ⟨y, by omega⟩
theorem GI_0 (L : PG) (T : TB) (k : Int) (V : TB) : GI L T k 0 0 255 0 V := GI.mk
  (a14 := by unfold c32; omega)
  (a15 := by unfold c32; omega)
  (s14 := fun x hx => by
    cases r : bi 255 x
    · rfl
    · have := (bi_255 x).mp r; omega)
  (low := fun c c0 c1 => by omega)
  (one := fun z => absurd rfl z)
  (hi := fun x hx _ => (bi_255 x).mpr hx)
  (per := fun x y => by rw [bi_zero] at y; cases y)
theorem GI_up {L : PG} {T V V' : TB} {k n v13 v14 v15 : Int} (tV : tbok V) (p : tle V V') (h75 : ∀ c, ath (V 5 c 0) ≠ 0 ↔ ath (V 7 c 0) ≠ 0) (g : GI L T k n v13 v14 v15 V) : GI L T k n v13 v14 v15 V' := GI.mk
  (a14 := g.a14)
  (a15 := g.a15)
  (s14 := g.s14)
  (low := g.low)
  (one := fun z => by
    obtain ⟨c, c0, c1, c2, c3⟩ := g.one z
    exact ⟨c, c0, c1, c2, ath_le (p _ _ _) c3⟩)
  (hi := fun x hx H => g.hi x hx (fun c c0 c1 c2 c3 => fle_asu (p 7 c 0) ((h75 c).mp c3) x (H c c0 c1 c2 (ath_le (p _ _ _) c3))))
  (per := fun x y => by
    obtain ⟨c, c0, c1, c2, c3, c4⟩ := g.per x y
    exact ⟨c, c0, c1, c2, ath_le (p _ _ _) c3, alb_le (tV _ _ _) (p _ _ _) x c4⟩)
theorem GI_no {L : PG} {T V : TB} {k n v13 v14 v15 : Int} (p : tle T V) (H : CD L T k n → ath (V 5 n 0) = 0) (g : GI L T k n v13 v14 v15 V) : GI L T k (n + 1) v13 v14 v15 V := GI.mk
  (a14 := g.a14)
  (a15 := g.a15)
  (s14 := g.s14)
  (low := fun c c0 c1 c2 c3 => by
    by_cases cn : c = n
    · rw [cn] at c2 c3
      exact absurd (H c2) (ath_le (p _ _ _) c3)
    · exact g.low c c0 (by omega) c2 c3)
  (one := fun z => by
    obtain ⟨c, c0, c1, c2, c3⟩ := g.one z
    exact ⟨c, c0, by omega, c2, c3⟩)
  (hi := fun x hx H => g.hi x hx (fun c c0 c1 c2 c3 => H c c0 (by omega) c2 c3))
  (per := fun x y => by
    obtain ⟨c, c0, c1, c2, c3, c4⟩ := g.per x y
    exact ⟨c, c0, by omega, c2, c3, c4⟩)
theorem GI_yes {L : PG} {T V : TB} {k n v13 v14 v15 : Int} (n0 : 0 ≤ n) (oT : tbok T) (p : tle T V) (h75 : ∀ c, ath (T 5 c 0) ≠ 0 ↔ ath (T 7 c 0) ≠ 0) (cd : CD L T k n) (y : ath (V 5 n 0) ≠ 0) (g : GI L T k n v13 v14 v15 V) : GI L T k (n + 1) 1 (i_and v14 (asu (V 7 n 0))) (i_or v15 (alb (V 7 n 0))) V := GI.mk
  (a14 := c32_i_and _ _)
  (a15 := c32_i_or _ _)
  (s14 := fun x hx => by rw [bi_and, g.s14 x hx]; rfl)
  (low := fun c c0 c1 c2 c3 => by
    refine ⟨by decide, fun x q => ?_, fun x q => ?_⟩
    · rw [bi_and] at q
      simp at q
      by_cases cn : c = n
      · rw [cn] at c3 ⊢; exact fle_asu (p 7 n 0) ((h75 n).mp c3) x q.2
      · exact (g.low c c0 (by omega) c2 c3).2.1 x q.1
    · rw [bi_or]
      simp
      by_cases cn : c = n
      · rw [cn] at q; exact Or.inr (alb_le (oT _ _ _) (p _ _ _) x q)
      · exact Or.inl ((g.low c c0 (by omega) c2 c3).2.2 x q))
  (one := fun _ => ⟨n, n0, by omega, cd, y⟩)
  (hi := fun x hx H => by rw [bi_and, g.hi x hx (fun c c0 c1 c2 c3 => H c c0 (by omega) c2 c3), H n n0 (by omega) cd y]; rfl)
  (per := fun x q => by
    rw [bi_or] at q
    simp at q
    rcases q with q | q
    · obtain ⟨c, c0, c1, c2, c3, c4⟩ := g.per x q
      exact ⟨c, c0, by omega, c2, c3, c4⟩
    · exact ⟨n, n0, by omega, cd, y, q⟩)
/-- what has been put together of the values that are given back -/
def GV (L : PG) (T : TB) (k n : Int) (V : TB) (v : FA) : Prop := (v = fz ∨ fgd L V v) ∧ (∀ c, 0 ≤ c → c < n → CD L T k c → ath (V 5 c 0) ≠ 0 → fle (V 5 c 0) v) ∧ (∀ W, (∀ c, 0 ≤ c → c < n → CD L T k c → ath (V 5 c 0) ≠ 0 → fle (V 5 c 0) W) → fle v W)
theorem GV.ok {L : PG} {T : TB} {k n : Int} {V : TB} {v : FA} (g : GV L T k n V v) : v = fz ∨ fgd L V v := g.1
theorem GV.low {L : PG} {T : TB} {k n : Int} {V : TB} {v : FA} (g : GV L T k n V v) : ∀ c, 0 ≤ c → c < n → CD L T k c → ath (V 5 c 0) ≠ 0 → fle (V 5 c 0) v := g.2.1
theorem GV.hi {L : PG} {T : TB} {k n : Int} {V : TB} {v : FA} (g : GV L T k n V v) : ∀ W, (∀ c, 0 ≤ c → c < n → CD L T k c → ath (V 5 c 0) ≠ 0 → fle (V 5 c 0) W) → fle v W := g.2.2
theorem GV.mk {L : PG} {T : TB} {k n : Int} {V : TB} {v : FA} (ok : v = fz ∨ fgd L V v) (low : ∀ c, 0 ≤ c → c < n → CD L T k c → ath (V 5 c 0) ≠ 0 → fle (V 5 c 0) v) (hi : ∀ W, (∀ c, 0 ≤ c → c < n → CD L T k c → ath (V 5 c 0) ≠ 0 → fle (V 5 c 0) W) → fle v W) : GV L T k n V v := ⟨ok, low, hi⟩
theorem GV_0 (L : PG) (T : TB) (k : Int) (V : TB) : GV L T k 0 V fz := GV.mk
  (ok := Or.inl rfl)
  (low := fun c c0 c1 => by omega)
  (hi := fun W _ => fle_fz W)
theorem GV_no {L : PG} {T V : TB} {k n : Int} {v : FA} (H : CD L T k n → ath (V 5 n 0) = 0) (g : GV L T k n V v) : GV L T k (n + 1) V v := GV.mk
  (ok := g.ok)
  (low := fun c c0 c1 c2 c3 => by
    by_cases cn : c = n
    · rw [cn] at c2 c3; exact absurd (H c2) c3
    · exact g.low c c0 (by omega) c2 c3)
  (hi := fun W q => g.hi W (fun c c0 c1 c2 c3 => q c c0 (by omega) c2 c3))
theorem GV_yes {L : PG} {T V : TB} {k n : Int} {v : FA} (n0 : 0 ≤ n) (t : tiv L V) (cd : CD L T k n) (y : ath (V 5 n 0) ≠ 0) (g : GV L T k n V v) : GV L T k (n + 1) V (fjoin v (V 5 n 0)) := GV.mk
  (ok := Or.inr (fgd_join g.ok ⟨t.1 _ _ _, t.2.1 _ _ _, t.2.2.1 _ _ _, (fok_there (t.1 _ _ _) y).1⟩))
  (low := fun c c0 c1 c2 c3 => by
    by_cases cn : c = n
    · rw [cn]; exact fjoin_r _ _
    · exact fle_trans (g.low c c0 (by omega) c2 c3) (fjoin_l _ _))
  (hi := fun W q => fjoin_le.mpr ⟨g.hi W (fun c c0 c1 c2 c3 => q c c0 (by omega) c2 c3), q n n0 (by omega) cd y⟩)
theorem asu_fk (a b : Int) : asu (fk a b) = a := rfl
theorem alb_fk (a b : Int) : alb (fk a b) = b := rfl
theorem fk_le {a b : Int} {u : FA} : fle (fk a b) u ↔ (ath u ≠ 0 ∧ alo u ≤ 0 ∧ 0 ≤ ahi u ∧ (∀ x : Int, bi b x = true → bi (alb u) x = true) ∧ (∀ x : Int, bi (asu u) x = true → bi a x = true)) := by
  constructor
  · intro h
    have := h (by decide : (1 : Int) ≠ 0)
    exact ⟨this.1, this.2.1, this.2.2.1, this.2.2.2.1, this.2.2.2.2.2⟩
  · rintro ⟨h1, h2, h3, h4, h5⟩ _
    exact ⟨h1, h2, h3, h4, (fun x y => by rw [show ast (fk a b) = 0 from rfl, bl_zero] at y; cases y), h5⟩
/-- the bits of what may be unlocked by the first n methods -/
theorem und_bit {L : PG} {T : TB} {k : Int} (n : Nat) (x : Int) : bi (undI L T k n) x = true ↔ ∃ c, 0 ≤ c ∧ c < (n : Int) ∧ CD L T k c ∧ bi (alb (T 15 c 0)) x = true := by
  induction n with
  | zero =>
    constructor
    · intro h; rw [show undI L T k 0 = 0 from rfl, bi_zero] at h; cases h
    · rintro ⟨c, c0, c1, -⟩; omega
  | succ n ih =>
    unfold undI
    by_cases cd : ∃ s, cld L (T 0 k) k s n
    · rw [if_pos cd, bi_or]
      simp
      rw [ih]
      constructor
      · rintro (⟨c, c0, c1, c2, c3⟩ | h)
        · exact ⟨c, c0, by omega, c2, c3⟩
        · exact ⟨n, by omega, by omega, cd, h⟩
      · rintro ⟨c, c0, c1, c2, c3⟩
        by_cases cn : c = n
        · rw [cn] at c3; exact Or.inr c3
        · exact Or.inl ⟨c, c0, by omega, c2, c3⟩
    · rw [if_neg cd, ih]
      constructor
      · rintro ⟨c, c0, c1, c2, c3⟩
        exact ⟨c, c0, by omega, c2, c3⟩
      · rintro ⟨c, c0, c1, c2, c3⟩
        by_cases cn : c = n
        · rw [cn] at c2; exact absurd c2 cd
        · exact ⟨c, c0, by omega, c2, c3⟩
theorem call3 {l : Launch} {G : JG} (hG : gO G = true) {h h2 : MH} {L : PG} {k : Int} (q : wrk h L k h2) (e : pOp L k = 29 ∨ pOp L k = 30) {Q : Int → MH → Prop} {E : Nat → Int → MH → Prop} {K : JC} {h0 : MH} (ki : KI K l G yX9_call cX9_call 17 none [] 9 275 700 (fun _ h' => Q 0 h') E h0) (hQ : ∀ h', AdvC L k h h' (fun U => CLz L (tT h L) U k) → Q 0 h')
    {some v9 v11 v12 : Int} {g0 : MH} {P : TB → Prop} (a0 : AdvC L k h g0 P) (upP : ∀ U V, tle U V → P U → P V) (h9 : ∀ c, 0 ≤ c → (bl v9 c = true ↔ CD L (tT h L) k c)) (c12 : c32 v12)
    (u1 : ∀ x : Int, bi v12 x = true → ∃ c, 0 ≤ c ∧ c < pNm L ∧ CD L (tT h L) k c ∧ bi (alb (tT g0 L 15 c 0)) x = true)
    (u2 : ∀ c, CD L (tT h L) k c → ∀ x : Int, bi (alb (tT h L 15 c 0)) x = true → bi v12 x = true)
    (facts : ∀ U, P U → (∀ s c, cld L (tT h L 0 k) k s c → fle (fs 0) (U 10 k c) ∧ Flow L U (pFi L c) (entz L (tT h L 0 k) k s c) (tT h L 6 k 0)) ∧ (pOp L k = 30 → ∀ s, sb (tT h L 0 k (frs L k)) s → (s = 0 → TS L U k (tT h L 0 k) 1 (tT h L 6 k 0)) ∧ (s ≠ 0 → sent L s (pX L k) < 0 → TS L U k (tT h L 0 k) 5 (tT h L 6 k 0)))) :
    JW K 273 [(2009, 396), (0, k), (0, pOp L k), (0, pMo L k), (0, lik L k), (0, frs L k), (1, some), (5000, 0), (0, 0), (1, v9), (5000, 0), (0, v11), (0, v12), (0, pNm L), (5000, 0), (5000, 0), (5000, 0)] [] g0 := by
  have q' := q
  obtain ⟨tf, w, mk, t, k0, k1, hr, s2, c2⟩ := q'
  have nn := w.n
  unfold WFn at nn
  obtain ⟨mo, -, xr, yr, -, -, -, -, -, -, -, -, -, cy, cw, c36, -, -, -, dp, -⟩ := w.k k0 k1
  have hk : inP L k := ⟨k0, k1⟩
  have hm : inM L (pMo L k) := ⟨mo.1, mo.2.1⟩
  have mo1 := mo.1
  have mo2 := mo.2.1
  have likm : inM L (lik L k) := by
    unfold lik
    rcases e with e | e
    · rw [if_pos e]; exact ⟨(cy e).1, (cy e).2.1⟩
    · rw [if_neg (by omega)]; exact ⟨(cw (by omega)).2, (wnm_ok w (cw (by omega)).2).1⟩
  have lm1 := likm.1
  have lm2 := likm.2
  obtain ⟨-, -, -, ar0, ar1, -⟩ := w.m lm1 lm2
  have fre : frs L k = 8 + pDp L k - pAr L (lik L k) := rfl
  have p0 : ppo L k = pAr L (lik L k) := by
    rcases e with e | e
    · unfold ppo; simp [e]
    · unfold ppo; simp [e]
  have p1 : ppu L k = if 0 < pGi L (lik L k) then 1 else 0 := by
    rcases e with e | e <;> (unfold ppu; simp [e])
  have ard : pAr L (lik L k) ≤ pDp L k := by omega
  have le0 : tle (tT h L) (tT g0 L) := a0.2.2.2.1
  have clU : ∀ U, tle (tT h L) U → CLz L U U k → ∀ c, CD L (tT h L) k c → fle (U 15 c 0) (U 15 (pMo L k) 0) ∧ (∀ s', sb (U 14 c 0) s' → TS L U k (U 0 k) s' (lke U k c)) ∧ (ath (U 5 c 0) ≠ 0 → GT L U k (nx L k) (if 0 < pGi L c then ux (U 0 k) (frs L k) (U 5 c 0) else U 0 k) (lkr L U k c)) := by
    intro U pU cz c ⟨s, hs⟩
    have := ((CL29 e).mp cz).1 s c (cld_le (fun j => t.1 _ _ _) (fun j => pU _ _ _) hs)
    exact this.2.2
  have cdU : ∀ U, tle (tT h L) U → ∀ c, CD L (tT h L) k c → CD L U k c := fun U pU c ⟨s, hs⟩ => ⟨s, cld_le (fun j => t.1 _ _ _) (fun j => pU _ _ _) hs⟩
  have cdm : ∀ c, CD L (tT h L) k c → inM L c ∧ pGi L c = pGi L (lik L k) := by
    intro c ⟨s, hs⟩
    have := cld_ok w t k0 k1 (by omega) hs
    exact ⟨this.1, this.2.2.1⟩
  have tg0 := frA_TF a0.1 tf
  refine r_X9_call_273 ki hG ⟨tg0.ne, fun _ => ⟨fun _ => ⟨mo1, by omega, ?_⟩, fun z => absurd rfl z⟩, fun z => by rw [tg0.nnm] at z; omega⟩
  intro h1 e1
  refine ⟨mo1, by omega, mo1, by omega, ?_⟩
  intro h2' e2
  refine ⟨Or.inl rfl, ?_⟩
  intro h3 e3 x13 e13 x14 e14 x15 e15 x16 e16
  subst e13; subst e14; subst e15; subst e16
  have c498 : c32 (hv g0 498 (pMo L k)) := by rw [← rw_15a hm]; exact c32_alb (a0.2.2.1.1 15 _ 0)
  have au : Adv L g0 h2' (fun U => ∀ x : Int, bi v12 x = true → fle (fv 0 0 v12 0) (U 15 (pMo L k) 0)) (fun U => ∀ x : Int, bi v12 x = true → fle (fv 0 0 v12 0) (U 15 (pMo L k) 0)) := by
    refine Adv_unl a0.2.2.1 hm (by omega) c12 c498 (fl := i_and v12 (i_xor (hv g0 498 (pMo L k)) (-1))) (fun z x y => andn0 z x y) (fun z => bi_ext (c32_i_and _ _) c32_0 (fun x _ _ => by rw [bi_andn, bi_zero]; cases hb : bi v12 x; rfl; rw [z x hb]; rfl)) (fun a j => ?_) (by rw [e2, e1]; rfl)
    rw [e2, hv_set]
    by_cases z : a = 498 ∧ j = pMo L k
    · rw [if_pos z, if_pos z, e1, ne_a (by decide)]
    · rw [if_neg z, if_neg z, e1, hv_set]
  have b1' : AdvC L k g0 h2' (fun U => ∀ x : Int, bi v12 x = true → fle (fv 0 0 v12 0) (U 15 (pMo L k) 0)) := by
    refine Adv_w au (fun _ p => p) (fun U oU p cz x y => ?_)
    have one : ∀ x : Int, bi v12 x = true → ∃ b, bi b x = true ∧ fle (fv 0 0 b 0) (U 15 (pMo L k) 0) := by
      intro x y
      obtain ⟨c, c0, c1, cd, cb⟩ := u1 x y
      have cm := (cdm c cd).1
      rw [rw_15a cm] at cb
      have ce : tT g0 L 15 c 0 = fv 0 0 (hv g0 498 c) 0 := by
        rw [rw_15 cm]; unfold fbi
        rw [if_neg (fun z => by rw [z, bi_zero] at cb; cases cb)]
      refine ⟨hv g0 498 c, cb, ?_⟩
      rw [← ce]
      exact fle_trans (p 15 c 0) (clU U (tle_trans le0 p) cz c cd).1
    obtain ⟨b, bb, fb'⟩ := one x y
    have f1 := fb' (by decide : (1 : Int) ≠ 0)
    exact fun _ => ⟨f1.1, f1.2.1, f1.2.2.1, (fun z yz => by obtain ⟨b2, b3, b4⟩ := one z yz; exact (b4 (by decide : (1 : Int) ≠ 0)).2.2.2.1 z b3), f1.2.2.2.2.1, f1.2.2.2.2.2⟩
  have up2' : ∀ U V : TB, tle U V → (P U ∧ ∀ x : Int, bi v12 x = true → fle (fv 0 0 v12 0) (U 15 (pMo L k) 0)) → (P V ∧ ∀ x : Int, bi v12 x = true → fle (fv 0 0 v12 0) (V 15 (pMo L k) 0)) :=
    fun U V p y => ⟨upP U V p y.1, fun x z => fle_trans (y.2 x z) (p _ _ _)⟩
  have s3 : same h2' h3 := by rw [e3]; exact same_set (by omega)
  obtain ⟨P2, a3, up2, f2⟩ : ∃ P2 : TB → Prop, AdvC L k h h3 P2 ∧ (∀ U V, tle U V → P2 U → P2 V) ∧ (∀ U, P2 U → P U ∧ ∀ x : Int, bi v12 x = true → fle (fv 0 0 v12 0) (U 15 (pMo L k) 0)) :=
    ⟨_, AdvC_sm (AdvC_tr a0 b1' upP) s3 up2', up2', fun U p => p⟩
  have z72 : hv h3 396 72 = 0 := by rw [e3, eq_a]
  have leg0 : tle (tT g0 L) (tT h3 L) := by rw [same_T s3]; exact b1'.2.2.2.1
  -- what stands after the first n of those called
  have upJ : ∀ n : Int, ∀ U V : TB, tle U V → (P2 U ∧ ∀ c, 0 ≤ c → c < n → CD L (tT h L) k c → ∀ s', sb (tT h L 14 c 0) s' → TS L U k (tT h L 0 k) s' (lke (tT h L) k c)) → (P2 V ∧ ∀ c, 0 ≤ c → c < n → CD L (tT h L) k c → ∀ s', sb (tT h L 14 c 0) s' → TS L V k (tT h L 0 k) s' (lke (tT h L) k c)) :=
    fun n U V p y => ⟨up2 U V p y.1, fun c c0 c1 c2 s' hs => TS_up p (y.2 c c0 c1 c2 s' hs)⟩
  -- all but what goes on after the call
  have most : ∀ U, (P2 U ∧ ∀ c, 0 ≤ c → c < pNm L → CD L (tT h L) k c → ∀ s', sb (tT h L 14 c 0) s' → TS L U k (tT h L 0 k) s' (lke (tT h L) k c)) →
      (∀ c, CD L (tT h L) k c → ath (tT h L 5 c 0) ≠ 0 → GT L U k (nx L k) (if 0 < pGi L c then ux (tT h L 0 k) (frs L k) (tT h L 5 c 0) else tT h L 0 k) (lkr L (tT h L) k c)) → CLz L (tT h L) U k := by
    intro U pU gt
    obtain ⟨pP, un⟩ := f2 U pU.1
    have fc := facts U pP
    refine (CL29 e).mpr ⟨fun s c hs => ?_, fc.2⟩
    have cd : CD L (tT h L) k c := ⟨s, hs⟩
    have cm := (cdm c cd).1
    refine ⟨(fc.1 s c hs).1, (fc.1 s c hs).2, ?_, pU.2 c cm.1 cm.2 cd, gt c cd⟩
    have ub := u2 c cd
    rw [rw_15a cm] at ub
    rw [rw_15 cm]
    unfold fbi
    by_cases z : hv h 498 c = 0
    · rw [if_pos z]; exact fle_fz _
    · rw [if_neg z]
      have c4 : c32 (hv h 498 c) := by rw [← rw_15a cm]; exact c32_alb (t.1 15 c 0)
      obtain ⟨x, hx⟩ := bi_some c4 z
      exact fle_trans (fle_fv (Int.le_refl _) (Int.le_refl _) (fun y hy => ub y hy) (fun _ y => y)) (un x (ub x hx))
  -- behind the call
  have last : ∀ (v13 v14 v15 : Int) (gg : MH), AdvC L k h gg (fun U => P2 U ∧ ∀ c, 0 ≤ c → c < pNm L → CD L (tT h L) k c → ∀ s', sb (tT h L 14 c 0) s' → TS L U k (tT h L 0 k) s' (lke (tT h L) k c)) → tle (tT g0 L) (tT gg L) →
      GI L (tT h L) k (pNm L) v13 v14 v15 (tT gg L) → v13 ≠ 0 → GV L (tT h L) k (pNm L) (tT gg L) (nvl gg) →
      JW K 655 [(2009, 396), (0, k), (0, pOp L k), (0, pMo L k), (0, lik L k), (0, frs L k), (1, some), (5000, 0), (0, 0), (1, v9), (5000, 0), (0, v11), (0, v12), (0, v13), (0, v14), (0, v15), (0, pNm L)] [] gg := by
    intro v13 v14 v15 gg a le1 gi nz gv
    have tg := frA_TF a.1 tf
    have le : tle (tT h L) (tT gg L) := a.2.2.2.1
    have tv := a.2.2.1
    have r' : rch (tT gg L) k := ath_le (le _ _ _) q.r
    have r460 : hv gg 460 k = 1 := (rch_iff hk).mp r'
    obtain ⟨cc, cc0, cc1, cc2, cc3⟩ := gi.one nz
    have nvt : fgd L (tT gg L) (nvl gg) := by
      rcases gv.ok with z | z
      · exact absurd (by rw [z]; rfl) (ath_le (gv.low cc cc0 cc1 cc2 cc3) cc3)
      · exact z
    have n72 : ¬ hv gg 396 72 = 0 := by
      intro z
      have := nvt.2.2.2
      unfold nvl at this
      rw [if_pos z] at this
      exact absurd this (by decide)
    have npl : nvl gg = pld gg := by unfold nvl; rw [if_neg n72]
    have su : su8 (hv gg 465 k) := by have := (tv.2.2.1 6 k 0).1.2; rw [rw_6 hk r460] at this; exact this
    -- locks behind the call
    have lkP : ∀ c, CD L (tT h L) k c → ath (tT h L 5 c 0) ≠ 0 → fle (lkr L (tT h L) k c) (fk (i_or v14 (i_and (hv gg 465 k) (i_xor v12 (-1)))) v15) := by
      intro c cd y
      have cm := (cdm c cd).1
      obtain ⟨-, lw1, lw2⟩ := gi.low c cm.1 cm.2 cd y
      unfold lkr
      refine fle_fk (fun x hx => ?_) lw2
      rw [bi_or, bi_andn] at hx ⊢
      simp at hx ⊢
      rcases hx with hx | ⟨hx1, hx2⟩
      · exact Or.inl (lw1 x hx)
      · refine Or.inr ⟨fle_asu (le 6 k 0) q.r x (by rw [rw_6 hk r460]; exact hx1), ?_⟩
        cases z : bi (und L (tT h L) k) x
        · rfl
        · obtain ⟨c', c0', c1', cd', cb'⟩ := (und_bit _ x).mp z
          rw [u2 c' cd' x cb'] at hx2; cases hx2
    have lkA : ∀ U, tbok U → tle (tT gg L) U → CLz L U U k → fle (fk (i_or v14 (i_and (hv gg 465 k) (i_xor v12 (-1)))) v15) (U 6 (pFi L (pMo L k) + nx L k) 0) := by
      intro U oU p cz
      have pT := tle_trans le p
      have gts : ∀ c, 0 ≤ c → c < pNm L → CD L (tT h L) k c → ath (tT gg L 5 c 0) ≠ 0 → (ath (U 6 (pFi L (pMo L k) + nx L k) 0) ≠ 0 ∧ alo (U 6 (pFi L (pMo L k) + nx L k) 0) ≤ 0 ∧ 0 ≤ ahi (U 6 (pFi L (pMo L k) + nx L k) 0) ∧ (∀ x : Int, bi (alb (U 7 c 0)) x = true → bi (alb (U 6 (pFi L (pMo L k) + nx L k) 0)) x = true) ∧ (∀ x : Int, bi (asu (U 6 (pFi L (pMo L k) + nx L k) 0)) x = true → bi (i_or (asu (U 7 c 0)) (i_and (asu (U 6 k 0)) (i_xor (und L U k) (-1)))) x = true)) := by
        intro c c0 c1 cd y
        have := ((clU U pT cz c cd).2.2 (ath_le (p _ _ _) y)).2.2
        unfold lkr at this
        exact fk_le.mp this
      have f1 := gts cc cc0 cc1 cc2 cc3
      refine fk_le.mpr ⟨f1.1, f1.2.1, f1.2.2.1, fun x hx => ?_, fun x hx => ?_⟩
      · obtain ⟨c, c0, c1, c2, c3, c4⟩ := gi.per x hx
        exact (gts c c0 c1 c2 c3).2.2.2.1 x (alb_le (tv.1 _ _ _) (p 7 c 0) x c4)
      · rw [bi_or, bi_andn]
        simp
        by_cases y : bi (asu (U 6 k 0)) x = true ∧ bi (und L U k) x = false
        · refine Or.inr ⟨?_, ?_⟩
          · have := fle_asu (p 6 k 0) r' x y.1
            rw [rw_6 hk r460] at this; exact this
          · cases z : bi v12 x
            · rfl
            · obtain ⟨c, c0, c1, cd, cb⟩ := u1 x z
              have := (und_bit (L := L) (T := U) (k := k) (pNm L).toNat x).mpr ⟨c, c0, by omega, cdU U pT c cd, alb_le (a0.2.2.1.1 _ _ _) (tle_trans le1 p 15 c 0) x cb⟩
              rw [show undI L U k (pNm L).toNat = und L U k from rfl, y.2] at this; cases this
        · left
          have al : ∀ c, 0 ≤ c → c < pNm L → CD L (tT h L) k c → ath (tT gg L 5 c 0) ≠ 0 → bi (asu (tT gg L 7 c 0)) x = true := by
            intro c c0 c1 cd z
            have z7 := (tv.2.2.2.1 c).mp z
            have this' := (gts c c0 c1 cd z).2.2.2.2 x hx
            rw [bi_or, bi_andn] at this'
            simp at this'
            rcases this' with d | d
            · exact fle_asu (p 7 c 0) z7 x d
            · exact absurd d y
          have x8 : x < 8 := by
            by_cases z : x < 8
            · exact z
            · have := al cc cc0 cc1 cc2 cc3
              rw [(tv.2.2.1 7 cc 0).1.2 x (by omega)] at this; cases this
          exact gi.hi x x8 al
    have lkg : fgd L (tT gg L) (fk (i_or v14 (i_and (hv gg 465 k) (i_xor v12 (-1)))) v15) := by
      refine fgd_fk (c32_i_or _ _) (fun x hx => ?_) gi.a15
      rw [bi_or, bi_andn, gi.s14 x hx, su x hx]; rfl
    -- the flow
    have flw : ∀ (g5 : MH) (d : Int), same gg g5 → cur L (pMo L k) g5 (if 0 < pGi L (lik L k) then ux (tT gg L 0 k) (frs L k) (nvl gg) else tT gg L 0 k) (fk (i_or v14 (i_and (hv gg 465 k) (i_xor v12 (-1)))) v15) d → d = (frs L k - 8) + (if 0 < pGi L (lik L k) then 1 else 0) →
        S_X9_flowOn l G [(2009, 396), (0, k)] g5 (fun _ h7 => Q 0 h7) E := by
      intro g5 d s5 cu ed
      have T5 : tT g5 L = tT gg L := same_T s5
      refine w_flowOn hG q (AdvC_sm a s5 (upJ _)) (upJ _) (by omega) (by omega) (by omega) cu (by rw [p0, p1]; omega) (fun s hs => ?_) (by rw [T5]; exact lkg) (fun U oU p cz => ?_) (fun h' b _ => hQ h' (AdvC_w b (fun leh p => most _ p.1 (fun c cd y => ?_))))
      · rw [T5]
        by_cases z : 0 < pGi L (lik L k)
        · rw [if_pos z] at ed ⊢
          unfold ux
          by_cases sf : s = frs L k
          · rw [if_pos sf]; exact nvt
          · rw [if_neg sf]
            refine tiv_slot tv r' ?_
            unfold vld at hs
            unfold rel
            omega
        · rw [if_neg z] at ed ⊢
          refine tiv_slot tv r' ?_
          unfold vld at hs
          unfold rel
          omega
      · rw [T5] at p
        have pT := tle_trans le p
        have gt1 := (clU U pT cz cc cc2).2.2 (ath_le (p _ _ _) cc3)
        refine ⟨gt1.1, fun s rs' => ?_, lkA U oU p cz⟩
        rw [(cdm cc cc2).2] at gt1
        by_cases z : 0 < pGi L (lik L k)
        · rw [if_pos z] at gt1 ⊢
          by_cases sf : s = frs L k
          · subst sf
            rw [show ux (tT gg L 0 k) (frs L k) (nvl gg) (frs L k) = nvl gg by unfold ux; rw [if_pos rfl]]
            refine gv.hi _ (fun c c0 c1 cd y => ?_)
            have gt2 := (clU U pT cz c cd).2.2 (ath_le (p _ _ _) y)
            rw [(cdm c cd).2, if_pos z] at gt2
            have := gt2.2.1 (frs L k) rs'
            rw [show ux (U 0 k) (frs L k) (U 5 c 0) (frs L k) = U 5 c 0 by unfold ux; rw [if_pos rfl]] at this
            exact fle_trans (p _ _ _) this
          · have := gt1.2.1 s rs'
            rw [show ux (U 0 k) (frs L k) (U 5 cc 0) s = U 0 k s by unfold ux; rw [if_neg sf]] at this
            rw [show ux (tT gg L 0 k) (frs L k) (nvl gg) s = tT gg L 0 k s by unfold ux; rw [if_neg sf]]
            exact fle_trans (p _ _ _) this
        · rw [if_neg z] at gt1 ⊢
          exact fle_trans (p _ _ _) (gt1.2.1 s rs')
      · refine GT_le ?_ (lkP c cd y) (tle_rfl _) p.2
        have cm := (cdm c cd).1
        rw [(cdm c cd).2]
        by_cases z : 0 < pGi L (lik L k)
        · rw [if_pos z, if_pos z]
          exact ux_le (fun j => le 0 k j) (fle_trans (le 5 c 0) (gv.low c cm.1 cm.2 cd (ath_le (le _ _ _) y)))
        · rw [if_neg z, if_neg z]
          exact fun j => le 0 k j
    refine r_X9_call_655 ki hG ⟨tg.ne, fun _ => ?_, fun z => by rw [tg.nnm] at z; omega⟩
    refine w_take hG q a (fun g2 sg2 cu2 ej a2 => ?_) (upJ _)
    intro h3' e3'
    rw [w32_i (by omega) (by omega)] at e3'
    have s3' : same gg h3' := by rw [e3']; exact same_tr sg2 (same_set (by omega))
    have tf3 := frA_TF s3'.1 tg
    have cu3 : cur L (pMo L k) h3' (tT gg L 0 k) (tT gg L 6 k 0) (frs L k - 8) := by
      refine ⟨fun j hj => ?_, ?_, ?_⟩
      · rw [← cu2.1 j (by unfold vld at hj ⊢; omega), e3']; unfold cX
        rw [ne_a (by decide), ne_a (by decide), ne_a (by decide), ne_a (by decide)]
      · rw [← cu2.2.1, e3']; unfold lkc_; rw [ne_k (by decide), ne_k (by decide)]
      · rw [e3', eq_a]
    have pl3 : ∀ j, 64 ≤ j → j ≤ 67 → hv h3' 396 j = hv gg 396 j := by
      intro j j0 j1
      rw [e3', ne_k (by omega)]; exact ej j (by omega)
    have v465 : ∀ g : MH, same gg g → hv g 465 k = hv gg 465 k := fun g sg => sg.2.1 465 k (by omega) (by omega)
    refine ⟨tf3.ne, lm1, by omega, ?_⟩
    rw [tf3.gi]
    refine ⟨fun z => ?_, fun z => ?_⟩
    · refine ⟨k0, by omega, ?_⟩
      intro h4 e4 h5 e5
      rw [v465 h3' s3'] at e4
      have s5 : same gg h5 := by rw [e5, e4]; exact same_tr (same_tr s3' (same_set (by omega))) (same_set (by omega))
      refine flw h5 (frs L k - 8) s5 ?_ (by rw [if_neg (by omega)]; omega)
      rw [if_neg (show ¬ 0 < pGi L (lik L k) by omega)]
      refine ⟨fun j hj => ?_, ?_, ?_⟩
      · rw [← cu3.1 j hj, e5, e4]; unfold cX
        rw [ne_a (by decide), ne_a (by decide), ne_a (by decide), ne_a (by decide), ne_a (by decide), ne_a (by decide), ne_a (by decide), ne_a (by decide)]
      · unfold lkc_
        rw [e5, eq_a, ne_k (by decide), e4, eq_a]
      · rw [e5, ne_k (by decide), e4, ne_k (by decide)]; exact cu3.2.2
    · refine t_lay3 hG cu3 (by omega) (by omega) fun h9' s9 cu9 ej9 => ?_
      have s9' : same gg h9' := same_tr s3' s9
      refine ⟨k0, by omega, ?_⟩
      intro h10 e10 h11 e11
      rw [v465 h9' s9'] at e10
      have s11 : same gg h11 := by rw [e11, e10]; exact same_tr (same_tr s9' (same_set (by omega))) (same_set (by omega))
      refine flw h11 (frs L k - 8 + 1) s11 ?_ (by rw [if_pos z])
      rw [if_pos z]
      refine ⟨fun j hj => ?_, ?_, ?_⟩
      · have := cu9.1 j hj
        rw [pl3 64 (by omega) (by omega), pl3 65 (by omega) (by omega), pl3 66 (by omega) (by omega), pl3 67 (by omega) (by omega), show 8 + (frs L k - 8) = frs L k by omega] at this
        rw [npl]
        unfold pld
        rw [← this, e11, e10]; unfold cX
        rw [ne_a (by decide), ne_a (by decide), ne_a (by decide), ne_a (by decide), ne_a (by decide), ne_a (by decide), ne_a (by decide), ne_a (by decide)]
      · unfold lkc_
        rw [e11, eq_a, ne_k (by decide), e10, eq_a]
      · rw [e11, ne_k (by decide), e10, ne_k (by decide)]; exact cu9.2.2
  -- values that are given back are put together
  have vals : ∀ N : Nat, ∀ (n v13 v14 v15 : Int) (gg : MH), (pNm L - n).toNat ≤ N → 0 ≤ n → n ≤ pNm L → AdvC L k h gg (fun U => P2 U ∧ ∀ c, 0 ≤ c → c < pNm L → CD L (tT h L) k c → ∀ s', sb (tT h L 14 c 0) s' → TS L U k (tT h L 0 k) s' (lke (tT h L) k c)) → tle (tT g0 L) (tT gg L) →
      GI L (tT h L) k (pNm L) v13 v14 v15 (tT gg L) → v13 ≠ 0 → GV L (tT h L) k n (tT gg L) (nvl gg) →
      JW K 655 [(2009, 396), (0, k), (0, pOp L k), (0, pMo L k), (0, lik L k), (0, frs L k), (1, some), (5000, 0), (0, 0), (1, v9), (5000, 0), (0, v11), (0, v12), (0, v13), (0, v14), (0, v15), (0, n)] [] gg := by
    intro N
    induction N with
    | zero =>
      intro n v13 v14 v15 gg b0 b1 b2 a le1 gi nz gv
      have : n = pNm L := by omega
      subst this
      exact last v13 v14 v15 gg a le1 gi nz gv
    | succ N ih =>
      intro n v13 v14 v15 gg b0 b1 b2 a le1 gi nz gv
      by_cases nm : n = pNm L
      · subst nm; exact last v13 v14 v15 gg a le1 gi nz gv
      · have tg := frA_TF a.1 tf
        have nM : inM L n := ⟨b1, by omega⟩
        refine JW_hyp fun Hg okg _ => ?_
        have z488 := okf_z (tw_ok Hg (by rw [ki.2.2.1]; exact hG) (okg _ List.mem_cons_self) 46 (off := 92) (n := 40) (t := 102) (e := 2) (by decide) (by decide) (by decide) (by decide) (by decide) b1 (by omega))
        refine r_X9_call_655 ki hG ⟨tg.ne, fun z => by rw [tg.nnm] at z; omega, fun _ => ⟨fun _ => ⟨b1, by omega⟩, fun z => ?_, fun z => ?_⟩⟩
        · rw [lc_eq, l_bit (by omega) (by omega)] at z
          have cd := (h9 n b1).mp (bt1 z.1)
          have g1 : hv gg 488 n = 1 := by
            rcases z488 with y | y
            · exact absurd y z.2
            · exact y
          refine ⟨b1, by omega, b1, by omega, b1, by omega, b1, by omega, ?_⟩
          refine t_addValue hG (fun g2 sg _ _ en _ => ?_)
          intro n' en'
          rw [w32_i (by omega) (by omega)] at en'
          subst en'
          have T2 : tT g2 L = tT gg L := same_T sg
          refine ih _ _ _ _ _ (by omega) (by omega) (by omega) (AdvC_sm a sg (upJ _)) (by rw [T2]; exact le1) (by rw [T2]; exact gi) nz ?_
          rw [T2, en, ← rw_5v nM g1]
          exact GV_yes b1 a.2.2.1 cd ((rw_5 nM).mpr g1) gv
        · intro n' en'
          rw [w32_i (by omega) (by omega)] at en'
          subst en'
          refine ih _ _ _ _ _ (by omega) (by omega) (by omega) a le1 gi nz (GV_no (fun cd => ?_) gv)
          rw [lc_eq, l_bit (by omega) (by omega)] at z
          apply Classical.byContradiction
          intro y
          have g1 := (rw_5 nM).mp y
          exact z ⟨by rw [(h9 n b1).mpr cd]; rfl, by rw [g1]; decide⟩
  -- what escapes is thrown here; the locks are put together
  have key : ∀ N : Nat, ∀ (n v13 v14 v15 : Int) (gg : MH), (pNm L - n).toNat ≤ N → 0 ≤ n → n ≤ pNm L → AdvC L k h gg (fun U => P2 U ∧ ∀ c, 0 ≤ c → c < n → CD L (tT h L) k c → ∀ s', sb (tT h L 14 c 0) s' → TS L U k (tT h L 0 k) s' (lke (tT h L) k c)) → tle (tT g0 L) (tT gg L) →
      GI L (tT h L) k n v13 v14 v15 (tT gg L) → hv gg 396 72 = 0 →
      JW K 521 [(2009, 396), (0, k), (0, pOp L k), (0, pMo L k), (0, lik L k), (0, frs L k), (1, some), (5000, 0), (0, 0), (1, v9), (5000, 0), (0, v11), (0, v12), (0, v13), (0, v14), (0, v15), (0, n)] [] gg := by
    have fin : ∀ (v13 v14 v15 : Int) (gg : MH), AdvC L k h gg (fun U => P2 U ∧ ∀ c, 0 ≤ c → c < pNm L → CD L (tT h L) k c → ∀ s', sb (tT h L 14 c 0) s' → TS L U k (tT h L 0 k) s' (lke (tT h L) k c)) → tle (tT g0 L) (tT gg L) →
      GI L (tT h L) k (pNm L) v13 v14 v15 (tT gg L) → hv gg 396 72 = 0 →
      JW K 521 [(2009, 396), (0, k), (0, pOp L k), (0, pMo L k), (0, lik L k), (0, frs L k), (1, some), (5000, 0), (0, 0), (1, v9), (5000, 0), (0, v11), (0, v12), (0, v13), (0, v14), (0, v15), (0, pNm L)] [] gg := by
      intro v13 v14 v15 gg a le1 gi h72
      have tg := frA_TF a.1 tf
      refine r_X9_call_521 ki hG ⟨tg.ne, fun _ => ⟨fun z => ?_, fun z => ?_⟩, fun z => by rw [tg.nnm] at z; omega⟩
      · intro x16 e16
        subst e16
        refine vals _ 0 v13 v14 v15 gg (Nat.le_refl _) (by omega) (by omega) a le1 gi z ?_
        rw [show nvl gg = fz by unfold nvl; rw [if_pos h72]]
        exact GV_0 _ _ _ _
      · refine hQ gg (AdvC_w a (fun _ p => most _ p (fun c cd y => ?_)))
        have cm := (cdm c cd).1
        exact absurd z (gi.low c cm.1 cm.2 cd y).1
    intro N
    induction N with
    | zero =>
      intro n v13 v14 v15 gg b0 b1 b2 a le1 gi h72
      have : n = pNm L := by omega
      subst this
      exact fin v13 v14 v15 gg a le1 gi h72
    | succ N ih =>
      intro n v13 v14 v15 gg b0 b1 b2 a le1 gi h72
      by_cases nm : n = pNm L
      · subst nm; exact fin v13 v14 v15 gg a le1 gi h72
      · have tg := frA_TF a.1 tf
        have nM : inM L n := ⟨b1, by omega⟩
        have le : tle (tT h L) (tT gg L) := a.2.2.2.1
        have tv := a.2.2.1
        have r' : rch (tT gg L) k := ath_le (le _ _ _) q.r
        have r460 : hv gg 460 k = 1 := (rch_iff hk).mp r'
        -- after the throwing
        have cont : CD L (tT h L) k n → ∀ gg' : MH, AdvC L k h gg' (fun U => P2 U ∧ ∀ c, 0 ≤ c → c < n + 1 → CD L (tT h L) k c → ∀ s', sb (tT h L 14 c 0) s' → TS L U k (tT h L 0 k) s' (lke (tT h L) k c)) → tle (tT g0 L) (tT gg' L) →
            GI L (tT h L) k n v13 v14 v15 (tT gg' L) → hv gg' 396 72 = 0 →
            ((hv gg' 488 n) = 0 →
              (∀ x16 : Int, x16 = w32 (n + 1) →
              JW K 521 [(2009, 396), (0, k), (0, pOp L k), (0, pMo L k), (0, lik L k), (0, frs L k), (1, some), (5000, 0), (0, 0), (1, v9), (5000, 0), (0, v11), (0, v12), (0, v13), (0, v14), (0, v15), (0, x16)] [] gg')) ∧
            (¬ (hv gg' 488 n) = 0 →
              (∀ x13 : Int, x13 = 1 →
              (0 ≤ n) ∧
              (n < 40) ∧
              (∀ x14 : Int, x14 = (i_and v14 (hv gg' 493 n)) →
              (0 ≤ n) ∧
              (n < 40) ∧
              (∀ x15 : Int, x15 = (i_or v15 (hv gg' 494 n)) →
              (∀ x16 : Int, x16 = w32 (n + 1) →
              JW K 521 [(2009, 396), (0, k), (0, pOp L k), (0, pMo L k), (0, lik L k), (0, frs L k), (1, some), (5000, 0), (0, 0), (1, v9), (5000, 0), (0, v11), (0, v12), (0, x13), (0, x14), (0, x15), (0, x16)] [] gg'))))) := by
          intro cd gg' a' le1' gi' h72'
          refine ⟨fun z x16 e16 => ?_, fun z x13 e13 => ⟨b1, by omega, fun x14 e14 => ⟨b1, by omega, fun x15 e15 x16 e16 => ?_⟩⟩⟩
          · rw [w32_i (by omega) (by omega)] at e16
            subst e16
            refine ih _ _ _ _ _ (by omega) (by omega) (by omega) a' le1' (GI_no a'.2.2.2.1 (fun _ => ?_) gi') h72'
            apply Classical.byContradiction
            intro y
            have := (rw_5 nM).mp y
            omega
          · rw [w32_i (by omega) (by omega)] at e16
            subst e16; subst e13
            refine JW_hyp fun Hg okg _ => ?_
            have z488 := okf_z (tw_ok Hg (by rw [ki.2.2.1]; exact hG) (okg _ List.mem_cons_self) 46 (off := 92) (n := 40) (t := 102) (e := 2) (by decide) (by decide) (by decide) (by decide) (by decide) b1 (by omega))
            have g1 : hv gg' 488 n = 1 := by
              rcases z488 with y | y
              · exact absurd y z
              · exact y
            refine ih _ _ _ _ _ (by omega) (by omega) (by omega) a' le1' ?_ h72'
            have := GI_yes b1 t.1 a'.2.2.2.1 t.2.2.2.1 cd ((rw_5 nM).mpr g1) gi'
            rw [rw_7 nM g1] at this
            rw [e14, e15]
            exact this
        have none : ¬ CD L (tT h L) k n → ∀ x16 : Int, x16 = w32 (n + 1) → JW K 521 [(2009, 396), (0, k), (0, pOp L k), (0, pMo L k), (0, lik L k), (0, frs L k), (1, some), (5000, 0), (0, 0), (1, v9), (5000, 0), (0, v11), (0, v12), (0, v13), (0, v14), (0, v15), (0, x16)] [] gg := by
          intro nc x16 e16
          rw [w32_i (by omega) (by omega)] at e16
          subst e16
          refine ih _ _ _ _ _ (by omega) (by omega) (by omega) (AdvC_w a (fun _ p => ⟨p.1, fun c c0 c1 cd s' hs => ?_⟩)) le1 (GI_no le (fun y => absurd y nc) gi) h72
          by_cases cn : c = n
          · rw [cn] at cd; exact absurd cd nc
          · exact p.2 c c0 (by omega) cd s' hs
        refine r_X9_call_521 ki hG ⟨tg.ne, fun z => by rw [tg.nnm] at z; omega, fun _ => ⟨fun z => ⟨b1, by omega, fun z2 => ⟨b1, by omega, ?_⟩, fun z2 => ⟨b1, by omega, b1, by omega, k0, by omega, b1, by omega, b1, by omega, ?_⟩⟩, fun z => none (fun cd => ?_)⟩⟩
        · rw [lc_eq, l_bit (by omega) (by omega)] at z
          have cd := (h9 n b1).mp (bt2 z)
          refine cont cd gg (AdvC_w a (fun _ p => ⟨p.1, fun c c0 c1 cd' s' hs => ?_⟩)) le1 gi h72
          by_cases cn : c = n
          · exfalso
            rw [cn] at hs
            have hs2 := sb_le (t.1 _ _ _) (le 14 n 0) hs
            rw [lc_eq] at z2
            rw [rw_14 nM, z2] at hs2
            have := hs2.2.2
            rw [show ast (fb 0) = 0 from rfl, bl_zero] at this; cases this
          · exact p.2 c c0 (by omega) cd' s' hs
        · rw [lc_eq, l_bit (by omega) (by omega)] at z
          rw [lc_eq] at z2
          have cd := (h9 n b1).mp (bt2 z)
          have e14 : tT gg L 14 n 0 = fs (hv gg 495 n) := by rw [rw_14 nM]; unfold fb; rw [if_neg z2]
          have e8 := rw_8 nM z2
          have eke : lke (tT gg L) k n = fk (i_or (hv gg 496 n) (i_and (hv gg 465 k) (i_xor (hv gg 498 n) (-1)))) (hv gg 497 n) := by
            unfold lke
            rw [e8, rw_15a nM, rw_6 hk r460, asu_fk, asu_fk, alb_fk]
          have o14 := tv.1 14 n 0
          rw [e14] at o14
          have o14' := fok_there o14 (by decide : (1 : Int) ≠ 0)
          have o8 := tv.1 8 n 0
          rw [e8] at o8
          have o8' := fok_there o8 (by decide : (1 : Int) ≠ 0)
          have m8 := (tv.2.2.1 8 n 0).1.2
          rw [e8] at m8
          have m6 := (tv.2.2.1 6 k 0).1.2
          rw [rw_6 hk r460] at m6
          have sk := tiv_sok tv w 14 n 0
          have mk14 := tv.2.1 14 n 0
          have nz14 := (tv.2.2.2.2.1 n).2
          rw [e14] at sk mk14 nz14
          have a8n : ath (tT gg L 8 n 0) ≠ 0 := by rw [e8]; exact (by decide : (1 : Int) ≠ 0)
          refine t_toss2 (x := hv gg 495 n) (su := i_or (hv gg 496 n) (i_and (hv gg 465 k) (i_xor (hv gg 498 n) (-1)))) (pe := hv gg 497 n) hG tg w tv k0 k1 r460 o14'.2.2.2.2.2.1 (fun s s0 y => ⟨?_, sk.2 s s0 y, mk14 s s0 y⟩) (c32_i_or _ _) (fun x hx => ?_) o8'.2.2.2.2.1 fun h' b e72 => ?_
          · by_cases s00 : s = 0
            · rw [s00] at y
              have : bl (hv gg 495 n) 0 = false := nz14
              rw [this] at y; cases y
            · omega
          · rw [bi_or, bi_andn, show bi (hv gg 496 n) x = false from m8 x hx, show bi (hv gg 465 k) x = false from m6 x hx]; rfl
          · rw [← eke] at b
            have b' : AdvC L k gg h' (fun U => ∀ s, 0 ≤ s → bl (hv gg 495 n) s = true → TS L U k (tT gg L 0 k) s (lke (tT gg L) k n)) := by
              refine Adv_w b (fun _ p => p) (fun U oU p cz s s0 y => ?_)
              have s63 : s < 63 := by have := sk.2 s s0 y; omega
              have sU : sb (U 14 n 0) s := sb_le (tv.1 _ _ _) (p 14 n 0) (by rw [e14]; exact ⟨s0, s63, y⟩)
              exact TS_le (fun _ => fle_rfl _) (lke_le tv.1 p r' a8n) (tle_rfl _) ((clU U (tle_trans le p) cz n cd).2.1 s sU)
            refine ⟨by omega, by omega, cont cd h' (AdvC_w (AdvC_tr a b' (upJ _)) (fun _ p => ⟨p.1.1, fun c c0 c1 cd' s' hs => ?_⟩)) (tle_trans le1 b'.2.2.2.1) (GI_up tv.1 b'.2.2.2.1 tv.2.2.2.1 gi) (by rw [e72]; exact h72)⟩
            by_cases cn : c = n
            · subst cn
              have hs2 := sb_le (t.1 _ _ _) (le 14 c 0) hs
              rw [e14] at hs2
              have h8 : ath (tT h L 8 c 0) ≠ 0 := (t.2.2.2.2.1 c).1.mp (fun z0 => by
                have := t.1 14 c 0
                rcases this with r | r
                · have h3' := hs.2.2
                  rw [r, show ast fz = 0 from rfl, bl_zero] at h3'; cases h3'
                · omega)
              exact TS_le (fun j => le 0 k j) (lke_le t.1 le q.r h8) (tle_rfl _) (p.2 s' hs2.1 hs2.2.2)
            · exact p.1.2 c c0 (by omega) cd' s' hs
        · rw [lc_eq, l_bit (by omega) (by omega)] at z
          rw [(h9 n b1).mpr cd] at z
          exact absurd z (by decide)
  exact key _ 0 0 255 0 h3 (Nat.le_refl _) (by omega) (by omega) (AdvC_w a3 (fun _ p => ⟨p, fun c c0 c1 => by omega⟩)) leg0 (GI_0 _ _ _ _) z72
