/-! Part 53b: a closed table is closed when it is masked (plain) -/
section MS2
variable {L : PG} {T : TB} {k : Int}
theorem po_0 (w : WF L) (hk : inP L k) : 0 ≤ ppo L k := by
  have wk := w.k hk.1 hk.2
  have y29 := wk.2.2.2.2.2.2.2.2.2.2.2.2.2.1
  have y30 := wk.2.2.2.2.2.2.2.2.2.2.2.2.2.2.1
  unfold ppo
  split
  · decide
  split
  · decide
  split
  · decide
  split
  · rename_i z
    rcases z with e | e
    · have := y29 e
      unfold lik
      rw [if_pos e]
      exact (w.m this.1 this.2.1).2.2.2.1
    · have := y30 (Or.inl e)
      unfold lik
      rw [if_neg (by omega)]
      exact (w.m this.2 (wnm_ok w this.2).1).2.2.2.1
  split
  · split
    · decide
    · decide
  · decide
theorem po_z (e : pOp L k = 0 ∨ pOp L k = 1 ∨ pOp L k = 2 ∨ pOp L k = 13 ∨ (17 ≤ pOp L k ∧ pOp L k ≤ 20) ∨ pOp L k = 15 ∨ pOp L k = 27 ∨ pOp L k = 34 ∨ pOp L k = 35) : ppo L k = 0 := by
  unfold ppo; rw [if_neg (by omega), if_neg (by omega), if_neg (by omega), if_neg (by omega), if_neg (by omega)]
theorem po_1 (e : pOp L k = 3 ∨ pOp L k = 4 ∨ pOp L k = 5 ∨ pOp L k = 12 ∨ pOp L k = 14 ∨ pOp L k = 21 ∨ pOp L k = 22 ∨ pOp L k = 25 ∨ pOp L k = 28 ∨ pOp L k = 32 ∨ pOp L k = 33 ∨ pOp L k = 36) : ppo L k = 1 := by
  unfold ppo; rw [if_pos e]
theorem po_2 (e : pOp L k = 6 ∨ (7 ≤ pOp L k ∧ pOp L k ≤ 11) ∨ pOp L k = 16 ∨ pOp L k = 23 ∨ pOp L k = 26) : ppo L k = 2 := by
  unfold ppo; rw [if_neg (by omega), if_pos e]
theorem po_3 (e : pOp L k = 24) : ppo L k = 3 := by
  unfold ppo; rw [if_neg (by omega), if_neg (by omega), if_pos e]
theorem pu_1 (e : pOp L k = 0 ∨ pOp L k = 1 ∨ pOp L k = 2 ∨ (7 ≤ pOp L k ∧ pOp L k ≤ 13) ∨ pOp L k = 20 ∨ pOp L k = 21 ∨ pOp L k = 22 ∨ pOp L k = 23 ∨ pOp L k = 25 ∨ pOp L k = 27 ∨ pOp L k = 33) : ppu L k = 1 := by
  unfold ppu; rw [if_pos e]
theorem pu_2 (e : pOp L k = 5 ∨ pOp L k = 6) : ppu L k = 2 := by
  unfold ppu; rw [if_neg (by omega), if_pos e]
theorem pu_z (e : pOp L k = 3 ∨ pOp L k = 4 ∨ (14 ≤ pOp L k ∧ pOp L k ≤ 19) ∨ pOp L k = 24 ∨ pOp L k = 26 ∨ pOp L k = 28 ∨ 31 ≤ pOp L k ∧ pOp L k ≠ 33) : ppu L k = 0 := by
  unfold ppu; rw [if_neg (by omega), if_neg (by omega), if_neg (by omega)]
theorem mk_CL (w : WF L) (wt : WFt L) (tv : tiv L T) (hk : inP L k) (r : rch T k) (h : CLz L T T k) : CLz L (mkT L T) (mkT L T) k := by
  have nn := w.n
  unfold WFn at nn
  have lc := lc_8 w hk
  have oM := mkT_ok (L := L) tv.1
  have leM := mkT_le L T
  have c := CL_le (T := mkT L T) (U := T) (V := T) (W := T) oM leM (by unfold rch; rw [mkT_o (by decide)]; exact r) (fun c y => by rw [mkT_o (by decide)]; exact (tv.2.2.2.1 c).mp (ath_le (leM 5 c 0) y)) (fun c s y => by rw [mkT_o (by decide)]; rw [mkT_o (by decide)] at y; exact (tv.2.2.2.2.1 c).1.mp (fun z => by
    have := y.2.2
    rcases tv.1 14 c 0 with q | q
    · rw [q, show ast fz = 0 from rfl, bl_zero] at this; cases this
    · rw [q.1] at z; cases z)) (tle_rfl T) h
  have wk := w.k hk.1 hk.2
  have wtk := wt.1 k hk
  have po := po_0 w hk
  -- what the row has
  have hX : ∀ s, rel L k s → kd L k s = 1 → nsp (mkT L T 0 k s) := fun s rl kk => mkT_ns (Or.inl ⟨rfl, hk, rl, kk⟩)
  have hL : ∀ s, 0 ≤ s → s < pLc L (pMo L k) → pLk L (pMo L k) s = 1 → nsp (mkT L T 0 k s) := fun s s0 s1 kk => hX s (Or.inl ⟨s0, s1⟩) (by rw [kd_l (by omega)]; exact kk)
  have hS : ∀ i, 0 ≤ i → i < pDp L k → skd L k i = 1 → nsp (mkT L T 0 k (8 + i)) := fun i i0 i1 kk => hX (8 + i) (Or.inr ⟨by omega, by omega⟩) (by rw [kd_s (by omega), show 8 + i - 8 = i by omega]; exact kk)
  have th : ∀ {s : Int} {lk : FA}, TS L T k (mkT L T 0 k) s lk → TS L (mkT L T) k (mkT L T 0 k) s lk := fun q => mk_TS w hk q hL
  have sbm : ∀ {j s : Int}, sb (mkT L T 0 k j) s → s < 7 ∨ inS L s := fun {j s} q => by
    have q' := sb_le (oM _ _ _) (leM 0 k j) q
    rcases tv.2.1 0 k j s q'.1 q'.2.2 with y | y
    · exact Or.inl y
    · exact Or.inr y.1
  have e6 : mkT L T 6 k 0 = T 6 k 0 := mkT_o (by decide)
  have gn : pOp L k ≠ 15 → pOp L k ≠ 31 → pOp L k ≠ 32 → ∀ {Y : Int → FA} {lk : FA}, GT L T k (nx L k) Y lk → (∀ s, 0 ≤ s → s < pLc L (pMo L k) → pLk L (pMo L k) s = 1 → nsp (Y s)) → (∀ i, 0 ≤ i → i < pDp L (k + 1) → skd L (k + 1) i = 1 → nsp (Y (8 + i))) → GT L (mkT L T) k (nx L k) Y lk := by
    intro o1 o2 o3 Y lk f nl ns
    obtain ⟨n1, n2, n3, n4⟩ := nxt_ok w hk o1 o2 o3
    exact mk_GT2 w hk (by rw [n3]; exact n1) (by rw [n3]; exact n2) f nl (by rw [n3]; exact ns)
  -- one value is laid
  have gp : pOp L k ≠ 15 → pOp L k ≠ 31 → pOp L k ≠ 32 → ppu L k = 1 → ∀ {v : FA} {lk : FA} {p : Int}, p = 8 + (pDp L k - ppo L k) → GT L T k (nx L k) (ux (mkT L T 0 k) p v) lk → (skd L (k + 1) (pDp L k - ppo L k) = 1 → nsp v) → GT L (mkT L T) k (nx L k) (ux (mkT L T 0 k) p v) lk := by
    intro o1 o2 o3 pu v lk p ep f nv
    obtain ⟨n1, n2, n3, n4⟩ := nxt_ok w hk o1 o2 o3
    have dp := wk.2.2.2.2.2.2.2.2.2.2.2.2.2.2.2.2.2.2.2.1
    subst ep
    refine gn o1 o2 o3 f (fun s s0 s1 kk => ?_) (fun i i0 i1 kk => ?_)
    · unfold ux; rw [if_neg (by omega)]; exact hL s s0 s1 kk
    · unfold ux
      by_cases e : i = pDp L k - ppo L k
      · rw [if_pos (by omega)]; rw [e] at kk; exact nv kk
      · rw [if_neg (by omega)]
        rw [wtk.1 o1 o2 o3 i i0 (by omega)] at kk
        exact hS i i0 (by omega) kk
  have gd : pOp L k ≠ 15 → pOp L k ≠ 31 → pOp L k ≠ 32 → ppu L k = 0 → ∀ {lk : FA}, GT L T k (nx L k) (mkT L T 0 k) lk → GT L (mkT L T) k (nx L k) (mkT L T 0 k) lk := by
    intro o1 o2 o3 pu lk f
    obtain ⟨n1, n2, n3, n4⟩ := nxt_ok w hk o1 o2 o3
    refine gn o1 o2 o3 f hL (fun i i0 i1 kk => ?_)
    rw [wtk.1 o1 o2 o3 i i0 (by omega)] at kk
    exact hS i i0 (by omega) kk
  have gj : 15 ≤ pOp L k → pOp L k ≤ 19 → ∀ {Y : Int → FA} {lk : FA}, GT L T k (pZ L k) Y lk → (∀ s, 0 ≤ s → s < pLc L (pMo L k) → pLk L (pMo L k) s = 1 → nsp (Y s)) → GT L (mkT L T) k (pZ L k) Y lk := by
    intro o1 o2 Y lk f nl
    obtain ⟨n1, n2, n3, n4⟩ := jmp_ok w hk o1 o2
    exact mk_GT2 w hk n1 n2 f nl (fun i i0 i1 => by omega)
  obtain ⟨-, ⟨op0, op1⟩, ⟨x0, x1⟩, -, xl, -, -, x17, x20, -, x27, -, y25, y29, y30, x36, -, zj, si, ⟨d0, d1, d2, d3⟩, -⟩ := wk
  obtain ⟨t0, t3, t7, t12, t17, t18, t22, t23, t24, t26, t28, t29, t31, u0, u1, u2, u5, u6, u25, u27, u29⟩ := wtk
  -- a local is set, or not
  have ul : ∀ {p : Int} {v : FA}, (pLk L (pMo L k) p = 1 → 0 ≤ p → p < pLc L (pMo L k) → nsp v) → ∀ s, 0 ≤ s → s < pLc L (pMo L k) → pLk L (pMo L k) s = 1 → nsp (ux (mkT L T 0 k) p v s) := by
    intro p v nv s s0 s1 kk
    unfold ux
    by_cases e : s = p
    · rw [if_pos e]; subst e; exact nv kk s0 s1
    · rw [if_neg e]; exact hL s s0 s1 kk
  -- onward with an empty stack
  have gn0 : 15 ≤ pOp L k → pOp L k ≤ 19 → ∀ {Y : Int → FA} {lk : FA}, pOp L k ≠ 15 → GT L T k (nx L k) Y lk → (∀ s, 0 ≤ s → s < pLc L (pMo L k) → pLk L (pMo L k) s = 1 → nsp (Y s)) → GT L (mkT L T) k (nx L k) Y lk := by
    intro o1 o2 Y lk o3 f nl
    obtain ⟨n1, n2, n3, n4⟩ := nxt_ok w hk o3 (by omega) (by omega)
    have z := (zj ⟨o1, o2⟩).2.2.2
    have pz := pu_z (L := L) (k := k) (by omega)
    exact gn o3 (by omega) (by omega) f nl (fun i i0 i1 => by omega)
  have cld_m : pOp L k = 29 ∨ pOp L k = 30 ∨ pOp L k = 36 → ∀ {s c : Int}, cld L (mkT L T 0 k) k s c → 0 ≤ c ∧ c < pNm L ∧ pAr L c = pAr L (lik L k) ∧ pGi L c = pGi L (lik L k) ∧ (∀ j, 0 ≤ j → j < pAr L c → pLk L c j = pLk L (lik L k) j) ∧ (pOp L k = 29 ∨ pOp L k ≠ 29) := by
    intro e s c q
    rcases q with ⟨q1, q2, q3⟩ | ⟨q1, q2, q3, q4, q5⟩
    · have := y29 q1
      unfold lik
      rw [if_pos q1, q3]
      exact ⟨this.1, this.2.1, rfl, rfl, fun _ _ _ => rfl, Or.inl q1⟩
    · have s1 : s < pNt L := by
        rcases sbm q3 with y | y
        · omega
        · exact y.2
      have so := sent_ok w (nm := pX L k) q2 s1 (by rw [← q4]; exact q5)
      rw [← q4] at so
      have w30 := y30 (by omega)
      have ok := wnm_ok w w30.2
      have al := w.l c (wnm L (pX L k)) q5 so.1 w30.2 ok.1 so.2.2 ok.2.2 (by rw [so.2.1, ok.2.1])
      unfold lik
      rw [if_neg q1]
      exact ⟨q5, so.1, al.1, al.2.1, fun j j0 j1 => al.2.2 j j0 j1, Or.inr q1⟩
  have ent_ok : ∀ {s c : Int} {lk : FA}, pAr L (lik L k) ≤ pDp L k → 0 ≤ c → c < pNm L → pAr L c = pAr L (lik L k) → (∀ j, 0 ≤ j → j < pAr L c → pLk L c j = pLk L (lik L k) j) → (∀ j, 0 ≤ j → j < pAr L (lik L k) → skd L k (pDp L k - pAr L (lik L k) + j) = pLk L (lik L k) j) → Flow L T (pFi L c) (entz L (mkT L T 0 k) k s c) lk → Flow L (mkT L T) (pFi L c) (entz L (mkT L T 0 k) k s c) lk := by
    intro s c lk ld m0 m1 mr ml sk f
    obtain ⟨-, -, -, ar0, ar1, -, -, -, alc, lc8, -, -, -, -, -, co1, -, fi0, fi1, fim, fid, -⟩ := w.m m0 m1
    have mf : pMo L (pFi L c) = c := by have := fim 0 (by omega) (by omega); rw [Int.add_zero] at this; exact this
    have fe : frs L k = 8 + (pDp L k - pAr L (lik L k)) := by unfold frs lik; omega
    refine mk_Flow ⟨by omega, by omega⟩ f (fun j rl kk => ?_)
    unfold rel at rl
    rw [mf, fid] at rl
    have j01 : 0 ≤ j ∧ j < pLc L c := by omega
    rw [kd_l (by omega), mf] at kk
    unfold entz
    by_cases ja : j < pAr L c
    · rw [if_pos ja]
      have nx' : nsp (mkT L T 0 k (frs L k + j)) := by
        have := hS (pDp L k - pAr L (lik L k) + j) (by omega) (by omega) (by rw [sk j j01.1 (by omega), ← ml j j01.1 ja]; exact kk)
        rw [show 8 + (pDp L k - pAr L (lik L k) + j) = frs L k + j by omega] at this
        exact this
      by_cases z : j = 0 ∧ s ≠ -1
      · rw [if_pos z]
        rw [z.1, Int.add_zero] at nx'
        split
        · exact nsp_b1 _
        · exact nsp_rs nx'
      · rw [if_neg z]; exact nx'
    · rw [if_neg ja]; exact nsp_f1 _
  obtain ⟨⟨c0, c1, c2, c3, c4, c5, c6, c7, c10, c12, c13, c14, c15, c16, c17, c18, c19⟩, ⟨c20, c21, c22, c23, c24, c25, c26, c27, c28⟩, ⟨c29, c36, c30, c31, c32', c33, c34, c35⟩⟩ := c
  refine ⟨⟨?_, ?_, ?_, ?_, ?_, ?_, ?_, ?_, ?_, ?_, ?_, ?_, ?_, ?_, ?_, ?_, ?_⟩, ⟨?_, ?_, ?_, ?_, ?_, ?_, ?_, ?_, ?_⟩, ⟨?_, ?_, ?_, ?_, ?_, ?_, ?_, ?_⟩⟩
  · intro e
    have p0 := po_z (L := L) (k := k) (by omega)
    have k0 := u0 (by omega)
    exact gp (by omega) (by omega) (by omega) (pu_1 (by omega)) (by omega) (c0 e) (fun q => by omega)
  · intro e
    have p0 := po_z (L := L) (k := k) (by omega)
    exact gp (by omega) (by omega) (by omega) (pu_1 (by omega)) (by omega) (c1 e) (fun q => nsp_fs _)
  · intro e
    have p0 := po_z (L := L) (k := k) (by omega)
    refine gp (by omega) (by omega) (by omega) (pu_1 (by omega)) (by omega) (c2 e) (fun q => hL _ x0 (xl (by omega)) ?_)
    rw [p0, Int.sub_zero, u2 e] at q
    exact q
  · intro e
    have p0 := po_1 (L := L) (k := k) (by omega)
    obtain ⟨n1, n2, n3, n4⟩ := nxt_ok w hk (by omega) (by omega) (by omega)
    have pz := pu_z (L := L) (k := k) (by omega)
    refine gn (by omega) (by omega) (by omega) (c3 e) (ul (fun q _ _ => ?_)) (fun i i0 i1 kk => ?_)
    · have := hS (pDp L k - 1) (by omega) (by omega) (by rw [t3 e]; exact q)
      rw [show 8 + (pDp L k - 1) = 7 + pDp L k by omega] at this
      exact this
    · unfold ux
      have := xl (by omega)
      rw [if_neg (by omega)]
      rw [t0 (by omega) (by omega) (by omega) i i0 (by omega)] at kk
      exact hS i i0 (by omega) kk
  · intro e
    exact gd (by omega) (by omega) (by omega) (pu_z (by omega)) (c4 e)
  · intro e
    have p0 := po_1 (L := L) (k := k) (by omega)
    have pz := pu_2 (L := L) (k := k) (by omega)
    obtain ⟨n1, n2, n3, n4⟩ := nxt_ok w hk (by omega) (by omega) (by omega)
    obtain ⟨a1, a2⟩ := u5 e
    have nt : skd L k (pDp L k - 1) = 1 → nsp ((mkT L T 0 k) (7 + pDp L k)) := fun q => by
      have := hS (pDp L k - 1) (by omega) (by omega) q
      rw [show 8 + (pDp L k - 1) = 7 + pDp L k by omega] at this
      exact this
    refine gn (by omega) (by omega) (by omega) (c5 e) (ul (fun _ _ _ => by omega)) (fun i i0 i1 kk => ?_)
    unfold ux
    by_cases z : i = pDp L k
    · rw [if_pos (by omega)]
      rw [z, a2] at kk
      exact nt kk
    · rw [if_neg (by omega)]
      by_cases z2 : i = pDp L k - 1
      · rw [z2, a1] at kk
        rw [show 8 + i = 7 + pDp L k by omega]
        exact nt kk
      · rw [t0 (by omega) (by omega) (by omega) i i0 (by omega)] at kk
        exact hS i i0 (by omega) kk
  · intro e
    have p0 := po_2 (L := L) (k := k) (by omega)
    have pz := pu_2 (L := L) (k := k) (by omega)
    obtain ⟨n1, n2, n3, n4⟩ := nxt_ok w hk (by omega) (by omega) (by omega)
    obtain ⟨a1, a2⟩ := u6 e
    refine gn (by omega) (by omega) (by omega) (c6 e) (fun s s0 s1 kk => ?_) (fun i i0 i1 kk => ?_)
    · unfold ux
      rw [if_neg (by omega), if_neg (by omega)]
      exact hL s s0 s1 kk
    · unfold ux
      by_cases z : i = pDp L k - 2
      · rw [if_pos (by omega)]
        rw [z, a1] at kk
        have := hS (pDp L k - 1) (by omega) (by omega) kk
        rw [show 8 + (pDp L k - 1) = 7 + pDp L k by omega] at this
        exact this
      · rw [if_neg (by omega)]
        by_cases z2 : i = pDp L k - 1
        · rw [if_pos (by omega)]
          rw [z2, a2] at kk
          have := hS (pDp L k - 2) (by omega) (by omega) kk
          rw [show 8 + (pDp L k - 2) = 6 + pDp L k by omega] at this
          exact this
        · rw [if_neg (by omega)]
          rw [t0 (by omega) (by omega) (by omega) i i0 (by omega)] at kk
          exact hS i i0 (by omega) kk
  · intro e
    have p0 := po_2 (L := L) (k := k) (by omega)
    have k0 := u0 (by omega)
    exact gp (by omega) (by omega) (by omega) (pu_1 (by omega)) (by omega) (c7 e) (fun q => by omega)
  · intro e
    have p0 := po_2 (L := L) (k := k) (by omega)
    have k0 := u0 (by omega)
    exact ⟨fun q => gp (by omega) (by omega) (by omega) (pu_1 (by omega)) (by omega) ((c10 e).1 q) (fun q => by omega), fun q => th ((c10 e).2 q)⟩
  · intro e
    have p0 := po_1 (L := L) (k := k) (by omega)
    have k0 := u0 (by omega)
    exact gp (by omega) (by omega) (by omega) (pu_1 (by omega)) (by omega) (c12 e) (fun q => by omega)
  · intro e
    have p0 := po_z (L := L) (k := k) (by omega)
    have k0 := u0 (by omega)
    exact gp (by omega) (by omega) (by omega) (pu_1 (by omega)) (by omega) (c13 e) (fun q => by omega)
  · intro e
    exact ⟨fun q => by rw [mkT_o (a := 4) (by decide)]; exact (c14 e).1 q, gd (by omega) (by omega) (by omega) (pu_z (by omega)) (c14 e).2⟩
  · intro e
    exact gj (by omega) (by omega) (c15 e) hL
  · intro e
    exact ⟨fun q => gj (by omega) (by omega) ((c16 e).1 q) hL, fun q => gn0 (by omega) (by omega) (by omega) ((c16 e).2 q) hL⟩
  · intro e
    have k0 := t17 e
    exact ⟨fun q => gj (by omega) (by omega) ((c17 e).1 q) (ul (fun z _ _ => by omega)), fun q => gn0 (by omega) (by omega) (by omega) ((c17 e).2 q) (ul (fun z _ _ => by omega))⟩
  · intro e s q
    have k0 := t18 (by omega)
    have nr : nsp (rs ((mkT L T 0 k) (pX L k)) s) := nsp_rs (hL _ x0 (xl (by omega)) k0)
    exact ⟨fun z => gj (by omega) (by omega) ((c18 e s q).1 z) (ul (fun _ _ _ => nr)), fun z => gn0 (by omega) (by omega) (by omega) ((c18 e s q).2 z) (ul (fun _ _ _ => nr))⟩
  · intro e s q
    have k0 := t18 (by omega)
    have nr : nsp (rs ((mkT L T 0 k) (pX L k)) s) := nsp_rs (hL _ x0 (xl (by omega)) k0)
    exact ⟨fun z => gj (by omega) (by omega) ((c19 e s q).1 z) (ul (fun _ _ _ => nr)), fun z => gn0 (by omega) (by omega) (by omega) ((c19 e s q).2 z) (ul (fun _ _ _ => nr))⟩
  · intro e
    have p0 := po_z (L := L) (k := k) (by omega)
    exact ⟨fun f f0 f1 => le_mkT ((c20 e).1 f f0 f1) (fun _ => nsp_f1 _), gp (by omega) (by omega) (by omega) (pu_1 (by omega)) (by omega) (c20 e).2 (fun _ => nsp_b1 _)⟩
  · intro e q
    have p0 := po_1 (L := L) (k := k) (by omega)
    refine ⟨fun z => ?_, fun z => th ((c21 e q).2 z)⟩
    obtain ⟨a1, a2, a3⟩ := (c21 e q).1 z
    exact ⟨le_mkT a1 (fun _ => nsp_f1 _), by rw [mkT_o (a := 2) (by decide)]; exact a2, gp (by omega) (by omega) (by omega) (pu_1 (by omega)) (by omega) a3 (fun _ => nsp_b1 _)⟩
  · intro e s q
    have p0 := po_1 (L := L) (k := k) (by omega)
    have k0 := u0 (by omega)
    obtain ⟨a1, a2, a3⟩ := c22 e s q
    exact ⟨fun z => th (a1 z), fun z z2 => th (a2 z z2), fun z z2 z3 => gp (by omega) (by omega) (by omega) (pu_1 (by omega)) (by omega) (a3 z z2 z3) (fun q => by omega)⟩
  · intro e s q
    have p0 := po_2 (L := L) (k := k) (by omega)
    obtain ⟨a1, a2, a3⟩ := c23 e s q
    refine ⟨fun z => th (a1 z), fun z z2 => th (a2 z z2), fun z z2 z3 z4 => ⟨fun y => th ((a3 z z2 z3 z4).1 y), fun y => ?_⟩⟩
    refine gp (by omega) (by omega) (by omega) (pu_1 (by omega)) (by omega) ((a3 z z2 z3 z4).2 y) (fun kk => ?_)
    have sS : inS L s := by
      rcases sbm q with y | y
      · exfalso
        have s0 := q.1
        have := w.s.1 s (by omega) y
        unfold isarr at z2
        omega
      · exact y
    have kn : knd L s 0 = pX L k := by
      unfold isarr at z2
      unfold knd
      rw [if_pos (by omega)]; omega
    have nf : nfs L s = 1 := by
      unfold isarr at z2
      unfold nfs
      rw [if_pos (by omega)]
    rw [p0, (t23 e).2.2] at kk
    exact mkT_ns (Or.inr (Or.inl ⟨rfl, sS, by omega, by omega, by rw [kn]; exact kk⟩))
  · intro e s q
    obtain ⟨a1, a2, a3⟩ := c24 e s q
    have p0 := po_3 (L := L) (k := k) (by omega)
    refine ⟨fun z => th (a1 z), fun z z2 => th (a2 z z2), fun z z2 z3 z4 => ⟨fun y => th ((a3 z z2 z3 z4).1 y), fun y => ⟨?_, gd (by omega) (by omega) (by omega) (pu_z (by omega)) ((a3 z z2 z3 z4).2 y).2⟩⟩⟩
    refine le_mkT ((a3 z z2 z3 z4).2 y).1 (fun rr => ?_)
    have kn : knd L s 0 = pX L k := by
      unfold isarr at z2
      unfold knd
      rw [if_pos (by omega)]; omega
    have kk : knd L s 0 = 1 := by unfold rfe at rr; rcases rr with rr | rr | rr | rr; exact absurd rr.1 (by decide); exact rr.2.2.2.2; exact absurd rr.1 (by decide); exact absurd rr.1 (by decide)
    have := hS (pDp L k - 1) (by omega) (by omega) (by rw [(t24 e).1, ← kn]; exact kk)
    rw [show 8 + (pDp L k - 1) = 7 + pDp L k by omega] at this
    exact this
  · intro e s q
    have p0 := po_1 (L := L) (k := k) (by omega)
    obtain ⟨a1, a2, a3⟩ := c25 e s q
    refine ⟨fun z => th (a1 z), fun z z2 => th (a2 z z2), fun z z2 => ?_⟩
    refine gp (by omega) (by omega) (by omega) (pu_1 (by omega)) (by omega) (a3 z z2) (fun kk => ?_)
    have y := y25 (by omega)
    have xx := x20 (by omega)
    have s1 : s < pNt L := by
      rcases sbm q with y | y
      · omega
      · exact y.2
    obtain ⟨k1, k2, k3⟩ := knd_of w (by have := q.1; omega) s1 x0 (by omega) y.1 y.2 z2
    rw [p0, u25 e, ← k3] at kk
    exact mkT_ns (Or.inr (Or.inl ⟨rfl, k1, y.1, k2, kk⟩))
  · intro e s q
    have p0 := po_2 (L := L) (k := k) (by omega)
    obtain ⟨a1, a2, a3⟩ := c26 e s q
    refine ⟨fun z => th (a1 z), fun z z2 => th (a2 z z2), fun z z2 => ⟨le_mkT (a3 z z2).1 (fun rr => ?_), gd (by omega) (by omega) (by omega) (pu_z (by omega)) (a3 z z2).2⟩⟩
    have y := y25 (by omega)
    have xx := x20 (by omega)
    have s1 : s < pNt L := by
      rcases sbm q with y | y
      · omega
      · exact y.2
    obtain ⟨k1, k2, k3⟩ := knd_of w (by have := q.1; omega) s1 x0 (by omega) y.1 y.2 z2
    have kk : knd L s (pY L k) = 1 := by unfold rfe at rr; rcases rr with rr | rr | rr | rr; exact absurd rr.1 (by decide); exact rr.2.2.2.2; exact absurd rr.1 (by decide); exact absurd rr.1 (by decide)
    have := hS (pDp L k - 1) (by omega) (by omega) (by rw [(t26 e).1, ← k3]; exact kk)
    rw [show 8 + (pDp L k - 1) = 7 + pDp L k by omega] at this
    exact this
  · intro e
    have p0 := po_z (L := L) (k := k) (by omega)
    refine gp (by omega) (by omega) (by omega) (pu_1 (by omega)) (by omega) (c27 e) (fun kk => ?_)
    rw [p0, Int.sub_zero, u27 e] at kk
    exact mkT_ns (Or.inr (Or.inr (Or.inl ⟨rfl, x0, x27 (by omega), rfl, kk⟩)))
  · intro e
    have p0 := po_1 (L := L) (k := k) (by omega)
    refine ⟨le_mkT (c28 e).1 (fun rr => ?_), gd (by omega) (by omega) (by omega) (pu_z (by omega)) (c28 e).2⟩
    have kk : pSk L (pX L k) = 1 := by unfold rfe at rr; rcases rr with rr | rr | rr | rr; exact absurd rr.1 (by decide); exact absurd rr.1 (by decide); exact rr.2.2.2.2; exact absurd rr.1 (by decide)
    have := hS (pDp L k - 1) (by omega) (by omega) (by rw [t28 e]; exact kk)
    rw [show 8 + (pDp L k - 1) = 7 + pDp L k by omega] at this
    exact this
  · intro e s c q
    obtain ⟨a1, a2, a3, a4, a5⟩ := c29 e s c q
    obtain ⟨m0, m1, mr, mg, ml, sn⟩ := cld_m (by omega) q
    have p0 : ppo L k = pAr L (lik L k) := by unfold ppo; rw [if_neg (by omega), if_neg (by omega), if_neg (by omega), if_pos e]
    have fe : frs L k = 8 + (pDp L k - pAr L (lik L k)) := by unfold frs lik; omega
    refine ⟨by rw [mkT_o (by decide)]; exact a1, ent_ok (by omega) m0 m1 mr ml (fun j j0 j1 => t29 e j j0 j1) a2, by rw [mkT_o (a := 15) (by decide), mkT_o (a := 15) (by decide)]; rw [mkT_o (a := 15) (by decide)] at a3; exact a3, fun s' q' => th (a4 s' q'), fun q' => ?_⟩
    have a5' := a5 q'
    by_cases g : 0 < pGi L c
    · rw [if_pos g] at a5' ⊢
      refine gp (by omega) (by omega) (by omega) (by unfold ppu; rw [if_neg (by omega), if_neg (by omega), if_pos e, if_pos (by omega)]) (by rw [fe, p0]) a5' (fun kk => ?_)
      rw [p0, u29 e (by omega)] at kk
      exact mkT_ns (Or.inr (Or.inr (Or.inr ⟨rfl, ⟨m0, m1⟩, rfl, by omega⟩)))
    · rw [if_neg g] at a5' ⊢
      exact gd (by omega) (by omega) (by omega) (by unfold ppu; rw [if_neg (by omega), if_neg (by omega), if_pos e, if_neg (by omega)]) a5'
  · intro e s c q
    obtain ⟨a1, a2, a3, a4⟩ := c36 e s c q
    obtain ⟨m0, m1, mr, mg, ml, sn⟩ := cld_m (by omega) q
    have p0 := po_1 (L := L) (k := k) (by omega)
    have r1 : pAr L (lik L k) = 1 := by unfold lik; rw [if_neg (by omega)]; exact (x36 e).1
    refine ⟨by rw [mkT_o (by decide)]; exact a1, ent_ok (by omega) m0 m1 mr ml (fun j j0 j1 => ?_) a2, th a3, gd (by omega) (by omega) (by omega) (pu_z (by omega)) a4⟩
    have j0' : j = 0 := by omega
    rw [r1, j0', Int.add_zero, t22 (by omega)]
    have w30 := y30 (by omega)
    have ok := wnm_ok w w30.2
    have := (w.m w30.2 ok.1).2.2.2.2.2.1 ok.2.2
    unfold lik
    rw [if_neg (by omega)]
    exact this.2.symm
  · intro e s q
    exact ⟨fun z => th ((c30 e s q).1 z), fun z z2 => th ((c30 e s q).2 z z2)⟩
  · intro e
    rw [e6, mkT_o (a := 7) (by decide)]
    rw [e6] at c31
    refine ⟨le_mkT (c31 e).1 (fun rr => ?_), (c31 e).2⟩
    have kk : pGi L (pMo L k) = 2 := by unfold rfe at rr; rcases rr with rr | rr | rr | rr; exact absurd rr.1 (by decide); exact absurd rr.1 (by decide); exact absurd rr.1 (by decide); exact rr.2.2.2
    rw [if_pos (by omega)]
    have p0 : ppo L k = 1 := by unfold ppo; rw [if_neg (by omega), if_neg (by omega), if_neg (by omega), if_neg (by omega), if_pos e, if_pos (by omega)]
    have := hS (pDp L k - 1) (by omega) (by omega) (by rw [t31 e (by omega)]; omega)
    rw [show 8 + (pDp L k - 1) = 7 + pDp L k by omega] at this
    exact this
  · intro e s q
    exact ⟨fun z => th ((c32' e s q).1 z), fun z => th ((c32' e s q).2 z)⟩
  · intro e s q
    have p0 := po_1 (L := L) (k := k) (by omega)
    exact ⟨fun z => gp (by omega) (by omega) (by omega) (pu_1 (by omega)) (by omega) ((c33 e s q).1 z) (fun _ => nsp_b1 _), fun z z2 => th ((c33 e s q).2 z z2)⟩
  · intro e
    exact ⟨fun z => gd (by omega) (by omega) (by omega) (pu_z (by omega)) ((c34 e).1 z), fun z => th ((c34 e).2 z)⟩
  · intro e
    obtain ⟨a0, a1, a2⟩ := c35 e
    exact ⟨by rw [mkT_o (by decide)]; exact a0, fun z => gd (by omega) (by omega) (by omega) (pu_z (by omega)) (a1 z), fun z => th (a2 z)⟩
end MS2
