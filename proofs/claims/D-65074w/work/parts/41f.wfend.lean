/-! Part 41f: a file that is read has what the law of facts asks (plain) -/
set_option maxRecDepth 100000
theorem skd_k {L : PG} {k i : Int} {st : List Int} (e : pKi L k = ksO st) (h : k01 st) (l8 : st.length ≤ 8) (i0 : 0 ≤ i) (i1 : i < 32) : skd L k i = kat st i := by
  unfold skd
  rw [e]
  have q := ks_bit st h l8 i i0 i1
  by_cases c : bi (ksO st) i = true
  · rw [if_pos c]; exact (q.mp c).symm
  · rw [if_neg c]
    rcases kat_01 st h i with z | z
    · exact z.symm
    · exact absurd (q.mpr z) c
theorem WF_of {L : PG} (w : WFx L) (J : ∀ a, 0 ≤ a → a < pNm L → ∃ S T : Int → List Int, (∀ j, 0 ≤ j → j < pCo L a → JOK L a S T j) ∧ S 0 = []) (s6 : ∀ s, 1 ≤ s → s < 7 → pSc L s = s + 1) : WF L ∧ WFt L := by
  have w' := w
  obtain ⟨wn, wc, wm, wl, wk, ws⟩ := w'
  have nn := wn
  unfold WFn at nn
  -- at each place
  have at_ : ∀ k, 0 ≤ k → k < pNp L → ∃ (S T : Int → List Int) (a b r : List Int), JOK L (pMo L k) S T (k - pFi L (pMo L k)) ∧ (∀ j, 0 ≤ j → j < pCo L (pMo L k) → JOK L (pMo L k) S T j) ∧ S (k - pFi L (pMo L k)) = a ++ r ∧ T (k - pFi L (pMo L k)) = b ++ r ∧ SHP L (pMo L k) k a b r ∧ ((S (k - pFi L (pMo L k))).length : Int) ≤ 8 ∧ ((T (k - pFi L (pMo L k))).length : Int) ≤ 8 := by
    intro k k0 k1
    obtain ⟨⟨mo0, mo1, fi0, fi1⟩, ⟨op0, op1⟩, -⟩ := wk k k0 k1
    obtain ⟨S, T, hS, -⟩ := J (pMo L k) mo0 mo1
    have q := hS (k - pFi L (pMo L k)) (by omega) (by omega)
    have ek : L 15 (pMo L k) + (k - pFi L (pMo L k)) = k := by show pFi L (pMo L k) + (k - pFi L (pMo L k)) = k; omega
    obtain ⟨-, -, -, -, -, -, -, -, -, -, -, de0, de8, -⟩ := wm _ mo0 mo1
    have q' := q
    unfold JOK at q'
    rw [ek] at q'
    obtain ⟨q1, q2, q3, q4, q5, q6⟩ := q'
    obtain ⟨a, b, r, ea, eb, sh, le⟩ := jI_sh op0 op1 q5
    have de : pDe L (pMo L k) = L 11 (pMo L k) := rfl
    exact ⟨S, T, a, b, r, q, hS, ea, eb, sh, by omega, by have := le q2; omega⟩
  have lkb : ∀ k, 0 ≤ k → k < pNp L → ∀ a b r, SHP L (pMo L k) k a b r → pOp L k = 29 ∨ pOp L k = 30 → 0 ≤ lik L k ∧ lik L k < pNm L := by
    intro k k0 k1 a b r sh c
    obtain ⟨-, -, -, -, -, -, -, -, -, -, -, -, -, yc, -⟩ := wk k k0 k1
    obtain ⟨-, -, -, -, -, -, -, -, -, -, -, -, -, -, -, -, -, -, -, -, -, -, s22, -⟩ := sh
    have q := s22 c
    unfold lik
    by_cases z : pOp L k = 29
    · rw [if_pos z]; exact yc z
    · rw [if_neg z]
      have := q.2.2.2 (by omega)
      exact ⟨this, wnm_lt' (by omega) this⟩
  -- depths
  have dep : ∀ k, 0 ≤ k → k < pNp L → WFk L k ∧ WTk L k := by
    intro k k0 k1
    obtain ⟨S, T, a, b, r, q, hS, ea, eb, sh, l8, t8⟩ := at_ k k0 k1
    have wkk := wk k k0 k1
    obtain ⟨⟨mo0, mo1, fi0, fi1⟩, ⟨op0, op1⟩, xr, yz, xl, x7, x5, xi, xc, xa, xs, y9, yf, yc, xn, xz, zj, si⟩ := wkk
    have ek : L 15 (pMo L k) + (k - pFi L (pMo L k)) = k := by show pFi L (pMo L k) + (k - pFi L (pMo L k)) = k; omega
    unfold JOK at q
    rw [ek] at q
    obtain ⟨q1, q2, q3, q4, q5, q6, q7, q8⟩ := q
    have lk := lkb k k0 k1 a b r sh
    have ar : pOp L k = 29 ∨ pOp L k = 30 → 0 ≤ pAr L (lik L k) := fun c => (wm _ (lk c).1 (lk c).2).2.2.2.1
    have sl := sh_len op0 op1 rfl ar sh
    have d0 : pDp L k = ((a ++ r).length : Int) := by rw [← ea]; exact q3
    have la : ((a ++ r).length : Int) = a.length + r.length := by simp
    have lb : ((b ++ r).length : Int) = b.length + r.length := by simp
    rw [ea] at l8 q1 q4
    rw [eb] at t8
    have kk : pKi L k = ksO (a ++ r) := q4
    have h1 : ∀ i, 0 ≤ i → i < pDp L k → skd L k i = kat (a ++ r) i := fun i i0 i1 => skd_k kk q1 (by omega) i0 (by omega)
    -- the place behind
    have nxt : pOp L k ≠ 15 → pOp L k ≠ 31 → pOp L k ≠ 32 → (k + 1 < pFi L (pMo L k) + pCo L (pMo L k) ∧ pDp L (k + 1) = ((b ++ r).length : Int)) ∧ ∀ i, 0 ≤ i → i < ((b ++ r).length : Int) → skd L (k + 1) i = kat (b ++ r) i := by
      intro n1 n2 n3
      have ne : ¬ eds (L 19 k) := fun z => by
        unfold eds at z
        have : pOp L k = L 19 k := rfl
        omega
      obtain ⟨u1, u2⟩ := q8 ne
      have co : pCo L (pMo L k) = L 14 (pMo L k) := rfl
      have v := hS (k - pFi L (pMo L k) + 1) (by omega) (by omega)
      have ek1 : L 15 (pMo L k) + (k - pFi L (pMo L k) + 1) = k + 1 := by show pFi L (pMo L k) + _ = _; omega
      unfold JOK at v
      rw [ek1, u2, eb] at v
      obtain ⟨v1, v2, v3, v4, -⟩ := v
      have kk1 : pKi L (k + 1) = ksO (b ++ r) := v4
      exact ⟨⟨by omega, v3⟩, fun i i0 i1 => skd_k kk1 v1 (by omega) i0 (by omega)⟩
    have wt : WTk L k := WT_of op0 op1 rfl ar sh d0 h1 (fun a b c => (nxt a b c).2)
    refine ⟨?_, wt⟩
    obtain ⟨-, -, -, -, -, -, -, -, -, -, s10, s11, s12, s13, -, -, -, -, -, -, -, -, s22, -, -, -, -, s27⟩ := sh
    refine ⟨⟨mo0, mo1, fi0, fi1⟩, ⟨op0, op1⟩, xr, yz, xl, x7, x5, xi, xc, xa, xs, y9, yf, fun c => ?_, fun c => ?_, fun c => ?_, xz, fun c => ?_, si, ⟨?_, ?_, ?_, ?_⟩, fun a b c => ?_⟩
    · have := yc c
      exact ⟨this.1, this.2, (s22 (Or.inl c)).2.2.1 c⟩
    · refine ⟨xn c, ?_⟩
      rcases c with c | c
      · exact (s22 (Or.inr c)).2.2.2 c
      · exact (s27 c).2.2.1
    · exact ⟨(s27 c).2.2.2.1, (s27 c).2.2.2.2⟩
    · have z := zj c
      refine ⟨z.1, z.2, ?_, ?_⟩
      · have jt : jmpT L (pMo L k) (pZ L k) := ⟨k, fi0, fi1, c.1, c.2, rfl⟩
        have v := hS (pZ L k) z.1 z.2
        unfold JOK at v
        obtain ⟨-, -, v3, -, -, -, v7, -⟩ := v
        rw [v7 jt] at v3
        exact v3
      · have r0 : r = [] := by
          by_cases e1 : pOp L k = 15
          · exact (s10 e1).2.2
          · by_cases e2 : pOp L k = 16
            · exact (s11 e2).2.2
            · by_cases e3 : pOp L k = 17
              · exact (s12 e3).2.2.1
              · exact (s13 (by omega)).2.2.1
        rw [r0, List.append_nil] at d0
        rw [d0, ← sl.1]
    · rw [d0]; omega
    · rw [d0]; exact l8
    · rw [d0, ← sl.1]; omega
    · rw [d0, ← sl.1, ← sl.2]; omega
    · have u := nxt a b c
      refine ⟨u.1.1, ?_⟩
      rw [u.1.2, d0, ← sl.1, ← sl.2]; omega
  -- handlers and first places
  have hdl : ∀ m j, 0 ≤ m → m < pNm L → 0 ≤ j → j < pHn L m → pDp L (pFi L m + pHa L m j 2) = 1 ∧ skd L (pFi L m + pHa L m j 2) 0 = 1 := by
    intro m j m0 m1 j0 j1
    obtain ⟨S, T, hS, -⟩ := J m m0 m1
    obtain ⟨-, -, -, -, -, -, -, -, -, -, -, de0, de8, hn0, hn4, co1, co2, fi0, fi1, mo, hh⟩ := wm m m0 m1
    have h := hh j j0 j1
    have v := hS (pHa L m j 2) h.2.2.2.1 h.2.2.2.2.1
    have ht : hdlT L m (pHa L m j 2) := ⟨j, j0, j1, rfl⟩
    unfold JOK at v
    obtain ⟨v1, v2, v3, v4, -, v6, -⟩ := v
    have e := v6 ht
    rw [e] at v3 v4 v1
    refine ⟨v3, ?_⟩
    have kk : pKi L (pFi L m + pHa L m j 2) = ksO [1] := v4
    rw [skd_k kk v1 (by decide) (by decide) (by decide)]; rfl
  refine ⟨⟨wn, wc, fun m m0 m1 => ?_, wl, fun k k0 k1 => (dep k k0 k1).1, s6, ws⟩, fun k hk => (dep k hk.1 hk.2).2, fun m j hm j0 j1 => (hdl m j hm.1 hm.2 j0 j1).2⟩
  obtain ⟨q1, q2, q3, q4, q5, q6, q7, q8, q9, q10, q11, q12, q13, q14, q15, q16, q17, q18, q19, q20, q21⟩ := wm m m0 m1
  refine ⟨q1, q2, q3, q4, q5, q6, q7, q8, q9, q10, q11, q12, q13, q14, q15, q16, q17, q18, q19, q20, ?_, fun j j0 j1 => ?_⟩
  · obtain ⟨S, T, hS, S0⟩ := J m m0 m1
    have v := hS 0 (by decide) (by omega)
    unfold JOK at v
    obtain ⟨-, -, v3, -⟩ := v
    rw [S0, Int.add_zero] at v3
    exact v3
  · have h := q21 j j0 j1
    exact ⟨h.1, h.2.1, h.2.2.1, h.2.2.2.1, h.2.2.2.2.1, h.2.2.2.2.2.1, h.2.2.2.2.2.2, (hdl m j m0 m1 j0 j1).1⟩
/-- what a file is when it is taken: its bytes, the machine's sites -/
def finL (D : Int → Int) (n : Int) (L : PG) : PG := fun o i => if o = 18 ∧ 0 ≤ i ∧ i < n then D i else if o = 26 ∧ 1 ≤ i ∧ i < 7 then i + 1 else L o i
theorem finL_ne {D : Int → Int} {n : Int} {L : PG} {o i : Int} (h1 : o ≠ 18) (h2 : ¬ (o = 26 ∧ i < 7)) : finL D n L o i = L o i := by
  unfold finL
  rw [if_neg (by omega), if_neg (by omega)]
theorem PM_x {L : PG} {p : Int} (h : PM L (pNm L) p) : WFx L := by
  obtain ⟨⟨c0, c1, c6, c21, c30⟩, ⟨p0, p1, p2, p3, p4, p5, p6⟩, st, wm, wl, wk, ss, pb⟩ := h
  refine ⟨⟨c0.1, c0.2, c1.1, c1.2, c6.1, c6.2, c21.1, c21.2, c30.1, c30.2⟩, ⟨p0, p1, p2, p3, p4, p5, st⟩, wm, wl, fun k k0 k1 => ?_, ss⟩
  obtain ⟨⟨q1, q2, q3, q4⟩, t1, t2, t3, t4, t5, t6, t7, t8, t9, t10, t11, t12, t13, t14, t15, t16, t17⟩ := wk k k0 k1
  exact ⟨⟨q1, q2, q3, q4⟩, t1, t2, t3, t4, t5, t6, t7, t8, t9, t10, t11, t12, t13, t14, t15, t16, t17⟩
theorem WFx_fin {D : Int → Int} {n : Int} {L : PG} (w : WFx L) : WFx (finL D n L) := by
  obtain ⟨wn, wc, wm, wl, wk, ws⟩ := w
  refine ⟨wn, wc, wm, wl, fun k k0 k1 => ?_, fun s s0 s1 => ?_⟩
  · obtain ⟨q, t1, t2, t3, t4, t5, t6, t7, t8, t9, t10, t11, t12, t13, t14, t15, t16, t17⟩ := wk k k0 k1
    refine ⟨q, t1, t2, t3, t4, t5, t6, t7, t8, t9, t10, t11, t12, t13, t14, t15, t16, fun c => ?_⟩
    have u := t17 c
    refine ⟨u.1, u.2.1, ?_⟩
    show finL D n L 26 (pSi L k) = _
    rw [finL_ne (by decide) (by omega)]
    exact u.2.2
  · show -2 ≤ finL D n L 26 s ∧ finL D n L 26 s < 8 + pCl L
    rw [finL_ne (by decide) (by omega)]
    exact ws s s0 s1
/-- A FILE THAT IS READ IS AS IT MUST BE -/
theorem rdF_WF {B D : Int → Int} {n : Int} {L L' : PG} (hB : ∀ i, 0 ≤ i → i < n → 0 ≤ B i ∧ B i ≤ 255) (h : rdF B n L = .ok L') : WF (finL D n L') ∧ WFt (finL D n L') ∧ 6 * pNp L' ≤ n := by
  unfold rdF at h
  have key : psK (tkC B n 70 70 0 fun _ => bnd (rdCs B n 1 L) fun p L => tkC B n 1 40 p fun nm => bnd (rep (rdM B n) nm.toNat 0 (p + 1) (mset (mset (mset L 0 6 nm) 0 21 0) 0 30 7)) fun p L => if p < n then .error p else .ok (p, L)) (fun p L1 => PM L1 (pNm L1) p ∧ p ≤ n ∧ 0 ≤ p) := by
    refine psK_tk fun n0 _ _ => psK_bnd (psK_mono (ps_Cs (B := B) (n := n) (p := 1) (L := L)) fun p L2 ⟨p1, pc, c0, c1, st⟩ => psK_tk fun pn nm0 nm1 => psK_bnd ?_)
    generalize B p = nm at *
    generalize hL3 : mset (mset (mset L2 0 6 nm) 0 21 0) 0 30 7 = L3
    have g : ∀ o i, ¬ (o = 0 ∧ (i = 6 ∨ i = 21 ∨ i = 30)) → L3 o i = L2 o i := fun o i q => by rw [← hL3, m_ne (by omega), m_ne (by omega), m_ne (by omega)]
    have g6 : L3 0 6 = nm := by rw [← hL3, m_ne (by omega), m_ne (by omega), m_eq]
    have g21 : L3 0 21 = 0 := by rw [← hL3, m_ne (by omega), m_eq]
    have g30 : L3 0 30 = 7 := by rw [← hL3, m_eq]
    have f1 : ∀ o, o ≠ 0 → ∀ i, L3 o i = L2 o i := fun o q i => g o i (by omega)
    have sm := psK_rep (f := rdM B n) (I := fun j q L4 => PM L4 j q ∧ (p + 1 ≤ q ∧ q ≤ n) ∧ L4 0 6 = nm) nm.toNat 0 (p + 1) L3 ?_ ?_
    · have nn : ((nm.toNat : Nat) : Int) = nm := by omega
      rw [nn, Int.zero_add] at sm
      refine psK_mono sm fun q L4 ⟨h1, h2, h3⟩ => psK_if fun z => psK_ok ⟨?_, h2.2, by omega⟩
      show PM L4 (L4 0 6) q
      rw [h3]; exact h1
    · refine ⟨⟨⟨?_, ?_, by omega, by omega, by omega⟩, ?_, ?_, fun a a0 a1 => by omega, fun a b a0 a1 => by omega, fun k k0 k1 => by omega, fun s s0 s1 => by omega, by omega⟩, ⟨Int.le_refl _, by omega⟩, g6⟩
      · rw [g 0 0 (by omega)]; exact c0
      · rw [g 0 1 (by omega)]; exact c1
      · obtain ⟨p0, p1, p2, p3, p4, p5, p6⟩ := pc
        refine ⟨?_, fun d d0 d1 => ?_, fun d d0 d1 => ?_, fun d d0 d1 => ?_, fun d f d0 d1 x0 x1 => ?_, fun d d0 d1 => ?_, fun d d0 d1 => by omega⟩
        · show L3 2 0 = -1; rw [f1 2 (by decide)]; exact p0
        · show 0 ≤ L3 2 d ∧ L3 2 d < d; rw [f1 2 (by decide)]; exact p1 d d0 d1
        · show 0 ≤ L3 3 d ∧ L3 3 d ≤ 8; rw [f1 3 (by decide)]; exact p2 d d0 d1
        · show L3 3 d = 0; rw [f1 3 (by decide)]; exact p3 d d0 d1
        · have x1' : f < L3 3 d := x1
          rw [f1 3 (by decide)] at x1'
          show L3 4 (8 * d + f) = 0 ∨ L3 4 (8 * d + f) = 1
          rw [f1 4 (by decide)]; exact p4 d f d0 d1 x0 x1'
        · show L3 3 (L3 2 d) ≤ L3 3 d ∧ ∀ f, 0 ≤ f → f < L3 3 (L3 2 d) → L3 4 (8 * d + f) = L3 4 (8 * (L3 2 d) + f)
          rw [f1 2 (by decide), f1 3 (by decide), f1 3 (by decide)]
          refine ⟨(p5 d d0 d1).1, fun f x0 x1 => ?_⟩
          rw [f1 4 (by decide), f1 4 (by decide)]; exact (p5 d d0 d1).2 f x0 x1
      · intro i i0 i1
        rw [g 0 1 (by omega)] at i1
        rw [f1 1 (by decide)]; exact st i i0 i1
    · intro j q L4 j0 j1 ⟨h1, h2, h3⟩
      refine psK_mono (ps_M hB (by omega) j0 (by omega) h1) fun p' L5 ⟨k1, k2, k3, k4⟩ => ⟨k1, ⟨by omega, k4⟩, by omega⟩
  generalize hr : (tkC B n 70 70 0 fun _ => bnd (rdCs B n 1 L) fun p L => tkC B n 1 40 p fun nm => bnd (rep (rdM B n) nm.toNat 0 (p + 1) (mset (mset (mset L 0 6 nm) 0 21 0) 0 30 7)) fun p L => if p < n then .error p else .ok (p, L)) = r at h key
  match r, h, key with
  | .error e, h, key => cases h
  | .ok (p, L1), h, key =>
    have h' : jA (L1 0 6).toNat 0 L1 = .ok L' := h
    obtain ⟨pm, pn, p0⟩ := (key : PM L1 (pNm L1) p ∧ p ≤ n ∧ 0 ≤ p)
    have wx := PM_x pm
    have c6 := pm.1.2.2.1
    have e6 : pNm L1 = L1 0 6 := rfl
    have disj : ∀ a b k, 0 ≤ a → a < pNm L1 → 0 ≤ b → b < pNm L1 → pFi L1 a ≤ k → k < pFi L1 a + pCo L1 a → pFi L1 b ≤ k → k < pFi L1 b + pCo L1 b → a = b := by
      intro a b k a0 a1 b0 b1 k0 k1 k2 k3
      obtain ⟨-, -, -, -, -, -, -, -, -, -, -, -, -, -, -, -, -, -, -, moa, -⟩ := wx.2.2.1 a a0 a1
      obtain ⟨-, -, -, -, -, -, -, -, -, -, -, -, -, -, -, -, -, -, -, mob, -⟩ := wx.2.2.1 b b0 b1
      have ea := moa (k - pFi L1 a) (by omega) (by omega)
      have eb := mob (k - pFi L1 b) (by omega) (by omega)
      rw [show pFi L1 a + (k - pFi L1 a) = k by omega] at ea
      rw [show pFi L1 b + (k - pFi L1 b) = k by omega] at eb
      omega
    obtain ⟨t1, -, t3⟩ := jA_ok wx disj (L1 0 6).toNat 0 L1 L' (by omega) (by decide) (fun _ _ _ => rfl) h'
    have wx' : WFx L' := WFx_eq (fun o i a b => by rw [t1 o a b]) wx
    have n6 : pNm L' = pNm L1 := by show L' 0 6 = L1 0 6; rw [t1 0 (by decide) (by decide)]
    have np : pNp L' = pNp L1 := by show L' 0 21 = L1 0 21; rw [t1 0 (by decide) (by decide)]
    have ff : ∀ o, o ≠ 18 → o ≠ 26 → finL D n L' o = L' o := fun o a b => by
      funext i
      exact finL_ne a (by omega)
    have res := WF_of (WFx_fin (D := D) (n := n) wx') (fun a a0 a1 => ?_) (fun s s0 s1 => ?_)
    · refine ⟨res.1, res.2, ?_⟩
      rw [np]
      have := pm.2.2.2.2.2.2.2
      have e21 : pNp L1 = L1 0 21 := rfl
      omega
    · have a1' : a < pNm L1 := by rw [← n6]; exact a1
      obtain ⟨S, T, hS, S0⟩ := t3 a a0 a1'
      refine ⟨S, T, fun j j0 j1 => ?_, S0⟩
      have co : pCo (finL D n L') a = pCo L1 a := by
        show finL D n L' 14 a = L1 14 a
        rw [ff 14 (by decide) (by decide), t1 14 (by decide) (by decide)]
      have q := hS j j0 (by rw [← co]; exact j1)
      unfold JOK at q ⊢
      have hE' := hdlT_eq (L := L') (L' := finL D n L') (m := a) (i := j) (by rw [ff 12 (by decide) (by decide)]) (ff 13 (by decide) (by decide))
      have jE' := jmpT_eq (L := L') (L' := finL D n L') (m := a) (i := j) (by rw [ff 14 (by decide) (by decide)]) (by rw [ff 15 (by decide) (by decide)]) (ff 19 (by decide) (by decide)) (ff 22 (by decide) (by decide))
      rw [ff 11 (by decide) (by decide), ff 15 (by decide) (by decide), ff 14 (by decide) (by decide), hE', jE', jI_eq2 (L := L') (fun o _ _ a b => ff o a b), ff 19 (by decide) (by decide), ff 27 (by decide) (by decide), ff 28 (by decide) (by decide)]
      exact q
    · show finL D n L' 26 s = s + 1
      unfold finL
      rw [if_neg (by omega), if_pos ⟨rfl, s0, s1⟩]
