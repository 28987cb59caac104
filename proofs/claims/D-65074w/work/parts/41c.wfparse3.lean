/-! Part 41c: a method is read (plain) -/
/-- the rows that reading method m changes, from place k0 and site s0 on -/
def mrow (m k0 s0 o i : Int) : Prop := ((5 ≤ o ∧ o ≤ 9) ∧ i = m) ∨ (o = 10 ∧ 8 * m ≤ i ∧ i < 8 * m + 8) ∨ ((o = 11 ∨ o = 12 ∨ o = 14 ∨ o = 15 ∨ o = 16 ∨ o = 17) ∧ i = m) ∨ (o = 13 ∧ 16 * m ≤ i ∧ i < 16 * m + 16) ∨ irow k0 s0 o i
/-- a method's own rows -/
def WFmo (L : PG) (m : Int) : Prop := (pOw L m = 255 ∨ (0 ≤ pOw L m ∧ pOw L m < 8 + pCl L)) ∧ 0 ≤ pNa L m ∧ pNa L m ≤ 15 ∧ 0 ≤ pAr L m ∧ pAr L m ≤ 4 ∧ (pOw L m ≠ 255 → 1 ≤ pAr L m ∧ pLk L m 0 = 1) ∧
  0 ≤ pGi L m ∧ pGi L m ≤ 2 ∧ pAr L m ≤ pLc L m ∧ pLc L m ≤ 8 ∧ (∀ j, 0 ≤ j → j < pLc L m → pLk L m j = 0 ∨ pLk L m j = 1)
/-- of a method that is read: what is left of a file with methods before it -/
theorem PM_next {L L' : PG} {m p p' : Int} (h : PM L m p) (m0 : 0 ≤ m) (fr : ∀ o i, ¬ mrow m (L 0 21) (L 0 30) o i → L' o i = L o i) (own : WFmo L' m) (de : 0 ≤ pDe L' m ∧ pDe L' m ≤ 8) (hn : 0 ≤ pHn L' m ∧ pHn L' m ≤ 4) (co : 1 ≤ pCo L' m ∧ pCo L' m ≤ 120) (fi : pFi L' m = L 0 21) (np : L' 0 21 = L 0 21 + pCo L' m) (np1 : L' 0 21 ≤ 1500)
    (nt : L 0 30 ≤ L' 0 30 ∧ L' 0 30 ≤ 63) (ik : ∀ k, L 0 21 ≤ k → k < L' 0 21 → pMo L' k = m ∧ WFki L' m k) (is : ∀ s, L 0 30 ≤ s → s < L' 0 30 → -2 ≤ pSc L' s ∧ pSc L' s < 8 + pCl L) (hd : ∀ j, 0 ≤ j → j < pHn L' m → 0 ≤ pHa L' m j 0 ∧ pHa L' m j 0 < pHa L' m j 1 ∧ pHa L' m j 1 ≤ pCo L' m ∧ 0 ≤ pHa L' m j 2 ∧ pHa L' m j 2 < pCo L' m ∧ 0 ≤ pHa L' m j 3 ∧ pHa L' m j 3 < 8 + pCl L')
    (lk : ∀ a, 0 ≤ a → a < m → pOw L a ≠ 255 → pOw L' m ≠ 255 → pNa L a = pNa L' m → pAr L a = pAr L' m ∧ pGi L a = pGi L' m ∧ ∀ j, 0 ≤ j → j < pAr L a → pLk L a j = pLk L' m j) (pp : p + 6 * pCo L' m ≤ p') : PM L' (m + 1) p' := by
  obtain ⟨⟨c0, c1, c6, c21, c30⟩, pc, st, wm, wl, wk, ss, pb⟩ := h
  have f0 : ∀ i, i ≠ 21 → i ≠ 30 → L' 0 i = L 0 i := fun i a b => fr 0 i (by unfold mrow irow; omega)
  have f1 : ∀ i, L' 1 i = L 1 i := fun i => fr 1 i (by unfold mrow irow; omega)
  have f2 : ∀ i, L' 2 i = L 2 i := fun i => fr 2 i (by unfold mrow irow; omega)
  have f3 : ∀ i, L' 3 i = L 3 i := fun i => fr 3 i (by unfold mrow irow; omega)
  have f4 : ∀ i, L' 4 i = L 4 i := fun i => fr 4 i (by unfold mrow irow; omega)
  have e0 : pCl L' = pCl L := f0 0 (by decide) (by decide)
  have e1 : pNs L' = pNs L := f0 1 (by decide) (by decide)
  have e6 : pNm L' = pNm L := f0 6 (by decide) (by decide)
  have enp : pNp L' = L' 0 21 := rfl
  have enp0 : pNp L = L 0 21 := rfl
  have ent : pNt L' = L' 0 30 := rfl
  have ent0 : pNt L = L 0 30 := rfl
  -- rows of a method before it
  have r1 : ∀ o a, (5 ≤ o ∧ o ≤ 17) → o ≠ 10 → o ≠ 13 → a ≠ m → L' o a = L o a := fun o a x y z q => fr o a (by unfold mrow irow; omega)
  have r10 : ∀ a j, 0 ≤ a → a < m → 0 ≤ j → j < 8 → pLk L' a j = pLk L a j := fun a j a0 a1 j0 j1 => fr 10 (8 * a + j) (by unfold mrow irow; omega)
  have r13 : ∀ a j w, 0 ≤ a → a < m → 0 ≤ j → j < 4 → 0 ≤ w → w < 4 → pHa L' a j w = pHa L a j w := fun a j w a0 a1 j0 j1 w0 w1 => fr 13 (16 * a + 4 * j + w) (by unfold mrow irow; omega)
  have rk : ∀ o k, (19 ≤ o ∧ o ≤ 25) → k < L 0 21 → L' o k = L o k := fun o k x y => fr o k (by unfold mrow irow; omega)
  have rs : ∀ s, s < L 0 30 → pSc L' s = pSc L s := fun s x => fr 26 s (by unfold mrow irow; omega)
  obtain ⟨o1, o2, o3, o4, o5, o6, o7, o8, o9, o10, o11⟩ := own
  refine ⟨⟨by rw [f0 0 (by decide) (by decide)]; exact c0, by rw [f0 1 (by decide) (by decide)]; exact c1, by rw [f0 6 (by decide) (by decide)]; exact c6, by omega, by omega⟩, ?_, ?_, ?_, ?_, ?_, ?_, by omega⟩
  · obtain ⟨p0, p1, p2, p3, p4, p5, p6⟩ := pc
    refine ⟨?_, fun d d0 d1 => ?_, fun d d0 d1 => ?_, fun d d0 d1 => ?_, fun d f d0 d1 x0 x1 => ?_, fun d d0 d1 => ?_, fun d d0 d1 => by omega⟩
    · show L' 2 0 = -1; rw [f2]; exact p0
    · show 0 ≤ L' 2 d ∧ L' 2 d < d; rw [f2]; exact p1 d d0 d1
    · show 0 ≤ L' 3 d ∧ L' 3 d ≤ 8; rw [f3]; exact p2 d d0 d1
    · show L' 3 d = 0; rw [f3]; exact p3 d d0 d1
    · have x1' : f < L' 3 d := x1
      rw [f3] at x1'
      show L' 4 (8 * d + f) = 0 ∨ L' 4 (8 * d + f) = 1
      rw [f4]; exact p4 d f d0 d1 x0 x1'
    · show L' 3 (L' 2 d) ≤ L' 3 d ∧ ∀ f, 0 ≤ f → f < L' 3 (L' 2 d) → L' 4 (8 * d + f) = L' 4 (8 * (L' 2 d) + f)
      rw [f2, f3, f3]
      refine ⟨(p5 d d0 d1).1, fun f x0 x1 => ?_⟩
      rw [f4, f4]; exact (p5 d d0 d1).2 f x0 x1
  · intro i i0 i1
    rw [f0 1 (by decide) (by decide)] at i1
    rw [f1]; exact st i i0 i1
  · intro a a0 a1
    by_cases ea : a = m
    · subst ea
      refine ⟨o1, o2, o3, o4, o5, o6, o7, o8, o9, o10, o11, de.1, de.2, hn.1, hn.2, co.1, co.2, by omega, by omega, fun i i0 i1 => ?_, hd⟩
      rw [fi]
      exact (ik (L 0 21 + i) (by omega) (by omega)).1
    · have a1' : a < m := by omega
      obtain ⟨q1, q2, q3, q4, q5, q6, q7, q8, q9, q10, q11, q12, q13, q14, q15, q16, q17, q18, q19, q20, q21⟩ := wm a a0 a1'
      have s5 : pOw L' a = pOw L a := r1 5 a (by omega) (by decide) (by decide) ea
      have s6 : pNa L' a = pNa L a := r1 6 a (by omega) (by decide) (by decide) ea
      have s7 : pAr L' a = pAr L a := r1 7 a (by omega) (by decide) (by decide) ea
      have s8 : pGi L' a = pGi L a := r1 8 a (by omega) (by decide) (by decide) ea
      have s9 : pLc L' a = pLc L a := r1 9 a (by omega) (by decide) (by decide) ea
      have s11 : pDe L' a = pDe L a := r1 11 a (by omega) (by decide) (by decide) ea
      have s12 : pHn L' a = pHn L a := r1 12 a (by omega) (by decide) (by decide) ea
      have s14 : pCo L' a = pCo L a := r1 14 a (by omega) (by decide) (by decide) ea
      have s15 : pFi L' a = pFi L a := r1 15 a (by omega) (by decide) (by decide) ea
      unfold WFmx
      rw [s5, s6, s7, s8, s9, s11, s12, s14, s15, e0]
      refine ⟨q1, q2, q3, q4, q5, fun x => ?_, q7, q8, q9, q10, fun j j0 j1 => ?_, q12, q13, q14, q15, q16, q17, q18, by omega, fun i i0 i1 => ?_, fun j j0 j1 => ?_⟩
      · rw [r10 a 0 a0 a1' (by decide) (by decide)]; exact q6 x
      · rw [r10 a j a0 a1' j0 (by omega)]; exact q11 j j0 j1
      · show L' 24 _ = a
        rw [rk 24 _ (by omega) (by omega)]; exact q20 i i0 i1
      · rw [r13 a j 0 a0 a1' j0 (by omega) (by decide) (by decide), r13 a j 1 a0 a1' j0 (by omega) (by decide) (by decide), r13 a j 2 a0 a1' j0 (by omega) (by decide) (by decide), r13 a j 3 a0 a1' j0 (by omega) (by decide) (by decide)]
        exact q21 j j0 j1
  · intro a b a0 a1 b0 b1 wa wb en
    have s5 : ∀ a, a ≠ m → pOw L' a = pOw L a := fun a q => r1 5 a (by omega) (by decide) (by decide) q
    have s6 : ∀ a, a ≠ m → pNa L' a = pNa L a := fun a q => r1 6 a (by omega) (by decide) (by decide) q
    have s7 : ∀ a, a ≠ m → pAr L' a = pAr L a := fun a q => r1 7 a (by omega) (by decide) (by decide) q
    have s8 : ∀ a, a ≠ m → pGi L' a = pGi L a := fun a q => r1 8 a (by omega) (by decide) (by decide) q
    by_cases ea : a = m
    · by_cases eb : b = m
      · rw [ea, eb]; exact ⟨rfl, rfl, fun _ _ _ => rfl⟩
      · rw [s5 b eb] at wb
        rw [s6 b eb, ea] at en
        rw [ea] at wa
        obtain ⟨l1, l2, l3⟩ := lk b b0 (by omega) wb wa en.symm
        rw [ea, s7 b eb, s8 b eb]
        refine ⟨l1.symm, l2.symm, fun j j0 j1 => ?_⟩
        have w4 := (wm b b0 (by omega)).2.2.2.2.1
        rw [r10 b j b0 (by omega) j0 (by omega)]
        exact (l3 j j0 (by omega)).symm
    · rw [s5 a ea] at wa
      by_cases eb : b = m
      · rw [s6 a ea, eb] at en
        rw [eb] at wb
        obtain ⟨l1, l2, l3⟩ := lk a a0 (by omega) wa wb en
        rw [eb, s7 a ea, s8 a ea]
        refine ⟨l1, l2, fun j j0 j1 => ?_⟩
        have w4 := (wm a a0 (by omega)).2.2.2.2.1
        rw [r10 a j a0 (by omega) j0 (by omega)]
        exact l3 j j0 j1
      · rw [s5 b eb] at wb
        rw [s6 a ea, s6 b eb] at en
        obtain ⟨l1, l2, l3⟩ := wl a b a0 (by omega) b0 (by omega) wa wb en
        rw [s7 a ea, s8 a ea, s7 b eb, s8 b eb]
        refine ⟨l1, l2, fun j j0 j1 => ?_⟩
        have w4 := (wm a a0 (by omega)).2.2.2.2.1
        rw [r10 a j a0 (by omega) j0 (by omega), r10 b j b0 (by omega) j0 (by omega)]
        exact l3 j j0 j1
  · intro k k0 k1
    by_cases c : L 0 21 ≤ k
    · have q := ik k c k1
      rw [q.1]
      exact ⟨⟨m0, by omega, by omega, by omega⟩, q.2⟩
    · have c' : k < L 0 21 := by omega
      obtain ⟨⟨q1, q2, q3, q4⟩, t⟩ := wk k k0 c'
      have e24 : pMo L' k = pMo L k := rk 24 k (by omega) c'
      have nm : pMo L k ≠ m := by omega
      have s15 : pFi L' (pMo L k) = pFi L (pMo L k) := r1 15 _ (by omega) (by decide) (by decide) nm
      have s14 : pCo L' (pMo L k) = pCo L (pMo L k) := r1 14 _ (by omega) (by decide) (by decide) nm
      have s9 : pLc L' (pMo L k) = pLc L (pMo L k) := r1 9 _ (by omega) (by decide) (by decide) nm
      rw [e24, s15, s14]
      refine ⟨⟨q1, by omega, q3, q4⟩, ?_⟩
      have e19 : pOp L' k = pOp L k := rk 19 k (by omega) c'
      have e20 : pX L' k = pX L k := rk 20 k (by omega) c'
      have e21 : pY L' k = pY L k := rk 21 k (by omega) c'
      have e22 : pZ L' k = pZ L k := rk 22 k (by omega) c'
      have e25 : pSi L' k = pSi L k := rk 25 k (by omega) c'
      have e3 : pFc L' (pX L k) = pFc L (pX L k) := f3 _
      unfold WFki at t ⊢
      rw [e19, e20, e21, e22, e25, s9, s14, e0, e1, e6, e3]
      obtain ⟨t1, t2, t3, t4, t5, t6, t7, t8, t9, t10, t11, t12, t13, t14, t15, t16, t17⟩ := t
      refine ⟨t1, t2, t3, t4, t5, t6, t7, t8, t9, t10, t11, t12, t13, t14, t15, t16, fun q => ?_⟩
      have u := t17 q
      clear t1 t2 t3 t4 t5 t6 t7 t8 t9 t10 t11 t12 t13 t14 t15 t16 t17
      refine ⟨u.1, by omega, ?_⟩
      rw [rs _ (by omega)]; exact u.2.2
  · intro s s0 s1
    rw [e0]
    by_cases c : L 0 30 ≤ s
    · exact is s c s1
    · rw [rs s (by omega)]; exact ss s s0 (by omega)
theorem ps_M {B : Int → Int} {n m p : Int} {L : PG} (hB : ∀ i, 0 ≤ i → i < n → 0 ≤ B i ∧ B i ≤ 255) (p0 : 0 ≤ p) (m0 : 0 ≤ m) (m1 : m < L 0 6) (h : PM L m p) : psK (rdM B n m p L) (fun p' L' => PM L' (m + 1) p' ∧ p ≤ p' ∧ L' 0 6 = L 0 6 ∧ p' ≤ n) := by
  have h' := h
  obtain ⟨⟨c0, c1, c6, c21, c30⟩, -⟩ := h'
  unfold rdM
  refine psK_tk fun _ o0 o1 => psK_if fun no => psK_tk fun _ nm0 nm1 => psK_ce fun nn => psK_tk fun _ ar0 ar1 => psK_bnd ?_
  generalize B p = c at *
  generalize B (p + 1) = nm at *
  have a0 : 0 ≤ B (p + 2) := by split at ar0 <;> omega
  have a1 : c ≠ 255 → 1 ≤ B (p + 2) := fun q => by rw [if_neg q] at ar0; exact ar0
  generalize B (p + 2) = ar at *
  have an : ((ar.toNat : Nat) : Int) = ar := by omega
  generalize hL1 : mset (mset (mset (mset L 16 m p) 5 m c) 6 m nm) 7 m ar = L1
  have g1 : ∀ o i, ¬ ((o = 16 ∨ o = 5 ∨ o = 6 ∨ o = 7) ∧ i = m) → L1 o i = L o i := fun o i q => by rw [← hL1, m_ne (by omega), m_ne (by omega), m_ne (by omega), m_ne (by omega)]
  have g5 : L1 5 m = c := by rw [← hL1, m_ne (by omega), m_ne (by omega), m_eq]
  have g6 : L1 6 m = nm := by rw [← hL1, m_ne (by omega), m_eq]
  have g7 : L1 7 m = ar := by rw [← hL1, m_eq]
  -- kinds of arguments
  have sa := psK_rep (f := rdA B n m c) (I := fun j q L2 => q = p + 3 + j ∧ (∀ o i, ¬ (o = 10 ∧ 8 * m ≤ i ∧ i < 8 * m + j) → L2 o i = L1 o i) ∧ ∀ i, 0 ≤ i → i < j → (L2 10 (8 * m + i) = 0 ∨ L2 10 (8 * m + i) = 1) ∧ (i = 0 → c ≠ 255 → L2 10 (8 * m + i) = 1)) ar.toNat 0 (p + 3) L1 ⟨by omega, fun _ _ _ => rfl, fun i i0 i1 => by omega⟩ (by
    intro j q L2 j0 j1 ⟨e1, e2, e3⟩
    unfold rdA
    refine psK_tk fun _ v0 v1 => psK_ok ⟨by omega, fun o i x => ?_, fun i i0 i1 => ?_⟩
    · rw [m_ne (by omega)]; exact e2 o i (by omega)
    · by_cases ei : i = j
      · rw [ei, m_eq]
        refine ⟨?_, fun y z => ?_⟩
        · split at v0 <;> omega
        · rw [if_pos ⟨y, z⟩] at v0; omega
      · rw [m_ne (by omega)]; exact e3 i i0 (by omega))
  rw [an, Int.zero_add] at sa
  refine psK_mono sa fun q2 L2 ⟨eq2, k2, kk2⟩ => ?_
  unfold rdM2
  refine psK_tk fun _ gi0 gi1 => psK_ce fun nal => psK_tk fun _ lc0 lc1 => psK_bnd ?_
  generalize B q2 = gi at *
  generalize B (q2 + 1) = lc at *
  have b7 : L2 7 m = ar := by rw [k2 7 m (by omega)]; exact g7
  rw [b7] at lc0
  have ln : ((lc.toNat : Nat) : Int) = lc := by omega
  generalize hL3 : mset (mset L2 8 m gi) 9 m lc = L3
  have g3 : ∀ o i, ¬ ((o = 8 ∨ o = 9) ∧ i = m) → L3 o i = L2 o i := fun o i q => by rw [← hL3, m_ne (by omega), m_ne (by omega)]
  have g38 : L3 8 m = gi := by rw [← hL3, m_ne (by omega), m_eq]
  have g39 : L3 9 m = lc := by rw [← hL3, m_eq]
  have b37 : L3 7 m = ar := by rw [g3 7 m (by omega)]; exact b7
  -- kinds of locals
  have sl := psK_rep (f := rdL B n m) (I := fun j q L4 => q = q2 + 2 + j ∧ (∀ o i, ¬ (o = 10 ∧ 8 * m ≤ i ∧ i < 8 * m + j) → L4 o i = L3 o i) ∧ ∀ i, 0 ≤ i → i < j → (L4 10 (8 * m + i) = 0 ∨ L4 10 (8 * m + i) = 1) ∧ (i < ar → L4 10 (8 * m + i) = L3 10 (8 * m + i))) lc.toNat 0 (q2 + 2) L3 ⟨by omega, fun _ _ _ => rfl, fun i i0 i1 => by omega⟩ (by
    intro j q L4 j0 j1 ⟨e1, e2, e3⟩
    have e7 : L4 7 m = ar := by rw [e2 7 m (by omega)]; exact b37
    have e10 : L4 10 (8 * m + j) = L3 10 (8 * m + j) := e2 10 _ (by omega)
    unfold rdL
    refine psK_tk fun _ v0 v1 => psK_if fun nv => psK_ok ⟨by omega, fun o i x => ?_, fun i i0 i1 => ?_⟩
    · rw [m_ne (by omega)]; exact e2 o i (by omega)
    · by_cases ei : i = j
      · rw [ei, m_eq]
        refine ⟨by omega, fun y => ?_⟩
        apply Classical.byContradiction
        intro z
        exact nv ⟨by omega, by rw [e10]; exact z⟩
      · rw [m_ne (by omega)]; exact e3 i i0 (by omega))
  rw [ln, Int.zero_add] at sl
  refine psK_mono sl fun q4 L4 ⟨eq4, k4, kk4⟩ => ?_
  unfold rdM3
  refine psK_tk fun _ de0 de1 => psK_tk fun _ hn0 hn1 => psK_tk fun cn co0 co1 => psK_if fun nc => psK_bnd ?_
  generalize B q4 = de at *
  generalize B (q4 + 1) = hn at *
  generalize B (q4 + 2) = co at *
  have con : ((co.toNat : Nat) : Int) = co := by omega
  have hnn : ((hn.toNat : Nat) : Int) = hn := by omega
  generalize hL5 : mset (mset (mset (mset L4 11 m de) 12 m hn) 14 m co) 15 m (L4 0 21) = L5
  have g5' : ∀ o i, ¬ ((o = 11 ∨ o = 12 ∨ o = 14 ∨ o = 15) ∧ i = m) → L5 o i = L4 o i := fun o i q => by rw [← hL5, m_ne (by omega), m_ne (by omega), m_ne (by omega), m_ne (by omega)]
  have g511 : L5 11 m = de := by rw [← hL5, m_ne (by omega), m_ne (by omega), m_ne (by omega), m_eq]
  have g512 : L5 12 m = hn := by rw [← hL5, m_ne (by omega), m_ne (by omega), m_eq]
  have g514 : L5 14 m = co := by rw [← hL5, m_ne (by omega), m_eq]
  have g515 : L5 15 m = L4 0 21 := by rw [← hL5, m_eq]
  -- what the header leaves
  have hh : ∀ o i, ¬ (((5 ≤ o ∧ o ≤ 9) ∧ i = m) ∨ (o = 10 ∧ 8 * m ≤ i ∧ i < 8 * m + 8) ∨ ((o = 11 ∨ o = 12 ∨ o = 14 ∨ o = 15 ∨ o = 16) ∧ i = m)) → L5 o i = L o i := fun o i q => by
    rw [g5' o i (by omega), k4 o i (by omega), g3 o i (by omega), k2 o i (by omega), g1 o i (by omega)]
  have h021 : L5 0 21 = L 0 21 := hh 0 21 (by omega)
  have h421 : L4 0 21 = L 0 21 := by rw [← h021, g5' 0 21 (by omega)]
  have h030 : L5 0 30 = L 0 30 := hh 0 30 (by omega)
  have h000 : L5 0 0 = L 0 0 := hh 0 0 (by omega)
  -- instructions
  have si := psK_rep (f := rdI B n m) (I := fun j q L6 => II n L5 m (q4 + 3) j q L6 ∧ 0 ≤ j) co.toNat 0 (q4 + 3) L5 ⟨⟨fun _ _ _ => rfl, by omega, ⟨Int.le_refl _, by omega⟩, by omega, fun k a b => by omega, fun s a b => by omega, by omega⟩, by decide⟩ (by
    intro j q L6 j0 j1 ⟨e, ej⟩
    exact psK_mono (ps_I hB (by omega) ej (by omega) (by omega) (by omega) e) fun _ _ q => ⟨q, by omega⟩)
  rw [con, Int.zero_add] at si
  refine psK_mono si fun q6 L6 ⟨⟨j1, j2, j3, j4, j5, j6, j7⟩, _⟩ => psK_bnd ?_
  have j612 : ∀ o i, o ≤ 18 → ¬ (o = 0 ∧ (i = 21 ∨ i = 30)) → L6 o i = L5 o i := fun o i q1 q2 => j1 o i (by unfold irow; omega)
  have l614 : L6 14 m = co := by rw [j612 14 m (by decide) (by omega)]; exact g514
  have l600 : L6 0 0 = L 0 0 := by rw [j612 0 0 (by decide) (by omega)]; exact h000
  -- handlers
  have sh := psK_rep (f := rdH B n m) (I := fun j q L7 => (q = q6 + 4 * j ∧ q ≤ n) ∧ 0 ≤ j ∧ (∀ o i, ¬ (o = 13 ∧ 16 * m ≤ i ∧ i < 16 * m + 4 * j) → L7 o i = L6 o i) ∧ ∀ i, 0 ≤ i → i < j → 0 ≤ pHa L7 m i 0 ∧ pHa L7 m i 0 < pHa L7 m i 1 ∧ pHa L7 m i 1 ≤ co ∧ 0 ≤ pHa L7 m i 2 ∧ pHa L7 m i 2 < co ∧ 0 ≤ pHa L7 m i 3 ∧ pHa L7 m i 3 < 8 + L 0 0) hn.toNat 0 q6 L6 ⟨⟨by omega, j7⟩, by decide, fun _ _ _ => rfl, fun i i0 i1 => by omega⟩ (by
    intro j q L7 j0 j1 ⟨⟨e1, _⟩, e0, e2, e3⟩
    have e14 : L7 14 m = co := by rw [e2 14 m (by omega)]; exact l614
    have e00 : L7 0 0 = L 0 0 := by rw [e2 0 0 (by omega)]; exact l600
    unfold rdH
    refine psK_tk fun _ x0 x1 => psK_tk fun _ y0 y1 => psK_if fun nb => psK_tk fun _ z0 z1 => psK_tk fun wn w0 w1 => psK_ok ⟨⟨by omega, by omega⟩, by omega, fun o i x => ?_, fun i i0 i1 => ?_⟩
    · rw [m_ne (by omega), m_ne (by omega), m_ne (by omega), m_ne (by omega)]; exact e2 o i (by omega)
    · rw [e14] at nb z1
      rw [e00] at w1
      by_cases ei : i = j
      · subst ei
        have v0 : pHa (mset (mset (mset (mset L7 13 (16 * m + 4 * i) (B q)) 13 (16 * m + 4 * i + 1) (B (q + 1))) 13 (16 * m + 4 * i + 2) (B (q + 2))) 13 (16 * m + 4 * i + 3) (B (q + 3))) m i 0 = B q := by
          show mset _ 13 (16 * m + 4 * i + 3) _ 13 (16 * m + 4 * i + 0) = _
          rw [Int.add_zero, m_ne (by omega), m_ne (by omega), m_ne (by omega), m_eq]
        have v1 : pHa (mset (mset (mset (mset L7 13 (16 * m + 4 * i) (B q)) 13 (16 * m + 4 * i + 1) (B (q + 1))) 13 (16 * m + 4 * i + 2) (B (q + 2))) 13 (16 * m + 4 * i + 3) (B (q + 3))) m i 1 = B (q + 1) := by
          show mset _ 13 (16 * m + 4 * i + 3) _ 13 (16 * m + 4 * i + 1) = _
          rw [m_ne (by omega), m_ne (by omega), m_eq]
        have v2 : pHa (mset (mset (mset (mset L7 13 (16 * m + 4 * i) (B q)) 13 (16 * m + 4 * i + 1) (B (q + 1))) 13 (16 * m + 4 * i + 2) (B (q + 2))) 13 (16 * m + 4 * i + 3) (B (q + 3))) m i 2 = B (q + 2) := by
          show mset _ 13 (16 * m + 4 * i + 3) _ 13 (16 * m + 4 * i + 2) = _
          rw [m_ne (by omega), m_eq]
        have v3 : pHa (mset (mset (mset (mset L7 13 (16 * m + 4 * i) (B q)) 13 (16 * m + 4 * i + 1) (B (q + 1))) 13 (16 * m + 4 * i + 2) (B (q + 2))) 13 (16 * m + 4 * i + 3) (B (q + 3))) m i 3 = B (q + 3) := by
          show mset _ 13 (16 * m + 4 * i + 3) _ 13 (16 * m + 4 * i + 3) = _
          rw [m_eq]
        rw [v0, v1, v2, v3]
        omega
      · have v : ∀ w, 0 ≤ w → w < 4 → pHa (mset (mset (mset (mset L7 13 (16 * m + 4 * j) (B q)) 13 (16 * m + 4 * j + 1) (B (q + 1))) 13 (16 * m + 4 * j + 2) (B (q + 2))) 13 (16 * m + 4 * j + 3) (B (q + 3))) m i w = pHa L7 m i w := fun w w0 w1 => by
          show mset _ 13 (16 * m + 4 * j + 3) _ 13 (16 * m + 4 * i + w) = L7 13 (16 * m + 4 * i + w)
          rw [m_ne (by omega), m_ne (by omega), m_ne (by omega), m_ne (by omega)]
        rw [v 0 (by decide) (by decide), v 1 (by decide) (by decide), v 2 (by decide) (by decide), v 3 (by decide) (by decide)]
        exact e3 i i0 (by omega))
  rw [hnn, Int.zero_add] at sh
  refine psK_mono sh fun q8 L8 ⟨⟨f1, fn⟩, f0, f2, f3⟩ => psK_ok ?_
  generalize hLF : mset L8 17 m q8 = LF
  have gF : ∀ o i, ¬ (o = 17 ∧ i = m) → LF o i = L8 o i := fun o i q => by rw [← hLF, m_ne q]
  -- all in all
  have t6 : ∀ o i, ¬ (o = 17 ∧ i = m) → ¬ (o = 13 ∧ 16 * m ≤ i ∧ i < 16 * m + 16) → LF o i = L6 o i := fun o i a b => by rw [gF o i a, f2 o i (by omega)]
  have t5 : ∀ o i, ¬ (o = 17 ∧ i = m) → ¬ (o = 13 ∧ 16 * m ≤ i ∧ i < 16 * m + 16) → ¬ irow (L 0 21) (L 0 30) o i → LF o i = L5 o i := fun o i a b c => by
    rw [t6 o i a b]; exact j1 o i (by rw [h021, h030]; exact c)
  have w5 : LF 5 m = c := by rw [t5 5 m (by omega) (by omega) (by unfold irow; omega), g5' 5 m (by omega), k4 5 m (by omega), g3 5 m (by omega), k2 5 m (by omega)]; exact g5
  have w6 : LF 6 m = nm := by rw [t5 6 m (by omega) (by omega) (by unfold irow; omega), g5' 6 m (by omega), k4 6 m (by omega), g3 6 m (by omega), k2 6 m (by omega)]; exact g6
  have w7 : LF 7 m = ar := by rw [t5 7 m (by omega) (by omega) (by unfold irow; omega), g5' 7 m (by omega), k4 7 m (by omega)]; exact b37
  have w8 : LF 8 m = gi := by rw [t5 8 m (by omega) (by omega) (by unfold irow; omega), g5' 8 m (by omega), k4 8 m (by omega)]; exact g38
  have w9 : LF 9 m = lc := by rw [t5 9 m (by omega) (by omega) (by unfold irow; omega), g5' 9 m (by omega), k4 9 m (by omega)]; exact g39
  have w10 : ∀ j, LF 10 (8 * m + j) = L4 10 (8 * m + j) := fun j => by rw [t5 10 _ (by omega) (by omega) (by unfold irow; omega), g5' 10 _ (by omega)]
  have w11 : LF 11 m = de := by rw [t5 11 m (by omega) (by omega) (by unfold irow; omega)]; exact g511
  have w12 : LF 12 m = hn := by rw [t5 12 m (by omega) (by omega) (by unfold irow; omega)]; exact g512
  have w14 : LF 14 m = co := by rw [t5 14 m (by omega) (by omega) (by unfold irow; omega)]; exact g514
  have w15 : LF 15 m = L 0 21 := by rw [t5 15 m (by omega) (by omega) (by unfold irow; omega), g515]; exact h421
  have w021 : LF 0 21 = L 0 21 + co := by rw [t6 0 21 (by omega) (by omega), j2, h021]
  have w030 : LF 0 30 = L6 0 30 := t6 0 30 (by omega) (by omega)
  have w00 : LF 0 0 = L 0 0 := by rw [t6 0 0 (by omega) (by omega)]; exact l600
  have w06 : LF 0 6 = L 0 6 := by rw [t5 0 6 (by omega) (by omega) (by unfold irow; omega)]; exact hh 0 6 (by omega)
  have kk3 : ∀ i, 0 ≤ i → i < ar → L4 10 (8 * m + i) = L2 10 (8 * m + i) := fun i i0 i1 => by
    rw [(kk4 i i0 (by omega)).2 i1, g3 10 _ (by omega)]
  have cl : pCl LF = LF 0 0 := rfl
  refine ⟨PM_next h m0 (fun o i q => ?_) ?_ ?_ ?_ ?_ w15 ?_ ?_ ?_ (fun k k0 k1 => ?_) (fun s s0 s1 => ?_) (fun j i0 i1 => ?_) (fun a a0 a1 wa wb en => ?_) ?_, by omega, w06, fn⟩
  · unfold mrow at q
    rw [t5 o i (by omega) (by omega) (fun z => q (Or.inr (Or.inr (Or.inr (Or.inr z)))))]
    exact hh o i (by omega)
  · unfold WFmo
    show (LF 5 m = 255 ∨ (0 ≤ LF 5 m ∧ LF 5 m < 8 + LF 0 0)) ∧ 0 ≤ LF 6 m ∧ LF 6 m ≤ 15 ∧ 0 ≤ LF 7 m ∧ LF 7 m ≤ 4 ∧ (LF 5 m ≠ 255 → 1 ≤ LF 7 m ∧ LF 10 (8 * m + 0) = 1) ∧ 0 ≤ LF 8 m ∧ LF 8 m ≤ 2 ∧ LF 7 m ≤ LF 9 m ∧ LF 9 m ≤ 8 ∧ (∀ j, 0 ≤ j → j < LF 9 m → LF 10 (8 * m + j) = 0 ∨ LF 10 (8 * m + j) = 1)
    rw [w5, w6, w7, w8, w9, w00]
    refine ⟨?_, nm0, nm1, a0, ar1, fun q => ⟨a1 q, ?_⟩, gi0, gi1, lc0, lc1, fun j i0 i1 => ?_⟩
    · by_cases q : c = 255
      · exact Or.inl q
      · right
        have : ¬ 8 + L 0 0 ≤ c := fun e => no ⟨q, e⟩
        omega
    · have := a1 q
      rw [w10, kk3 0 (by decide) (by omega)]
      exact (kk2 0 (by decide) (by omega)).2 rfl q
    · rw [w10]; exact (kk4 j i0 i1).1
  · show 0 ≤ LF 11 m ∧ LF 11 m ≤ 8
    rw [w11]; exact ⟨de0, de1⟩
  · show 0 ≤ LF 12 m ∧ LF 12 m ≤ 4
    rw [w12]; exact ⟨hn0, hn1⟩
  · show 1 ≤ LF 14 m ∧ LF 14 m ≤ 120
    rw [w14]; exact ⟨co0, co1⟩
  · show LF 0 21 = L 0 21 + LF 14 m
    rw [w14]; exact w021
  · rw [w021]; omega
  · rw [w030]; omega
  · have q := j5 k (by omega) (by omega)
    refine ⟨?_, ?_⟩
    · show LF 24 k = m
      rw [t6 24 k (by omega) (by omega)]; exact q.1
    · have t := q.2
      have e19 : pOp LF k = pOp L6 k := t6 19 k (by omega) (by omega)
      have e20 : pX LF k = pX L6 k := t6 20 k (by omega) (by omega)
      have e21 : pY LF k = pY L6 k := t6 21 k (by omega) (by omega)
      have e22 : pZ LF k = pZ L6 k := t6 22 k (by omega) (by omega)
      have e25 : pSi LF k = pSi L6 k := t6 25 k (by omega) (by omega)
      have e9 : pLc LF m = pLc L6 m := t6 9 m (by omega) (by omega)
      have e14 : pCo LF m = pCo L6 m := t6 14 m (by omega) (by omega)
      have e0 : pCl LF = pCl L6 := t6 0 0 (by omega) (by omega)
      have e1 : pNs LF = pNs L6 := t6 0 1 (by omega) (by omega)
      have e6 : pNm LF = pNm L6 := t6 0 6 (by omega) (by omega)
      have e30 : pNt LF = pNt L6 := t6 0 30 (by omega) (by omega)
      have e3 : pFc LF (pX L6 k) = pFc L6 (pX L6 k) := t6 3 _ (by omega) (by omega)
      have e26 : pSc LF (pSi L6 k) = pSc L6 (pSi L6 k) := t6 26 _ (by omega) (by omega)
      unfold WFki at t ⊢
      rw [e19, e20, e21, e22, e25, e9, e14, e0, e1, e6, e30, e3, e26]
      exact t
  · show -2 ≤ LF 26 s ∧ LF 26 s < 8 + pCl L
    rw [t6 26 s (by omega) (by omega)]
    have := j6 s (by omega) (by omega)
    have e : pCl L5 = pCl L := h000
    rw [e] at this
    exact this
  · have i1' : j < LF 12 m := i1
    rw [w12] at i1'
    have e : ∀ w, pHa LF m j w = pHa L8 m j w := fun w => gF 13 _ (by omega)
    have ec : pCo LF m = co := w14
    rw [e, e, e, e, ec, cl, w00]
    exact f3 j i0 i1'
  · have wb' : c ≠ 255 := by
      have : pOw LF m = c := w5
      rw [this] at wb; exact wb
    have en' : L 6 a = nm := by
      have : pNa LF m = nm := w6
      rw [this] at en; exact en
    have z5 : L2 5 a = L 5 a := by rw [k2 5 a (by omega), g1 5 a (by omega)]
    have z6 : L2 6 a = L 6 a := by rw [k2 6 a (by omega), g1 6 a (by omega)]
    have z6m : L2 6 m = nm := by rw [k2 6 m (by omega)]; exact g6
    have al : alk (mset L2 8 m gi) a m := by
      apply Classical.byContradiction
      intro z
      exact nal ⟨wb', a, a0, a1, by rw [z5]; exact wa, by rw [z6, z6m]; exact en', z⟩
    obtain ⟨l1, l2, l3⟩ := al
    rw [m_ne (by omega), m_ne (by omega), k2 7 a (by omega), g1 7 a (by omega), b7] at l1
    rw [m_ne (by omega), m_eq, k2 8 a (by omega), g1 8 a (by omega)] at l2
    have x7 : pAr L a = L 7 a := rfl
    have h4 := (h.2.2.2.1 a a0 a1).2.2.2.2.1
    refine ⟨?_, ?_, fun j i0 i1 => ?_⟩
    · show L 7 a = LF 7 m
      rw [w7]; exact l1
    · show L 8 a = LF 8 m
      rw [w8]; exact l2
    · have := l3 j i0 (by rw [m_ne (by omega), k2 7 a (by omega), g1 7 a (by omega)]; exact i1)
      rw [m_ne (by omega), m_ne (by omega), k2 10 (8 * a + j) (by omega), g1 10 _ (by omega)] at this
      show L 10 (8 * a + j) = LF 10 (8 * m + j)
      rw [w10, kk3 j i0 (by omega)]
      exact this
  · show p + 6 * LF 14 m ≤ q8
    rw [w14]; omega
