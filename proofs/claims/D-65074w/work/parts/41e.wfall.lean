/-! Part 41e: a file that is read and judged is as it must be (plain) -/
set_option maxRecDepth 100000
theorem wnm_eq {L L' : PG} (h5 : L' 5 = L 5) (h6 : L' 6 = L 6) (h0 : L' 0 6 = L 0 6) (x : Int) : wnm L' x = wnm L x := by
  unfold wnm
  have e : (fun m => !decide (pOw L' m = 255) && decide (pNa L' m = x)) = (fun m => !decide (pOw L m = 255) && decide (pNa L m = x)) := by
    funext m
    show (!decide (L' 5 m = 255) && decide (L' 6 m = x)) = _
    rw [h5, h6]
  have en : pNm L' = pNm L := h0
  rw [e, en]
theorem plA_eq {L L' : PG} (h10 : L' 10 = L 10) (e c : Int) : ∀ (n : Nat) (st : List Int) (k : List Int → JdR), plA L' e c n st k = plA L e c n st k
  | 0, _, _ => rfl
  | n + 1, st, k => by
    show pl e (L' 10 (8 * c + n)) st (fun r => plA L' e c n r k) = pl e (L 10 (8 * c + n)) st (fun r => plA L e c n r k)
    rw [h10]
    congr 1
    funext r
    exact plA_eq h10 e c n r k
theorem jI_eq2 {L L' : PG} (h : ∀ o, o ≠ 27 → o ≠ 28 → o ≠ 18 → o ≠ 26 → L' o = L o) (m k : Int) (st : List Int) : jI L' m k st = jI L m k st := by
  have hw := wnm_eq (h 5 (by decide) (by decide) (by decide) (by decide)) (h 6 (by decide) (by decide) (by decide) (by decide)) (by rw [h 0 (by decide) (by decide) (by decide) (by decide)])
  have hp := plA_eq (h 10 (by decide) (by decide) (by decide) (by decide))
  unfold jI
  simp only [hw, hp, h 19 (by decide) (by decide) (by decide) (by decide), h 20 (by decide) (by decide) (by decide) (by decide), h 21 (by decide) (by decide) (by decide) (by decide), h 23 (by decide) (by decide) (by decide) (by decide), h 11 (by decide) (by decide) (by decide) (by decide), h 10 (by decide) (by decide) (by decide) (by decide), h 4 (by decide) (by decide) (by decide) (by decide), h 1 (by decide) (by decide) (by decide) (by decide), h 5 (by decide) (by decide) (by decide) (by decide), h 7 (by decide) (by decide) (by decide) (by decide), h 8 (by decide) (by decide) (by decide) (by decide)]
theorem jI_eq {L L' : PG} (h : ∀ o, o ≠ 27 → o ≠ 28 → L' o = L o) (m k : Int) (st : List Int) : jI L' m k st = jI L m k st := jI_eq2 (fun o a b _ _ => h o a b) m k st
theorem sh_k01 {L : PG} {m k : Int} {a b r : List Int} (w : WFx L) (k0 : 0 ≤ k) (k1 : k < pNp L) (hm : pMo L k = m) (h : SHP L m k a b r) (ka : k01 (a ++ r)) : k01 (b ++ r) := by
  obtain ⟨wn, wc, wm, wl, wk, ws⟩ := w
  have wk' := wk k k0 k1
  rw [WFkx, hm] at wk'
  obtain ⟨⟨mo0, mo1, fi0, fi1⟩, ⟨op0, op1⟩, ⟨x0, x1⟩, yz, xl, x7, x5, xi, xc, xa, xs, y9, yf, yc, xn, -, zj, -⟩ := wk'
  have wmm := wm m mo0 mo1
  obtain ⟨-, -, -, ar0, ar4, -, gi0, gi2, al, l8, lk, de0, de8, -⟩ := wmm
  have nn := wn
  unfold WFn at nn
  obtain ⟨s0, s1, s2, s3, s4, s5, s6, s7, s8, s9, s10, s11, s12, s13, s14, s15, s16, s17, s18, s19, s20, s21, s22, s23, s24, s25, s26, s27⟩ := h
  have kr : k01 r := fun x hx => ka x (List.mem_append_right _ hx)
  have fin : k01 b → k01 (b ++ r) := fun kb x hx => by
    rcases List.mem_append.mp hx with q | q
    · exact kb x q
    · exact kr x q
  have one : ∀ v : Int, (v = 0 ∨ v = 1) → k01 [v] := fun v hv x hx => by
    rw [List.mem_singleton] at hx
    rw [hx]; exact hv
  have nil : k01 [] := fun x hx => by cases hx
  apply fin
  by_cases c0 : pOp L k = 0 ∨ pOp L k = 13
  · rw [(s0 c0).2]; exact one 0 (Or.inl rfl)
  by_cases c1 : pOp L k = 1 ∨ pOp L k = 20
  · rw [(s1 c1).2]; exact one 1 (Or.inr rfl)
  by_cases c2 : pOp L k = 2
  · rw [(s2 c2).2]; exact one _ (lk _ x0 (xl (by omega)))
  by_cases c3 : pOp L k = 3
  · rw [(s3 c3).2]; exact nil
  by_cases c4 : pOp L k = 4
  · obtain ⟨x, q⟩ := s4 c4
    rw [q.2]; exact nil
  by_cases c5 : pOp L k = 5
  · obtain ⟨x, q⟩ := s5 c5
    have hx : x = 0 ∨ x = 1 := ka x (by rw [q.1]; simp)
    rw [q.2]
    intro y hy
    simp at hy
    rw [hy]; exact hx
  by_cases c6 : pOp L k = 6
  · obtain ⟨x, y, q⟩ := s6 c6
    have hx : x = 0 ∨ x = 1 := ka x (by rw [q.1]; simp)
    have hy : y = 0 ∨ y = 1 := ka y (by rw [q.1]; simp)
    rw [q.2]
    intro z hz
    simp at hz
    rcases hz with e | e
    · rw [e]; exact hy
    · rw [e]; exact hx
  by_cases c7 : 7 ≤ pOp L k ∧ pOp L k ≤ 11
  · rw [(s7 c7).2]; exact one 0 (Or.inl rfl)
  by_cases c8 : pOp L k = 12
  · rw [(s8 c8).2]; exact one 0 (Or.inl rfl)
  by_cases c9 : pOp L k = 14
  · rw [(s9 c9).2]; exact nil
  by_cases c10 : pOp L k = 15
  · rw [(s10 c10).2.1]; exact nil
  by_cases c11 : pOp L k = 16
  · rw [(s11 c11).2.1]; exact nil
  by_cases c12 : pOp L k = 17
  · rw [(s12 c12).2.1]; exact nil
  by_cases c13 : pOp L k = 18 ∨ pOp L k = 19
  · rw [(s13 c13).2.1]; exact nil
  by_cases c14 : pOp L k = 21
  · rw [(s14 c14).2]; exact one 1 (Or.inr rfl)
  by_cases c15 : pOp L k = 22
  · rw [(s15 c15).2]; exact one 0 (Or.inl rfl)
  by_cases c16 : pOp L k = 23
  · rw [(s16 c16).2]; exact one _ (by have := xa (by omega); omega)
  by_cases c17 : pOp L k = 24
  · rw [(s17 c17).2]; exact nil
  by_cases c18 : pOp L k = 25
  · rw [(s18 c18).2]
    have := xc (by omega)
    have y' := yf (by omega)
    exact one _ (wc.2.2.2.2.1 (pX L k) (pY L k) x0 (by omega) y'.1 y'.2)
  by_cases c19 : pOp L k = 26
  · rw [(s19 c19).2]; exact nil
  by_cases c20 : pOp L k = 27
  · rw [(s20 c20).2]; exact one _ (wc.2.2.2.2.2.2 (pX L k) x0 (xs (by omega)))
  by_cases c21 : pOp L k = 28
  · rw [(s21 c21).2]; exact nil
  by_cases c22 : pOp L k = 29 ∨ pOp L k = 30
  · have q := s22 c22
    rw [q.2.1]
    split
    · rename_i g
      have lb : 0 ≤ lik L k ∧ lik L k < pNm L := by
        unfold lik
        by_cases z : pOp L k = 29
        · rw [if_pos z]; exact yc z
        · rw [if_neg z]
          have := q.2.2.2 (by omega)
          exact ⟨this, wnm_lt' (by omega) this⟩
      obtain ⟨-, -, -, -, -, -, g0, g2, -⟩ := wm _ lb.1 lb.2
      exact one _ (by omega)
    · exact nil
  by_cases c23 : pOp L k = 31
  · rw [(s23 c23).2.1]; exact nil
  by_cases c24 : pOp L k = 32
  · rw [(s24 c24).2]; exact nil
  by_cases c25 : pOp L k = 33
  · rw [(s25 c25).2]; exact one 1 (Or.inr rfl)
  by_cases c26 : pOp L k = 34 ∨ pOp L k = 35
  · rw [(s26 c26).2]; exact nil
  · rw [(s27 (by omega)).2.1]; exact nil
/-- a method's code is judged: what stands at each place -/
def JOK (L : PG) (m : Int) (S T : Int → List Int) (i : Int) : Prop := k01 (S i) ∧ ((S i).length : Int) ≤ L 11 m ∧ L 27 (L 15 m + i) = ((S i).length : Int) ∧ L 28 (L 15 m + i) = ksO (S i) ∧ jI L m (L 15 m + i) (S i) = .ok (T i) ∧
  (hdlT L m i → S i = [1]) ∧ (jmpT L m i → S i = []) ∧ (¬ eds (L 19 (L 15 m + i)) → i + 1 < L 14 m ∧ S (i + 1) = T i)
theorem bnj_ok {α β : Type} {r : Except Int α} {k : α → Except Int β} {b : β} (h : bnj r k = .ok b) : ∃ a, r = .ok a ∧ k a = .ok b := by
  cases r with
  | ok a => exact ⟨a, rfl, h⟩
  | error e => cases h
theorem hdlT_eq {L L' : PG} {m i : Int} (h12 : L' 12 m = L 12 m) (h13 : L' 13 = L 13) : hdlT L' m i ↔ hdlT L m i := by
  unfold hdlT
  rw [h12, h13]
theorem jmpT_eq {L L' : PG} {m i : Int} (h14 : L' 14 m = L 14 m) (h15 : L' 15 m = L 15 m) (h19 : L' 19 = L 19) (h22 : L' 22 = L 22) : jmpT L' m i ↔ jmpT L m i := by
  unfold jmpT
  rw [h14, h15, h19, h22]
theorem dpL_r {L : PG} {k : Int} {st : List Int} {o : Int} (h1 : o ≠ 27) (h2 : o ≠ 28) : dpL L k st o = L o := by
  funext i
  exact dpL_ne h1 h2
theorem jL_ok {m : Int} {L0 : PG} (w : WFx L0) (m0 : 0 ≤ m) (m1 : m < pNm L0) : ∀ (N : Nat) (i : Int) (F : Prop) (st : List Int) (L L' : PG), i = L0 14 m - N → 0 ≤ i → (∀ o, o ≠ 27 → o ≠ 28 → L o = L0 o) → k01 st → (st.length : Int) ≤ L0 11 m → jL m N i F st L = .ok L' →
    (∀ o, o ≠ 27 → o ≠ 28 → L' o = L0 o) ∧ (∀ o k, ¬ (L0 15 m + i ≤ k ∧ k < L0 15 m + L0 14 m) → L' o k = L o k) ∧ ∃ S T : Int → List Int, (∀ j, i ≤ j → j < L0 14 m → JOK L' m S T j) ∧ (i < L0 14 m → F → S i = st) ∧ (i < L0 14 m → ¬ F → S i = cif (hdlT L0 m i) [1] [])
  | 0, i, F, st, L, L', ei, i0, eL, ks, ls, h => by
    cases h
    exact ⟨eL, fun _ _ _ => rfl, fun _ => [], fun _ => [], fun j a b => by omega, fun a => by omega, fun a => by omega⟩
  | N + 1, i, F, st, L, L', ei, i0, eL, ks, ls, h => by
    obtain ⟨-, -, -, -, -, -, -, -, -, -, -, de0, de8, hn0, hn4, co1, co2, fi0, fi1, mo, hh⟩ := w.2.2.1 m m0 m1
    simp only [pNp, pDe, pHn, pCo, pFi, pMo, pCl, pHa] at de0 de8 hn0 hn4 co1 co2 fi0 fi1 mo
    have e15 : L 15 = L0 15 := eL 15 (by decide) (by decide)
    have e14 : L 14 = L0 14 := eL 14 (by decide) (by decide)
    have e11 : L 11 = L0 11 := eL 11 (by decide) (by decide)
    have hE := hdlT_eq (L := L0) (L' := L) (m := m) (i := i) (by rw [eL 12 (by decide) (by decide)]) (eL 13 (by decide) (by decide))
    have jE := jmpT_eq (L := L0) (L' := L) (m := m) (i := i) (by rw [e14]) (by rw [e15]) (eL 19 (by decide) (by decide)) (eL 22 (by decide) (by decide))
    unfold jL at h
    by_cases c1 : (hdlT L m i ∧ (F ∨ jmpT L m i)) ∨ (jmpT L m i ∧ cif F st [] ≠ [])
    · rw [cif_p c1] at h; cases h
    rw [cif_n c1] at h
    obtain ⟨s1, h1, h⟩ := bnj_ok h
    obtain ⟨s2, h2, h⟩ := bnj_ok h
    by_cases c2 : ¬ eds (L 19 (L 15 m + i)) ∧ i = L 14 m - 1
    · rw [cif_p c2] at h; cases h
    rw [cif_n c2] at h
    have i1 : i < L0 14 m := by omega
    have kin : 0 ≤ L0 15 m + i ∧ L0 15 m + i < L0 0 21 := ⟨by omega, by omega⟩
    have mk : pMo L0 (L0 15 m + i) = m := mo i i0 i1
    -- what stands at the place
    have s1v : (F → s1 = st) ∧ (¬ F → s1 = cif (hdlT L0 m i) [1] []) ∧ (hdlT L0 m i → s1 = [1]) ∧ (jmpT L0 m i → s1 = []) ∧ k01 s1 ∧ (s1.length : Int) ≤ L0 11 m := by
      by_cases f : F
      · have nh : ¬ hdlT L m i := fun q => c1 (Or.inl ⟨q, Or.inl f⟩)
        rw [cif_n nh, cif_p f] at h1
        cases h1
        refine ⟨fun _ => rfl, fun q => absurd f q, fun q => absurd (hE.mpr q) nh, fun q => ?_, ks, ls⟩
        apply Classical.byContradiction
        intro z
        exact c1 (Or.inr ⟨jE.mpr q, by rw [cif_p f]; exact z⟩)
      · rw [cif_n f] at h1
        by_cases q : hdlT L m i
        · rw [cif_p q] at h1
          obtain ⟨ny, h1⟩ := ly_ok h1
          cases h1
          have nj : ¬ jmpT L0 m i := fun z => c1 (Or.inl ⟨q, Or.inr (jE.mpr z)⟩)
          refine ⟨fun z => absurd z f, fun _ => (cif_p (hE.mp q)).symm, fun _ => rfl, fun z => absurd z nj, fun x hx => ?_, ?_⟩
          · rw [List.mem_singleton] at hx; exact Or.inr hx
          · rw [e11] at ny
            simp at ny ⊢
            omega
        · rw [cif_n q] at h1
          cases h1
          exact ⟨fun z => absurd z f, fun _ => (cif_n (fun z => q (hE.mpr z))).symm, fun z => absurd (hE.mpr z) q, fun _ => rfl, (fun x hx => by cases hx), by simpa using de0⟩
    obtain ⟨v1, v2, v3, v4, v5, v6⟩ := s1v
    have dL : ∀ o, o ≠ 27 → o ≠ 28 → dpL L (L 15 m + i) s1 o = L0 o := fun o a b => by rw [dpL_r a b]; exact eL o a b
    -- what the instruction leaves
    have h2' := h2
    rw [jI_eq (L := L0) dL, e15] at h2'
    obtain ⟨-, wop, -⟩ := w.2.2.2.2.1 (L0 15 m + i) kin.1 kin.2
    obtain ⟨a, b, r, ea, eb, sh, le⟩ := jI_sh wop.1 wop.2 h2'
    have k2 : k01 s2 := by
      rw [eb]
      exact sh_k01 w kin.1 kin.2 mk sh (by rw [← ea]; exact v5)
    obtain ⟨r1, r2, S, T, r3, r4, r5⟩ := jL_ok w m0 m1 N (i + 1) (¬ eds (L 19 (L 15 m + i))) s2 _ L' (by omega) (by omega) dL k2 (le v6) h
    refine ⟨r1, fun o k q => ?_, fun j => if j = i then s1 else S j, fun j => if j = i then s2 else T j, fun j j0 j1 => ?_, fun _ f => ?_, fun _ f => ?_⟩
    · rw [r2 o k (by omega)]
      unfold dpL
      rw [e15, m_ne (by omega), m_ne (by omega)]
    · have q15 : L' 15 m = L0 15 m := by rw [r1 15 (by decide) (by decide)]
      have q14 : L' 14 m = L0 14 m := by rw [r1 14 (by decide) (by decide)]
      have q11 : L' 11 m = L0 11 m := by rw [r1 11 (by decide) (by decide)]
      by_cases ej : j = i
      · subst ej
        have hE' := hdlT_eq (L := L0) (L' := L') (m := m) (i := j) (by rw [r1 12 (by decide) (by decide)]) (r1 13 (by decide) (by decide))
        have jE' := jmpT_eq (L := L0) (L' := L') (m := m) (i := j) q14 q15 (r1 19 (by decide) (by decide)) (r1 22 (by decide) (by decide))
        unfold JOK
        dsimp only
        rw [if_pos rfl, if_pos rfl, q11, q15, q14, hE', jE', jI_eq (L := L0) r1, r1 19 (by decide) (by decide)]
        refine ⟨v5, v6, ?_, ?_, h2', v3, v4, fun q => ?_⟩
        · rw [r2 27 _ (by omega)]
          unfold dpL
          rw [e15, m_ne (by omega), m_eq]
        · rw [r2 28 _ (by omega)]
          unfold dpL
          rw [e15, m_eq]
        · have q' : ¬ eds (L 19 (L 15 m + j)) := by rw [eL 19 (by decide) (by decide), e15]; exact q
          have nl : j + 1 < L0 14 m := by
            apply Classical.byContradiction
            intro z
            exact c2 ⟨q', by rw [e14]; omega⟩
          refine ⟨nl, ?_⟩
          rw [if_neg (by omega)]
          exact r4 nl q'
      · have := r3 j (by omega) j1
        unfold JOK at this ⊢
        dsimp only
        rw [if_neg ej, if_neg ej, if_neg (by omega)]
        exact this
    · show (if i = i then s1 else S i) = st
      rw [if_pos rfl]; exact v1 f
    · show (if i = i then s1 else S i) = _
      rw [if_pos rfl]; exact v2 f
/-- the methods from m on are judged -/
theorem jA_ok {L0 : PG} (w : WFx L0) (disj : ∀ a b k, 0 ≤ a → a < pNm L0 → 0 ≤ b → b < pNm L0 → pFi L0 a ≤ k → k < pFi L0 a + pCo L0 a → pFi L0 b ≤ k → k < pFi L0 b + pCo L0 b → a = b) : ∀ (N : Nat) (m : Int) (L L' : PG), m = pNm L0 - N → 0 ≤ m → (∀ o, o ≠ 27 → o ≠ 28 → L o = L0 o) → jA N m L = .ok L' →
    (∀ o, o ≠ 27 → o ≠ 28 → L' o = L0 o) ∧ (∀ o k a, 0 ≤ a → a < m → pFi L0 a ≤ k → k < pFi L0 a + pCo L0 a → L' o k = L o k) ∧ ∀ a, m ≤ a → a < pNm L0 → ∃ S T : Int → List Int, (∀ j, 0 ≤ j → j < pCo L0 a → JOK L' a S T j) ∧ S 0 = []
  | 0, m, L, L', em, m0, eL, h => by
    cases h
    exact ⟨eL, fun _ _ _ _ _ _ _ => rfl, fun a x y => by omega⟩
  | N + 1, m, L, L', em, m0, eL, h => by
    obtain ⟨L1, h1, h⟩ := bnj_ok (h : bnj (jM L m) (fun L' => jA N (m + 1) L') = .ok L')
    have m1 : m < pNm L0 := by omega
    have e14 : L 14 = L0 14 := eL 14 (by decide) (by decide)
    obtain ⟨-, -, -, -, -, -, -, -, -, -, -, de0, de8, hn0, hn4, co1, co2, fi0, fi1, mo, hh⟩ := w.2.2.1 m m0 m1
    simp only [pNp, pDe, pHn, pCo, pFi, pMo, pCl, pHa] at de0 de8 hn0 hn4 co1 co2 fi0 fi1 mo
    unfold jM at h1
    rw [e14] at h1
    obtain ⟨r1, r2, S, T, r3, r4, r5⟩ := jL_ok w m0 m1 (L0 14 m).toNat 0 True [] L L1 (by omega) (by decide) eL (fun x hx => by cases hx) (by simpa using de0) h1
    obtain ⟨t1, t2, t3⟩ := jA_ok w disj N (m + 1) L1 L' (by omega) (by omega) r1 h
    refine ⟨t1, fun o k a a0 a1 k0 k1 => ?_, fun a a0 a1 => ?_⟩
    · rw [t2 o k a a0 (by omega) k0 k1]
      refine r2 o k (fun q => ?_)
      have := disj a m k a0 (by omega) m0 m1 k0 k1 (show L0 15 m ≤ k by omega) (show k < L0 15 m + L0 14 m by omega)
      omega
    · by_cases ea : a = m
      · subst ea
        refine ⟨S, T, fun j j0 j1 => ?_, r4 (by omega) trivial⟩
        have q := r3 j j0 j1
        unfold JOK at q ⊢
        have q15 : L1 15 a = L0 15 a := by rw [r1 15 (by decide) (by decide)]
        have ek : ∀ o, L' o (L1 15 a + j) = L1 o (L1 15 a + j) := fun o => by
          rw [q15]
          exact t2 o _ a m0 (by omega) (by show L0 15 a ≤ _; omega) (by show _ < L0 15 a + L0 14 a; have : pCo L0 a = L0 14 a := rfl; omega)
        have rr : ∀ o, o ≠ 27 → o ≠ 28 → L' o = L1 o := fun o x y => by rw [t1 o x y, r1 o x y]
        have hE' := hdlT_eq (L := L1) (L' := L') (m := a) (i := j) (by rw [rr 12 (by decide) (by decide)]) (rr 13 (by decide) (by decide))
        have jE' := jmpT_eq (L := L1) (L' := L') (m := a) (i := j) (by rw [rr 14 (by decide) (by decide)]) (by rw [rr 15 (by decide) (by decide)]) (rr 19 (by decide) (by decide)) (rr 22 (by decide) (by decide))
        rw [rr 11 (by decide) (by decide), rr 15 (by decide) (by decide), rr 14 (by decide) (by decide), hE', jE', jI_eq (L := L1) rr, rr 19 (by decide) (by decide), ek 27, ek 28]
        exact q
      · exact t3 a (by omega) a1
