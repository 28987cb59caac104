/-! Part 41b: what a file has that was read: methods (plain) -/
/-- an instruction at a place of a method is as it must be -/
def WFki (L : PG) (m k : Int) : Prop := (0 ≤ pOp L k ∧ pOp L k ≤ 36) ∧ (0 ≤ pX L k ∧ pX L k ≤ 255) ∧
  (-32768 ≤ pY L k ∧ pY L k ≤ 32767 ∧ -32768 ≤ pZ L k ∧ pZ L k ≤ 32767) ∧
  ((pOp L k = 2 ∨ pOp L k = 3 ∨ pOp L k = 18 ∨ pOp L k = 19) → pX L k < pLc L m) ∧
  ((pOp L k = 13 ∨ pOp L k = 14 ∨ pOp L k = 34 ∨ pOp L k = 35) → pX L k ≤ 7) ∧ (pOp L k = 16 → pX L k ≤ 5) ∧ (pOp L k = 17 → pX L k ≤ 47 ∧ pX L k % 8 < pLc L m) ∧
  ((pOp L k = 20 ∨ pOp L k = 25 ∨ pOp L k = 26 ∨ pOp L k = 33) → pX L k < 8 + pCl L) ∧ ((pOp L k = 21 ∨ pOp L k = 23 ∨ pOp L k = 24) → pX L k ≤ 1) ∧
  ((pOp L k = 27 ∨ pOp L k = 28) → pX L k < pNs L) ∧ (pOp L k = 19 → 0 ≤ pY L k ∧ pY L k < 8 + pCl L) ∧ ((pOp L k = 25 ∨ pOp L k = 26) → 0 ≤ pY L k ∧ pY L k < pFc L (pX L k)) ∧
  (pOp L k = 29 → 0 ≤ pY L k ∧ pY L k < pNm L) ∧ ((pOp L k = 30 ∨ pOp L k = 36) → pX L k ≤ 15) ∧ (pOp L k = 13 → pY L k ≤ pZ L k) ∧
  ((15 ≤ pOp L k ∧ pOp L k ≤ 19) → 0 ≤ pZ L k ∧ pZ L k < pCo L m) ∧
  ((pOp L k = 20 ∨ pOp L k = 21) → 7 ≤ pSi L k ∧ pSi L k < pNt L ∧ pSc L (pSi L k) = (if pOp L k = 20 then pX L k else -1 - pX L k))
/-- methods up to m are read, up to a byte -/
def PM (L : PG) (m p : Int) : Prop := ((0 ≤ L 0 0 ∧ L 0 0 ≤ 16) ∧ (0 ≤ L 0 1 ∧ L 0 1 ≤ 8) ∧ (1 ≤ L 0 6 ∧ L 0 6 ≤ 40) ∧ (0 ≤ L 0 21 ∧ L 0 21 ≤ 1500) ∧ (7 ≤ L 0 30 ∧ L 0 30 ≤ 63)) ∧ PC L 24 ∧ (∀ i, 0 ≤ i → i < L 0 1 → L 1 i = 0 ∨ L 1 i = 1) ∧
  (∀ a, 0 ≤ a → a < m → WFmx L a) ∧ (∀ a b, 0 ≤ a → a < m → 0 ≤ b → b < m → pOw L a ≠ 255 → pOw L b ≠ 255 → pNa L a = pNa L b → pAr L a = pAr L b ∧ pGi L a = pGi L b ∧ ∀ j, 0 ≤ j → j < pAr L a → pLk L a j = pLk L b j) ∧
  (∀ k, 0 ≤ k → k < L 0 21 → (0 ≤ pMo L k ∧ pMo L k < m ∧ pFi L (pMo L k) ≤ k ∧ k < pFi L (pMo L k) + pCo L (pMo L k)) ∧ WFki L (pMo L k) k) ∧ (∀ s, 7 ≤ s → s < L 0 30 → -2 ≤ pSc L s ∧ pSc L s < 8 + pCl L) ∧ 6 * L 0 21 ≤ p
theorem s16_b {a b : Int} (a0 : 0 ≤ a) (a1 : a ≤ 255) (b0 : 0 ≤ b) (b1 : b ≤ 255) : -32768 ≤ s16 a b ∧ s16 a b ≤ 32767 := by unfold s16; split <;> omega
/-- the rows that reading instructions changes -/
def irow (k0 s0 o i : Int) : Prop := ((19 ≤ o ∧ o ≤ 25) ∧ k0 ≤ i) ∨ (o = 26 ∧ s0 ≤ i) ∨ (o = 0 ∧ (i = 21 ∨ i = 30))
def II (n : Int) (Lh : PG) (m p0 j p : Int) (L : PG) : Prop := (∀ o i, ¬ irow (Lh 0 21) (Lh 0 30) o i → L o i = Lh o i) ∧ L 0 21 = Lh 0 21 + j ∧ (Lh 0 30 ≤ L 0 30 ∧ L 0 30 ≤ 63) ∧ p = p0 + 6 * j ∧
  (∀ k, Lh 0 21 ≤ k → k < Lh 0 21 + j → pMo L k = m ∧ WFki L m k) ∧ (∀ s, Lh 0 30 ≤ s → s < L 0 30 → -2 ≤ pSc L s ∧ pSc L s < 8 + pCl Lh) ∧ p ≤ n
theorem moX_le {L : PG} {m op x : Int} (h : x ≤ moX L m op) : ((op = 2 ∨ op = 3 ∨ op = 18 ∨ op = 19) → x < L 9 m) ∧ ((op = 13 ∨ op = 14 ∨ op = 34 ∨ op = 35) → x ≤ 7) ∧ (op = 16 → x ≤ 5) ∧ (op = 17 → x ≤ 47) ∧ ((op = 20 ∨ op = 25 ∨ op = 26 ∨ op = 33) → x < 8 + L 0 0) ∧ ((op = 21 ∨ op = 23 ∨ op = 24) → x ≤ 1) ∧ ((op = 27 ∨ op = 28) → x < L 0 1) ∧ ((op = 30 ∨ op = 36) → x ≤ 15) := by
  unfold moX at h
  refine ⟨fun q => ?_, fun q => ?_, fun q => ?_, fun q => ?_, fun q => ?_, fun q => ?_, fun q => ?_, fun q => ?_⟩
  · rw [if_neg (by omega), if_neg (by omega), if_neg (by omega), if_neg (by omega), if_neg (by omega), if_neg (by omega), if_neg (by omega), if_pos q] at h; omega
  · rw [if_neg (by omega), if_neg (by omega), if_neg (by omega), if_neg (by omega), if_neg (by omega), if_neg (by omega), if_pos q] at h; exact h
  · rw [if_neg (by omega), if_neg (by omega), if_neg (by omega), if_neg (by omega), if_neg (by omega), if_pos q] at h; exact h
  · rw [if_neg (by omega), if_neg (by omega), if_neg (by omega), if_neg (by omega), if_pos q] at h; exact h
  · rw [if_neg (by omega), if_neg (by omega), if_neg (by omega), if_pos q] at h; omega
  · rw [if_neg (by omega), if_neg (by omega), if_pos q] at h; exact h
  · rw [if_neg (by omega), if_pos q] at h; omega
  · rw [if_pos q] at h; exact h
theorem ps_I {B : Int → Int} {n m p0 j p : Int} {Lh L : PG} (hB : ∀ i, 0 ≤ i → i < n → 0 ≤ B i ∧ B i ≤ 255) (p00 : 0 ≤ p0) (j0 : 0 ≤ j) (h7 : 7 ≤ Lh 0 30) (h21 : 0 ≤ Lh 0 21) (l00 : 0 ≤ Lh 0 0) (h : II n Lh m p0 j p L) : psK (rdI B n m j p L) (fun p' L' => II n Lh m p0 (j + 1) p' L') := by
  obtain ⟨h1, h2, h3, h4, h5, h6, -⟩ := h
  have q00 : L 0 0 = Lh 0 0 := h1 0 0 (by unfold irow; omega)
  have q01 : L 0 1 = Lh 0 1 := h1 0 1 (by unfold irow; omega)
  have q06 : L 0 6 = Lh 0 6 := h1 0 6 (by unfold irow; omega)
  have q9 : L 9 m = Lh 9 m := h1 9 m (by unfold irow; omega)
  have q14 : L 14 m = Lh 14 m := h1 14 m (by unfold irow; omega)
  have q3 : ∀ c, L 3 c = Lh 3 c := fun c => h1 3 c (by unfold irow; omega)
  unfold rdI
  refine psK_tk fun n1 op0 op1 => psK_if fun ns => psK_tk fun n2 x0 x1 => psK_if fun nl => psK_tk2 fun n3 => psK_cg fun gy => psK_tk2 fun n4 => psK_cg fun gz => psK_ok ?_
  have bx := hB (p + 1) (by omega) n2
  have by1 := hB (p + 2) (by omega) (by omega)
  have by2 := hB (p + 2 + 1) (by omega) n3
  have bz1 := hB (p + 4) (by omega) (by omega)
  have bz2 := hB (p + 4 + 1) (by omega) n4
  have sy := s16_b by1.1 by1.2 by2.1 by2.2
  have sz := s16_b bz1.1 bz1.2 bz2.1 bz2.2
  generalize B p = op at *
  generalize B (p + 1) = x at *
  generalize s16 (B (p + 2)) (B (p + 2 + 1)) = y at *
  generalize s16 (B (p + 4)) (B (p + 4 + 1)) = z at *
  generalize hk : L 0 21 = k at *
  -- the new file, place by place
  generalize hLL : inL (scL (siL L op) op x k) k m p op x y z = LL
  have v : ∀ o i, ¬ ((19 ≤ o ∧ o ≤ 25) ∧ i = k) → ¬ (o = 26 ∧ i = L 0 30) → ¬ (o = 0 ∧ (i = 21 ∨ i = 30)) → LL o i = L o i := by
    intro o i a1 a2 a3
    rw [← hLL]
    unfold inL
    rw [m_ne (by omega), m_ne (by omega), m_ne (by omega), m_ne (by omega), m_ne (by omega), m_ne (by omega), m_ne (by omega)]
    have s0 : siL L op o i = L o i := by
      unfold siL
      rw [hk]
      split
      · rw [m_ne (by omega), m_ne (by omega)]
      · rw [m_ne (by omega)]
    unfold scL
    split
    · rename_i q
      have e25 : siL L op 25 k = L 0 30 := by
        unfold siL
        rw [if_pos q, hk, m_ne (by omega), m_eq]
      rw [e25, m_ne (by omega)]; exact s0
    · exact s0
  have u19 : LL 19 k = op := by rw [← hLL]; unfold inL; rw [m_ne (by omega), m_ne (by omega), m_ne (by omega), m_ne (by omega), m_ne (by omega), m_ne (by omega), m_eq]
  have u20 : LL 20 k = x := by rw [← hLL]; unfold inL; rw [m_ne (by omega), m_ne (by omega), m_ne (by omega), m_ne (by omega), m_ne (by omega), m_eq]
  have u21 : LL 21 k = y := by rw [← hLL]; unfold inL; rw [m_ne (by omega), m_ne (by omega), m_ne (by omega), m_ne (by omega), m_eq]
  have u22 : LL 22 k = z := by rw [← hLL]; unfold inL; rw [m_ne (by omega), m_ne (by omega), m_ne (by omega), m_eq]
  have u24 : LL 24 k = m := by rw [← hLL]; unfold inL; rw [m_ne (by omega), m_eq]
  have u021 : LL 0 21 = k + 1 := by rw [← hLL]; unfold inL; rw [m_eq]
  have u030 : LL 0 30 = if op = 20 ∨ op = 21 then L 0 30 + 1 else L 0 30 := by
    rw [← hLL]; unfold inL
    rw [m_ne (by omega), m_ne (by omega), m_ne (by omega), m_ne (by omega), m_ne (by omega), m_ne (by omega), m_ne (by omega)]
    unfold scL siL
    rw [hk]
    split
    · rw [m_ne (by omega), m_eq]
    · rw [m_ne (by omega)]
  have u25 : op = 20 ∨ op = 21 → LL 25 k = L 0 30 := by
    intro q
    rw [← hLL]; unfold inL
    rw [m_ne (by omega), m_ne (by omega), m_ne (by omega), m_ne (by omega), m_ne (by omega), m_ne (by omega), m_ne (by omega)]
    unfold scL siL
    rw [if_pos q, if_pos q, hk, m_ne (by omega), m_ne (by omega), m_eq]
  have u26 : op = 20 ∨ op = 21 → LL 26 (L 0 30) = if op = 20 then x else -1 - x := by
    intro q
    rw [← hLL]; unfold inL
    rw [m_ne (by omega), m_ne (by omega), m_ne (by omega), m_ne (by omega), m_ne (by omega), m_ne (by omega), m_ne (by omega)]
    have e25 : siL L op 25 k = L 0 30 := by
      unfold siL
      rw [if_pos q, hk, m_ne (by omega), m_eq]
    unfold scL
    rw [if_pos q, e25, m_eq]
  have w0 : LL 0 0 = L 0 0 := v 0 0 (by omega) (by omega) (by omega)
  have w1 : LL 0 1 = L 0 1 := v 0 1 (by omega) (by omega) (by omega)
  have w6 : LL 0 6 = L 0 6 := v 0 6 (by omega) (by omega) (by omega)
  have w9 : LL 9 m = L 9 m := v 9 m (by omega) (by omega) (by omega)
  have w14 : LL 14 m = L 14 m := v 14 m (by omega) (by omega) (by omega)
  have w3 : ∀ c, LL 3 c = L 3 c := fun c => v 3 c (by omega) (by omega) (by omega)
  refine ⟨fun o i q => ?_, by omega, ?_, by omega, fun k' k0 k1 => ?_, fun s s0 s1 => ?_, by omega⟩
  · rw [v o i (by unfold irow at q; omega) (by unfold irow at q; omega) (by unfold irow at q; omega)]
    exact h1 o i q
  · rw [u030]
    split
    · rename_i q
      have : ¬ L 0 30 = 63 := fun e => ns ⟨q, e⟩
      omega
    · exact h3
  · by_cases ek : k' = k
    · subst ek
      refine ⟨u24, ?_⟩
      have mx := moX_le x1
      have gz1 := gz.1
      have gz2 := gz.2
      have gy1 := gy.1
      have gy2 := gy.2.1
      have gy3 := gy.2.2
      unfold WFki
      show (0 ≤ LL 19 k' ∧ LL 19 k' ≤ 36) ∧ (0 ≤ LL 20 k' ∧ LL 20 k' ≤ 255) ∧ (-32768 ≤ LL 21 k' ∧ LL 21 k' ≤ 32767 ∧ -32768 ≤ LL 22 k' ∧ LL 22 k' ≤ 32767) ∧
        ((LL 19 k' = 2 ∨ LL 19 k' = 3 ∨ LL 19 k' = 18 ∨ LL 19 k' = 19) → LL 20 k' < LL 9 m) ∧
        ((LL 19 k' = 13 ∨ LL 19 k' = 14 ∨ LL 19 k' = 34 ∨ LL 19 k' = 35) → LL 20 k' ≤ 7) ∧ (LL 19 k' = 16 → LL 20 k' ≤ 5) ∧ (LL 19 k' = 17 → LL 20 k' ≤ 47 ∧ LL 20 k' % 8 < LL 9 m) ∧
        ((LL 19 k' = 20 ∨ LL 19 k' = 25 ∨ LL 19 k' = 26 ∨ LL 19 k' = 33) → LL 20 k' < 8 + LL 0 0) ∧ ((LL 19 k' = 21 ∨ LL 19 k' = 23 ∨ LL 19 k' = 24) → LL 20 k' ≤ 1) ∧
        ((LL 19 k' = 27 ∨ LL 19 k' = 28) → LL 20 k' < LL 0 1) ∧ (LL 19 k' = 19 → 0 ≤ LL 21 k' ∧ LL 21 k' < 8 + LL 0 0) ∧ ((LL 19 k' = 25 ∨ LL 19 k' = 26) → 0 ≤ LL 21 k' ∧ LL 21 k' < LL 3 (LL 20 k')) ∧
        (LL 19 k' = 29 → 0 ≤ LL 21 k' ∧ LL 21 k' < LL 0 6) ∧ ((LL 19 k' = 30 ∨ LL 19 k' = 36) → LL 20 k' ≤ 15) ∧ (LL 19 k' = 13 → LL 21 k' ≤ LL 22 k') ∧
        ((15 ≤ LL 19 k' ∧ LL 19 k' ≤ 19) → 0 ≤ LL 22 k' ∧ LL 22 k' < LL 14 m) ∧
        ((LL 19 k' = 20 ∨ LL 19 k' = 21) → 7 ≤ LL 25 k' ∧ LL 25 k' < LL 0 30 ∧ LL 26 (LL 25 k') = (if LL 19 k' = 20 then LL 20 k' else -1 - LL 20 k'))
      rw [u19, u20, u21, u22, w0, w1, w6, w9, w14, w3]
      refine ⟨⟨op0, op1⟩, bx, ⟨sy.1, sy.2, sz.1, sz.2⟩, mx.1, mx.2.1, mx.2.2.1, fun q => ⟨mx.2.2.2.1 q, ?_⟩, mx.2.2.2.2.1, mx.2.2.2.2.2.1, mx.2.2.2.2.2.2.1, fun q => ?_, fun q => ?_, fun q => ?_, mx.2.2.2.2.2.2.2, gz2, fun q => ?_, fun q => ?_⟩
      · have : ¬ L 9 m ≤ x % 8 := fun e => nl ⟨q, e⟩
        omega
      · have := gy1 q; omega
      · have := gy3 q; omega
      · have := gy2 q; omega
      · have := gz1 q; omega
      · rw [u25 q, u26 q, u030, if_pos q]
        exact ⟨by omega, by omega, rfl⟩
    · have := h5 k' k0 (by omega)
      refine ⟨?_, ?_⟩
      · show LL 24 k' = m
        rw [v 24 k' (by omega) (by omega) (by omega)]; exact this.1
      · have e19 : pOp LL k' = pOp L k' := v 19 k' (by omega) (by omega) (by omega)
        have e20 : pX LL k' = pX L k' := v 20 k' (by omega) (by omega) (by omega)
        have e21 : pY LL k' = pY L k' := v 21 k' (by omega) (by omega) (by omega)
        have e22 : pZ LL k' = pZ L k' := v 22 k' (by omega) (by omega) (by omega)
        have e25 : pSi LL k' = pSi L k' := v 25 k' (by omega) (by omega) (by omega)
        have e9 : pLc LL m = pLc L m := w9
        have e14 : pCo LL m = pCo L m := w14
        have e0 : pCl LL = pCl L := w0
        have e1 : pNs LL = pNs L := w1
        have e6 : pNm LL = pNm L := w6
        have e3 : pFc LL (pX L k') = pFc L (pX L k') := w3 _
        have t := this.2
        unfold WFki at t ⊢
        rw [e19, e20, e21, e22, e25, e9, e14, e0, e1, e6, e3]
        obtain ⟨t1, t2, t3, t4, t5, t6, t7, t8, t9, t10, t11, t12, t13, t14, t15, t16, t17⟩ := t
        refine ⟨t1, t2, t3, t4, t5, t6, t7, t8, t9, t10, t11, t12, t13, t14, t15, t16, fun q => ?_⟩
        have t17' := t17 q
        clear t1 t2 t3 t4 t5 t6 t7 t8 t9 t10 t11 t12 t13 t14 t15 t16 t17 gy gz
        have si : pSi L k' = L 25 k' := rfl
        have nt : pNt L = L 0 30 := rfl
        have nt' : pNt LL = LL 0 30 := rfl
        refine ⟨t17'.1, ?_, ?_⟩
        · rw [nt', u030]
          split <;> omega
        · have : pSc LL (pSi L k') = pSc L (pSi L k') := v 26 _ (by omega) (by omega) (by omega)
          rw [this]; exact t17'.2.2
  · show -2 ≤ LL 26 s ∧ LL 26 s < 8 + pCl Lh
    have cl : pCl Lh = Lh 0 0 := rfl
    by_cases es : s = L 0 30
    · have yq : op = 20 ∨ op = 21 := by
        apply Classical.byContradiction
        intro q
        rw [u030, if_neg q] at s1
        omega
      rw [es, u26 yq]
      by_cases q : op = 20
      · rw [if_pos q]
        have := (moX_le x1).2.2.2.2.1 (by omega)
        omega
      · rw [if_neg q]
        have := (moX_le x1).2.2.2.2.2.1 (by omega)
        omega
    · rw [v 26 s (by omega) (by omega) (by omega)]
      refine h6 s s0 ?_
      rw [u030] at s1
      split at s1 <;> omega
