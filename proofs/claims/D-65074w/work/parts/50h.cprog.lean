/-! Part 50h: the component's program, as the abstract one -/
/-- an object made at run time -/
def obT (h : MH) (a : Int) (t : Nat) : Prop := 523 ≤ a ∧ a ≤ hz h ∧ ht h a = t
/-- an array that holds these n values -/
def arT_ (h : MH) (a : Int) (t : Nat) (n : Int) (f : Int → Int) : Prop := obT h a t ∧ hn h a = n ∧ ∀ i, 0 ≤ i → i < n → hv h a i = f i
/-- a handler -/
def CPh (h : MH) (L : PG) (m i a : Int) : Prop := obT h a 15 ∧ ∀ w, 0 ≤ w → w < 4 → hv h a w = pHa L m i w
/-- a method -/
def CPm (h : MH) (L : PG) (m M : Int) : Prop := obT h M 14 ∧ (hv h M 0 = m ∧ hv h M 1 = pOw L m ∧ hv h M 2 = pNa L m ∧ hv h M 3 = pAr L m ∧ hv h M 4 = pGi L m ∧ hv h M 6 = pDe L m ∧ hv h M 14 = pFi L m ∧ hv h M 15 = L 16 m ∧ hv h M 16 = L 17 m) ∧
  arT_ h (hv h M 5) 100 (pLc L m) (fun k => pLk L m k) ∧ arT_ h (hv h M 7) 100 (pCo L m) (fun i => pOp L (pFi L m + i)) ∧ arT_ h (hv h M 8) 100 (pCo L m) (fun i => pX L (pFi L m + i)) ∧ arT_ h (hv h M 9) 100 (pCo L m) (fun i => pY L (pFi L m + i)) ∧ arT_ h (hv h M 10) 100 (pCo L m) (fun i => pZ L (pFi L m + i)) ∧
  arT_ h (hv h M 11) 100 (pCo L m) (fun i => L 23 (pFi L m + i)) ∧ arT_ h (hv h M 12) 100 (pCo L m) (fun i => pSi L (pFi L m + i)) ∧ arT_ h (hv h M 17) 100 (pCo L m) (fun i => pDp L (pFi L m + i)) ∧ arT_ h (hv h M 18) 100 (pCo L m) (fun i => pKi L (pFi L m + i)) ∧
  (obT h (hv h M 13) 125 ∧ hn h (hv h M 13) = pHn L m ∧ ∀ i, 0 ≤ i → i < pHn L m → CPh h L m i (hv h (hv h M 13) i))
/-- a program -/
def CP (h : MH) (L : PG) (P : Int) : Prop := obT h P 12 ∧ (hv h P 2 = pCl L ∧ hv h P 7 = pNp L ∧ hv h P 8 = pNt L - 7) ∧
  (obT h (hv h P 3) 100 ∧ hn h (hv h P 3) = 24 ∧ ∀ c, 1 ≤ c → c < 8 + pCl L → hv h (hv h P 3) c = pPa L c) ∧
  (obT h (hv h P 4) 130 ∧ hn h (hv h P 4) = 24 ∧ ∀ c, 0 ≤ c → c < 8 + pCl L → arT_ h (hv h (hv h P 4) c) 100 (pFc L c) (fun f => pFk L c f)) ∧
  arT_ h (hv h P 5) 100 (pNs L) (fun i => pSk L i) ∧ (obT h (hv h P 6) 124 ∧ hn h (hv h P 6) = pNm L ∧ ∀ m, 0 ≤ m → m < pNm L → CPm h L m (hv h (hv h P 6) m)) ∧
  (obT h (hv h P 9) 100 ∧ hn h (hv h P 9) = 63 ∧ ∀ s, 1 ≤ s → s < pNt L → hv h (hv h P 9) s = pSc L s) ∧ arT_ h (hv h P 10) 100 (pNp L) (fun k => pSi L k) ∧ arT_ h (hv h P 11) 100 (pNp L) (fun k => pMo L k) ∧
  (obT h (hv h P 12) 100 ∧ 1 ≤ hn h (hv h P 12) ∧ hn h (hv h P 12) ≤ 100000 ∧ (∀ i j, 0 ≤ i → i < j → j < hn h (hv h P 12) → hv h (hv h P 12) i < hv h (hv h P 12) j) ∧ (∀ i, 0 ≤ i → i < hn h (hv h P 12) → isMk L (hv h (hv h P 12) i)) ∧ ∀ v, isMk L v → ∃ i, 0 ≤ i ∧ i < hn h (hv h P 12) ∧ hv h (hv h P 12) i = v) ∧
  (obT h (hv h P 13) 102 ∧ hn h (hv h P 13) = pNm L)
/-- programs lie as they were -/
def frX (h h' : MH) : Prop := ext h h' ∧ ∀ a, 523 ≤ a → a ≤ hz h → (ht h a = 12 ∨ ht h a = 14 ∨ ht h a = 15 ∨ ht h a = 100 ∨ ht h a = 124 ∨ ht h a = 125 ∨ ht h a = 130) → ∀ j, hv h' a j = hv h a j
theorem frX_rfl (h : MH) : frX h h := ⟨ext_rfl h, fun _ _ _ _ _ => rfl⟩
theorem frX_tr {h g k : MH} (p : frX h g) (q : frX g k) : frX h k := by
  refine ⟨ext_trans p.1 q.1, fun a a1 a2 a3 j => ?_⟩
  have e := (p.1.2 a (by omega) a2).1
  rw [q.2 a a1 (by have := p.1.1; omega) (by rw [e]; exact a3) j, p.2 a a1 a2 a3 j]
section FX
variable {h h' : MH} {L : PG} {a P : Int} {t : Nat} {n : Int}
theorem frX_ob (o : frX h h') (q : obT h a t) : obT h' a t := ⟨q.1, by have := o.1.1; have := q.2.1; omega, by rw [(o.1.2 a (by have := q.1; omega) q.2.1).1]; exact q.2.2⟩
theorem frX_hn (o : frX h h') (q : obT h a t) : hn h' a = hn h a := (o.1.2 a (by have := q.1; omega) q.2.1).2
theorem frX_hv (o : frX h h') (q : obT h a t) (ht1 : t = 12 ∨ t = 14 ∨ t = 15 ∨ t = 100 ∨ t = 124 ∨ t = 125 ∨ t = 130) (j : Int) : hv h' a j = hv h a j := o.2 a q.1 q.2.1 (by rw [q.2.2]; exact ht1) j
theorem frX_ar {f : Int → Int} (o : frX h h') (q : arT_ h a 100 n f) : arT_ h' a 100 n f := by
  obtain ⟨q1, q2, q3⟩ := q
  exact ⟨frX_ob o q1, by rw [frX_hn o q1]; exact q2, fun i i0 i1 => by rw [frX_hv o q1 (by decide)]; exact q3 i i0 i1⟩
theorem frX_h {m i : Int} (o : frX h h') (q : CPh h L m i a) : CPh h' L m i a := ⟨frX_ob o q.1, fun w w0 w1 => by rw [frX_hv o q.1 (by decide)]; exact q.2 w w0 w1⟩
theorem frX_m {m : Int} (o : frX h h') (q : CPm h L m a) : CPm h' L m a := by
  obtain ⟨q0, q1, q2, q3, q4, q5, q6, q7, q8, q9, q10, q11, q12, q13⟩ := q
  have e := frX_hv o q0 (by decide)
  refine ⟨frX_ob o q0, ?_⟩
  simp only [e]
  refine ⟨q1, frX_ar o q2, frX_ar o q3, frX_ar o q4, frX_ar o q5, frX_ar o q6, frX_ar o q7, frX_ar o q8, frX_ar o q9, frX_ar o q10, frX_ob o q11, by rw [frX_hn o q11]; exact q12, fun i i0 i1 => ?_⟩
  rw [frX_hv o q11 (by decide)]
  exact frX_h o (q13 i i0 i1)
theorem frX_CP (o : frX h h') (q : CP h L P) : CP h' L P := by
  obtain ⟨q0, q1, ⟨a1, a2, a3⟩, ⟨b1, b2, b3⟩, c1, ⟨d1, d2, d3⟩, ⟨e1, e2, e3⟩, f1, f2, ⟨g1, g2, g3, g4, g5, g6⟩, k1, k2⟩ := q
  have e := frX_hv o q0 (by decide)
  refine ⟨frX_ob o q0, ?_⟩
  simp only [e]
  refine ⟨q1, ⟨frX_ob o a1, by rw [frX_hn o a1]; exact a2, fun c c0 c1' => by rw [frX_hv o a1 (by decide)]; exact a3 c c0 c1'⟩, ⟨frX_ob o b1, by rw [frX_hn o b1]; exact b2, fun c c0 c1' => by rw [frX_hv o b1 (by decide)]; exact frX_ar o (b3 c c0 c1')⟩, frX_ar o c1,
    ⟨frX_ob o d1, by rw [frX_hn o d1]; exact d2, fun m m0 m1 => by rw [frX_hv o d1 (by decide)]; exact frX_m o (d3 m m0 m1)⟩, ⟨frX_ob o e1, by rw [frX_hn o e1]; exact e2, fun s s0 s1 => by rw [frX_hv o e1 (by decide)]; exact e3 s s0 s1⟩, frX_ar o f1, frX_ar o f2, ⟨frX_ob o g1, ?_⟩, frX_ob o k1, by rw [frX_hn o k1]; exact k2⟩
  have eg := frX_hv o g1 (by decide)
  simp only [eg, frX_hn o g1]
  exact ⟨g2, g3, g4, g5, g6⟩
end FX
