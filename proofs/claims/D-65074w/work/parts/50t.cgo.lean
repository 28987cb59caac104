/-! Part 50t: facts go on within a method -/
theorem stO_set {h : MH} {s a k x : Int} (so : stO h s) (e1 : a ≠ s) (e2 : a ≠ s + 1) : stO (hset h a k x) s := by
  obtain ⟨s1, s2, s3, s4, s5, s6, s7⟩ := so
  exact ⟨s1, s2, s3, by rw [ne_a (fun q => e1 q.symm)]; exact s4, s5, s6, fun j j0 j1 => ⟨by rw [ne_a (fun q => e2 q.symm)]; exact (s7 j j0 j1).1, (s7 j j0 j1).2⟩⟩
theorem frX_set {h : MH} {a k x : Int} (ha : a < 523) : frX h (hset h a k x) := ⟨ext_set (ext_rfl h), fun b b1 _ _ j => ne_a (by omega)⟩
section GO
variable {l : Launch} {G : JG} {h : MH} {L : PG} {m M i N p : Int} {Q : Int → MH → Prop} {E : Nat → Int → MH → Prop}
theorem c_goOn (hG : gO G = true) (w : WF L) (q : QI h N) (m0 : 0 ≤ m) (m1 : m < pNm L) (hM : hv h 3 16 = M) (cm : CPm h L m M) (i0 : 0 ≤ i) (i1 : i < pCo L m) (hN : N = pNp L) (hp0 : 0 ≤ pFi L m) (hp1 : pFi L m + pCo L m ≤ pNp L) (hlc : 0 ≤ pLc L m ∧ pLc L m ≤ 8) (hdp : 0 ≤ pDp L (pFi L m + i) ∧ pDp L (pFi L m + i) ≤ 8)
    (ss : stO h (hv h 4 (pFi L m + i))) (s5 : 523 ≤ hv h 4 (pFi L m + i)) (st : stO h 80) (hp : hv h 3 18 = p) (p0 : 0 ≤ p) (p1 : p < 1500) (hi : -1000 ≤ hv h 3 17 ∧ hv h 3 17 ≤ 1500)
    (hQ : ∀ g h2 z h3, g = hset h (if i = hv h 3 17 + 1 then 75 else 76) p 1 → jSt (hset g 80 0 1) (hv h 4 (pFi L m + i)) 80 (pLc L m) (pDp L (pFi L m + i)) h2 z → ((z = 0 ∧ h3 = h2) ∨ (z ≠ 0 ∧ onq h2 h3 ∧ hv h3 79 (pFi L m + i) ≠ 0 ∧ ∀ j, j ≠ pFi L m + i → hv h3 79 j = hv h2 79 j)) → QI h3 N → Q 0 h3) : S_X2_goOn l G [(2002, 3), (0, i)] h Q E := by
  have key : ∀ A : Int, (A = 75 ∨ A = 76) → (A = if i = hv h 3 17 + 1 then 75 else 76) → S_X2_come l G [(2002, 3), (18, hv (hset h A p 1) 3 16), (0, i), (7, 80)] (hset h A p 1) (fun _ h3 => Q 0 h3) E := by
    intro A hA eA
    have f : ∀ b j : Int, b ≠ A → hv (hset h A p 1) b j = hv h b j := fun b j hb => ne_a hb
    rw [f 3 16 (by omega), hM]
    have e4 : hv (hset h A p 1) 4 (pFi L m + i) = hv h 4 (pFi L m + i) := f 4 _ (by omega)
    refine c_come hG w (QI_of q (f 3 14 (by omega)) (f 3 15 (by omega)) (fun j => f 78 j (by omega)) (fun j => f 79 j (by omega))) m0 m1 (frX_m (frX_set (by omega)) cm) i0 i1 hN hp0 hp1 hlc hdp ?_ (by rw [e4]; exact s5) (stO_set st (by omega) (by omega)) (Or.inl rfl) ?_
    · rw [e4]
      exact stO_set ss (by omega) (by omega)
    · rw [e4]
      intro h2 z h3 a1 a2 a3
      exact hQ _ h2 z h3 (by rw [← eA]) a1 a2 a3
  refine s_X2_goOn rfl fun K ki => r_X2_goOn_0 ki hG ?_
  rw [hp, w32_i (by omega) (by omega)]
  refine ⟨fun e => ⟨p0, p1, Or.inr rfl, fun h1 e1 => ?_⟩, fun e => ⟨p0, p1, Or.inr rfl, fun h1 e1 => ?_⟩⟩
  · subst e1
    exact key 76 (Or.inr rfl) (by rw [if_neg e])
  · subst e1
    exact key 75 (Or.inl rfl) (by rw [if_pos e])
end GO
