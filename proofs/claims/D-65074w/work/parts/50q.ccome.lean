/-! Part 50q: facts come to a place -/
section CO
variable {l : Launch} {G : JG} {h : MH} {L : PG} {m M t i N : Int} {Q : Int → MH → Prop} {E : Nat → Int → MH → Prop}
theorem c_come (hG : gO G = true) (w : WF L) (q : QI h N) (m0 : 0 ≤ m) (m1 : m < pNm L) (cm : CPm h L m M) (i0 : 0 ≤ i) (i1 : i < pCo L m) (hN : N = pNp L) (hp0 : 0 ≤ pFi L m) (hp1 : pFi L m + pCo L m ≤ pNp L) (hlc : 0 ≤ pLc L m ∧ pLc L m ≤ 8) (hdp : 0 ≤ pDp L (pFi L m + i) ∧ pDp L (pFi L m + i) ≤ 8)
    (ss : stO h (hv h 4 (pFi L m + i))) (s5 : 523 ≤ hv h 4 (pFi L m + i)) (st : stO h t) (t5 : t = 80 ∨ t = 98 ∨ t = 116)
    (hQ : ∀ h2 z h3, jSt (hset h t 0 1) (hv h 4 (pFi L m + i)) t (pLc L m) (pDp L (pFi L m + i)) h2 z → ((z = 0 ∧ h3 = h2) ∨ (z ≠ 0 ∧ onq h2 h3 ∧ hv h3 79 (pFi L m + i) ≠ 0 ∧ ∀ j, j ≠ pFi L m + i → hv h3 79 j = hv h2 79 j)) → QI h3 N → Q 0 h3) : S_X2_come l G [(2002, 3), (18, M), (0, i), (7, t)] h Q E := by
  have nn := w.n
  unfold WFn at nn
  obtain ⟨mo, ⟨-, -, -, -, -, -, e14, -⟩, ⟨k1, k2, -⟩, -, -, -, -, -, -, ⟨d1, d2, d3⟩, -⟩ := cm
  have mo1 := mo.1
  have k11 := k1.1
  have d11 := d1.1
  refine s_X2_come rfl fun K ki => r_X2_come_0 ki hG ⟨by omega, Or.inr rfl, fun h1 e1 => ?_⟩
  have f : ∀ b j : Int, b ≠ t → hv h1 b j = hv h b j := fun b j hb => by rw [e1]; exact ne_a hb
  have f2 : h1.2 = h.2 := by rw [e1]; rfl
  rw [f M 14 (by omega), e14, w32_i (by omega) (by omega), f M 5 (by omega), f M 17 (by omega), h2_hn f2, h2_hn f2, k2, d2, f (hv h M 17) i (by omega), d3 i i0 i1, f 4 _ (by omega)]
  refine ⟨by omega, by omega, by omega, by omega, by omega, by omega, by omega, i0, i1, by omega, ?_⟩
  have o1 : ons t h h1 := by rw [e1]; exact ons_set (Or.inl rfl)
  have ss1 := ons_st o1 st ss
  have st1 := ons_st o1 st st
  have q1 : QI h1 N := QI_of q (f 3 14 (by omega)) (f 3 15 (by omega)) (fun j => f 78 j (by omega)) (fun j => f 79 j (by omega))
  generalize hS : hv h 4 (pFi L m + i) = S at *
  refine c_Sjoin hG ss1 st1 (by omega) hlc.1 hlc.2 hdp.1 hdp.2 fun h2 z js => ?_
  have o2 := js.1
  have q2 : QI h2 N := QI_of q1 (o2.2 3 14 (by omega) (by omega)) (o2.2 3 15 (by omega) (by omega)) (fun j => o2.2 78 j (by omega) (by omega)) (fun j => o2.2 79 j (by omega) (by omega))
  rw [e1] at js
  refine ⟨fun e => hQ h2 z h2 js (Or.inl ⟨e, rfl⟩) q2, fun e => ⟨by omega, ?_⟩⟩
  have hm : hv h2 M 14 = pFi L m := by
    have hMS : M ≠ S := by
      intro r
      have h3 := ss.2.2.1
      rw [← r, mo.2.2] at h3
      cases h3
    have hMr : ¬ (S + 2 ≤ M ∧ M < S + 18) := by
      intro r
      have h4 := (ss.2.2.2.2.2.2 (M - S - 2) (by omega) (by omega)).2
      rw [show S + 2 + (M - S - 2) = M by omega, mo.2.2] at h4
      cases h4
    rw [o2.2 M 14 (fun r => hMS r.1) hMr, f M 14 (by omega), e14]
  rw [hm, w32_i (by omega) (by omega)]
  exact c_wake hG q2 (by omega) (by omega) fun h3 o3 q3 aw ot => hQ h2 z h3 js (Or.inr ⟨e, o3, aw, ot⟩) q3
end CO
