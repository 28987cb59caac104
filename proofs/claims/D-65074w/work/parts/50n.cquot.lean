/-! Part 50n: quotients -/
theorem td_b {x d : Int} (h1 : -2147483648 ≤ x) (h2 : x ≤ 2147483647) : -2147483648 ≤ x.tdiv d ∧ x.tdiv d ≤ 2147483648 := by
  have h := Int.natAbs_tdiv_le_natAbs x d
  omega
theorem mn4_b {a b c d : Int} (ha : -2147483648 ≤ a ∧ a ≤ 2147483648) (hb : -2147483648 ≤ b ∧ b ≤ 2147483648) (hc : -2147483648 ≤ c ∧ c ≤ 2147483648) (hd : -2147483648 ≤ d ∧ d ≤ 2147483648) : mn4 a b c d ≤ mx4 a b c d ∧ min 9223372036854775807 (mn4 a b c d) = mn4 a b c d ∧ max (-9223372036854775808) (mx4 a b c d) = mx4 a b c d := by
  unfold mn4 mx4
  omega
section QU
variable {l : Launch} {G : JG} {h : MH} {L : PG} {a b : Int} {Q : Int → MH → Prop} {E : Nat → Int → MH → Prop}
theorem c_quotient (hG : gO G = true) (cp : CP h L (hv h 3 0)) (a0 : a ≠ 0) (b0 : b ≠ 0) (na : isNb (fo h a)) (nb : isNb (fo h b)) (hQ1 : ath (rk L 10 (fo h a) (fo h b)) ≠ 0 → Q 1 (fw h 136 (rk L 10 (fo h a) (fo h b)))) (hQ0 : ath (rk L 10 (fo h a) (fo h b)) = 0 → Q 0 h) : S_X2_quotient l G [(2002, 3), (8, a), (8, b)] h Q E := by
  obtain ⟨ta, x1, x2, x3⟩ := na
  obtain ⟨tb, y1, y2, y3⟩ := nb
  have x1' : -2147483648 ≤ hv h a 1 := x1
  have x2' : hv h a 1 ≤ hv h a 2 := x2
  have x3' : hv h a 2 ≤ 2147483647 := x3
  have y1' : -2147483648 ≤ hv h b 1 := y1
  have y2' : hv h b 1 ≤ hv h b 2 := y2
  have y3' : hv h b 2 ≤ 2147483647 := y3
  have er : rk L 10 (fo h a) (fo h b) = if hv h b 1 = 0 ∧ hv h b 2 = 0 then fz else rnd L (qlo (hv h a 1) (hv h a 2) (hv h b 1) (hv h b 2)) (qhi (hv h a 1) (hv h a 2) (hv h b 1) (hv h b 2)) (i_or (hv h b 3) (hv h a 3)) := by
    unfold rk
    rw [if_neg (by intro q; rcases q with q | q; exact ta q; exact tb q), if_neg (by decide), if_neg (by decide), if_neg (by decide), if_neg (by decide)]
    by_cases e : hv h b 1 = 0 ∧ hv h b 2 = 0
    · rw [if_pos e, if_pos (show alo (fo h b) = 0 ∧ ahi (fo h b) = 0 from e)]
    · rw [if_neg e, if_neg (show ¬ (alo (fo h b) = 0 ∧ ahi (fo h b) = 0) from e), if_neg (by decide)]
      rfl
  rw [er] at hQ1 hQ0
  generalize hA1 : hv h a 1 = A1 at *
  generalize hA2 : hv h a 2 = A2 at *
  generalize hB1 : hv h b 1 = B1 at *
  generalize hB2 : hv h b 2 = B2 at *
  refine s_X2_quotient rfl fun K ki => ?_
  have fin : ∀ f t : Int, (f ≤ t → Q 1 (fw h 136 (rnd L f t (i_or (hv h b 3) (hv h a 3))))) → (t < f → Q 0 h) → JW K 12 [(2002, 3), (8, a), (8, b), (1, f), (5000, 0), (1, t), (5000, 0), (0, 2), (5000, 0), (5000, 0), (5000, 0), (5000, 0)] [] h := by
    intro f t q1 q2
    refine r_X2_quotient_12 ki hG ⟨fun _ => ⟨fun e => ⟨a0, b0, ?_⟩, fun e => ⟨Or.inl rfl, q2 ?_⟩⟩, fun q => by omega⟩
    · rw [i_or_sw]
      have e' := lc_leq.mp e
      exact c_span hG cp e' ⟨Or.inr rfl, q1 e'⟩
    · refine Int.not_le.mp fun r => ?_
      have := lc_leq.mpr r
      omega
  have stp : ∀ f t w lo hi : Int, (w = 0 ∨ w = 1) → lo = (if w = 0 then B1 else max 1 B1) → hi = (if w = 0 then min (-1) B2 else B2) →
      (lo ≤ hi → JW K 12 [(2002, 3), (8, a), (8, b), (1, min f (mn4 (A1.tdiv lo) (A1.tdiv hi) (A2.tdiv lo) (A2.tdiv hi))), (5000, 0), (1, max t (mx4 (A1.tdiv lo) (A1.tdiv hi) (A2.tdiv lo) (A2.tdiv hi))), (5000, 0), (0, w + 1), (5000, 0), (5000, 0), (5000, 0), (5000, 0)] [] h) →
      (hi < lo → JW K 12 [(2002, 3), (8, a), (8, b), (1, f), (5000, 0), (1, t), (5000, 0), (0, w + 1), (5000, 0), (5000, 0), (5000, 0), (5000, 0)] [] h) → JW K 12 [(2002, 3), (8, a), (8, b), (1, f), (5000, 0), (1, t), (5000, 0), (0, w), (5000, 0), (5000, 0), (5000, 0), (5000, 0)] [] h := by
    intro f t w lo hi hw elo ehi k1 k2
    refine r_X2_quotient_12 ki hG ⟨fun q => by omega, fun q => ⟨fun _ => b0, fun _ => b0, fun x ex => ⟨fun _ => b0, fun _ => b0, fun y ey => ?_⟩⟩⟩
    rw [hB1, ← elo] at ex
    rw [hB2, ← ehi] at ey
    subst ex ey
    have nz : x ≤ y → x ≠ 0 ∧ y ≠ 0 ∧ c32 x ∧ c32 y := by
      intro r
      unfold c32
      rcases hw with e | e
      · rw [e, if_pos rfl] at elo ehi
        omega
      · rw [e, if_neg (by decide)] at elo ehi
        omega
    refine ⟨fun e => ?_, fun e z ez => ?_⟩
    · have e' := lc_leq.mp e
      obtain ⟨n1, n2, n3, n4⟩ := nz e'
      have cA1 : c32 A1 := by unfold c32; omega
      have cA2 : c32 A2 := by unfold c32; omega
      rw [hA1, hA2, l_div_t cA1 n3 n1, l_div_t cA1 n4 n2, l_div_t cA2 n3 n1, l_div_t cA2 n4 n2]
      refine ⟨a0, n1, a0, n2, a0, n1, a0, n2, fun f' ef => ⟨a0, n1, a0, n2, a0, n1, a0, n2, fun t' et z ez => ?_⟩⟩
      rw [w32_i (by omega) (by omega)] at ez
      subst ef et ez
      exact k1 e'
    · have e' : y < x := by
        refine Int.not_le.mp fun r => ?_
        have := lc_leq.mpr r
        omega
      rw [w32_i (by omega) (by omega)] at ez
      subst ez
      exact k2 e'
  refine r_X2_quotient_0 ki hG fun f ef t et w ew => ?_
  rw [ef, et, ew]
  have bd : ∀ d e : Int, mn4 (A1.tdiv d) (A1.tdiv e) (A2.tdiv d) (A2.tdiv e) ≤ mx4 (A1.tdiv d) (A1.tdiv e) (A2.tdiv d) (A2.tdiv e) ∧ min 9223372036854775807 (mn4 (A1.tdiv d) (A1.tdiv e) (A2.tdiv d) (A2.tdiv e)) = mn4 (A1.tdiv d) (A1.tdiv e) (A2.tdiv d) (A2.tdiv e) ∧ max (-9223372036854775808) (mx4 (A1.tdiv d) (A1.tdiv e) (A2.tdiv d) (A2.tdiv e)) = mx4 (A1.tdiv d) (A1.tdiv e) (A2.tdiv d) (A2.tdiv e) :=
    fun d e => mn4_b (td_b x1' (by omega)) (td_b x1' (by omega)) (td_b (by omega) x3') (td_b (by omega) x3')
  refine stp _ _ 0 B1 (min (-1) B2) (Or.inl rfl) (by rw [if_pos rfl]) (by rw [if_pos rfl]) (fun e1 => ?_) (fun e1 => ?_)
  · obtain ⟨c1, c2, c3⟩ := bd B1 (min (-1) B2)
    rw [c2, c3]
    have hb1 : B1 < 0 := by omega
    rw [if_neg (by omega)] at hQ1 hQ0
    refine stp _ _ 1 (max 1 B1) B2 (Or.inr rfl) (by rw [if_neg (by decide)]) (by rw [if_neg (by decide)]) (fun e2 => ?_) (fun e2 => ?_)
    · have hb2 : 0 < B2 := by omega
      obtain ⟨c4, -, -⟩ := bd (max 1 B1) B2
      have ql : qlo A1 A2 B1 B2 = min (mn4 (A1.tdiv B1) (A1.tdiv (min (-1) B2)) (A2.tdiv B1) (A2.tdiv (min (-1) B2))) (mn4 (A1.tdiv (max 1 B1)) (A1.tdiv B2) (A2.tdiv (max 1 B1)) (A2.tdiv B2)) := by
        unfold qlo
        rw [if_pos hb1, if_pos hb2, show min (-1) B2 = -1 by omega, show max 1 B1 = 1 by omega]
      have qh : qhi A1 A2 B1 B2 = max (mx4 (A1.tdiv B1) (A1.tdiv (min (-1) B2)) (A2.tdiv B1) (A2.tdiv (min (-1) B2))) (mx4 (A1.tdiv (max 1 B1)) (A1.tdiv B2) (A2.tdiv (max 1 B1)) (A2.tdiv B2)) := by
        unfold qhi
        rw [if_pos hb1, if_pos hb2, show min (-1) B2 = -1 by omega, show max 1 B1 = 1 by omega]
      rw [ql, qh] at hQ1
      exact fin _ _ (fun _ => hQ1 rnd_th) (fun q => by omega)
    · have hb2 : ¬ 0 < B2 := by omega
      have ql : qlo A1 A2 B1 B2 = mn4 (A1.tdiv B1) (A1.tdiv (min (-1) B2)) (A2.tdiv B1) (A2.tdiv (min (-1) B2)) := by
        unfold qlo
        rw [if_pos hb1, if_neg hb2]
      have qh : qhi A1 A2 B1 B2 = mx4 (A1.tdiv B1) (A1.tdiv (min (-1) B2)) (A2.tdiv B1) (A2.tdiv (min (-1) B2)) := by
        unfold qhi
        rw [if_pos hb1, if_neg hb2]
      rw [ql, qh] at hQ1
      exact fin _ _ (fun _ => hQ1 rnd_th) (fun q => by omega)
  · have hb1 : ¬ B1 < 0 := by omega
    refine stp _ _ 1 (max 1 B1) B2 (Or.inr rfl) (by rw [if_neg (by decide)]) (by rw [if_neg (by decide)]) (fun e2 => ?_) (fun e2 => ?_)
    · obtain ⟨c1, c2, c3⟩ := bd (max 1 B1) B2
      rw [c2, c3]
      rw [if_neg (by omega)] at hQ1 hQ0
      have ql : qlo A1 A2 B1 B2 = mn4 (A1.tdiv (max 1 B1)) (A1.tdiv B2) (A2.tdiv (max 1 B1)) (A2.tdiv B2) := by
        unfold qlo
        rw [if_neg hb1]
      have qh : qhi A1 A2 B1 B2 = mx4 (A1.tdiv (max 1 B1)) (A1.tdiv B2) (A2.tdiv (max 1 B1)) (A2.tdiv B2) := by
        unfold qhi
        rw [if_neg hb1]
      rw [ql, qh] at hQ1
      exact fin _ _ (fun _ => hQ1 rnd_th) (fun q => by omega)
    · rw [if_pos (by omega)] at hQ0
      exact fin _ _ (fun q => by omega) (fun _ => hQ0 rfl)
end QU
