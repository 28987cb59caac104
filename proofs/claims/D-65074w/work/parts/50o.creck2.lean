/-! Part 50o: what comes of two numbers -/
theorem mul_b62 {x y : Int} (x1 : -2147483648 ≤ x) (x2 : x ≤ 2147483648) (y1 : -2147483648 ≤ y) (y2 : y ≤ 2147483648) : -4611686018427387904 ≤ x * y ∧ x * y ≤ 4611686018427387904 := by
  have h : (x * y).natAbs ≤ 2147483648 * 2147483648 := by
    rw [Int.natAbs_mul]
    exact Nat.mul_le_mul (by omega) (by omega)
  omega
section RO2
variable {l : Launch} {G : JG} {h : MH} {L : PG} {a b op : Int} {Q : Int → MH → Prop} {E : Nat → Int → MH → Prop}
theorem c_reckon (hG : gO G = true) (cp : CP h L (hv h 3 0)) (a0 : a ≠ 0) (b0 : b ≠ 0) (na : isNb (fo h a)) (nb : isNb (fo h b)) (ho : 7 ≤ op ∧ op ≤ 11) (hQ1 : ath (rk L op (fo h a) (fo h b)) ≠ 0 → Q 1 (fw h 136 (rk L op (fo h a) (fo h b)))) (hQ0 : ath (rk L op (fo h a) (fo h b)) = 0 → Q 0 h) : S_X2_reckon l G [(2002, 3), (0, op), (8, a), (8, b)] h Q E := by
  have na' := na
  have nb' := nb
  obtain ⟨ta, x1, x2, x3⟩ := na
  obtain ⟨tb, y1, y2, y3⟩ := nb
  have x1' : -2147483648 ≤ hv h a 1 := x1
  have x2' : hv h a 1 ≤ hv h a 2 := x2
  have x3' : hv h a 2 ≤ 2147483647 := x3
  have y1' : -2147483648 ≤ hv h b 1 := y1
  have y2' : hv h b 1 ≤ hv h b 2 := y2
  have y3' : hv h b 2 ≤ 2147483647 := y3
  have th : ¬ (ath (fo h a) = 0 ∨ ath (fo h b) = 0) := by
    intro q
    rcases q with q | q
    · exact ta q
    · exact tb q
  refine s_X2_reckon rfl fun K ki => r_X2_reckon_0 ki hG ⟨a0, b0, fun x4 e4 => ⟨⟨fun e => ?_, fun e => ?_, fun e => ?_, fun e => ?_, trivial⟩, fun e => ?_⟩⟩
  · subst e
    have er : rk L 7 (fo h a) (fo h b) = rnd L (hv h a 1 + hv h b 1) (hv h a 2 + hv h b 2) (i_or (hv h b 3) (hv h a 3)) := by
      unfold rk
      rw [if_neg th, if_neg (by decide), if_pos rfl]
      rfl
    rw [er] at hQ1
    refine ⟨a0, b0, a0, b0, ?_⟩
    rw [w64_i (by omega) (by omega), w64_i (by omega) (by omega), e4, i_or_sw]
    exact c_span hG cp (by omega) ⟨Or.inr rfl, hQ1 rnd_th⟩
  · have e' : op = 8 := by omega
    subst e'
    have er : rk L 8 (fo h a) (fo h b) = rnd L (hv h a 1 - hv h b 2) (hv h a 2 - hv h b 1) (i_or (hv h b 3) (hv h a 3)) := by
      unfold rk
      rw [if_neg th, if_neg (by decide), if_neg (by decide), if_pos rfl]
      rfl
    rw [er] at hQ1
    refine ⟨a0, b0, a0, b0, ?_⟩
    rw [w64_i (by omega) (by omega), w64_i (by omega) (by omega), e4, i_or_sw]
    exact c_span hG cp (by omega) ⟨Or.inr rfl, hQ1 rnd_th⟩
  · have e' : op = 9 := by omega
    subst e'
    have er : rk L 9 (fo h a) (fo h b) = rnd L (mn4 (hv h a 1 * hv h b 1) (hv h a 1 * hv h b 2) (hv h a 2 * hv h b 1) (hv h a 2 * hv h b 2)) (mx4 (hv h a 1 * hv h b 1) (hv h a 1 * hv h b 2) (hv h a 2 * hv h b 1) (hv h a 2 * hv h b 2)) (i_or (hv h b 3) (hv h a 3)) := by
      unfold rk
      rw [if_neg th, if_neg (by decide), if_neg (by decide), if_neg (by decide), if_pos rfl]
      rfl
    rw [er] at hQ1
    have m1 := mul_b62 x1' (by omega) y1' (by omega)
    have m2 := mul_b62 (x := hv h a 1) (y := hv h b 2) x1' (by omega) (by omega) (by omega)
    have m3 := mul_b62 (x := hv h a 2) (y := hv h b 1) (by omega) (by omega) y1' (by omega)
    have m4 := mul_b62 (x := hv h a 2) (y := hv h b 2) (by omega) (by omega) (by omega) (by omega)
    refine ⟨a0, b0, fun z1 f1 => ⟨a0, b0, fun z2 f2 => ⟨a0, b0, fun z3 f3 => ⟨a0, b0, fun z4 f4 => ?_⟩⟩⟩⟩
    rw [w64_i (by omega) (by omega)] at f1 f2 f3 f4
    subst f1 f2 f3 f4
    rw [e4, i_or_sw]
    refine c_span hG cp ?_ ⟨Or.inr rfl, hQ1 rnd_th⟩
    omega
  · have e' : op = 10 := by omega
    subst e'
    exact c_quotient hG cp a0 b0 na' nb' (fun q => ⟨Or.inr rfl, hQ1 q⟩) (fun q => ⟨Or.inl rfl, hQ0 q⟩)
  · have e' : op = 11 := by omega
    subst e'
    exact c_rest hG cp a0 b0 na' nb' (fun q => ⟨Or.inr rfl, hQ1 q⟩) (fun q => ⟨Or.inl rfl, hQ0 q⟩)
end RO2
