/-! Part 50m: numbers reckoned -/
/-- a fact that is a number -/
def isNb (f : FA) : Prop := ath f ≠ 0 ∧ -2147483648 ≤ alo f ∧ alo f ≤ ahi f ∧ ahi f ≤ 2147483647
theorem rnd_th {L : PG} {a b c : Int} : ath (rnd L a b c) ≠ 0 := by
  unfold rnd
  split <;> exact Int.one_ne_zero
section RK
variable {l : Launch} {G : JG} {h : MH} {L : PG} {a b : Int} {Q : Int → MH → Prop} {E : Nat → Int → MH → Prop}
theorem c_rest (hG : gO G = true) (cp : CP h L (hv h 3 0)) (a0 : a ≠ 0) (b0 : b ≠ 0) (na : isNb (fo h a)) (nb : isNb (fo h b)) (hQ1 : ath (rk L 11 (fo h a) (fo h b)) ≠ 0 → Q 1 (fw h 136 (rk L 11 (fo h a) (fo h b)))) (hQ0 : ath (rk L 11 (fo h a) (fo h b)) = 0 → Q 0 h) : S_X2_rest l G [(2002, 3), (8, a), (8, b)] h Q E := by
  obtain ⟨ta, x1, x2, x3⟩ := na
  obtain ⟨tb, y1, y2, y3⟩ := nb
  have x1' : -2147483648 ≤ hv h a 1 := x1
  have x2' : hv h a 1 ≤ hv h a 2 := x2
  have x3' : hv h a 2 ≤ 2147483647 := x3
  have y1' : -2147483648 ≤ hv h b 1 := y1
  have y2' : hv h b 1 ≤ hv h b 2 := y2
  have y3' : hv h b 2 ≤ 2147483647 := y3
  have la : ∀ x : Int, -2147483648 ≤ x → x ≤ 2147483647 → labs x = iabs x := by
    intro x q1 q2
    unfold labs iabs
    split
    · exact w64_i (by omega) (by omega)
    · rfl
  have er : rk L 11 (fo h a) (fo h b) = if hv h b 1 = 0 ∧ hv h b 2 = 0 then fz else rnd L (if hv h a 1 < 0 then max (1 - max (iabs (hv h b 1)) (iabs (hv h b 2))) (hv h a 1) else 0) (if 0 < hv h a 2 then min (max (iabs (hv h b 1)) (iabs (hv h b 2)) - 1) (hv h a 2) else 0) (i_or (hv h b 3) (hv h a 3)) := by
    unfold rk
    rw [if_neg (by intro q; rcases q with q | q; exact ta q; exact tb q), if_neg (by decide), if_neg (by decide), if_neg (by decide), if_neg (by decide)]
    rfl
  rw [er] at hQ1 hQ0
  refine s_X2_rest rfl fun K ki => r_X2_rest_0 ki hG ⟨b0, b0, fun x ex => ?_⟩
  rw [la _ y1' (by omega), la _ (by omega) y3'] at ex
  have hz0 : x = 0 ↔ hv h b 1 = 0 ∧ hv h b 2 = 0 := by
    rw [ex]
    unfold iabs
    constructor
    · intro q
      split at q <;> split at q <;> omega
    · intro q
      rw [q.1, q.2]
      decide
  have hx0 : 0 ≤ x ∧ x ≤ 2147483648 := by
    rw [ex]
    unfold iabs
    split <;> split <;> omega
  refine ⟨fun e => ?_, fun e => ?_⟩
  · rw [lc_z] at e
    rw [if_neg (fun q => e (hz0.mpr q)), ← ex] at hQ1
    refine ⟨a0, fun _ => a0, fun x5 e5 => ⟨a0, fun _ => a0, fun x7 e7 => ⟨a0, b0, ?_⟩⟩⟩
    rw [w64_i (by omega) (by omega)] at e5 e7
    subst e5 e7
    rw [i_or_sw]
    refine c_span hG cp ?_ ⟨Or.inr rfl, hQ1 rnd_th⟩
    split <;> split <;> omega
  · rw [lc_z] at e
    rw [if_pos (hz0.mp e)] at hQ0
    exact ⟨Or.inl rfl, hQ0 rfl⟩
end RK
