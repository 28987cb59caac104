/-! Part 50l: spans -/
theorem i_or_sw (a b : Int) : i_or a b = i_or b a := bi_ext (c32_i_or _ _) (c32_i_or _ _) (fun s _ _ => by rw [bi_or, bi_or, Bool.or_comm])
section SN
variable {l : Launch} {G : JG} {h : MH} {L : PG} {Q : Int → MH → Prop} {E : Nat → Int → MH → Prop}
theorem c_span (hG : gO G = true) (cp : CP h L (hv h 3 0)) {lo hi b : Int} (hle : lo ≤ hi) (hQ : Q 0 (fw h 136 (rnd L lo hi b))) : S_X2_span l G [(2002, 3), (1, lo), (1, hi), (0, b)] h Q E := by
  have pa := CP_ad cp
  have ei : ∀ v : Int, isin v (-2147483648) 2147483647 = 0 ↔ ¬ (-2147483648 ≤ v ∧ v ≤ 2147483647) := by
    intro v
    unfold isin
    split
    · rename_i q
      constructor <;> intro r
      · omega
      · exact absurd q r
    · rename_i q
      exact ⟨fun _ => q, fun _ => rfl⟩
  refine s_X2_span rfl fun K ki => r_X2_span_0 ki hG ?_
  rw [ei, ei]
  unfold rnd at hQ
  refine ⟨fun q => ?_, fun q => ⟨by omega, ?_⟩⟩
  · rw [if_pos (by omega)] at hQ
    exact c_number hG hQ
  · rw [if_neg (by omega)] at hQ
    exact c_down hG cp (by unfold c32; omega) ⟨by omega, c_up hG cp (by unfold c32; omega) (c_number hG hQ)⟩
end SN
