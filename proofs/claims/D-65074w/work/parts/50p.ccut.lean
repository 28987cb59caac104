/-! Part 50p: a span is cut -/
theorem fw_at {h : MH} {a j : Int} {f : FA} : hv (fw h a f) a j = if j = 4 then ast f else if j = 3 then alb f else if j = 2 then ahi f else if j = 1 then alo f else if j = 0 then ath f else hv h a j := by
  unfold fw
  by_cases e4 : j = 4
  · subst e4
    rw [eq_a, if_pos rfl]
  · rw [ne_k e4, if_neg e4]
    by_cases e3 : j = 3
    · subst e3
      rw [eq_a, if_pos rfl]
    · rw [ne_k e3, if_neg e3]
      by_cases e2 : j = 2
      · subst e2
        rw [eq_a, if_pos rfl]
      · rw [ne_k e2, if_neg e2]
        by_cases e1 : j = 1
        · subst e1
          rw [eq_a, if_pos rfl]
        · rw [ne_k e1, if_neg e1]
          by_cases e0 : j = 0
          · subst e0
            rw [eq_a, if_pos rfl]
          · rw [ne_k e0, if_neg e0]
theorem fw_hset {h : MH} {a k x : Int} {f : FA} (hk : 0 ≤ k ∧ k ≤ 4) : fw (hset h a k x) a f = fw h a f := by
  refine mh_ext rfl (fun b j => ?_)
  by_cases eb : b = a
  · subst eb
    rw [fw_at, fw_at]
    by_cases e : j = 4 ∨ j = 3 ∨ j = 2 ∨ j = 1 ∨ j = 0
    · rcases e with e | e | e | e | e <;> subst e <;> rfl
    · rw [ne_k (by omega)]
  · rw [fw_ne eb, fw_ne eb, ne_a eb]
theorem hset_fw {h : MH} {a k x : Int} (hk : 0 ≤ k ∧ k ≤ 4) : hset h a k x = fw h a (fo (hset h a k x) a) := by
  have h1 := fw_self (h := hset h a k x) (a := a)
  rw [fw_hset hk] at h1
  exact h1.symm
section CT
variable {l : Launch} {G : JG} {h : MH} {a v y : Int} {Q : Int → MH → Prop} {E : Nat → Int → MH → Prop}
theorem c_cut (hG : gO G = true) (a0 : a ≠ 0) (na : isNb (fo h a)) (h1 : hv h a 0 = 1) (hv' : 0 ≤ v ∧ v ≤ 5) (hy : -32768 ≤ y ∧ y ≤ 32767) (hQ1 : mayf v (hv h a 1) (hv h a 2) y y ≠ 0 → Q 1 (fw h a (ctf v (fo h a) y))) (hQ0 : mayf v (hv h a 1) (hv h a 2) y y = 0 → Q 0 h) : S_X2_cut l G [(8, a), (0, v), (0, y)] h Q E := by
  obtain ⟨-, x1, x2, x3⟩ := na
  have x1' : -2147483648 ≤ hv h a 1 := x1
  have x2' : hv h a 1 ≤ hv h a 2 := x2
  have x3' : hv h a 2 ≤ 2147483647 := x3
  have s1 : ∀ z : Int, hset h a 1 z = fw h a (fv z (hv h a 2) (hv h a 3) (hv h a 4)) := by
    intro z
    rw [hset_fw (by decide)]
    congr 1
    unfold fo fv
    rw [eq_a, ne_k (by decide), ne_k (by decide), ne_k (by decide), ne_k (by decide), h1]
  have s2 : ∀ z : Int, hset h a 2 z = fw h a (fv (hv h a 1) z (hv h a 3) (hv h a 4)) := by
    intro z
    rw [hset_fw (by decide)]
    congr 1
    unfold fo fv
    rw [eq_a, ne_k (by decide), ne_k (by decide), ne_k (by decide), ne_k (by decide), h1]
  have s0 : h = fw h a (fv (hv h a 1) (hv h a 2) (hv h a 3) (hv h a 4)) := by
    have := fw_self (h := h) (a := a)
    unfold fo at this
    rw [h1] at this
    exact this.symm
  refine s_X2_cut rfl fun K ki => r_X2_cut_0 ki hG ⟨a0, a0, fun e => ⟨⟨fun e0 => ?_, fun e1 => ?_, fun e2 => ?_, fun e3 => ?_, fun e4 => ?_, trivial⟩, fun e5 => ?_⟩, fun e => ⟨Or.inl rfl, hQ0 e⟩⟩
  · have q := hQ1 e
    subst e0
    refine ⟨a0, fun g1 f1 => ⟨a0, fun g2 f2 => ⟨Or.inr rfl, ?_⟩⟩⟩
    have eg : g2 = fw h a (ctf 0 (fo h a) y) := by
      rw [f2, hset_fw (by decide), f1, fw_hset (by decide)]
      congr 1
      unfold fo ctf fv
      rw [if_pos rfl, eq_a, ne_k (by decide), ne_k (by decide), ne_k (by decide), eq_a, ne_k (by decide), ne_k (by decide), ne_k (by decide), ne_k (by decide), h1]
      rfl
    rw [eg]; exact q
  · have q := hQ1 e
    have ev : v = 1 := by omega
    subst ev
    have hc : ctf 1 (fo h a) y = fv (if hv h a 1 = y then hv h a 1 + 1 else hv h a 1) (if hv h a 2 = y then hv h a 2 - 1 else hv h a 2) (hv h a 3) (hv h a 4) := rfl
    rw [hc] at q
    refine ⟨a0, fun r1 => ⟨a0, fun r2 => ⟨Or.inr rfl, ?_⟩, fun r2 => ⟨a0, a0, fun g f => ⟨Or.inr rfl, ?_⟩⟩⟩, fun r1 => ⟨a0, a0, fun g f => ⟨Or.inr rfl, ?_⟩⟩⟩
    · rw [if_neg r1, if_neg r2, ← s0] at q
      exact q
    · rw [if_neg r1, if_pos r2] at q
      rw [f, w32_i (by omega) (by omega), s2]
      exact q
    · have r2 : ¬ hv h a 2 = y := by
        intro r
        refine e ?_
        unfold mayf
        rw [if_neg (by decide), if_pos rfl, if_pos (by omega)]
      rw [if_pos r1, if_neg r2] at q
      rw [f, w32_i (by omega) (by omega), s1]
      exact q
  · have q := hQ1 e
    have ev : v = 2 := by omega
    subst ev
    refine ⟨a0, a0, fun g f => ⟨Or.inr rfl, ?_⟩⟩
    rw [f, w32_i (by omega) (by omega), s2]
    exact q
  · have q := hQ1 e
    have ev : v = 3 := by omega
    subst ev
    refine ⟨a0, a0, fun g f => ⟨Or.inr rfl, ?_⟩⟩
    rw [f, s1]
    exact q
  · have q := hQ1 e
    have ev : v = 4 := by omega
    subst ev
    refine ⟨a0, a0, fun g f => ⟨Or.inr rfl, ?_⟩⟩
    rw [f, w32_i (by omega) (by omega), s1]
    exact q
  · have q := hQ1 e
    have ev : v = 5 := by omega
    subst ev
    refine ⟨a0, a0, fun g f => ⟨Or.inr rfl, ?_⟩⟩
    rw [f, s2]
    exact q
end CT
