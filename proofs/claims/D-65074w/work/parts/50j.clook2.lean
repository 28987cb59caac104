/-! Part 50j: lookups, on -/
section LJ
variable {l : Launch} {G : JG} {h : MH} {L : PG} {P : Int} {Q : Int → MH → Prop} {E : Nat → Int → MH → Prop}
theorem c_arrays (hG : gO G = true) (w : WF L) (cp : CP h L P) {x kd : Int} (hk : kd = 0 ∨ kd = 1) (hQ : ∀ a, flt (fun s => decide (pSc L s = -1 - kd)) a (pNt L) x → Q a h) : S_X12_arrays l G [(2012, P), (1, x), (0, kd)] h Q E := by
  have nn := w.n
  unfold WFn at nn
  have nt := CP_nt cp
  obtain ⟨p1, p2⟩ := CP_sc cp
  have pa := CP_ad cp
  refine s_X12_arrays rfl fun K ki => r_X12_arrays_0 ki hG ?_
  intro a ea n en; subst ea; subst en
  have wn : w32 (7 + hv h P 8) = pNt L := by rw [nt, w32_i (by omega) (by omega)]; omega
  have ek : (if kd = 0 then (-1) else (-2) : Int) = -1 - kd := by
    rcases hk with e | e <;> subst e <;> decide
  have same : ∀ (a n : Int), 1 ≤ n → n < 63 → flt (fun s => decide (pSc L s = -1 - kd)) a n x → (bl x n = false ∨ ¬ pSc L n = -1 - kd) → flt (fun s => decide (pSc L s = -1 - kd)) a (n + 1) x := by
    intro a n b2 b3 b4 b5
    have := flt_step (b := 0) b2 b3 b4 (by unfold c64; omega) (fun i hi => by
      rw [bl_zero]
      by_cases e : i = n
      · subst e
        rcases b5 with r | r
        · rw [r]; simp
        · simp [r]
      · simp [e])
    rwa [show l_or a 0 = a from bl_ext (c64_l_or _ _) b4.1 (fun i _ _ => by rw [bl_or, bl_zero, Bool.or_false])] at this
  have key : ∀ m : Nat, ∀ a n : Int, (pNt L - n).toNat ≤ m → 7 ≤ n → n ≤ pNt L → flt (fun s => decide (pSc L s = -1 - kd)) a n x → JW K 7 [(2012, P), (1, x), (5000, 0), (0, kd), (1, a), (5000, 0), (0, n)] [] h := by
    intro m
    induction m with
    | zero =>
      intro a n b1 b2 b3 b4
      refine r_X12_arrays_7 ki hG ⟨fun q => hQ a ?_, fun q => by rw [wn] at q; omega⟩
      rw [show pNt L = n by omega]; exact b4
    | succ m ih =>
      intro a n b1 b2 b3 b4
      refine r_X12_arrays_7 ki hG ⟨fun q => hQ a ?_, fun q => ⟨?_, ?_⟩⟩
      · rw [wn] at q
        rw [show pNt L = n by omega]; exact b4
      · rw [wn] at q
        intro z n' en
        rw [lc_eq, l_bit (by omega) (by omega)] at z
        have zb : bl x n = false := by cases r : bl x n <;> simp_all
        subst en
        rw [w32_i (by omega) (by omega)]
        exact ih _ _ (by omega) (by omega) (by omega) (same a n (by omega) (by omega) b4 (Or.inl zb))
      · rw [wn] at q
        intro z
        rw [lc_eq, l_bit (by omega) (by omega)] at z
        have zb : bl x n = true := by cases r : bl x n <;> simp_all
        rw [p2 n (by omega) q, ek]
        refine ⟨by omega, by omega, by rw [p1]; omega, fun e0 n' en => ?_, fun e0 a' ea n' en => ?_⟩
        · subst en
          rw [w32_i (by omega) (by omega)]
          exact ih _ _ (by omega) (by omega) (by omega) (same a n (by omega) (by omega) b4 (Or.inr e0))
        · subst ea; subst en
          rw [w32_i (by omega) (by omega)]
          refine ih _ _ (by omega) (by omega) (by omega) (flt_step (by omega) (by omega) b4 (c64_l_shl _ _) (fun i hi => ?_))
          rw [bl_shl (show 0 ≤ n by omega) (show n < 64 by omega) hi]
          by_cases e : i = n
          · subst e; simp [e0, zb]
          · simp [e]
  refine key _ _ _ (Nat.le_refl _) (by omega) (by omega) ⟨by unfold c64; omega, fun i hi => ?_⟩
  rw [bl_zero]
  by_cases e : 1 ≤ i ∧ i < 7
  · dsimp only
    rw [show decide (pSc L i = -1 - kd) = false from decide_eq_false (by rw [w.s.1 i e.1 e.2]; omega)]
    simp
  · rw [decide_eq_false e]
    rfl
theorem c_find (hG : gO G = true) (w : WF L) (cp : CP h L P) {s nm : Int} (s0 : 1 ≤ s) (s1 : s < pNt L) (hQ : (sent L s nm = -1 → Q 0 h) ∧ (0 ≤ sent L s nm → sent L s nm < pNm L → Q (hv h (hv h P 6) (sent L s nm)) h)) : S_X12_find l G [(2012, P), (0, s), (0, nm)] h Q E := by
  have nn := w.n
  unfold WFn at nn
  obtain ⟨p1, p2⟩ := CP_ms cp
  obtain ⟨t1, t2⟩ := CP_sc cp
  obtain ⟨u1, u2⟩ := CP_pa cp
  have pa := CP_ad cp
  refine s_X12_find rfl fun K ki => ?_
  have outer : ∀ (n : Nat) (c : Int), 0 ≤ c → c < n → c < 8 + pCl L → sto L nm n c = sent L s nm → JW K 20 [(2012, P), (0, s), (0, nm), (0, c), (5000, 0)] [] h := by
    intro n
    induction n with
    | zero => intro c c0 c1; omega
    | succ n ihn =>
      intro c c0 c1 c2 es
      have inner : ∀ m : Nat, ∀ k : Int, (pNm L - k).toNat ≤ m → 0 ≤ k → k ≤ pNm L → frm (owns L c nm) (pNm L - k).toNat k = frm (owns L c nm) (pNm L).toNat 0 → JW K 23 [(2012, P), (0, s), (0, nm), (0, c), (0, k)] [] h := by
        have last : frm (owns L c nm) (pNm L).toNat 0 = -1 → (¬ c = 0 → hv h P 3 ≠ 0 ∧ 0 ≤ c ∧ c < hn h (hv h P 3) ∧ ∀ x : Int, x = hv h (hv h P 3) c → JW K 20 [(2012, P), (0, s), (0, nm), (0, x), (5000, 0)] [] h) ∧ (c = 0 → Q 0 h) := by
          intro e
          unfold sto at es
          rw [if_neg (by rw [e]; decide)] at es
          refine ⟨fun q => ⟨by omega, c0, by rw [u1]; omega, fun x ex => ?_⟩, fun q => ?_⟩
          · rw [u2 c (by omega) c2] at ex
            have hp := w.c.2.1 c (by omega) (by omega)
            subst ex
            rw [if_neg (show ¬ c ≤ 0 by omega)] at es
            exact ihn _ hp.1 (by omega) (by omega) es
          · rw [if_pos (show c ≤ 0 by omega)] at es
            exact hQ.1 es.symm
        intro m
        induction m with
        | zero =>
          intro k b1 b2 b3 b4
          rw [frm_end _ (by omega)] at b4
          exact r_X12_find_23 ki hG ⟨by omega, fun q => last b4.symm, fun q => by rw [p1] at q; omega⟩
        | succ m ih =>
          intro k b1 b2 b3 b4
          refine r_X12_find_23 ki hG ⟨by omega, fun q => ?_, fun q => ?_⟩
          · rw [p1] at q
            rw [frm_end _ (by omega)] at b4
            exact last b4.symm
          · rw [p1] at q
            obtain ⟨m0, ⟨m1, m2, m3, -⟩, -⟩ := p2 k b2 q
            have ma := m0.1
            rw [frm_step _ q] at b4
            rw [m2, m3]
            refine ⟨by omega, b2, by rw [p1]; exact q, by omega, fun _ => ⟨by omega, b2, by rw [p1]; exact q, by omega⟩, fun e => ⟨by omega, b2, by rw [p1]; exact q, ?_⟩, fun e x ex => ?_⟩
            · rw [if_pos (by unfold owns; simp [e.1, e.2])] at b4
              unfold sto at es
              rw [← b4, if_pos b2] at es
              have := hQ.2 (by rw [← es]; exact b2) (by rw [← es]; exact q)
              rwa [← es] at this
            · rw [w32_i (by omega) (by omega)] at ex
              subst ex
              rw [if_neg (by unfold owns; simp; intro e1 e2; exact e ⟨e1, e2⟩)] at b4
              exact ih (k + 1) (by omega) (by omega) (by omega) b4
      refine r_X12_find_20 ki hG fun x ex => ?_
      subst ex
      refine inner _ 0 (Nat.le_refl _) (by decide) (by omega) ?_
      rw [Int.sub_zero]
  have sc := w.sc s0 s1
  refine r_X12_find_0 ki hG ⟨by omega, by omega, by rw [t1]; omega, fun _ => ⟨by omega, by omega, by rw [t1]; omega⟩, fun x ex => ?_⟩
  rw [t2 s s0 s1] at ex
  have hs : pSc L s < 8 + pCl L := by
    by_cases e : s < 7
    · rw [w.s.1 s s0 e]; omega
    · exact (w.s.2 s (by omega) s1).2
  rw [ex]
  refine outer 30 _ ?_ ?_ ?_ rfl
  · split <;> omega
  · split <;> omega
  · split <;> omega
end LJ
