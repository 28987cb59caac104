/-! Part 50i: what the component looks up in a program -/
theorem CP_ad {h : MH} {L : PG} {P : Int} (cp : CP h L P) : 523 ≤ P ∧ 523 ≤ hv h P 3 ∧ 523 ≤ hv h P 4 ∧ 523 ≤ hv h P 5 ∧ 523 ≤ hv h P 6 ∧ 523 ≤ hv h P 9 ∧ 523 ≤ hv h P 12 := by
  obtain ⟨q0, q1, ⟨a1, a2, a3⟩, ⟨b1, b2, b3⟩, c1, ⟨d1, d2, d3⟩, ⟨e1, e2, e3⟩, f1, f2, ⟨g1, -⟩, k1, k2⟩ := cp
  exact ⟨q0.1, a1.1, b1.1, c1.1.1, d1.1, e1.1, g1.1⟩
theorem CP_pa {h : MH} {L : PG} {P : Int} (cp : CP h L P) : hn h (hv h P 3) = 24 ∧ ∀ c, 1 ≤ c → c < 8 + pCl L → hv h (hv h P 3) c = pPa L c := cp.2.2.1.2
theorem CP_sc {h : MH} {L : PG} {P : Int} (cp : CP h L P) : hn h (hv h P 9) = 63 ∧ ∀ s, 1 ≤ s → s < pNt L → hv h (hv h P 9) s = pSc L s := cp.2.2.2.2.2.2.1.2
theorem CP_ms {h : MH} {L : PG} {P : Int} (cp : CP h L P) : hn h (hv h P 6) = pNm L ∧ ∀ m, 0 ≤ m → m < pNm L → CPm h L m (hv h (hv h P 6) m) := cp.2.2.2.2.2.1.2
theorem CP_nt {h : MH} {L : PG} {P : Int} (cp : CP h L P) : hv h P 8 = pNt L - 7 := cp.2.1.2.2
section LK
variable {l : Launch} {G : JG} {h : MH} {L : PG} {P : Int} {Q : Int → MH → Prop} {E : Nat → Int → MH → Prop}
theorem c_isOf (hG : gO G = true) (w : WF L) (cp : CP h L P) {c d : Int} (c0 : 0 ≤ c) (c1 : c < 8 + pCl L) (hQ : Q (if blw L 30 c d = true then 1 else 0) h) : S_X12_isOf l G [(2012, P), (0, c), (0, d)] h Q E := by
  have nn := w.n
  unfold WFn at nn
  obtain ⟨p1, p2⟩ := CP_pa cp
  have pa := CP_ad cp
  refine s_X12_isOf rfl fun K ki => ?_
  have key : ∀ (n : Nat) (k : Int), 0 ≤ k → k < n → k < 8 + pCl L → kQ K (if blw L n k d = true then 1 else 0) h → JW K 2 [(2012, P), (0, c), (0, d), (0, k)] [] h := by
    intro n
    induction n with
    | zero => intro k k0 k1; omega
    | succ n ih =>
      intro k k0 k1 k2 hq
      have e9 : kQ K = Q := ki.2.2.2.2.1
      refine r_X12_isOf_2 ki hG ⟨fun q => ⟨by omega, k0, by rw [p1]; omega, fun x ex => ?_⟩, fun q => ?_⟩
      · have kk1 : 1 ≤ k := by omega
        rw [p2 k kk1 k2] at ex
        have hp := w.c.2.1 k kk1 (by omega)
        subst ex
        refine ih _ hp.1 (by omega) (by omega) ?_
        unfold blw at hq
        rw [if_neg q.1, if_neg (show ¬ k ≤ 0 by omega)] at hq
        exact hq
      · have e : (if blw L (n + 1) k d = true then (1 : Int) else 0) = (if k = d then 1 else 0) := by
          unfold blw
          by_cases r : k = d
          · rw [if_pos r, if_pos rfl, if_pos r]
          · rw [if_neg r, if_pos (show k ≤ 0 by omega), if_neg r]
            rfl
        rw [e, e9] at hq
        refine ⟨?_, hq⟩
        split
        · exact Or.inr rfl
        · exact Or.inl rfl
  refine r_X12_isOf_0 ki hG fun x ex => ?_
  rw [ex]
  exact key 30 c c0 (by omega) c1 (by rw [show kQ K = Q from ki.2.2.2.2.1]; exact hQ)
theorem c_siteIsOf (hG : gO G = true) (w : WF L) (cp : CP h L P) {s c : Int} (s0 : 1 ≤ s) (s1 : s < pNt L) (hQ : Q (if isOf L s c = true then 1 else 0) h) : S_X12_siteIsOf l G [(2012, P), (0, s), (0, c)] h Q E := by
  have nn := w.n
  unfold WFn at nn
  obtain ⟨p1, p2⟩ := CP_sc cp
  have pa := CP_ad cp
  refine s_X12_siteIsOf rfl fun K ki => r_X12_siteIsOf_0 ki hG ⟨by omega, by omega, by rw [p1]; omega, fun x ex => ?_⟩
  rw [p2 s s0 s1] at ex
  subst ex
  unfold isOf at hQ
  refine ⟨fun q => ?_, fun q => ?_⟩
  · rw [if_neg (show ¬ pSc L s < 0 by omega)] at hQ
    have hs : pSc L s < 8 + pCl L := by
      by_cases e : s < 7
      · rw [w.s.1 s s0 e]; omega
      · exact (w.s.2 s (by omega) s1).2
    refine c_isOf hG w cp q hs ⟨?_, hQ⟩
    split
    · exact Or.inr rfl
    · exact Or.inl rfl
  · rw [if_pos q] at hQ
    have e : (if decide (c = 0) = true then (1 : Int) else 0) = if c = 0 then 1 else 0 := by
      by_cases r : c = 0 <;> simp [r]
    rw [e] at hQ
    refine ⟨?_, hQ⟩
    split
    · exact Or.inr rfl
    · exact Or.inl rfl
theorem c_ofClass (hG : gO G = true) (w : WF L) (cp : CP h L P) {x c : Int} (hQ : ∀ a, flt (fun s => isOf L s c) a (pNt L) x → Q a h) : S_X12_ofClass l G [(2012, P), (1, x), (0, c)] h Q E := by
  have nn := w.n
  unfold WFn at nn
  have nt := CP_nt cp
  refine s_X12_ofClass rfl fun K ki => r_X12_ofClass_0 ki hG ?_
  intro a ea n en; subst ea; subst en
  have wn : w32 (7 + hv h P 8) = pNt L := by rw [nt, w32_i (by omega) (by omega)]; omega
  have key : ∀ m : Nat, ∀ a n : Int, (pNt L - n).toNat ≤ m → 1 ≤ n → n ≤ pNt L → flt (fun s => isOf L s c) a n x → JW K 6 [(2012, P), (1, x), (5000, 0), (0, c), (1, a), (5000, 0), (0, n)] [] h := by
    intro m
    induction m with
    | zero =>
      intro a n b1 b2 b3 b4
      refine r_X12_ofClass_6 ki hG ⟨fun q => hQ a ?_, fun q => by rw [wn] at q; omega⟩
      rw [show pNt L = n by omega]; exact b4
    | succ m ih =>
      intro a n b1 b2 b3 b4
      refine r_X12_ofClass_6 ki hG ⟨fun q => hQ a ?_, fun q => ⟨?_, ?_⟩⟩
      · rw [wn] at q
        rw [show pNt L = n by omega]; exact b4
      · rw [wn] at q
        intro z n' en
        rw [lc_eq, l_bit (by omega) (by omega)] at z
        have zb : bl x n = false := by cases r : bl x n <;> simp_all
        subst en
        rw [w32_i (by omega) (by omega)]
        refine ih _ _ (by omega) (by omega) (by omega) ?_
        have := flt_step (b := 0) b2 (by omega) b4 (by unfold c64; omega) (fun i hi => by
          rw [bl_zero]
          by_cases e : i = n
          · subst e; rw [zb]; simp
          · simp [e])
        rwa [show l_or a 0 = a from bl_ext (c64_l_or _ _) b4.1 (fun i _ _ => by rw [bl_or, bl_zero, Bool.or_false])] at this
      · rw [wn] at q
        intro z
        rw [lc_eq, l_bit (by omega) (by omega)] at z
        have zb : bl x n = true := by cases r : bl x n <;> simp_all
        refine c_siteIsOf hG w cp b2 q ⟨fun e0 n' en => ?_, fun e0 a' ea n' en => ?_⟩
        · have r : isOf L n c = false := by cases r : isOf L n c <;> simp_all
          subst en
          rw [w32_i (by omega) (by omega)]
          refine ih _ _ (by omega) (by omega) (by omega) ?_
          have := flt_step (b := 0) b2 (by omega) b4 (by unfold c64; omega) (fun i hi => by
            rw [bl_zero]
            by_cases e : i = n
            · subst e; rw [r]; simp
            · simp [e])
          rwa [show l_or a 0 = a from bl_ext (c64_l_or _ _) b4.1 (fun i _ _ => by rw [bl_or, bl_zero, Bool.or_false])] at this
        · have r : isOf L n c = true := by cases r : isOf L n c <;> simp_all
          subst ea; subst en
          rw [w32_i (by omega) (by omega)]
          refine ih _ _ (by omega) (by omega) (by omega) (flt_step b2 (by omega) b4 (c64_l_shl _ _) (fun i hi => ?_))
          rw [bl_shl (show 0 ≤ n by omega) (show n < 64 by omega) hi]
          by_cases e : i = n
          · subst e; simp [r, zb]
          · simp [e]
  refine key _ _ _ (Nat.le_refl _) (by omega) (by omega) ⟨by unfold c64; omega, fun i hi => ?_⟩
  rw [bl_zero, decide_eq_false (by omega)]; rfl
theorem c_named (hG : gO G = true) (w : WF L) (cp : CP h L P) {nm : Int} (hQ : (wnm L nm = -1 → Q 0 h) ∧ (0 ≤ wnm L nm → wnm L nm < pNm L → Q (hv h (hv h P 6) (wnm L nm)) h)) : S_X12_named l G [(2012, P), (0, nm)] h Q E := by
  have nn := w.n
  unfold WFn at nn
  obtain ⟨p1, p2⟩ := CP_ms cp
  have pa := CP_ad cp
  refine s_X12_named rfl fun K ki => ?_
  have key : ∀ m : Nat, ∀ k : Int, (pNm L - k).toNat ≤ m → 0 ≤ k → k ≤ pNm L → frm (fun m => !decide (pOw L m = 255) && decide (pNa L m = nm)) (pNm L - k).toNat k = wnm L nm → JW K 2 [(2012, P), (0, nm), (0, k)] [] h := by
    intro m
    induction m with
    | zero =>
      intro k b1 b2 b3 b4
      refine r_X12_named_2 ki hG ⟨by omega, fun q => ?_, fun q => by rw [p1] at q; omega⟩
      rw [frm_end _ (by omega)] at b4
      exact hQ.1 b4.symm
    | succ m ih =>
      intro k b1 b2 b3 b4
      refine r_X12_named_2 ki hG ⟨by omega, fun q => ?_, fun q => ?_⟩
      · rw [p1] at q
        rw [frm_end _ (by omega)] at b4
        exact hQ.1 b4.symm
      · rw [p1] at q
        obtain ⟨m0, ⟨m1, m2, m3, -⟩, -⟩ := p2 k b2 q
        have ma := m0.1
        rw [frm_step _ q] at b4
        rw [m2, m3]
        refine ⟨by omega, b2, by rw [p1]; exact q, by omega, fun _ => ⟨by omega, b2, by rw [p1]; exact q, by omega⟩, fun e => ⟨by omega, b2, by rw [p1]; exact q, ?_⟩, fun e x ex => ?_⟩
        · rw [if_pos (by simp [e.1, e.2])] at b4
          have := hQ.2 (by rw [← b4]; exact b2) (by rw [← b4]; exact q)
          rwa [← b4] at this
        · rw [w32_i (by omega) (by omega)] at ex
          subst ex
          rw [if_neg (by simp; intro e1 e2; exact e ⟨e1, e2⟩)] at b4
          exact ih (k + 1) (by omega) (by omega) (by omega) b4
  refine r_X12_named_0 ki hG fun x ex => ?_
  subst ex
  refine key _ 0 (Nat.le_refl _) (by decide) (by omega) ?_
  unfold wnm
  rw [Int.sub_zero]
end LK
