/-! Part 40e: the twin reads methods -/
set_option maxRecDepth 100000
section
variable {l : Launch} {G : JG} {A n : Int} {B : Int → Int} {h0 h : MH} {p : Int} {L : PG} {E : Nat → Int → MH → Prop} {K : Int → PG → Prop} {X : Int → Prop}
theorem t_areAlike (hG : gO G = true) {a b : Int} (r : RDS A n h0 h p L) (ha : 0 ≤ a ∧ a < 40) (hb : 0 ≤ b ∧ b < 40) (l7 : 0 ≤ L 7 a ∧ L 7 a ≤ 8) {Q : Int → MH → Prop} (hQ : ∀ z, (z = 0 ∨ z = 1) → (¬ z = 0 ↔ alk L a b) → Q z h) : S_X9_areAlike l G [(14, A), (0, a), (0, b)] h Q E := by
  refine s_X9_areAlike rfl fun K1 ki => r_X9_areAlike_0 ki hG ?_
  have ne := r.ne
  rw [r.at 7 a (by decide) (by decide), r.at 7 b (by decide) (by decide), r.at 8 a (by decide) (by decide), r.at 8 b (by decide) (by decide)]
  refine ⟨ne, ha.1, ha.2, ne, hb.1, hb.2, fun _ => ⟨ne, ha.1, ha.2, ne, hb.1, hb.2⟩, fun x3 e3 x4 e4 => ?_⟩
  have key : ∀ N : Nat, ∀ v j : Int, (L 7 a - j).toNat ≤ N → 0 ≤ j → j ≤ L 7 a → (v = 0 ∨ v = 1) → (¬ v = 0 → L 7 a = L 7 b ∧ L 8 a = L 8 b ∧ ∀ i, 0 ≤ i → i < j → L 10 (8 * a + i) = L 10 (8 * b + i)) → (v = 0 → ¬ alk L a b) → JW K1 39 [(14, A), (0, a), (0, b), (0, v), (0, j)] [] h := by
    intro N
    induction N with
    | zero =>
      intro v j hN j0 j1 v01 h1 h2
      refine r_X9_areAlike_39 ki hG ⟨ne, ha.1, ha.2, fun c => ?_, fun c => ⟨v01, hQ v v01 ⟨fun z => ?_, fun z w => h2 w z⟩⟩⟩
      · rw [r.at 7 a (by decide) (by decide)] at c; omega
      · have q := h1 z
        exact ⟨q.1, q.2.1, fun i i0 i1 => q.2.2 i i0 (by omega)⟩
    | succ N ih =>
      intro v j hN j0 j1 v01 h1 h2
      by_cases ej : j = L 7 a
      · exact ih v j (by omega) j0 j1 v01 h1 h2
      refine r_X9_areAlike_39 ki hG ⟨ne, ha.1, ha.2, fun c => ?_, fun c => ⟨v01, hQ v v01 ⟨fun z => ?_, fun z w => h2 w z⟩⟩⟩
      · rw [w32_i (z := 8 * a) (by omega) (by omega), w32_i (z := 8 * a + j) (by omega) (by omega), w32_i (z := 8 * b) (by omega) (by omega), w32_i (z := 8 * b + j) (by omega) (by omega)]
        refine ⟨ne, by omega, by omega, ne, by omega, by omega, fun x3 e3 x4 e4 => ?_⟩
        rw [r.at 10 _ (by decide) (by decide), r.at 10 _ (by decide) (by decide)] at e3
        rw [w32_i (by omega) (by omega)] at e4
        subst e4
        have q := h1 c.2
        by_cases d : L 10 (8 * a + j) = L 10 (8 * b + j)
        · rw [if_pos d] at e3
          refine ih x3 (j + 1) (by omega) (by omega) (by omega) (Or.inr e3) (fun _ => ⟨q.1, q.2.1, fun i i0 i1 => ?_⟩) (fun w => by omega)
          by_cases ei : i = j
          · rw [ei]; exact d
          · exact q.2.2 i i0 (by omega)
        · rw [if_neg d] at e3
          refine ih x3 (j + 1) (by omega) (by omega) (by omega) (Or.inl e3) (fun w => absurd e3 w) (fun _ w => d (w.2.2 j j0 (by omega)))
      · rw [r.at 7 a (by decide) (by decide)] at c
        exact absurd ⟨by omega, z⟩ c
  rw [e4]
  refine key _ x3 0 (Nat.le_refl _) (by decide) l7.1 ?_ (fun z => ?_) (fun z w => ?_)
  · rw [e3]; split
    · split
      · exact Or.inr rfl
      · exact Or.inl rfl
    · exact Or.inl rfl
  · rw [e3] at z
    by_cases c : L 7 a = L 7 b
    · rw [if_pos c] at z
      by_cases d : L 8 a = L 8 b
      · exact ⟨c, d, fun i i0 i1 => by omega⟩
      · rw [if_neg d] at z; exact absurd rfl z
    · rw [if_neg c] at z; exact absurd rfl z
  · rw [e3, if_pos w.1, if_pos w.2.1] at z
    omega
/-- rows of all methods but one, and of what is read before methods, stay -/
theorem t_readMethod (hG : gO G = true) {m : Int} (r : RDS A n h0 h p L) (b : RDB B n h0) (z0 : 455 ≤ hz h0) (nk : nok L m) (l21 : L 0 21 ≤ 1500) (l7 : ∀ k, 0 ≤ k → k < m → 0 ≤ L 7 k ∧ L 7 k ≤ 4) (hX : ∀ e, X e → ∀ a h', FLT A h0 h' a e → E 17 a h') (hr : prs (rdM B n m p L) K X) {Q : Int → MH → Prop}
    (hQ : ∀ p' L' h', K p' L' → RDS A n h0 h' p' L' → Q 0 h') : S_X9_readMethod l G [(2009, 396), (14, A), (0, m)] h Q E := by
  have nk' := nk
  obtain ⟨n1, n2, n3, n4, n5, n6, n7⟩ := nk'
  have ne := r.ne
  refine s_X9_readMethod rfl fun K1 ki => r_X9_readMethod_0 ki hG ⟨ne, n6.1, n6.2, fun h1 e1 => ?_⟩
  rw [r.p] at e1
  have r1 := r.set (o := 16) (i := m) (v := p) (by decide) (by decide)
  rw [← e1] at r1
  unfold rdM at hr
  refine t_take0 hG r1 b z0 hX hr fun _ c0 c1 hr1 h3 r3 => ?_
  intro x3 e3
  subst e3
  generalize hc : B p = c at *
  have hr1' := prs_if hr1
  have s00 : hv h3 A 0 = L 0 0 := by rw [r3.sc, m_ne (by omega)]
  rw [s00, w32_i (z := 8 + L 0 0) (by omega) (by omega)]
  refine ⟨fun _ => ne, fun d => ?_, fun d => ?_⟩
  · exact t_fltp hG r3 b z0 (by omega) (by decide) (hX _ (hr1'.1 d))
  refine ⟨ne, n6.1, n6.2, fun h8 e8 x4 e4 => ⟨ne, ?_⟩⟩
  have r8 := r3.set (o := 5) (i := m) (v := c) (by decide) (by decide)
  rw [← e8] at r8
  rw [r8.p] at e4
  subst e4
  refine t_take2 hG r8 b z0 hX (hr1'.2 d) fun _ _ _ nm0 nm1 hr2 h11 r11 => ⟨n6.1, n6.2, fun h12 e12 x5 e5 => ?_⟩
  generalize hnm : B (p + 1) = nm at *
  have r12 := r11.set (o := 6) (i := m) (v := nm) (by decide) (by decide)
  rw [← e12] at r12
  rw [show p + 1 + 1 = p + 2 by omega] at r12
  have hr2' := prs_cif hr2
  -- handlers
  have hdl : ∀ N : Nat, ∀ (j p : Int) (L : PG) (h : MH) (v4 : Int), j = L 12 m - N → 0 ≤ j → L 12 m ≤ 4 → (1 ≤ L 14 m ∧ L 14 m ≤ 120) → (0 ≤ L 0 0 ∧ L 0 0 ≤ 16) → RDS A n h0 h p L → prs (rep (rdH B n m) N j p L) (fun p'' L'' => prs (.ok (p'', mset L'' 17 m p'')) K X) X →
      JW K1 506 [(2009, 396), (14, A), (0, m), (0, c), (0, v4), (0, j), (5000, 0)] [] h := by
    intro N
    induction N with
    | zero =>
      intro j p L h v4 ej j0 l12 l14 l0 r hr
      refine r_X9_readMethod_506 ki hG ⟨ne, n6.1, n6.2, fun _ => ⟨ne, n6.1, n6.2, fun h1 e1 => ?_⟩, fun y => ?_⟩
      · rw [r.p] at e1
        have r1 := r.set (o := 17) (i := m) (v := p) (by decide) (by decide)
        rw [← e1] at r1
        exact hQ p _ h1 hr r1
      · rw [r.at 12 m (by decide) (by decide)] at y; omega
    | succ N ih =>
      intro j p L h v4 ej j0 l12 l14 l0 r hr
      refine r_X9_readMethod_506 ki hG ⟨ne, n6.1, n6.2, fun y => ?_, fun y x6 e6 => ⟨ne, ?_⟩⟩
      · rw [r.at 12 m (by decide) (by decide)] at y; omega
      rw [rep_s, prs_bnd] at hr
      unfold rdH at hr
      rw [w32_i (z := 16 * m) (by omega) (by omega), w32_i (z := 4 * j) (by omega) (by omega), w32_i (by omega) (by omega)] at e6
      have w1 : w32 (x6 + 1) = x6 + 1 := w32_i (by omega) (by omega)
      have w2 : w32 (x6 + 2) = x6 + 2 := w32_i (by omega) (by omega)
      have w3 : w32 (x6 + 3) = x6 + 3 := w32_i (by omega) (by omega)
      rw [← e6] at hr
      refine t_take0 hG r b z0 hX hr fun _ a0 a1 hr1 h4 r4 => ⟨by omega, by omega, fun h5 e5 => ⟨ne, ?_⟩⟩
      generalize B p = a at *
      have r5 := r4.set (o := 13) (i := x6) (v := a) (by decide) (by decide)
      rw [← e5] at r5
      refine t_take0 hG r5 b z0 hX hr1 fun _ b0 b1 hr2 h7 r7 => ?_
      generalize B (p + 1) = bb at *
      rw [w1]
      refine ⟨by omega, by omega, fun h8 e8 => ?_⟩
      have r8 := r7.set (o := 13) (i := x6 + 1) (v := bb) (by decide) (by decide)
      rw [← e8] at r8
      rw [show p + 1 + 1 = p + 2 by omega] at r8
      have ha : hv h8 (A + 13) x6 = a := by rw [r8.at 13 _ (by decide) (by decide), m_ne (by omega), m_eq]
      have hb : hv h8 (A + 13) (x6 + 1) = bb := by rw [r8.at 13 _ (by decide) (by decide), m_eq]
      have h14 : hv h8 (A + 14) m = L 14 m := by rw [r8.at 14 _ (by decide) (by decide), m_ne (by omega), m_ne (by omega)]
      rw [ha, hb, h14]
      have hr2' := prs_if hr2
      refine ⟨ne, by omega, by omega, ne, by omega, by omega, fun _ => ⟨ne, by omega, by omega, ne, n6.1, n6.2⟩, fun d => ?_, fun d => ⟨ne, ne, n6.1, n6.2, ?_⟩⟩
      · exact t_fltp hG r8 b z0 (by omega) (by decide) (hX _ (hr2'.1 d))
      rw [w32_i (z := L 14 m - 1) (by omega) (by omega)]
      refine t_take2 hG r8 b z0 hX (hr2'.2 d) fun _ _ _ c0 c1 hr3 h13 r13 => ?_
      generalize B (p + 2) = cc at *
      rw [w2]
      refine ⟨by omega, by omega, fun h14' e14 => ⟨ne, ne, ?_⟩⟩
      have r14 := r13.set (o := 13) (i := x6 + 2) (v := cc) (by decide) (by decide)
      rw [← e14] at r14
      rw [show p + 2 + 1 = p + 3 by omega] at r14
      have h00 : hv h14' A 0 = L 0 0 := by rw [r14.sc, m_ne (by omega), m_ne (by omega), m_ne (by omega)]
      rw [h00, w32_i (z := 7 + L 0 0) (by omega) (by omega)]
      refine t_take2 hG r14 b z0 hX hr3 fun _ _ _ d0 d1 hr4 h16 r16 => ?_
      generalize B (p + 3) = dd at *
      rw [w3]
      refine ⟨by omega, by omega, fun h17 e17 x ex => ?_⟩
      have r17 := r16.set (o := 13) (i := x6 + 3) (v := dd) (by decide) (by decide)
      rw [← e17] at r17
      rw [show p + 3 + 1 = p + 4 by omega] at r17
      rw [w32_i (by omega) (by omega)] at ex
      subst ex
      have nm : ∀ o i, o ≠ 13 → mset (mset (mset (mset L 13 x6 a) 13 (x6 + 1) bb) 13 (x6 + 2) cc) 13 (x6 + 3) dd o i = L o i := fun o i q => by
        rw [m_ne (by omega), m_ne (by omega), m_ne (by omega), m_ne (by omega)]
      refine ih (j + 1) (p + 4) _ h17 v4 ?_ (by omega) ?_ ?_ ?_ r17 hr4
      · rw [nm _ _ (by decide)]; omega
      · rw [nm _ _ (by decide)]; exact l12
      · rw [nm _ _ (by decide)]; exact l14
      · rw [nm _ _ (by decide)]; exact l0
  -- instructions
  have ins : ∀ N : Nat, ∀ (j p : Int) (L : PG) (h : MH) (v4 : Int), j = L 14 m - N → 0 ≤ j → (0 ≤ L 12 m ∧ L 12 m ≤ 4) → L 0 21 + N ≤ 1500 → nok L m → (0 ≤ L 9 m ∧ L 9 m ≤ 8) → (1 ≤ L 14 m ∧ L 14 m ≤ 120) → RDS A n h0 h p L → prs (rep (rdI B n m) N j p L) (fun p' L' => prs (bnd (rep (rdH B n m) (L 12 m).toNat 0 p' L') fun p'' L'' => .ok (p'', mset L'' 17 m p'')) K X) X →
      JW K1 480 [(2009, 396), (14, A), (0, m), (0, c), (0, v4), (0, j), (5000, 0)] [] h := by
    intro N
    induction N with
    | zero =>
      intro j p L h v4 ej j0 l12 l21 nk l9 l14 r hr
      refine r_X9_readMethod_480 ki hG ⟨ne, n6.1, n6.2, fun _ x ex => ?_, fun y => ?_⟩
      · subst ex
        have hr' : prs (bnd (rep (rdH B n m) (L 12 m).toNat 0 p L) fun p'' L'' => .ok (p'', mset L'' 17 m p'')) K X := hr
        rw [prs_bnd] at hr'
        exact hdl (L 12 m).toNat 0 p L h v4 (by omega) (by decide) l12.2 l14 nk.1 r hr'
      · rw [r.at 14 m (by decide) (by decide)] at y; omega
    | succ N ih =>
      intro j p L h v4 ej j0 l12 l21 nk l9 l14 r hr
      refine r_X9_readMethod_480 ki hG ⟨ne, n6.1, n6.2, fun y => ?_, fun y => ?_⟩
      · rw [r.at 14 m (by decide) (by decide)] at y; omega
      rw [rep_s, prs_bnd] at hr
      refine t_readInstruction (K := fun p' L' => (∃ op x y z : Int, ¬ ((op = 20 ∨ op = 21) ∧ L 0 30 = 63) ∧ L' = inL (scL (siL L op) op x (L 0 21)) (L 0 21) m p op x y z) ∧ prs (rep (rdI B n m) N (j + 1) p' L') (fun p' L' => prs (bnd (rep (rdH B n m) (L 12 m).toNat 0 p' L') fun p'' L'' => .ok (p'', mset L'' 17 m p'')) K X) X) hG r b z0 nk ⟨l9, l14, by omega⟩ hX ?_ ?_ (i := j)
      · -- what an instruction leaves
        refine prs_mono hr (fun p' L' e q => ⟨?_, q⟩) (fun _ q => q)
        unfold rdI tkC at e
        by_cases t1 : n ≤ p
        · rw [if_pos t1] at e; cases e
        rw [if_neg t1] at e
        by_cases t2 : 0 ≤ B p ∧ B p ≤ 36
        case neg => rw [if_neg t2] at e; cases e
        rw [if_pos t2] at e
        try dsimp only at e
        by_cases t3 : (B p = 20 ∨ B p = 21) ∧ L 0 30 = 63
        · rw [if_pos t3] at e; cases e
        rw [if_neg t3] at e
        by_cases t4 : n ≤ p + 1
        · rw [if_pos t4] at e; cases e
        rw [if_neg t4] at e
        by_cases t5 : 0 ≤ B (p + 1) ∧ B (p + 1) ≤ moX L m (B p)
        case neg => rw [if_neg t5] at e; cases e
        rw [if_pos t5] at e
        try dsimp only at e
        by_cases t6 : B p = 17 ∧ L 9 m ≤ B (p + 1) % 8
        · rw [if_pos t6] at e; cases e
        rw [if_neg t6] at e
        unfold tk2 at e
        by_cases t7 : n ≤ p + 2 + 1
        · rw [if_pos t7] at e; cases e
        rw [if_neg t7] at e
        try dsimp only at e
        by_cases t8 : goodY L (B p) (B (p + 1)) (s16 (B (p + 2)) (B (p + 2 + 1)))
        case neg => rw [cif_n t8] at e; cases e
        rw [cif_p t8] at e
        by_cases t9 : n ≤ p + 4 + 1
        · rw [if_pos t9] at e; cases e
        rw [if_neg t9] at e
        try dsimp only at e
        by_cases t10 : goodZ L m (B p) (s16 (B (p + 2)) (B (p + 2 + 1))) (s16 (B (p + 4)) (B (p + 4 + 1)))
        case neg => rw [cif_n t10] at e; cases e
        rw [cif_p t10] at e
        cases e
        exact ⟨_, _, _, _, t3, rfl⟩
      · rintro p' L' h' ⟨⟨op, x, y, z, nf, eL⟩, hr'⟩ r' xx exx
        rw [w32_i (by omega) (by omega)] at exx
        subst exx
        have st : ∀ o i, o ≠ 19 → o ≠ 20 → o ≠ 21 → o ≠ 22 → o ≠ 23 → o ≠ 24 → o ≠ 25 → o ≠ 26 → ¬ (o = 0 ∧ (i = 21 ∨ i = 30)) → L' o i = L o i := by
          intro o i a1 a2 a3 a4 a5 a6 a7 a8 a9
          rw [eL]
          unfold inL
          rw [m_ne (by omega), m_ne (by omega), m_ne (by omega), m_ne (by omega), m_ne (by omega), m_ne (by omega), m_ne (by omega)]
          unfold scL
          split
          · rw [m_ne (by omega), siL_ne (by omega) (by omega)]
          · rw [siL_ne (by omega) (by omega)]
        have e21 : L' 0 21 = L 0 21 + 1 := by rw [eL]; exact m_eq
        have e30 : L' 0 30 = L 0 30 ∨ (L' 0 30 = L 0 30 + 1 ∧ L 0 30 ≠ 63) := by
          rw [eL]
          unfold inL
          rw [m_ne (by omega), m_ne (by omega), m_ne (by omega), m_ne (by omega), m_ne (by omega), m_ne (by omega), m_ne (by omega)]
          have : siL L op 0 30 = L 0 30 ∨ (siL L op 0 30 = L 0 30 + 1 ∧ L 0 30 ≠ 63) := by
            unfold siL
            by_cases q : op = 20 ∨ op = 21
            · rw [if_pos q, m_eq]; exact Or.inr ⟨rfl, fun w => nf ⟨q, w⟩⟩
            · rw [if_neg q, m_ne (by omega)]; exact Or.inl rfl
          unfold scL
          split
          · rw [m_ne (by omega)]; exact this
          · exact this
        obtain ⟨k1, k2, k3, k4, k5, k6, k7⟩ := nk
        have q12 : L' 12 m = L 12 m := st 12 m (by decide) (by decide) (by decide) (by decide) (by decide) (by decide) (by decide) (by decide) (by omega)
        have q14 : L' 14 m = L 14 m := st 14 m (by decide) (by decide) (by decide) (by decide) (by decide) (by decide) (by decide) (by decide) (by omega)
        have q9 : L' 9 m = L 9 m := st 9 m (by decide) (by decide) (by decide) (by decide) (by decide) (by decide) (by decide) (by decide) (by omega)
        have q00 : L' 0 0 = L 0 0 := st 0 0 (by decide) (by decide) (by decide) (by decide) (by decide) (by decide) (by decide) (by decide) (by omega)
        have q01 : L' 0 1 = L 0 1 := st 0 1 (by decide) (by decide) (by decide) (by decide) (by decide) (by decide) (by decide) (by decide) (by omega)
        have q06 : L' 0 6 = L 0 6 := st 0 6 (by decide) (by decide) (by decide) (by decide) (by decide) (by decide) (by decide) (by decide) (by omega)
        have q3 : ∀ c, L' 3 c = L 3 c := fun c => st 3 c (by decide) (by decide) (by decide) (by decide) (by decide) (by decide) (by decide) (by decide) (by omega)
        rw [← q12] at hr'
        refine ih (j + 1) p' L' h' v4 (by omega) (by omega) (by omega) (by omega) ⟨by omega, by omega, by omega, by omega, fun u u0 u1 => by rw [q3]; exact k5 u u0 u1, k6, by omega⟩ (by omega) (by omega) r' hr'
  -- kinds of locals
  have lcs : ∀ N : Nat, ∀ (j p : Int) (L : PG) (h : MH) (v4 : Int), j = L 9 m - N → 0 ≤ j → (0 ≤ L 9 m ∧ L 9 m ≤ 8) → (0 ≤ L 7 m ∧ L 7 m ≤ 4) → L 0 21 ≤ 1500 → nok L m → RDS A n h0 h p L → prs (rep (rdL B n m) N j p L) (fun p' L' => prs (rdM3 B n m p' L') K X) X →
      JW K1 317 [(2009, 396), (14, A), (0, m), (0, c), (0, v4), (0, j), (5000, 0)] [] h := by
    intro N
    induction N with
    | zero =>
      intro j p L h v4 ej j0 l9 l7 l21 nk r hr
      refine r_X9_readMethod_317 ki hG ⟨ne, n6.1, n6.2, fun _ => ⟨ne, ?_⟩, fun y => ?_⟩
      · have hr' : prs (rdM3 B n m p L) K X := hr
        unfold rdM3 at hr'
        refine t_take2 hG r b z0 hX hr' fun _ _ _ de0 de1 hr1 h2 r2 => ⟨n6.1, n6.2, fun h3 e3 => ⟨ne, ?_⟩⟩
        generalize B p = de at *
        have r3 := r2.set (o := 11) (i := m) (v := de) (by decide) (by decide)
        rw [← e3] at r3
        refine t_take2 hG r3 b z0 hX hr1 fun _ _ _ hn0 hn1 hr2 h5 r5 => ⟨n6.1, n6.2, fun h6 e6 => ⟨ne, ?_⟩⟩
        generalize B (p + 1) = hn at *
        have r6 := r5.set (o := 12) (i := m) (v := hn) (by decide) (by decide)
        rw [← e6] at r6
        rw [show p + 1 + 1 = p + 2 by omega] at r6
        refine t_take2 hG r6 b z0 hX hr2 fun _ _ _ co0 co1 hr3 h8 r8 => ⟨n6.1, n6.2, fun h9 e9 => ⟨ne, ne, n6.1, n6.2, ?_⟩⟩
        generalize B (p + 2) = co at *
        have r9 := r8.set (o := 14) (i := m) (v := co) (by decide) (by decide)
        rw [← e9] at r9
        rw [show p + 2 + 1 = p + 3 by omega] at r9
        have e21 : hv h9 A 21 = L 0 21 := by rw [r9.sc, m_ne (by omega), m_ne (by omega), m_ne (by omega)]
        have e14 : hv h9 (A + 14) m = co := by rw [r9.at 14 _ (by decide) (by decide), m_eq]
        have hr3' := prs_if hr3
        have k7 := nk.2.2.2.2.2.2
        rw [e21, e14, w32_i (z := L 0 21 + co) (by omega) (by omega)]
        refine ⟨fun y => ⟨ne, ne, n6.1, n6.2, fun h10 e10 x ex => ?_⟩, fun y => ?_⟩
        · subst ex
          have r10 := r9.set (o := 15) (i := m) (v := L 0 21) (by decide) (by decide)
          rw [← e10] at r10
          have hr4 := hr3'.2 (by omega)
          rw [prs_bnd] at hr4
          have nm : ∀ o i, ¬ ((o = 11 ∨ o = 12 ∨ o = 14 ∨ o = 15) ∧ i = m) → mset (mset (mset (mset L 11 m de) 12 m hn) 14 m co) 15 m (L 0 21) o i = L o i := fun o i q => by
            rw [m_ne (by omega), m_ne (by omega), m_ne (by omega), m_ne (by omega)]
          have m12 : mset (mset (mset (mset L 11 m de) 12 m hn) 14 m co) 15 m (L 0 21) 12 m = hn := by rw [m_ne (by omega), m_ne (by omega), m_eq]
          have m14 : mset (mset (mset (mset L 11 m de) 12 m hn) 14 m co) 15 m (L 0 21) 14 m = co := by rw [m_ne (by omega), m_eq]
          obtain ⟨k1, k2, k3, k4, k5, k6, k7⟩ := nk
          have q00 := nm 0 0 (by omega)
          have q01 := nm 0 1 (by omega)
          have q06 := nm 0 6 (by omega)
          have q30 := nm 0 30 (by omega)
          have q21 := nm 0 21 (by omega)
          have q9 := nm 9 m (by omega)
          have q3 : ∀ u, _ := fun u => nm 3 u (by omega)
          generalize hLL : mset (mset (mset (mset L 11 m de) 12 m hn) 14 m co) 15 m (L 0 21) = LL at *
          rw [← m12] at hr4
          refine ins co.toNat 0 (p + 3) LL h10 v4 (by omega) (by decide) (by omega) (by omega) ⟨by omega, by omega, by omega, by omega, fun u u0 u1 => by rw [q3]; exact k5 u u0 u1, k6, by omega⟩ (by omega) (by omega) r10 hr4
        · exact t_fltp hG r9 b z0 (by omega) (by decide) (hX _ (hr3'.1 (by omega)))
      · rw [r.at 9 m (by decide) (by decide)] at y; omega
    | succ N ih =>
      intro j p L h v4 ej j0 l9 l7 l21 nk r hr
      refine r_X9_readMethod_317 ki hG ⟨ne, n6.1, n6.2, fun y => ?_, fun y => ?_⟩
      · rw [r.at 9 m (by decide) (by decide)] at y; omega
      rw [rep_s, prs_bnd] at hr
      unfold rdL at hr
      refine t_take2 hG r b z0 hX hr fun _ _ _ v0 v1 hr1 h16 r16 => ?_
      intro x6 e6
      subst e6
      generalize B p = v at *
      have hr1' := prs_if hr1
      have w8 : w32 (w32 (8 * m) + j) = 8 * m + j := by rw [w32_i (z := 8 * m) (by omega) (by omega), w32_i (by omega) (by omega)]
      rw [w8, r16.at 7 m (by decide) (by decide), r16.at 10 _ (by decide) (by decide)]
      refine ⟨ne, n6.1, n6.2, fun _ => ⟨ne, by omega, by omega⟩, fun d => ?_, fun d => ⟨ne, by omega, by omega, fun h21 e21 x ex => ?_⟩⟩
      · exact t_fltp hG r16 b z0 (by omega) (by decide) (hX _ (hr1'.1 d))
      · have r21 := r16.set (o := 10) (i := 8 * m + j) (v := v) (by decide) (by decide)
        rw [← e21] at r21
        rw [w32_i (by omega) (by omega)] at ex
        subst ex
        obtain ⟨k1, k2, k3, k4, k5, k6, k7⟩ := nk
        refine ih (j + 1) (p + 1) _ h21 v4 (by rw [m_ne (by omega)]; omega) (by omega) (by rw [m_ne (by omega)]; exact l9) (by rw [m_ne (by omega)]; exact l7) (by rw [m_ne (by omega)]; exact l21) ⟨?_, ?_, ?_, ?_, fun u u0 u1 => ?_, k6, ?_⟩ r21 (hr1'.2 d)
        · rw [m_ne (by omega)]; exact k1
        · rw [m_ne (by omega)]; exact k2
        · rw [m_ne (by omega)]; exact k3
        · rw [m_ne (by omega)]; exact k4
        · rw [m_ne (by omega)]; exact k5 u u0 u1
        · rw [m_ne (by omega)]; exact k7
  -- whether it is like those of its name
  have lik : ∀ N : Nat, ∀ (j p gi : Int) (L : PG) (h : MH) (v4 : Int), (m - j).toNat ≤ N → 0 ≤ j → j ≤ m → L 5 m = c → (∀ k, 0 ≤ k → k ≤ m → 0 ≤ L 7 k ∧ L 7 k ≤ 4) → L 0 21 ≤ 1500 → nok L m → RDS A n h0 h (p + 1) L →
      (∀ k, 0 ≤ k → k < j → ¬ (c ≠ 255 ∧ L 5 k ≠ 255 ∧ L 6 k = L 6 m ∧ ¬ alk L k m)) → prs (cif (c ≠ 255 ∧ ∃ k, 0 ≤ k ∧ k < m ∧ L 5 k ≠ 255 ∧ L 6 k = L 6 m ∧ ¬ alk L k m) (.error p) (tkC B n (L 7 m) 8 (p + 1) fun lc => bnd (rep (rdL B n m) lc.toNat 0 (p + 2) (mset L 9 m lc)) fun p' L' => rdM3 B n m p' L')) K X →
      JW K1 224 [(2009, 396), (14, A), (0, m), (0, c), (0, v4), (0, j), (5000, 0)] [] h := by
    intro N
    induction N with
    | zero =>
      intro j p gi L h v4 hN j0 j1 l5 l7 l21 nk r hn hr
      have ej : j = m := by omega
      have hr' := (prs_cif hr).2 (fun q => by
        obtain ⟨q1, k, k0, k1, k2⟩ := q
        exact hn k k0 (by omega) ⟨q1, k2⟩)
      refine r_X9_readMethod_224 ki hG ⟨fun _ => ⟨ne, ne, n6.1, n6.2, ?_⟩, fun y => by omega⟩
      rw [r.at 7 m (by decide) (by decide)]
      have l7m := l7 m n6.1 (Int.le_refl _)
      refine t_take2 hG r b z0 hX hr' fun _ _ _ lc0 lc1 hr1 h2 r2 => ⟨n6.1, n6.2, fun h3 e3 x ex => ?_⟩
      generalize B (p + 1) = lc at *
      have r3 := r2.set (o := 9) (i := m) (v := lc) (by decide) (by decide)
      rw [← e3] at r3
      rw [show p + 1 + 1 = p + 2 by omega] at r3
      subst ex
      rw [prs_bnd] at hr1
      obtain ⟨k1, k2, k3, k4, k5, k6, k7⟩ := nk
      refine lcs lc.toNat 0 (p + 2) _ h3 v4 (by rw [m_eq]; omega) (by decide) (by rw [m_eq]; omega) (by rw [m_ne (by omega)]; exact l7m) (by rw [m_ne (by omega)]; exact l21) ⟨?_, ?_, ?_, ?_, fun u u0 u1 => ?_, k6, ?_⟩ r3 hr1
      · rw [m_ne (by omega)]; exact k1
      · rw [m_ne (by omega)]; exact k2
      · rw [m_ne (by omega)]; exact k3
      · rw [m_ne (by omega)]; exact k4
      · rw [m_ne (by omega)]; exact k5 u u0 u1
      · rw [m_ne (by omega)]; exact k7
    | succ N ih =>
      intro j p gi L h v4 hN j0 j1 l5 l7 l21 nk r hn hr
      by_cases ej : j = m
      · exact ih j p gi L h v4 (by omega) j0 j1 l5 l7 l21 nk r hn hr
      have nxt : ¬ (c ≠ 255 ∧ L 5 j ≠ 255 ∧ L 6 j = L 6 m ∧ ¬ alk L j m) → ∀ x : Int, x = w32 (j + 1) → JW K1 224 [(2009, 396), (14, A), (0, m), (0, c), (0, v4), (0, x), (5000, 0)] [] h := by
        intro q x ex
        rw [w32_i (by omega) (by omega)] at ex
        subst ex
        refine ih (j + 1) p gi L h v4 (by omega) (by omega) (by omega) l5 l7 l21 nk r (fun k k0 k1 => ?_) hr
        by_cases ek : k = j
        · rw [ek]; exact q
        · exact hn k k0 (by omega)
      refine r_X9_readMethod_224 ki hG ⟨fun y => by omega, fun y => ?_⟩
      rw [r.at 5 j (by decide) (by decide), r.at 6 j (by decide) (by decide), r.at 6 m (by decide) (by decide)]
      refine ⟨fun _ => ⟨ne, j0, by omega, fun _ => ⟨ne, j0, by omega, ne, n6.1, n6.2⟩⟩, fun d => ?_, fun d => ?_⟩
      · refine t_areAlike hG r ⟨j0, by omega⟩ n6 (by have := l7 j j0 (by omega); omega) fun z z01 iz => ⟨fun z1 => ?_, fun z0' => ?_⟩
        · exact nxt (fun q => q.2.2.2 (iz.mp z1))
        · have bad : ¬ alk L j m := fun q => (iz.mpr q) z0'
          have hx := (prs_cif hr).1 ⟨d.1, j, j0, y, d.2.1, d.2.2, bad⟩
          exact t_fltp hG r b z0 (by omega) (by decide) (hX _ hx)
      · exact nxt (fun q => d ⟨q.1, q.2.1, q.2.2.1⟩)
  -- kinds of arguments
  have arg : ∀ N : Nat, ∀ (j p : Int) (L : PG) (h : MH) (v4 : Int), j = L 7 m - N → 0 ≤ j → L 5 m = c → (∀ k, 0 ≤ k → k ≤ m → 0 ≤ L 7 k ∧ L 7 k ≤ 4) → L 0 21 ≤ 1500 → nok L m → RDS A n h0 h p L → prs (rep (rdA B n m c) N j p L) (fun p' L' => prs (rdM2 B n m c p' L') K X) X →
      JW K1 158 [(2009, 396), (14, A), (0, m), (0, c), (0, v4), (0, j), (5000, 0)] [] h := by
    intro N
    induction N with
    | zero =>
      intro j p L h v4 ej j0 l5 l7 l21 nk r hr
      have hr' : prs (rdM2 B n m c p L) K X := hr
      unfold rdM2 at hr'
      refine r_X9_readMethod_158 ki hG ⟨ne, n6.1, n6.2, fun _ => ⟨ne, ?_⟩, fun y => ?_⟩
      · refine t_take2 hG r b z0 hX hr' fun _ _ _ gi0 gi1 hr1 h2 r2 => ⟨n6.1, n6.2, fun h3 e3 x ex => ?_⟩
        generalize B p = gi at *
        have r3 := r2.set (o := 8) (i := m) (v := gi) (by decide) (by decide)
        rw [← e3] at r3
        subst ex
        obtain ⟨k1, k2, k3, k4, k5, k6, k7⟩ := nk
        have e5 : ∀ k, mset L 8 m gi 5 k = L 5 k := fun k => m_ne (by omega)
        have e6 : ∀ k, mset L 8 m gi 6 k = L 6 k := fun k => m_ne (by omega)
        have e7 : ∀ k, mset L 8 m gi 7 k = L 7 k := fun k => m_ne (by omega)
        refine lik _ 0 p gi (mset L 8 m gi) h3 v4 (Nat.le_refl _) (by decide) n6.1 (by rw [e5]; exact l5) (fun k k0 k1 => by rw [e7]; exact l7 k k0 k1) (by rw [m_ne (by omega)]; exact l21) ⟨?_, ?_, ?_, ?_, fun u u0 u1 => ?_, k6, ?_⟩ r3 (fun k k0 k1 => by omega) ?_
        · rw [m_ne (by omega)]; exact k1
        · rw [m_ne (by omega)]; exact k2
        · rw [m_ne (by omega)]; exact k3
        · rw [m_ne (by omega)]; exact k4
        · rw [m_ne (by omega)]; exact k5 u u0 u1
        · rw [m_ne (by omega)]; exact k7
        · simp only [e5, e6, e7]
          exact hr1
      · rw [r.at 7 m (by decide) (by decide)] at y; omega
    | succ N ih =>
      intro j p L h v4 ej j0 l5 l7 l21 nk r hr
      have l7m := l7 m n6.1 (Int.le_refl _)
      rw [rep_s, prs_bnd] at hr
      unfold rdA at hr
      refine r_X9_readMethod_158 ki hG ⟨ne, n6.1, n6.2, fun y => ?_, fun y => ⟨ne, ?_⟩⟩
      · rw [r.at 7 m (by decide) (by decide)] at y; omega
      have elo : (if j = 0 then (if c = 255 then 0 else 1 : Int) else 0 : Int) = if j = 0 ∧ c ≠ 255 then 1 else 0 := by
        by_cases q1 : j = 0
        · rw [if_pos q1]
          by_cases q2 : c = 255
          · rw [if_pos q2, if_neg (fun w => w.2 q2)]
          · rw [if_neg q2, if_pos ⟨q1, q2⟩]
        · rw [if_neg q1, if_neg (fun w => q1 w.1)]
      rw [elo]
      refine t_take2 hG r b z0 hX hr fun _ _ _ v0 v1 hr1 h6 r6 => ?_
      generalize B p = v at *
      have w8 : w32 (w32 (8 * m) + j) = 8 * m + j := by rw [w32_i (z := 8 * m) (by omega) (by omega), w32_i (by omega) (by omega)]
      rw [w8]
      refine ⟨by omega, by omega, fun h7 e7 x ex => ?_⟩
      have r7 := r6.set (o := 10) (i := 8 * m + j) (v := v) (by decide) (by decide)
      rw [← e7] at r7
      rw [w32_i (by omega) (by omega)] at ex
      subst ex
      obtain ⟨k1, k2, k3, k4, k5, k6, k7⟩ := nk
      refine ih (j + 1) (p + 1) _ h7 v4 (by rw [m_ne (by omega)]; omega) (by omega) (by rw [m_ne (by omega)]; exact l5) (fun k k0 k1 => by rw [m_ne (by omega)]; exact l7 k k0 k1) (by rw [m_ne (by omega)]; exact l21) ⟨?_, ?_, ?_, ?_, fun u u0 u1 => ?_, k6, ?_⟩ r7 hr1
      · rw [m_ne (by omega)]; exact k1
      · rw [m_ne (by omega)]; exact k2
      · rw [m_ne (by omega)]; exact k3
      · rw [m_ne (by omega)]; exact k4
      · rw [m_ne (by omega)]; exact k5 u u0 u1
      · rw [m_ne (by omega)]; exact k7
  -- whether its name is taken
  generalize hLL : mset (mset (mset L 16 m p) 5 m c) 6 m nm = LL at *
  have eLo : ∀ o i, ¬ ((o = 16 ∨ o = 5 ∨ o = 6) ∧ i = m) → LL o i = L o i := fun o i q => by rw [← hLL, m_ne (by omega), m_ne (by omega), m_ne (by omega)]
  have eL5 : LL 5 m = c := by rw [← hLL, m_ne (by omega), m_eq]
  have eL6 : LL 6 m = nm := by rw [← hLL, m_eq]
  have nam : ∀ N : Nat, ∀ (j : Int), (m - j).toNat ≤ N → 0 ≤ j → j ≤ m → (∀ k, 0 ≤ k → k < j → ¬ (c ≠ 255 ∧ L 5 k = c ∧ L 6 k = nm)) → JW K1 76 [(2009, 396), (14, A), (0, m), (0, c), (0, p + 1), (0, j), (5000, 0)] [] h12 := by
    intro N
    induction N with
    | zero =>
      intro j hN j0 j1 hn
      have hr3 := hr2'.2 (fun q => by
        obtain ⟨q1, k, k0, k1, k2⟩ := q
        exact hn k k0 (by omega) ⟨q1, k2⟩)
      refine r_X9_readMethod_76 ki hG ⟨fun _ => ⟨ne, ?_⟩, fun y => by omega⟩
      refine t_take2 hG r12 b z0 hX hr3 fun _ _ _ ar0 ar1 hr4 h2 r2 => ⟨n6.1, n6.2, fun h3 e3 x ex => ?_⟩
      have a0 : 0 ≤ B (p + 2) := by split at ar0 <;> omega
      generalize B (p + 2) = ar at *
      have r3 := r2.set (o := 7) (i := m) (v := ar) (by decide) (by decide)
      rw [← e3] at r3
      rw [show p + 2 + 1 = p + 3 by omega] at r3
      subst ex
      rw [prs_bnd] at hr4
      have e0 : ∀ o i, ¬ ((o = 16 ∨ o = 5 ∨ o = 6 ∨ o = 7) ∧ i = m) → mset LL 7 m ar o i = L o i := fun o i q => by rw [m_ne (by omega), eLo o i (by omega)]
      refine arg ar.toNat 0 (p + 3) _ h3 (p + 1) (by rw [m_eq]; omega) (by decide) (by rw [m_ne (by omega)]; exact eL5) (fun k k0 k1 => ?_) (by rw [e0 _ _ (by omega)]; exact l21) ⟨?_, ?_, ?_, ?_, fun u u0 u1 => ?_, n6, ?_⟩ r3 hr4
      · by_cases ek : k = m
        · rw [ek, m_eq]; omega
        · rw [e0 _ _ (by omega)]; exact l7 k k0 (by omega)
      · rw [e0 _ _ (by omega)]; exact n1
      · rw [e0 _ _ (by omega)]; exact n2
      · rw [e0 _ _ (by omega)]; exact n3
      · rw [e0 _ _ (by omega)]; exact n4
      · rw [e0 _ _ (by omega)]; exact n5 u u0 u1
      · rw [e0 _ _ (by omega)]; exact n7
    | succ N ih =>
      intro j hN j0 j1 hn
      by_cases ej : j = m
      · exact ih j (by omega) j0 j1 hn
      refine r_X9_readMethod_76 ki hG ⟨fun y => by omega, fun y => ?_⟩
      rw [r12.at 5 j (by decide) (by decide), r12.at 6 j (by decide) (by decide), r12.at 6 m (by decide) (by decide), eLo 5 j (by omega), eLo 6 j (by omega), eL6]
      refine ⟨fun _ => ⟨ne, j0, by omega, fun _ => ⟨ne, j0, by omega, ne, n6.1, n6.2⟩⟩, fun d => ?_, fun d x ex => ?_⟩
      · exact t_flt hG r12 b z0 (hX _ (hr2'.1 ⟨d.1, j, j0, y, d.2.1, d.2.2⟩))
      · rw [w32_i (by omega) (by omega)] at ex
        subst ex
        refine ih (j + 1) (by omega) (by omega) (by omega) (fun k k0 k1 => ?_)
        by_cases ek : k = j
        · rw [ek]; exact d
        · exact hn k k0 (by omega)
  rw [e5]
  exact nam _ 0 (Nat.le_refl _) (by decide) n6.1 (fun k k0 k1 => by omega)
end
