/-! Part 40d: the twin reads instructions -/
set_option maxRecDepth 100000
/-- numbers of a file that is read, within bounds -/
def nok (L : PG) (m : Int) : Prop := (0 ≤ L 0 0 ∧ L 0 0 ≤ 16) ∧ (0 ≤ L 0 1 ∧ L 0 1 ≤ 8) ∧ (1 ≤ L 0 6 ∧ L 0 6 ≤ 40) ∧ (7 ≤ L 0 30 ∧ L 0 30 ≤ 63) ∧ (∀ c, 0 ≤ c → c < 24 → 0 ≤ L 3 c ∧ L 3 c ≤ 8) ∧ (0 ≤ m ∧ m < 40) ∧ 0 ≤ L 0 21
def nok2 (L : PG) (m : Int) : Prop := (0 ≤ L 9 m ∧ L 9 m ≤ 8) ∧ (1 ≤ L 14 m ∧ L 14 m ≤ 120) ∧ L 0 21 < 1500
theorem siL_ne {L : PG} {op a b : Int} (h1 : a ≠ 25) (h2 : ¬ (a = 0 ∧ b = 30)) : siL L op a b = L a b := by
  unfold siL
  split
  · rw [m_ne (by omega), m_ne (by omega)]
  · rw [m_ne (by omega)]
theorem h9_new {h : MH} (z0 : 455 ≤ hz h) (j : Int) : hv (hnew h 17 0 7) 396 j = hv h 396 j := by
  show (if (396 : Int) = hz h + 1 then 0 else h.1 396 j) = _
  rw [if_neg (by omega)]; rfl
section
variable {l : Launch} {G : JG} {A n : Int} {B : Int → Int} {h0 h : MH} {p : Int} {L : PG} {E : Nat → Int → MH → Prop} {K : Int → PG → Prop} {X : Int → Prop}
/-- an exception whose place is reckoned from p -/
theorem t_fltp (hG : gO G = true) (r : RDS A n h0 h p L) (b : RDB B n h0) (z0 : 455 ≤ hz h0) {d e : Int} (ed : p - d = e) (d2 : 0 ≤ d ∧ d ≤ 2) (hE : ∀ a h', FLT A h0 h' a e → E 17 a h') :
    (hz h + 1 ≤ LIMC) ∧ (hs h + 7 ≤ LIMS) ∧ ∀ h1, h1 = hnew h 17 0 7 → S_X17_init l G [(2017, (hz h + 1)), (0, (w32 ((hv h1 396 9) - d)))] h1 (fun _ h4 => E 17 (hz h + 1) h4) E := by
  have q := t_flt (l := l) hG r b z0 (e := e) (E := E) hE
  refine ⟨q.1, q.2.1, fun h1 e1 => ?_⟩
  have ez := h2_hz r.2.1
  have hp := r.2.2.2.1
  have nb := b.1
  have e9 : hv h1 396 9 = p := by rw [e1, h9_new (by omega), r.p]
  rw [e9, w32_i (by omega) (by omega), ed]
  exact q.2.2 h1 e1
theorem t_readInstruction (hG : gO G = true) {m i : Int} (r : RDS A n h0 h p L) (b : RDB B n h0) (z0 : 455 ≤ hz h0) (nk : nok L m) (nk2 : nok2 L m) (hX : ∀ e, X e → ∀ a h', FLT A h0 h' a e → E 17 a h') (hr : prs (rdI B n m i p L) K X) {Q : Int → MH → Prop}
    (hQ : ∀ p' L' h', K p' L' → RDS A n h0 h' p' L' → Q 0 h') : S_X9_readInstruction l G [(2009, 396), (14, A), (0, m)] h Q E := by
  obtain ⟨n1, n2, n3, n4, n5, n6, n7⟩ := nk
  obtain ⟨o1, o2, o3⟩ := nk2
  refine s_X9_readInstruction rfl fun K1 ki => r_X9_readInstruction_0 ki hG ?_
  have ne := r.ne
  refine ⟨ne, fun x3 e3 x4 e4 => ?_⟩
  rw [r.sc] at e3
  rw [r.p] at e4
  subst e3; subst x4
  unfold rdI at hr
  refine t_take2 hG r b z0 hX hr fun _ _ _ op0 op1 hr1 h4 r4 => ?_
  intro x5 e5
  subst e5
  generalize hop : B p = op at *
  have hr1' := prs_if hr1
  -- from 83 on
  have j83 : ∀ g, RDS A n h0 g (p + 1) (siL L op) → ¬ ((op = 20 ∨ op = 21) ∧ L 0 30 = 63) → JW K1 83 [(2009, 396), (14, A), (0, m), (0, L 0 21), (0, p), (0, op), (5000, 0), (5000, 0), (5000, 0), (5000, 0), (5000, 0), (5000, 0), (5000, 0)] [] g := by
    intro g rg nf
    have hr2 := hr1'.2 nf
    have gl : ∀ a b, a ≠ 25 → ¬ (a = 0 ∧ b = 30) → siL L op a b = L a b := fun a b x y => siL_ne x y
    have g9 : hv g (A + 9) m = L 9 m := by rw [rg.at 9 m (by decide) (by decide), gl _ _ (by decide) (by omega)]
    have j552 : ∀ (g' : MH) (x y z v6 v10 v12 : Int), RDS A n h0 g' (p + 6) (scL (siL L op) op x (L 0 21)) → K (p + 6) (inL (scL (siL L op) op x (L 0 21)) (L 0 21) m p op x y z) →
        JW K1 552 [(2009, 396), (14, A), (0, m), (0, L 0 21), (0, p), (0, op), (0, v6), (0, L 9 m), (0, x), (0, y), (0, v10), (0, z), (0, v12)] [] g' := by
      intro g' x y z v6 v10 v12 rg' hk
      refine r_X9_readInstruction_552 ki hG ⟨ne, n7, o3, fun h1 e1 => ⟨ne, n7, o3, fun h2 e2 => ⟨ne, n7, o3, fun h3 e3 => ⟨ne, n7, o3, fun h4 e4 => ⟨ne, n7, o3, fun h5 e5 => ⟨ne, n7, o3, fun h6 e6 => ⟨ne, ne, fun h7 e7 => ?_⟩⟩⟩⟩⟩⟩⟩
      have r6 := (((((rg'.set (o := 19) (i := L 0 21) (v := op) (by decide) (by decide)).set (o := 20) (i := L 0 21) (v := x) (by decide) (by decide)).set (o := 21) (i := L 0 21) (v := y) (by decide) (by decide)).set (o := 22) (i := L 0 21) (v := z) (by decide) (by decide)).set (o := 23) (i := L 0 21) (v := p) (by decide) (by decide)).set (o := 24) (i := L 0 21) (v := m) (by decide) (by decide)
      rw [← e1, ← e2, ← e3, ← e4, ← e5, ← e6] at r6
      have e21 : hv h6 A 21 = L 0 21 := by
        rw [r6.sc, m_ne (by omega), m_ne (by omega), m_ne (by omega), m_ne (by omega), m_ne (by omega), m_ne (by omega)]
        unfold scL
        split
        · rw [m_ne (by omega), gl _ _ (by decide) (by omega)]
        · rw [gl _ _ (by decide) (by omega)]
      rw [e21, w32_i (by omega) (by omega)] at e7
      have r7 := r6.set0 (i := 21) (v := L 0 21 + 1)
      rw [← e7] at r7
      exact hQ _ _ h7 hk r7
    have j516 : ∀ (g' : MH) (x y z v6 v10 v12 : Int), 0 ≤ x → x ≤ 255 → RDS A n h0 g' (p + 6) (siL L op) → K (p + 6) (inL (scL (siL L op) op x (L 0 21)) (L 0 21) m p op x y z) →
        JW K1 516 [(2009, 396), (14, A), (0, m), (0, L 0 21), (0, p), (0, op), (0, v6), (0, L 9 m), (0, x), (0, y), (0, v10), (0, z), (0, v12)] [] g' := by
      intro g' x y z v6 v10 v12 x0 x1 rg' hk
      have e25 : hv g' (A + 25) (L 0 21) = if op = 20 ∨ op = 21 then L 0 30 else 0 := by
        rw [rg'.at 25 _ (by decide) (by decide)]
        unfold siL
        split
        · rw [m_ne (by omega), m_eq]
        · rw [m_eq]
      refine r_X9_readInstruction_516 ki hG ⟨ne, n7, o3, fun c => ?_, fun c => ?_⟩
      · rw [e25] at c
        have nc : ¬ (op = 20 ∨ op = 21) := fun q => by rw [if_pos q] at c; omega
        refine j552 g' x y z v6 v10 v12 (rg'.eq fun o' i' a b => ?_) hk
        unfold scL
        rw [if_neg nc]
      · rw [e25] at c ⊢
        have yc : op = 20 ∨ op = 21 := by
          apply Classical.byContradiction
          intro q
          rw [if_neg q] at c; omega
        rw [if_pos yc]
        refine ⟨ne, ne, n7, o3, by omega, by omega, fun h1 e1 => ?_⟩
        have r1 := rg'.set (o := 26) (i := L 0 30) (v := (if op = 20 then x else (w32 ((-1) - x)) : Int)) (by decide) (by decide)
        rw [← e1] at r1
        refine j552 h1 x y z v6 v10 v12 (r1.eq fun o' i' a b => ?_) hk
        unfold scL
        rw [if_pos yc]
        have e25' : siL L op 25 (L 0 21) = L 0 30 := by
          unfold siL
          rw [if_pos yc, m_ne (by omega), m_eq]
        rw [e25', w32_i (by omega) (by omega)]
    have j322 : ∀ (g' : MH) (x v6 : Int), 0 ≤ x → x ≤ 255 → x ≤ moX L m op → RDS A n h0 g' (p + 2) (siL L op) → prs (tk2 B n (p + 2) fun y => cif (goodY L op x y) (tk2 B n (p + 4) fun z => cif (goodZ L m op y z) (.ok (p + 6, inL (scL (siL L op) op x (L 0 21)) (L 0 21) m p op x y z)) (.error (p + 4))) (.error (p + 2))) K X →
        JW K1 322 [(2009, 396), (14, A), (0, m), (0, L 0 21), (0, p), (0, op), (0, v6), (0, L 9 m), (0, x), (5000, 0), (5000, 0), (5000, 0), (5000, 0)] [] g' := by
      intro g' x v6 x0 x1 xm rg' hr3
      have x24 : op = 25 ∨ op = 26 → x < 24 := by
        intro q
        unfold moX at xm
        rw [if_neg (by omega), if_neg (by omega), if_neg (by omega), if_pos (by omega)] at xm
        omega
      refine r_X9_readInstruction_322 ki hG ?_
      refine t_takeTwo hG rg' b z0 hX hr3 fun _ y0 y1 hr4 h2 r2 => ?_
      rw [show p + 2 + 2 = p + 4 by omega] at r2
      intro x9 e9
      subst e9
      generalize s16 (B (p + 2)) (B (p + 2 + 1)) = y at *
      refine ⟨fun q1 => ⟨fun q2 => ⟨fun q3 => ⟨ne, x0, x24 (Or.inl q3)⟩, fun q3 q4 => ⟨ne, x0, x24 (Or.inr q4)⟩⟩, fun _ => ne⟩, fun _ => ne, fun x10 e10 => ?_⟩
      have s00 : hv h2 A 0 = L 0 0 := by rw [r2.sc, gl _ _ (by decide) (by omega)]
      have s06 : hv h2 A 6 = L 0 6 := by rw [r2.sc, gl _ _ (by decide) (by omega)]
      have s3 : hv h2 (A + 3) x = L 3 x := by rw [r2.at 3 _ (by decide) (by decide), gl _ _ (by decide) (by omega)]
      rw [s00, s06, s3, w32_i (z := 7 + L 0 0) (by omega) (by omega), w32_i (z := L 0 6 - 1) (by omega) (by omega)] at e10
      have l3 : op = 25 ∨ op = 26 → w32 (L 3 x - 1) = L 3 x - 1 := fun q => by
        have := n5 x x0 (x24 q)
        exact w32_i (by omega) (by omega)
      have iy : ¬ x10 = 0 ↔ goodY L op x y := by
        unfold goodY
        by_cases q1 : op = 19
        · rw [if_pos q1] at e10
          rw [e10, isin_z]
          constructor
          · intro z
            exact ⟨fun _ => Classical.byContradiction z, fun w => by omega, fun w => by omega⟩
          · intro z w
            exact w (z.1 q1)
        · rw [if_neg q1] at e10
          by_cases q2 : op = 29
          · rw [if_pos q2] at e10
            rw [e10, isin_z]
            constructor
            · intro z
              exact ⟨fun w => by omega, fun _ => Classical.byContradiction z, fun w => by omega⟩
            · intro z w
              exact w (z.2.1 q2)
          · rw [if_neg q2] at e10
            by_cases q3 : op = 25 ∨ op = 26
            · rw [l3 q3] at e10
              have e10' : x10 = if isin y 0 (L 3 x - 1) = 0 then 0 else 1 := by
                by_cases q4 : op = 25
                · rw [if_pos q4] at e10; exact e10
                · rw [if_neg q4, if_pos (by omega)] at e10; exact e10
              by_cases q5 : isin y 0 (L 3 x - 1) = 0
              · rw [if_pos q5] at e10'
                constructor
                · intro z; exact absurd e10' z
                · intro z w
                  exact isin_z.mp q5 (z.2.2 q3)
              · rw [if_neg q5] at e10'
                constructor
                · intro _
                  exact ⟨fun w => by omega, fun w => by omega, fun _ => Classical.byContradiction fun z => q5 (isin_z.mpr z)⟩
                · intro _ w; omega
            · rw [if_neg (by omega), if_neg (by omega)] at e10
              constructor
              · intro _
                exact ⟨fun w => absurd w q1, fun w => absurd w q2, fun w => absurd w q3⟩
              · intro _ w; omega
      have hr4' := prs_cif hr4
      refine ⟨fun yes => ?_, fun no => ?_⟩
      · have hr5 := hr4'.1 (iy.mp yes)
        refine t_takeTwo hG r2 b z0 hX hr5 fun _ z0' z1 hr6 h6 r6 => ?_
        rw [show p + 4 + 2 = p + 6 by omega] at r6
        intro x11 e11 x12 e12
        subst e11
        generalize s16 (B (p + 4)) (B (p + 4 + 1)) = z at *
        have s14 : hv h6 (A + 14) m = L 14 m := by rw [r6.at 14 _ (by decide) (by decide), gl _ _ (by decide) (by omega)]
        have hr6' := prs_cif hr6
        rw [s14, w32_i (z := L 14 m - 1) (by omega) (by omega)]
        have ij : ¬ x12 = 0 ↔ 15 ≤ op ∧ op ≤ 19 := by
          rw [e12]
          by_cases q1 : op < 15
          · rw [if_pos q1]; omega
          · rw [if_neg q1]
            by_cases q2 : 19 < op
            · rw [if_pos q2]; omega
            · rw [if_neg q2]; omega
        refine ⟨fun _ => ⟨ne, n6.1, n6.2⟩, fun c => ?_, fun c => ?_⟩
        · have jz : 15 ≤ op ∧ op ≤ 19 → 0 ≤ z ∧ z ≤ L 14 m - 1 := by
            intro q
            rcases c with c | c
            · exact absurd c (ij.mpr q)
            · exact Classical.byContradiction fun w => c (isin_z.mpr w)
          refine ⟨fun d => ?_, fun d => ?_⟩
          · have ng : ¬ goodZ L m op y z := fun w => by
              have := w.2 d.1
              omega
            exact t_fltp hG r6 b z0 (by omega) (by decide) (hX _ (hr6'.2 ng))
          · have gz : goodZ L m op y z := ⟨jz, fun w => by omega⟩
            exact j516 h6 x y z v6 x10 x12 x0 x1 r6 (hr6'.1 gz)
        · have ng : ¬ goodZ L m op y z := fun w => c (by
            by_cases q : x12 = 0
            · exact Or.inl q
            · exact Or.inr (fun v => isin_z.mp v (w.1 (ij.mp q))))
          exact t_fltp hG r6 b z0 (by omega) (by decide) (hX _ (hr6'.2 ng))
      · have ng : ¬ goodY L op x y := fun w => (iy.mpr w) no
        exact t_fltp hG r2 b z0 (by omega) (by decide) (hX _ (hr4'.2 ng))
    have j282 : ∀ v6, v6 = moX L m op → JW K1 282 [(2009, 396), (14, A), (0, m), (0, L 0 21), (0, p), (0, op), (0, v6), (0, L 9 m), (5000, 0), (5000, 0), (5000, 0), (5000, 0), (5000, 0)] [] g := by
      intro v6 ev
      refine r_X9_readInstruction_282 ki hG ?_
      rw [← ev] at hr2
      refine t_take2 hG rg b z0 hX hr2 fun _ b0 b1 _ x1 hr3 h2 r2 => ?_
      rw [show p + 1 + 1 = p + 2 by omega] at r2
      intro x8 e8
      subst e8
      generalize B (p + 1) = x at *
      have hr3' := prs_if hr3
      refine ⟨fun _ => by decide, fun c => ?_, fun c => ?_⟩
      · rw [(i_rem_8 b0 b1).1] at c
        exact t_fltp hG r2 b z0 (by omega) (by decide) (hX _ (hr3'.1 c))
      · rw [(i_rem_8 b0 b1).1] at c
        exact j322 h2 x v6 b0 b1 (by rw [← ev]; exact x1) r2 (hr3'.2 c)
    have s00 : hv g A 0 = L 0 0 := by rw [rg.sc, gl _ _ (by decide) (by omega)]
    have s01 : hv g A 1 = L 0 1 := by rw [rg.sc, gl _ _ (by decide) (by omega)]
    have j264 : ∀ v6, (if op = 30 ∨ op = 36 then 15 else v6) = moX L m op → JW K1 264 [(2009, 396), (14, A), (0, m), (0, L 0 21), (0, p), (0, op), (0, v6), (0, L 9 m), (5000, 0), (5000, 0), (5000, 0), (5000, 0), (5000, 0)] [] g :=
      fun v6 ev => r_X9_readInstruction_264 ki hG ⟨fun c x ex => j282 x (by rw [if_pos c] at ev; rw [ex]; exact ev), fun c => j282 v6 (by rw [if_neg c] at ev; exact ev)⟩
    have j242 : ∀ v6, (if op = 30 ∨ op = 36 then 15 else if op = 27 ∨ op = 28 then L 0 1 - 1 else v6) = moX L m op → JW K1 242 [(2009, 396), (14, A), (0, m), (0, L 0 21), (0, p), (0, op), (0, v6), (0, L 9 m), (5000, 0), (5000, 0), (5000, 0), (5000, 0), (5000, 0)] [] g :=
      fun v6 ev => r_X9_readInstruction_242 ki hG ⟨fun c => ⟨ne, fun x ex => j264 x (by rw [if_pos c] at ev; rw [ex, s01, w32_i (by omega) (by omega)]; exact ev)⟩, fun c => j264 v6 (by rw [if_neg c] at ev; exact ev)⟩
    have j218 : ∀ v6, (if op = 30 ∨ op = 36 then 15 else if op = 27 ∨ op = 28 then L 0 1 - 1 else if op = 21 ∨ op = 23 ∨ op = 24 then 1 else v6) = moX L m op → JW K1 218 [(2009, 396), (14, A), (0, m), (0, L 0 21), (0, p), (0, op), (0, v6), (0, L 9 m), (5000, 0), (5000, 0), (5000, 0), (5000, 0), (5000, 0)] [] g :=
      fun v6 ev => r_X9_readInstruction_218 ki hG ⟨fun c x ex => j242 x (by rw [if_pos c] at ev; rw [ex]; exact ev), fun c => j242 v6 (by rw [if_neg c] at ev; exact ev)⟩
    have j181 : ∀ v6, (if op = 30 ∨ op = 36 then 15 else if op = 27 ∨ op = 28 then L 0 1 - 1 else if op = 21 ∨ op = 23 ∨ op = 24 then 1 else if op = 20 ∨ op = 25 ∨ op = 26 ∨ op = 33 then 7 + L 0 0 else v6) = moX L m op → JW K1 181 [(2009, 396), (14, A), (0, m), (0, L 0 21), (0, p), (0, op), (0, v6), (0, L 9 m), (5000, 0), (5000, 0), (5000, 0), (5000, 0), (5000, 0)] [] g :=
      fun v6 ev => r_X9_readInstruction_181 ki hG ⟨fun c => ⟨ne, fun x ex => j218 x (by rw [if_pos c] at ev; rw [ex, s00, w32_i (by omega) (by omega)]; exact ev)⟩, fun c => j218 v6 (by rw [if_neg c] at ev; exact ev)⟩
    have j170 : ∀ v6, (if op = 30 ∨ op = 36 then 15 else if op = 27 ∨ op = 28 then L 0 1 - 1 else if op = 21 ∨ op = 23 ∨ op = 24 then 1 else if op = 20 ∨ op = 25 ∨ op = 26 ∨ op = 33 then 7 + L 0 0 else if op = 17 then 47 else v6) = moX L m op → JW K1 170 [(2009, 396), (14, A), (0, m), (0, L 0 21), (0, p), (0, op), (0, v6), (0, L 9 m), (5000, 0), (5000, 0), (5000, 0), (5000, 0), (5000, 0)] [] g :=
      fun v6 ev => r_X9_readInstruction_170 ki hG ⟨fun c => j181 v6 (by rw [if_neg c] at ev; exact ev), fun c x ex => j181 x (by rw [if_pos c] at ev; rw [ex]; exact ev)⟩
    have j160 : ∀ v6, (if op = 30 ∨ op = 36 then 15 else if op = 27 ∨ op = 28 then L 0 1 - 1 else if op = 21 ∨ op = 23 ∨ op = 24 then 1 else if op = 20 ∨ op = 25 ∨ op = 26 ∨ op = 33 then 7 + L 0 0 else if op = 17 then 47 else if op = 16 then 5 else v6) = moX L m op → JW K1 160 [(2009, 396), (14, A), (0, m), (0, L 0 21), (0, p), (0, op), (0, v6), (0, L 9 m), (5000, 0), (5000, 0), (5000, 0), (5000, 0), (5000, 0)] [] g :=
      fun v6 ev => r_X9_readInstruction_160 ki hG ⟨fun c => j170 v6 (by rw [if_neg c] at ev; exact ev), fun c x ex => j170 x (by rw [if_pos c] at ev; rw [ex]; exact ev)⟩
    have j128 : ∀ v6, (if op = 30 ∨ op = 36 then 15 else if op = 27 ∨ op = 28 then L 0 1 - 1 else if op = 21 ∨ op = 23 ∨ op = 24 then 1 else if op = 20 ∨ op = 25 ∨ op = 26 ∨ op = 33 then 7 + L 0 0 else if op = 17 then 47 else if op = 16 then 5 else if op = 13 ∨ op = 14 ∨ op = 34 ∨ op = 35 then 7 else v6) = moX L m op → JW K1 128 [(2009, 396), (14, A), (0, m), (0, L 0 21), (0, p), (0, op), (0, v6), (0, L 9 m), (5000, 0), (5000, 0), (5000, 0), (5000, 0), (5000, 0)] [] g :=
      fun v6 ev => r_X9_readInstruction_128 ki hG ⟨fun c x ex => j160 x (by rw [if_pos c] at ev; rw [ex]; exact ev), fun c => j160 v6 (by rw [if_neg c] at ev; exact ev)⟩
    refine r_X9_readInstruction_83 ki hG ?_
    intro x6 e6
    refine ⟨ne, n6.1, n6.2, fun x7 e7 => ?_⟩
    rw [g9] at e7
    subst e7
    have hm : moX L m op = moX L m op := rfl
    refine ⟨fun c x ex => j128 x ?_, fun c => j128 x6 ?_⟩
    · rw [ex, w32_i (by omega) (by omega)]
      unfold moX
      rw [if_pos c]
    · rw [e6]
      unfold moX
      rw [if_neg c]
  refine ⟨fun c => ⟨ne, ?_⟩, fun c => ?_⟩
  · have e30 : hv h4 A 30 = L 0 30 := r4.sc 30
    rw [e30]
    refine ⟨fun d => ⟨ne, ne, n7, o3, fun h6 e6 => ⟨ne, ne, fun h7 e7 => ?_⟩⟩, fun d => ?_⟩
    · have r6 := r4.set (o := 25) (i := L 0 21) (v := L 0 30) (by decide) (by decide)
      rw [← e6] at r6
      have e30' : hv h6 A 30 = L 0 30 := by rw [r6.sc, m_ne (by omega)]
      rw [e30', w32_i (by omega) (by omega)] at e7
      have r7 := r6.set0 (i := 30) (v := L 0 30 + 1)
      rw [← e7] at r7
      refine j83 h7 (r7.eq fun o' i' a b => ?_) (fun q => d q.2)
      unfold siL
      rw [if_pos c]
    · exact t_flt hG r4 b z0 (hX p (hr1'.1 ⟨c, d⟩))
  · refine ⟨ne, n7, o3, fun h11 e11 => ?_⟩
    have r11 := r4.set (o := 25) (i := L 0 21) (v := 0) (by decide) (by decide)
    rw [← e11] at r11
    refine j83 h11 (r11.eq fun o' i' a b => ?_) (fun q => c q.1)
    unfold siL
    rw [if_neg c]
end
