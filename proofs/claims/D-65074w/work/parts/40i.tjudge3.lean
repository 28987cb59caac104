/-! Part 40i: the twin judges a method -/
set_option maxRecDepth 100000
theorem WFx_eq {L L' : PG} (h : ∀ o i, o ≠ 27 → o ≠ 28 → L' o i = L o i) (w : WFx L) : WFx L' := by
  have e : L' = fun o i => if o = 27 ∨ o = 28 then L' o i else L o i := by
    funext o i
    by_cases c : o = 27 ∨ o = 28
    · rw [if_pos c]
    · rw [if_neg c]; exact h o i (fun q => c (Or.inl q)) (fun q => c (Or.inr q))
  rw [e]
  exact w
theorem dpL_ne {L : PG} {k : Int} {st : List Int} {o i : Int} (h1 : o ≠ 27) (h2 : o ≠ 28) : dpL L k st o i = L o i := by
  unfold dpL
  rw [m_ne (by omega), m_ne (by omega)]
theorem endsf_z {o : Int} : endsf o = 0 ↔ ¬ eds o := by
  unfold endsf eds
  repeat' split
  all_goals omega
section
variable {l : Launch} {G : JG} {A n : Int} {B : Int → Int} {h0 h : MH} {p : Int} {L : PG} {E : Nat → Int → MH → Prop} {X : Int → Prop} {m : Int}
theorem t_judge (hG : gO G = true) (w : WFx L) (m0 : 0 ≤ m) (m1 : m < pNm L) (r : RDS A n h0 h p L) (b : RDB B n h0) (z0 : 455 ≤ hz h0) (hX : ∀ e, X e → ∀ a h', FLT A h0 h' a e → E 17 a h') {K : PG → Prop} (hr : prj (jM L m) K X) {Q : Int → MH → Prop}
    (hQ : ∀ L' h', K L' → RDS A n h0 h' p L' → (∀ o i, o ≠ 27 → o ≠ 28 → L' o i = L o i) → Q 0 h') : S_X9_judge l G [(2009, 396), (14, A), (0, m)] h Q E := by
  have ne := r.ne
  have wn := w.1
  unfold WFn at wn
  have m40 : m < 40 := by omega
  obtain ⟨-, -, -, -, -, -, -, -, -, -, -, de0, de8, hn0, hn4, co1, co2, fi0, fi1, mo, hh⟩ := w.2.2.1 m m0 m1
  simp only [pNm, pNp, pDe, pHn, pCo, pFi, pMo, pCl, pNs, pNt, pHa] at wn m1 m40 de0 de8 hn0 hn4 co1 co2 fi0 fi1 mo
  refine s_X9_judge rfl fun K1 ki => r_X9_judge_0 ki hG ?_
  intro h1 e1 h2 e2
  refine ⟨ne, m0, m40, fun h3 e3 x3 ex3 x4 ex4 => ?_⟩
  have r1 := r.j (j := 68) (v := 0) (by decide)
  rw [← e1] at r1
  have r2 := r1.j (j := 69) (v := 0) (by decide)
  rw [← e2] at r2
  rw [r2.at 11 m (by decide) (by decide)] at e3
  have r3 := r2.j (j := 70) (v := L 11 m) (by decide)
  rw [← e3] at r3
  subst ex3; subst ex4
  -- the loop
  have key : ∀ N : Nat, ∀ (i v3 : Int) (F : Prop) (st : List Int) (L' : PG) (h : MH), i = L 14 m - N → 0 ≤ i → (v3 = 0 ∨ v3 = 1) → (¬ v3 = 0 ↔ F) → RDS A n h0 h p L' → (∀ o i, o ≠ 27 → o ≠ 28 → L' o i = L o i) →
      (hv h 396 68 = st.length ∧ hv h 396 69 = ksO st ∧ hv h 396 70 = L 11 m) → k01 st → (st.length : Int) ≤ L 11 m → prj (jL m N i F st L') K X → JW K1 25 [(2009, 396), (14, A), (0, m), (0, v3), (0, i), (5000, 0), (5000, 0), (5000, 0)] [] h := by
    intro N
    induction N with
    | zero =>
      intro i v3 F st L' h ei i0 v01 iF r eL hd jk jl hr
      refine r_X9_judge_25 ki hG ⟨ne, m0, m40, fun _ => hQ L' h hr r eL, fun y => ?_⟩
      rw [r.at 14 m (by decide) (by decide), eL _ _ (by decide) (by decide)] at y; omega
    | succ N ih =>
      intro i v3 F st L' h ei i0 v01 iF r eL hd jk jl hr
      have w' := WFx_eq eL w
      have e15 : L' 15 m = L 15 m := eL _ _ (by decide) (by decide)
      have e14 : L' 14 m = L 14 m := eL _ _ (by decide) (by decide)
      have e11 : L' 11 m = L 11 m := eL _ _ (by decide) (by decide)
      have e12 : L' 12 m = L 12 m := eL _ _ (by decide) (by decide)
      refine r_X9_judge_25 ki hG ⟨ne, m0, m40, fun y => ?_, fun y => ⟨ne, m0, m40, fun x5 ex5 => ?_⟩⟩
      · rw [r.at 14 m (by decide) (by decide), e14] at y; omega
      rw [r.at 15 m (by decide) (by decide), e15, w32_i (by omega) (by omega)] at ex5
      have i1 : i < L 14 m := by rw [r.at 14 m (by decide) (by decide), e14] at y; exact y
      have k0 : 0 ≤ x5 := by omega
      have k1 : x5 < L 0 21 := by omega
      have mk : L 24 x5 = m := by rw [ex5]; exact mo i i0 i1
      refine ⟨ne, k0, by omega, fun h2 e2 => ?_⟩
      rw [r.at 23 x5 (by decide) (by decide)] at e2
      have r2 := r.j (j := 71) (v := L' 23 x5) (by decide)
      rw [← e2] at r2
      have d68 : hv h2 396 68 = st.length := by rw [e2, ne_k (by decide)]; exact hd.1
      have d69 : hv h2 396 69 = ksO st := by rw [e2, ne_k (by decide)]; exact hd.2.1
      have d70 : hv h2 396 70 = L' 11 m := by rw [e2, ne_k (by decide), e11]; exact hd.2.2
      have d71 : hv h2 396 71 = L' 23 x5 := by rw [e2, eq_a]
      refine t_isHandler hG r2 ⟨m0, m40⟩ (by rw [e12]; exact ⟨hn0, hn4⟩) fun z6 z601 iz6 x6 ex6 => ?_
      subst x6
      refine t_isJumpedTo hG r2 ⟨m0, m40⟩ (by rw [e15, e14]; exact ⟨fi0, by omega, by omega⟩) fun z7 z701 iz7 x7 ex7 => ?_
      subst x7
      unfold jL at hr
      rw [e15, ← ex5] at hr
      have hr1 := prj_cif hr
      -- what is at hand after a fall or none
      have go : ∀ (hh : MH) (s0 : List Int), s0 = cif F st [] → RDS A n h0 hh p L' → hv hh 396 68 = s0.length → hv hh 396 69 = ksO s0 → hv hh 396 70 = L' 11 m → hv hh 396 71 = L' 23 x5 → k01 s0 → (s0.length : Int) ≤ L' 11 m → ∀ v : Int, (¬ v = 0 ↔ (hdlT L' m i ∧ (F ∨ jmpT L' m i)) ∨ (jmpT L' m i ∧ cif F st [] ≠ [])) →
          S_X9_wrongIf l G [(2009, 396), (0, v)] hh (fun _ h10 =>
        ((z6 = 0 →
          (A ≠ 0) ∧
          (0 ≤ x5) ∧
          (x5 < 1500) ∧
          (∀ h11, h11 = hset h10 (A + 27) x5 (hv h10 396 68) →
          (A ≠ 0) ∧
          (0 ≤ x5) ∧
          (x5 < 1500) ∧
          (∀ h12, h12 = hset h11 (A + 28) x5 (hv h11 396 69) →
          S_X9_judge_2 l G [(2009, 396), (14, A), (0, m), (0, x5)] h12 (fun _ h14 =>
          (A ≠ 0) ∧
          (0 ≤ x5) ∧
          (x5 < 1500) ∧
          (∀ x3_15 : Int, x3_15 = (if (endsf (hv h14 (A + 19) x5)) = 0 then 1 else 0 : Int) →
          ((¬ x3_15 = 0 → (A ≠ 0) ∧ (0 ≤ m) ∧ m < 40)) ∧
          S_X9_wrongIf l G [(2009, 396), (0, (if x3_15 = 0 then 0 else (if i = (w32 ((hv h14 (A + 14) m) - 1)) then 1 else 0 : Int) : Int))] h14 (fun _ h17 =>
          (∀ x4_18 : Int, x4_18 = w32 (i + 1) →
          JW K1 25 [(2009, 396), (14, A), (0, m), (0, x3_15), (0, x4_18), (5000, 0), (5000, 0), (5000, 0)] [] h17)) E)) E))) ∧
        (¬ z6 = 0 →
          S_X9_lay l G [(2009, 396), (0, 1)] h10 (fun _ h20 =>
          (A ≠ 0) ∧
          (0 ≤ x5) ∧
          (x5 < 1500) ∧
          (∀ h21, h21 = hset h20 (A + 27) x5 (hv h20 396 68) →
          (A ≠ 0) ∧
          (0 ≤ x5) ∧
          (x5 < 1500) ∧
          (∀ h22, h22 = hset h21 (A + 28) x5 (hv h21 396 69) →
          S_X9_judge_2 l G [(2009, 396), (14, A), (0, m), (0, x5)] h22 (fun _ h24 =>
          (A ≠ 0) ∧
          (0 ≤ x5) ∧
          (x5 < 1500) ∧
          (∀ x3_25 : Int, x3_25 = (if (endsf (hv h24 (A + 19) x5)) = 0 then 1 else 0 : Int) →
          ((¬ x3_25 = 0 → (A ≠ 0) ∧ (0 ≤ m) ∧ m < 40)) ∧
          S_X9_wrongIf l G [(2009, 396), (0, (if x3_25 = 0 then 0 else (if i = (w32 ((hv h24 (A + 14) m) - 1)) then 1 else 0 : Int) : Int))] h24 (fun _ h27 =>
          (∀ x4_28 : Int, x4_28 = w32 (i + 1) →
          JW K1 25 [(2009, 396), (14, A), (0, m), (0, x3_25), (0, x4_28), (5000, 0), (5000, 0), (5000, 0)] [] h27)) E)) E))) E))) E := by
        intro hh s0 es0 rr q68 q69 q70 q71 qk ql v iv
        refine t_wrongIf hG rr b z0 q71 (fun c => ?_) (fun c => hX _ (hr1.1 (iv.mp c)))
        have hr2 := hr1.2 (fun q => (iv.mpr q) c)
        rw [prj_bnj] at hr2
        -- the instruction itself
        have act : ∀ (g : MH) (s1 : List Int), JDS A n h0 g p L' m (L' 23 x5) s1 → prj (bnj (jI (dpL L' x5 s1) m x5 s1) fun st2 => cif (¬ eds (L' 19 x5) ∧ i = L' 14 m - 1) (.error (L' 23 x5)) (jL m N (i + 1) (¬ eds (L' 19 x5)) st2 (dpL L' x5 s1))) K X →
            (A ≠ 0) ∧
          (0 ≤ x5) ∧
          (x5 < 1500) ∧
          (∀ h11, h11 = hset g (A + 27) x5 (hv g 396 68) →
          (A ≠ 0) ∧
          (0 ≤ x5) ∧
          (x5 < 1500) ∧
          (∀ h12, h12 = hset h11 (A + 28) x5 (hv h11 396 69) →
          S_X9_judge_2 l G [(2009, 396), (14, A), (0, m), (0, x5)] h12 (fun _ h14 =>
          (A ≠ 0) ∧
          (0 ≤ x5) ∧
          (x5 < 1500) ∧
          (∀ x3_15 : Int, x3_15 = (if (endsf (hv h14 (A + 19) x5)) = 0 then 1 else 0 : Int) →
          ((¬ x3_15 = 0 → (A ≠ 0) ∧ (0 ≤ m) ∧ m < 40)) ∧
          S_X9_wrongIf l G [(2009, 396), (0, (if x3_15 = 0 then 0 else (if i = (w32 ((hv h14 (A + 14) m) - 1)) then 1 else 0 : Int) : Int))] h14 (fun _ h17 =>
          (∀ x4_18 : Int, x4_18 = w32 (i + 1) →
          JW K1 25 [(2009, 396), (14, A), (0, m), (0, x3_15), (0, x4_18), (5000, 0), (5000, 0), (5000, 0)] [] h17)) E)) E)) := by
          intro g s1 J1 hr3
          rw [prj_bnj] at hr3
          refine ⟨ne, k0, by omega, fun h11 e11' => ⟨ne, k0, by omega, fun h12 e12' => ?_⟩⟩
          obtain ⟨jr, ⟨j68, j69, j70, j71⟩, jkk, jll, jmm⟩ := J1
          have a1 := jr.1
          rw [j68] at e11'
          have r11 := jr.set (o := 27) (i := x5) (v := (s1.length : Int)) (by decide) (by decide)
          rw [← e11'] at r11
          have u69 : hv h11 396 69 = ksO s1 := by rw [e11', ne_a (by omega)]; exact j69
          rw [u69] at e12'
          have r12 := r11.set (o := 28) (i := x5) (v := ksO s1) (by decide) (by decide)
          rw [← e12'] at r12
          have v396 : ∀ j, hv h12 396 j = hv g 396 j := fun j => by rw [e12', ne_a (by omega), e11', ne_a (by omega)]
          have dL : ∀ o i, o ≠ 27 → o ≠ 28 → dpL L' x5 s1 o i = L o i := fun o i q1 q2 => by rw [dpL_ne q1 q2]; exact eL o i q1 q2
          have wd := WFx_eq dL w
          have J12 : JDS A n h0 h12 p (dpL L' x5 s1) m (dpL L' x5 s1 23 x5) s1 := by
            refine ⟨r12, ⟨?_, ?_, ?_, ?_⟩, jkk, ?_, ?_⟩
            · rw [v396]; exact j68
            · rw [v396]; exact j69
            · rw [v396, dpL_ne (by decide) (by decide)]; exact j70
            · rw [v396, dpL_ne (by decide) (by decide)]; exact j71
            · rw [dpL_ne (by decide) (by decide)]; exact jll
            · rw [dpL_ne (by decide) (by decide)]; exact jmm
          refine t_judge2 hG wd k0 (by show x5 < dpL L' x5 s1 0 21; rw [dL _ _ (by decide) (by decide)]; exact k1) (by show dpL L' x5 s1 24 x5 = m; rw [dL _ _ (by decide) (by decide)]; exact mk) b z0 hX J12 hr3 fun s2 h14 hr4 J14 => ⟨ne, k0, by omega, fun x3 ex3 => ⟨fun _ => ⟨ne, m0, m40⟩, ?_⟩⟩
          rw [J14.1.at 19 x5 (by decide) (by decide), dpL_ne (by decide) (by decide)] at ex3
          rw [J14.1.at 14 m (by decide) (by decide), dpL_ne (by decide) (by decide), e14, w32_i (z := L 14 m - 1) (by omega) (by omega)]
          have hr5 := prj_cif hr4
          rw [e14] at hr5
          have ix3 : ¬ x3 = 0 ↔ ¬ eds (L' 19 x5) := by
            rw [ex3]
            by_cases c : endsf (L' 19 x5) = 0
            · rw [if_pos c]
              exact ⟨fun _ => endsf_z.mp c, fun _ => by decide⟩
            · rw [if_neg c]
              exact ⟨fun q => absurd rfl q, fun q => absurd (endsf_z.mpr q) c⟩
          have x301 : x3 = 0 ∨ x3 = 1 := by
            rw [ex3]; split
            · exact Or.inr rfl
            · exact Or.inl rfl
          have j71' : hv h14 396 71 = L' 23 x5 := by
            have := J14.2.1.2.2.2
            rw [dpL_ne (by decide) (by decide)] at this
            exact this
          refine t_wrongIf hG J14.1 b z0 j71' (fun c => ?_) (fun c => ?_)
          · intro x4 ex4
            rw [w32_i (by omega) (by omega)] at ex4
            subst ex4
            have nb : ¬ (¬ eds (L' 19 x5) ∧ i = L 14 m - 1) := fun q => by
              rw [if_neg (ix3.mpr q.1), if_pos q.2] at c
              exact absurd c (by decide)
            have h70 := J14.2.1.2.2.1
            rw [dpL_ne (by decide) (by decide), e11] at h70
            have hll := J14.2.2.2.1
            rw [dpL_ne (by decide) (by decide), e11] at hll
            exact ih (i + 1) x3 _ s2 _ h14 (by omega) (by omega) x301 ix3 J14.1 dL ⟨J14.2.1.1, J14.2.1.2.1, h70⟩ J14.2.2.1 hll (hr5.2 nb)
          · refine hX _ (hr5.1 ⟨?_, ?_⟩)
            · apply ix3.mp
              intro q
              rw [if_pos q] at c
              exact c rfl
            · apply Classical.byContradiction
              intro q
              by_cases d : x3 = 0
              · rw [if_pos d] at c; exact c rfl
              · rw [if_neg d, if_neg q] at c; exact c rfl
        have J0 : JDS A n h0 hh p L' m (L' 23 x5) s0 := ⟨rr, ⟨q68, q69, q70, q71⟩, qk, ql, by rw [e11]; exact de8⟩
        refine ⟨fun c6 => ?_, fun c6 => ?_⟩
        · have nh : ¬ hdlT L' m i := fun q => (iz6.mpr q) c6
          rw [cif_n nh, ← es0] at hr2
          exact act hh s0 J0 hr2
        · have yh := iz6.mp c6
          rw [cif_p yh, ← es0] at hr2
          refine t_jlay hG J0 b z0 hX (Or.inr rfl) hr2 fun h20 hr6 J20 => ?_
          exact act h20 (1 :: s0) J20 hr6
      have f7 : ∀ hh : MH, hv hh 396 68 = ((cif F st [] : List Int).length : Int) → (0 < hv hh 396 68 ↔ cif F st [] ≠ []) := by
        intro hh q
        rw [q]
        match (cif F st [] : List Int) with
        | [] => simp
        | x :: t => simp
      have vv : ∀ hh : MH, hv hh 396 68 = ((cif F st [] : List Int).length : Int) → (¬ (if z6 = 0 then (if z7 = 0 then 0 else (if 0 < (hv hh 396 68) then 1 else 0 : Int) : Int) else (if v3 = 0 then (if z7 = 0 then (if z7 = 0 then 0 else (if 0 < (hv hh 396 68) then 1 else 0 : Int) : Int) else 1 : Int) else 1 : Int) : Int) = 0 ↔ (hdlT L' m i ∧ (F ∨ jmpT L' m i)) ∨ (jmpT L' m i ∧ cif F st [] ≠ [])) := by
        intro hh q
        rw [← f7 hh q, ← iz6, ← iz7, ← iF]
        by_cases c6 : z6 = 0
        · rw [if_pos c6]
          by_cases c7 : z7 = 0
          · rw [if_pos c7]; simp [c6, c7]
          · rw [if_neg c7]
            by_cases c8 : 0 < hv hh 396 68
            · rw [if_pos c8]; simp [c6, c7, c8]
            · rw [if_neg c8]; simp [c6, c7, c8]
        · rw [if_neg c6]
          by_cases c3 : v3 = 0
          · rw [if_pos c3]
            by_cases c7 : z7 = 0
            · rw [if_pos c7, if_pos c7]; simp [c6, c7, c3]
            · rw [if_neg c7]; simp [c6, c7, c3]
          · rw [if_neg c3]; simp [c6, c3]
      refine ⟨fun c3 => ?_, fun c3 => ?_⟩
      · have yF : F := iF.mp c3
        have es : st = cif F st [] := (cif_p yF).symm
        exact go h2 st es r2 d68 d69 d70 d71 jk (by rw [e11]; exact jl) _ (vv h2 (by rw [← es]; exact d68))
      · have nF : ¬ F := fun q => (iF.mpr q) c3
        have es : [] = cif F st [] := (cif_n nF).symm
        intro h29 e29 h30 e30
        have r29 := r2.j (j := 68) (v := 0) (by decide)
        rw [← e29] at r29
        have r30 := r29.j (j := 69) (v := 0) (by decide)
        rw [← e30] at r30
        have g68 : hv h30 396 68 = (([] : List Int).length : Int) := by rw [e30, ne_k (by decide), e29, eq_a]; rfl
        refine go h30 [] es r30 g68 ?_ ?_ ?_ (fun x hx => by cases hx) (by rw [e11]; show (0 : Int) ≤ _; exact de0) _ (vv h30 (by rw [← es]; exact g68))
        · rw [e30, eq_a]; rfl
        · rw [e30, ne_k (by decide), e29, ne_k (by decide)]; exact d70
        · rw [e30, ne_k (by decide), e29, ne_k (by decide)]; exact d71
  refine key (L 14 m).toNat 0 1 True [] L h3 (by omega) (by decide) (Or.inr rfl) ⟨fun _ => trivial, fun _ => by decide⟩ r3 (fun _ _ _ _ => rfl) ⟨?_, ?_, ?_⟩ (fun x hx => by cases hx) (by show (0 : Int) ≤ _; exact de0) hr
  · rw [e3, ne_k (by decide), e2, ne_k (by decide), e1, eq_a]; rfl
  · rw [e3, ne_k (by decide), e2, eq_a]; rfl
  · rw [e3, eq_a]
end
