/-! Part 54d: what is live behind a place -/
section FL4
variable {l : Launch} {G : JG} {h : MH} {L : PG} {R : Int → Prop} {T : TB} {P : Int} {Q : Int → MH → Prop} {E : Nat → Int → MH → Prop}
theorem c_size {m M : Int} (hG : gO G = true) (cm : CPm h L m M) (hQ : Q (pCo L m) h) : S_X14_size l G [(2014, M)] h Q E := by
  obtain ⟨m1, -, -, ⟨o1, o2, o3⟩, -⟩ := cm
  have := o1.1
  refine s_X14_size rfl fun K ki => r_X14_size_0 ki hG ?_
  rw [o2]
  exact ⟨by omega, hQ⟩
/-- a place goes on to i of its method -/
theorem c_goes (hG : gO G = true) (w : FW L R T P h) {k M i : Int} (hk : inP L k) (cm : CPm h L (pMo L k) M) (i0 : 0 ≤ i) (i1 : i < pCo L (pMo L k)) (hQ : ∀ z, (z = 0 ∨ z = 1) → (z = 1 ↔ ath (T 11 k i) ≠ 0) → Q z h) : S_X2_goes l G [(2002, 3), (18, M), (0, k - pFi L (pMo L k)), (0, i)] h Q E := by
  have nn := w.1.1.n
  unfold WFn at nn
  obtain ⟨r1, r2, r3, r4⟩ := pl_rng w.1.1 hk
  have k0 := hk.1
  have k1 := hk.2
  obtain ⟨⟨q0, q1, -⟩, -⟩ := w.1.1.k hk.1 hk.2
  obtain ⟨-, -, -, -, -, -, -, -, -, -, -, -, -, -, -, -, co2, -⟩ := w.1.1.m q0 q1
  obtain ⟨m1, ⟨-, -, -, -, -, -, m14, -⟩, -, -, -, -, ⟨o1, o2, o3⟩, -⟩ := cm
  have a1 := m1.1
  have a2 := o1.1
  have t11 := (w.2.2.1 k hk).2.2 i i0 (by omega)
  have ez : hv h (hv h M 10) (k - pFi L (pMo L k)) = pZ L k := by
    rw [o3 _ r1 r2]
    show pZ L (pFi L (pMo L k) + (k - pFi L (pMo L k))) = _
    rw [r3]
  refine Sem_hyp fun H0 _ => ?_
  have z75 : hv h 75 k = 0 ∨ hv h 75 k = 1 := okf_z (sg_ok H0 hG (FW_o3 w) 9 (off := 72) (n := 1500) (t := 102) (e := 2) (by decide) (by decide) (by decide) (by decide) (by decide) k0 (by omega))
  have z76 : hv h 76 k = 0 ∨ hv h 76 k = 1 := okf_z (sg_ok H0 hG (FW_o3 w) 10 (off := 73) (n := 1500) (t := 102) (e := 2) (by decide) (by decide) (by decide) (by decide) (by decide) k0 (by omega))
  refine s_X2_goes rfl fun K ki => r_X2_goes_0 ki hG ?_
  rw [m14, o2, ez, w32_i (z := pFi L (pMo L k) + (k - pFi L (pMo L k))) (by omega) (by omega), w32_i (z := k - pFi L (pMo L k) + 1) (by omega) (by omega), r3]
  have e11 : (if hv h 75 k = 0 then (if hv h 76 k = 0 then 0 else (if i = pZ L k then 1 else 0 : Int) : Int) else (if i = k - pFi L (pMo L k) + 1 then 1 else (if hv h 76 k = 0 then 0 else (if i = pZ L k then 1 else 0 : Int) : Int) : Int) : Int) = cif (ath (T 11 k i) ≠ 0) 1 0 := by
    unfold cif
    by_cases y : ath (T 11 k i) ≠ 0
    · rw [if_pos y]
      rcases t11.mp y with ⟨y1, y2⟩ | ⟨y1, y2⟩
      · rw [if_neg (by omega), if_pos (by unfold nx at y2; exact y2)]
      · by_cases z : hv h 75 k = 0
        · rw [if_pos z, if_neg (by omega), if_pos y2]
        · rw [if_neg z]
          by_cases z2 : i = k - pFi L (pMo L k) + 1
          · rw [if_pos z2]
          · rw [if_neg z2, if_neg (by omega), if_pos y2]
    · rw [if_neg y]
      have no : ¬ (hv h 76 k = 1 ∧ i = pZ L k) := fun q => y (t11.mpr (Or.inr q))
      have no2 : ¬ (hv h 75 k = 1 ∧ i = k - pFi L (pMo L k) + 1) := fun q => y (t11.mpr (Or.inl q))
      have e76 : (if hv h 76 k = 0 then 0 else (if i = pZ L k then 1 else 0 : Int) : Int) = 0 := by
        by_cases z : hv h 76 k = 0
        · rw [if_pos z]
        · rw [if_neg z, if_neg (fun q => no ⟨by omega, q⟩)]
      rw [e76]
      by_cases z : hv h 75 k = 0
      · rw [if_pos z]
      · rw [if_neg z, if_neg (fun q => no2 ⟨by omega, q⟩)]
  rw [e11]
  have c01 : cif (ath (T 11 k i) ≠ 0) (1 : Int) 0 = 0 ∨ cif (ath (T 11 k i) ≠ 0) (1 : Int) 0 = 1 := by
    unfold cif
    split
    · exact Or.inr rfl
    · exact Or.inl rfl
  have c1 : cif (ath (T 11 k i) ≠ 0) (1 : Int) 0 = 1 ↔ ath (T 11 k i) ≠ 0 := by
    unfold cif
    by_cases y : ath (T 11 k i) ≠ 0
    · rw [if_pos y]; exact ⟨fun _ => y, fun _ => rfl⟩
    · rw [if_neg y]; exact ⟨fun z => absurd z (by decide), fun z => absurd z y⟩
  exact ⟨by omega, k0, by omega, fun _ => ⟨by omega, k0, by omega, fun _ => ⟨by omega, by omega, r1, r2⟩⟩, fun _ _ => ⟨by omega, k0, by omega, fun _ => ⟨by omega, by omega, r1, r2⟩⟩, c01, hQ _ c01 c1⟩
/-- live where a place goes on to -/
def lvO (L : PG) (T : TB) (h : MH) (k x : Int) : Prop := ∃ i, 0 ≤ i ∧ i < pCo L (pMo L k) ∧ ath (T 11 k i) ≠ 0 ∧ bi (hv h 299 (pFi L (pMo L k) + i)) x = true
def lvH (L : PG) (T : TB) (h : MH) (k x : Int) : Prop := ∃ i, 0 ≤ i ∧ i < pCo L (pMo L k) ∧ cau L T k i ∧ bi (hv h 299 (pFi L (pMo L k) + i)) x = true
theorem c_behind0 (hG : gO G = true) (w : FW L R T P h) {k M : Int} (hk : inP L k) (cm : CPm h L (pMo L k) M) (hQ : ∀ z, (∀ x, 0 ≤ x → (bi z x = true ↔ lvO L T h k x)) → Q z h) : S_X7_liveBehind l G [(2007, 296), (18, M), (0, k - pFi L (pMo L k)), (0, 0)] h Q E := by
  have nn := w.1.1.n
  unfold WFn at nn
  obtain ⟨r1, r2, r3, r4⟩ := pl_rng w.1.1 hk
  have k0 := hk.1
  have k1 := hk.2
  obtain ⟨⟨q0, q1, -⟩, -⟩ := w.1.1.k hk.1 hk.2
  obtain ⟨-, -, -, -, -, -, -, -, -, -, -, -, -, -, -, -, co2, fi0, fi1, -⟩ := w.1.1.m q0 q1
  have m14 := cm.2.1.2.2.2.2.2.2.1
  have a1 := cm.1.1
  refine s_X7_liveBehind rfl fun K ki => r_X7_liveBehind_0 ki hG ⟨by omega, fun x4 e4 x5 e5 => ⟨fun _ x6 e6 => ?_, fun y => absurd rfl y⟩⟩
  subst e6
  have loop : ∀ N : Nat, ∀ n v : Int, (pCo L (pMo L k) - n).toNat ≤ N → 0 ≤ n → n ≤ pCo L (pMo L k) → (∀ x, 0 ≤ x → (bi v x = true ↔ ∃ i, 0 ≤ i ∧ i < n ∧ ath (T 11 k i) ≠ 0 ∧ bi (hv h 299 (pFi L (pMo L k) + i)) x = true)) → JW K 142 [(2007, 296), (18, M), (0, k - pFi L (pMo L k)), (0, 0), (0, x4), (0, v), (0, n), (5000, 0), (5000, 0), (5000, 0), (5000, 0), (5000, 0), (5000, 0), (5000, 0)] [] h := by
    intro N
    induction N with
    | zero =>
      intro n v b1' b2 b3 iv
      have en : n = pCo L (pMo L k) := by omega
      subst en
      exact r_X7_liveBehind_142 ki hG ⟨by omega, c_size hG cm ⟨fun _ => hQ v iv, fun y => by omega⟩⟩
    | succ N ih =>
      intro n v b1' b2 b3 iv
      by_cases en : n = pCo L (pMo L k)
      · exact ih n v (by omega) b2 b3 iv
      refine r_X7_liveBehind_142 ki hG ⟨by omega, c_size hG cm ⟨fun y => by omega, fun _ => ?_⟩⟩
      rw [w.1.2.2.2.1]
      refine ⟨by decide, c_goes hG w hk cm b2 (by omega) fun z z01 zr => ⟨fun y x ex => ?_, fun y => ⟨by omega, ?_⟩⟩⟩
      · rw [w32_i (by omega) (by omega)] at ex
        subst ex
        refine ih (n + 1) v (by omega) (by omega) (by omega) (fun x x0 => ?_)
        rw [iv x x0]
        constructor
        · rintro ⟨i, i0, i1, q⟩
          exact ⟨i, i0, by omega, q⟩
        · rintro ⟨i, i0, i1, q1, q2⟩
          refine ⟨i, i0, ?_, q1, q2⟩
          by_cases e : i = n
          · subst e; have := zr.mpr q1; omega
          · omega
      · rw [m14, w32_i (by omega) (by omega)]
        refine ⟨by omega, by omega, fun v' ev x ex => ?_⟩
        rw [w32_i (by omega) (by omega)] at ex
        subst ex
        refine ih (n + 1) v' (by omega) (by omega) (by omega) (fun x x0 => ?_)
        rw [ev, bi_or, Bool.or_eq_true, iv x x0]
        constructor
        · rintro (⟨i, i0, i1, q⟩ | q)
          · exact ⟨i, i0, by omega, q⟩
          · exact ⟨n, b2, by omega, zr.mp (by omega), q⟩
        · rintro ⟨i, i0, i1, q1, q2⟩
          by_cases e : i = n
          · subst e; exact Or.inr q2
          · exact Or.inl ⟨i, i0, by omega, q1, q2⟩
  subst e5
  refine loop _ 0 0 (Nat.le_refl _) (by decide) (by omega) (fun x x0 => ?_)
  rw [bi_zero]
  exact ⟨(fun y => by cases y), fun ⟨i, i0, i1, _⟩ => by omega⟩
theorem c_behind1 (hG : gO G = true) (w : FW L R T P h) {k M : Int} (hk : inP L k) (cm : CPm h L (pMo L k) M) (hQ : ∀ z, (∀ x, 0 ≤ x → (bi z x = true ↔ lvH L T h k x)) → Q z h) : S_X7_liveBehind l G [(2007, 296), (18, M), (0, k - pFi L (pMo L k)), (0, 1)] h Q E := by
  have nn := w.1.1.n
  unfold WFn at nn
  obtain ⟨r1, r2, r3, r4⟩ := pl_rng w.1.1 hk
  have k0 := hk.1
  have k1 := hk.2
  obtain ⟨⟨q0, q1, -⟩, -⟩ := w.1.1.k hk.1 hk.2
  obtain ⟨-, -, -, -, -, -, -, -, -, -, -, -, -, hn0, hn1, -, co2, fi0, fi1, -, -, hh⟩ := w.1.1.m q0 q1
  have m14 := cm.2.1.2.2.2.2.2.2.1
  have a1 := cm.1.1
  obtain ⟨ho, hnl, hhd⟩ := cm.2.2.2.2.2.2.2.2.2.2.2
  have ho1 := ho.1
  have t9 := (w.2.2.1 k hk).1
  have ep := w.1.2.2.1
  have pp := w.1.2.1.1.1
  have lt : ∀ s, 1 ≤ s → bl (hv h 73 k) s = true → s < pNt L := by
    intro s s0 b
    rw [t9] at b
    rcases w.2.2.2.2.1.2.1 9 k 0 s (by omega) b with y | y
    · omega
    · exact y.1.2
  refine s_X7_liveBehind rfl fun K ki => r_X7_liveBehind_0 ki hG ⟨by omega, fun x4 e4 x5 e5 => ⟨fun y => absurd y (by decide), fun _ => ?_⟩⟩
  rw [m14, w32_i (by omega) (by omega), r3] at e4
  subst e4
  rw [w.1.2.2.2.1, show (3 : Int) + 70 = 73 from rfl]
  refine ⟨by decide, k0, by omega, fun x6 e6 => ⟨by omega, fun x8 e8 => ⟨by omega, fun x9 e9 x10 e10 => ?_⟩⟩⟩
  rw [e8, hnl] at e9
  subst e9
  rw [← e8] at hhd hnl ho1
  have loop : ∀ N : Nat, ∀ n v6 v5 : Int, (pHn L (pMo L x4) - n).toNat ≤ N → 0 ≤ n → n ≤ pHn L (pMo L x4) → (∀ s, 1 ≤ s → (bl v6 s = true ↔ bl (hv h 73 x4) s = true ∧ ¬ (0 ≤ hnd L x4 s ∧ hnd L x4 s < n))) → (∀ x, 0 ≤ x → (bi v5 x = true ↔ ∃ s, 1 ≤ s ∧ bl (hv h 73 x4) s = true ∧ (0 ≤ hnd L x4 s ∧ hnd L x4 s < n) ∧ bi (hv h 299 (pFi L (pMo L x4) + pHa L (pMo L x4) (hnd L x4 s) 2)) x = true)) →
      JW K 41 [(2007, 296), (18, M), (0, x4 - pFi L (pMo L x4)), (0, 1), (0, x4), (0, v5), (1, v6), (5000, 0), (129, x8), (0, pHn L (pMo L x4)), (0, n), (5000, 0), (5000, 0), (5000, 0)] [] h := by
    intro N
    induction N with
    | zero =>
      intro n v6 v5 b1' b2 b3 i6 i5
      have en : n = pHn L (pMo L x4) := by omega
      subst en
      refine r_X7_liveBehind_41 ki hG ⟨fun _ => hQ v5 (fun x x0 => ?_), fun y => by omega⟩
      rw [i5 x x0]
      unfold lvH cau
      constructor
      · rintro ⟨s, s1, b, ⟨y1, y2⟩, y3⟩
        obtain ⟨g0, g01, g1, g2, g21, -⟩ := hh _ y1 y2
        exact ⟨_, g2, g21, ⟨s, s1, by have := lt s s1 b; omega, by rw [← t9]; exact b, y1, rfl⟩, y3⟩
      · rintro ⟨i, i0, i1, ⟨s, s1, s2, b, y1, y2⟩, y3⟩
        refine ⟨s, s1, by rw [t9]; exact b, ⟨y1, hnd_lt w.1.1 k0 k1 y1⟩, by rw [y2]; exact y3⟩
    | succ N ih =>
      intro n v6 v5 b1' b2 b3 i6 i5
      by_cases en : n = pHn L (pMo L x4)
      · exact ih n v6 v5 (by omega) b2 b3 i6 i5
      obtain ⟨hob, hwv⟩ := hhd n b2 (by omega)
      have hob1 := hob.1
      obtain ⟨g0, g01, g1, g2, g21, -⟩ := hh n b2 (by omega)
      have skip : (∀ s, 1 ≤ s → bl v6 s = true → ¬ hit L x4 s n) → ∀ x : Int, x = w32 (n + 1) → JW K 41 [(2007, 296), (18, M), (0, x4 - pFi L (pMo L x4)), (0, 1), (0, x4), (0, v5), (1, v6), (5000, 0), (129, x8), (0, pHn L (pMo L x4)), (0, x), (5000, 0), (5000, 0), (5000, 0)] [] h := by
        intro no x ex
        rw [w32_i (by omega) (by omega)] at ex
        subst ex
        have nn' : ∀ s, 1 ≤ s → bl (hv h 73 x4) s = true → hnd L x4 s ≠ n := by
          intro s s0 b e
          have y : ¬ (0 ≤ hnd L x4 s ∧ hnd L x4 s < n) := by omega
          exact no s s0 ((i6 s s0).mpr ⟨b, y⟩) ((hnd_hit b2 (by omega) y).mp e)
        refine ih (n + 1) v6 v5 (by omega) (by omega) (by omega) (fun s s0 => ?_) (fun x x0 => ?_)
        · rw [i6 s s0]
          constructor
          · rintro ⟨y1, y2⟩
            exact ⟨y1, by have := nn' s s0 y1; omega⟩
          · rintro ⟨y1, y2⟩
            exact ⟨y1, by omega⟩
        · rw [i5 x x0]
          constructor
          · rintro ⟨s, s1, b, ⟨y1, y2⟩, y3⟩
            exact ⟨s, s1, b, ⟨y1, by omega⟩, y3⟩
          · rintro ⟨s, s1, b, ⟨y1, y2⟩, y3⟩
            exact ⟨s, s1, b, ⟨y1, by have := nn' s s1 b; omega⟩, y3⟩
      refine r_X7_liveBehind_41 ki hG ⟨fun y => by omega, fun _ => ⟨by omega, b2, by rw [hnl]; omega, fun x11 e11 => ?_⟩⟩
      subst e11
      rw [hwv 0 (by decide) (by decide), hwv 1 (by decide) (by decide), hwv 3 (by decide) (by decide), ep]
      refine ⟨by omega, fun z => skip (fun s _ _ y => by have := y.1; omega), fun z1 => ⟨by omega, fun z2 => ⟨by omega, by omega, ?_⟩, fun z => skip (fun s _ _ y => by have := y.2.1; omega)⟩⟩
      refine c_ofClass hG w.1.1 w.1.2.1 fun z3 fl x12 e12 x6' e6' => ?_
      subst e12
      obtain ⟨c12, b12⟩ := fl
      have bb : ∀ s, 1 ≤ s → (bl x12 s = true ↔ bl (hv h 73 x4) s = true ∧ hnd L x4 s = n) := by
        intro s s0
        rw [b12 s (by omega)]
        simp only [Bool.and_eq_true, decide_eq_true_eq]
        constructor
        · rintro ⟨⟨y1, y2⟩, y3⟩
          have y4 := (i6 s s0).mp y2
          exact ⟨y4.1, (hnd_hit b2 (by omega) y4.2).mpr ⟨z1, z2, y3⟩⟩
        · rintro ⟨y1, y2⟩
          have y4 : ¬ (0 ≤ hnd L x4 s ∧ hnd L x4 s < n) := by omega
          have := (hnd_hit b2 (by omega) y4).mp y2
          exact ⟨⟨⟨s0, lt s s0 y1⟩, (i6 s s0).mpr ⟨y1, y4⟩⟩, this.2.2⟩
      have i6' : ∀ s, 1 ≤ s → (bl x6' s = true ↔ bl (hv h 73 x4) s = true ∧ ¬ (0 ≤ hnd L x4 s ∧ hnd L x4 s < n + 1)) := by
        intro s s0
        rw [e6', bl_andn, Bool.and_eq_true, i6 s s0]
        constructor
        · rintro ⟨⟨y1, y2⟩, y3⟩
          refine ⟨y1, fun q => ?_⟩
          have e : hnd L x4 s = n := by omega
          rw [(bb s s0).mpr ⟨y1, e⟩] at y3
          cases y3
        · rintro ⟨y1, y2⟩
          refine ⟨⟨y1, by omega⟩, ?_⟩
          cases r : bl x12 s
          · rfl
          · have := ((bb s s0).mp r).2; omega
      refine ⟨fun z x ex => ?_, fun z => ⟨by omega, by omega, ?_⟩⟩
      · rw [w32_i (by omega) (by omega)] at ex
        subst ex
        rw [lc_eq] at z
        refine ih (n + 1) x6' v5 (by omega) (by omega) (by omega) i6' (fun x x0 => ?_)
        rw [i5 x x0]
        constructor
        · rintro ⟨s, s1, b, ⟨y1, y2⟩, y3⟩
          exact ⟨s, s1, b, ⟨y1, by omega⟩, y3⟩
        · rintro ⟨s, s1, b, ⟨y1, y2⟩, y3⟩
          refine ⟨s, s1, b, ⟨y1, ?_⟩, y3⟩
          by_cases e : hnd L x4 s = n
          · have := (bb s s1).mpr ⟨b, e⟩
            rw [z, bl_zero] at this; cases this
          · omega
      · rw [m14, hwv 2 (by decide) (by decide), w32_i (z := pFi L (pMo L x4) + pHa L (pMo L x4) n 2) (by omega) (by omega)]
        refine ⟨by omega, by omega, fun v5' ev x ex => ?_⟩
        rw [w32_i (by omega) (by omega)] at ex
        subst ex
        refine ih (n + 1) x6' v5' (by omega) (by omega) (by omega) i6' (fun x x0 => ?_)
        rw [ev, bi_or, Bool.or_eq_true, i5 x x0]
        constructor
        · rintro (⟨s, s1, b, ⟨y1, y2⟩, y3⟩ | y)
          · exact ⟨s, s1, b, ⟨y1, by omega⟩, y3⟩
          · have ne : x12 ≠ 0 := fun q => z ((lc_eq _ _).mpr q)
            obtain ⟨s, s0, s1, b⟩ := l_some c12 ne
            have sp : 1 ≤ s := by
              have := b12 s s0
              rw [b] at this
              have := this.symm
              simp only [Bool.and_eq_true, decide_eq_true_eq] at this
              exact this.1.1.1
            obtain ⟨b1, b2'⟩ := (bb s sp).mp b
            exact ⟨s, sp, b1, ⟨by omega, by omega⟩, by rw [b2']; exact y⟩
        · rintro ⟨s, s1, b, ⟨y1, y2⟩, y3⟩
          by_cases e : hnd L x4 s = n
          · rw [e] at y3; exact Or.inr y3
          · exact Or.inl ⟨s, s1, b, ⟨y1, by omega⟩, y3⟩
  subst e10
  subst e5
  refine loop _ 0 x6 0 (Nat.le_refl _) (by decide) hn0 (fun s s0 => ?_) (fun x x0 => ?_)
  · rw [e6]
    exact ⟨fun y => ⟨y, by omega⟩, fun y => y.1⟩
  · rw [bi_zero]
    exact ⟨(fun y => by cases y), fun ⟨s, _, _, ⟨y1, y2⟩, _⟩ => by omega⟩
end FL4
