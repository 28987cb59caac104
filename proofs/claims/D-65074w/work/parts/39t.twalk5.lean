/-! Part 39t: the twin's walk -/
set_option maxRecDepth 100000
noncomputable def wthr (L : PG) (R : Int → Prop) (m turn most : Int) : Int := cif (inM L m) (cif ((1 ≤ turn ∧ turn ≤ 50) ∧ 1 ≤ most ∧ most ≤ 5000) (cif (R m) 0 1) 3) 2
theorem wnx_go {L : PG} {turn most t j : Int} {A : MA} (c : j < turn ∧ rnb L A t) (d : ¬ A 396 95 = most) : wnx L turn most (A, -1, t, j) = (acA L A t, (if endN (acA L A t) = bgn (acA L A t) then 0 else if acA L A t 396 103 = 0 then -1 else 3), t, j + 1) := by
  show cif (j < turn ∧ (-1 : Int) = -1 ∧ rnb L A t) (if A 396 95 = most then (A, (if endN A = bgn A then (0 : Int) else 1), t, j + 1) else (acA L A t, (if endN (acA L A t) = bgn (acA L A t) then (0 : Int) else if acA L A t 396 103 = 0 then -1 else 3), t, j + 1)) _ = _
  rw [cif_p ⟨c.1, rfl, c.2⟩, if_neg d]
theorem wnx_sp {L : PG} {turn most t j : Int} {A : MA} (c : j < turn ∧ rnb L A t) (d : A 396 95 = most) : wnx L turn most (A, -1, t, j) = (A, (if endN A = bgn A then 0 else 1), t, j + 1) := by
  show cif (j < turn ∧ (-1 : Int) = -1 ∧ rnb L A t) (if A 396 95 = most then (A, (if endN A = bgn A then (0 : Int) else 1), t, j + 1) else (acA L A t, (if endN (acA L A t) = bgn (acA L A t) then (0 : Int) else if acA L A t 396 103 = 0 then -1 else 3), t, j + 1)) _ = _
  rw [cif_p ⟨c.1, rfl, c.2⟩, if_pos d]
theorem wnx_mv {L : PG} {turn most t j : Int} {A : MA} (c : ¬ (j < turn ∧ rnb L A t)) : wnx L turn most (A, -1, t, j) = (A, cif (stk L A) (if A 396 95 = most then 1 else 2) (-1), nxT A t, 0) := by
  show cif (j < turn ∧ (-1 : Int) = -1 ∧ rnb L A t) _ (A, cif ((-1 : Int) = -1 ∧ stk L A) (if A 396 95 = most then (1 : Int) else 2) (-1), nxT A t, (0 : Int)) = _
  rw [cif_n (fun z => c ⟨z.1, z.2.2⟩)]
  by_cases s : stk L A
  · rw [cif_p ⟨rfl, s⟩, cif_p s]
  · rw [cif_n (fun z => s z.2), cif_n s]
theorem ioo_c {A B : MA} (e : eqm A B) (i : ioo B) : ioo A := by
  unfold ioo at i ⊢
  rw [e.s (j := 82) (by decide) (by decide), e.s (j := 80) (by decide) (by decide), e.s (j := 96) (by decide) (by decide)]
  exact ⟨i.1, fun j a b => by rw [e.a (a := 507) (by decide) (by decide)]; exact i.2.1 j a b, i.2.2⟩
theorem STR_c {L : PG} {A B : MA} (e : eqm A B) (i : STR L B) : STR L A := by
  unfold STR at i ⊢
  rw [bgn_c e]
  refine ⟨i.1, fun t a b => ?_⟩
  have := i.2 t a b
  rw [e.a (a := 508) (by decide) (by decide), e.a (a := 509) (by decide) (by decide), fA_c e, e.a (a := 511) (by decide) (by decide)]
  exact this
theorem rnb_c {L : PG} {A B : MA} (e : eqm A B) (t : Int) : rnb L A t ↔ rnb L B t := by
  unfold rnb
  rw [wtg_c e, e.a (a := 508) (by decide) (by decide)]
theorem wg_c {L : PG} {m : Int} {A B : MA} (e : eqm A B) : ∀ n : Nat, eqm (wgA L m A n) (wgA L m B n)
  | 0 => e
  | n + 1 => by
    have ih := wg_c (L := L) (m := m) e n
    show eqm (if pLk L m n = 0 then mset (inA (wgA L m A n)) 513 n (inV (wgA L m A n)) else mset (wgA L m A n) 513 n 0) (if pLk L m n = 0 then mset (inA (wgA L m B n)) 513 n (inV (wgA L m B n)) else mset (wgA L m B n) 513 n 0)
    rw [inV_c ih]
    exact ite_c (fun _ => mset_c (in_c ih)) (fun _ => mset_c ih)
theorem st_str {L : PG} {A : MA} {m : Int} (w : WF L) (hm : inM L m) (i1 : 0 ≤ A 396 80 ∧ A 396 80 ≤ 200) (ic : ∀ i, 0 ≤ i → i < 200 → c32 (A 507 i)) : STR L (stW L A m) ∧ ioo (stW L A m) ∧ stW L A m 396 103 = 0 ∧ stW L A m 396 96 = 0 ∧ stW L A m 396 95 = 0 ∧ bgn (stW L A m) = 1 := by
  obtain ⟨-, -, -, ar0, ar4, -, -, -, al, l8, lk01, -, -, -, -, co1, co2, fi0, fi1, mo, dp0, -⟩ := w.m hm.1 hm.2
  obtain ⟨b1, b2, b3, b4⟩ := st_v (L := L) (A := A) (m := m) i1 ic ar0
  have eb : bgn (stW L A m) = 1 := by unfold bgn; rw [b1 _ _ (by decide) (by omega), o0_v]; unfold w0A; simp
  have e508 : stW L A m 508 0 = 0 := by rw [b1 _ _ (by decide) (by omega), o0_v]; unfold w0A; simp
  have e509 : stW L A m 509 0 = 1 := by rw [b1 _ _ (by decide) (by omega), o0_v]; simp
  have e511 : stW L A m 511 0 = pFi L m := by rw [b1 _ _ (by decide) (by omega), o0_v]; simp
  have e103 : stW L A m 396 103 = 0 := by rw [b1 _ _ (by decide) (by omega), o0_v]; unfold w0A; simp
  have e96 : stW L A m 396 96 = 0 := by rw [b1 _ _ (by decide) (by omega), o0_v]; unfold w0A; simp
  have e95 : stW L A m 396 95 = 0 := by rw [b1 _ _ (by decide) (by omega), o0_v]; unfold w0A; simp
  have e80 : stW L A m 396 80 = A 396 80 := by rw [b1 _ _ (by decide) (by omega), o0_v]; unfold w0A; simp
  have e507 : ∀ i, stW L A m 507 i = A 507 i := fun i => by rw [b1 _ _ (by decide) (by omega), o0_v]; unfold w0A; simp
  refine ⟨⟨⟨by omega, by omega⟩, fun t t0 t1 => ?_⟩, ?_, e103, e96, e95, eb⟩
  · have et : t = 0 := by omega
    subst et
    refine ⟨Or.inl e508, fun _ => ⟨by omega, ?_⟩⟩
    unfold fA
    rw [e509, show (30 * 0 + 1 - 1 : Int) = 0 by decide, e511]
    exact ⟨fi0, by omega⟩
  · unfold ioo
    rw [e80, e96]
    exact ⟨⟨b2.1, b2.2, i1.2⟩, fun i a b => by rw [e507]; exact ic i a b, by decide, by decide⟩
theorem mfr_wg {L : PG} {m : Int} {A B : MA} (f : mfr A B) : ∀ n : Nat, mfr A (wgA L m B n)
  | 0 => f
  | n + 1 => by
    have ih := mfr_wg (L := L) (m := m) f n
    show mfr A (if pLk L m n = 0 then mset (inA (wgA L m B n)) 513 n (inV (wgA L m B n)) else mset (wgA L m B n) 513 n 0)
    exact mfr_ite (fun _ => mfr_set (mfr_in ih) (mch_a (by decide) (by decide))) (fun _ => mfr_set ih (mch_a (by decide) (by decide)))
theorem t_walk {l : Launch} {G : JG} (hG : gO G = true) {h : MH} {L : PG} {R : Int → Prop} (tw : TW L R h) (wt : WFt L) {m turn most : Int} (i1 : 0 ≤ hv h 396 80 ∧ hv h 396 80 ≤ 200) {Q : Int → MH → Prop} {E : Nat → Int → MH → Prop}
    (h1 : wthr L R m turn most ≠ 0 → Q 0 (hset h 396 0 (wthr L R m turn most)) ∧ Q 0 (hset (hset h 396 0 4) 396 0 (wthr L R m turn most)))
    (h2 : wthr L R m turn most = 0 → ∀ how h' A', frV h h' → TW L R h' → wres L turn most (stW L (hv h) m, -1, 0, 0) A' how → eqm (hv h') (mset A' 396 80 0) → (0 ≤ hv h' 396 96 ∧ hv h' 396 96 < 1000000) → STR L (hv h') → hv h' 396 0 = 0 → Q how h') : S_X9_walk l G [(2009, 396), (0, m), (0, turn), (0, most)] h Q E := by
  refine Sem_hyp fun H ok => ?_
  have ic : ∀ i, 0 ≤ i → i < 200 → c32 (hv h 507 i) := fun i a b => okf_i (tw_ok H hG (ok _ List.mem_cons_self) 81 (off := 111) (n := 200) (t := 100) (e := 0) (by decide) (by decide) (by decide) (by decide) (by decide) a (by omega))
  have tf := tw.tf
  have w := tw.w
  have nn := w.n
  unfold WFn at nn
  refine s_X9_walk rfl fun K ki => r_X9_walk_0 ki hG ?_
  rw [tf.nnm, w32_i (by omega) (by omega)]
  refine ⟨fun _ => ⟨tf.ne, fun c _ _ => ?_⟩, ?_⟩
  · have : ¬ ¬ (0 ≤ m ∧ m ≤ pNm L - 1) := fun z => c (isin_z.mpr z)
    omega
  intro g0 e0
  rw [if_neg tf.ne] at e0
  by_cases am : inM L m
  case neg =>
    have z : wthr L R m turn most = 2 := cif_n am
    rw [if_pos (isin_z.mpr (fun y => am ⟨y.1, by omega⟩))] at e0
    rw [z] at h1
    have q := (h1 (by decide)).1
    rw [← e0] at q
    have e00 : hv g0 396 0 = 2 := by rw [e0, eq_a]
    exact ⟨fun _ => ⟨fun y => by omega, fun _ => q⟩, fun y => by omega⟩
  rw [if_neg (fun y => isin_z.mp y ⟨am.1, by have := am.2; omega⟩)] at e0
  by_cases at' : 1 ≤ turn ∧ turn ≤ 50
  case neg =>
    have z : wthr L R m turn most = 3 := by unfold wthr; rw [cif_p am, cif_n (fun y => at' y.1)]
    rw [if_pos (isin_z.mpr at')] at e0
    rw [z] at h1
    have q := (h1 (by decide)).1
    rw [← e0] at q
    have e00 : hv g0 396 0 = 3 := by rw [e0, eq_a]
    exact ⟨fun _ => ⟨fun y => by omega, fun _ => q⟩, fun y => by omega⟩
  rw [if_neg (fun y => isin_z.mp y at')] at e0
  by_cases ao : 1 ≤ most ∧ most ≤ 5000
  case neg =>
    have z : wthr L R m turn most = 3 := by unfold wthr; rw [cif_p am, cif_n (fun y => ao y.2)]
    rw [if_pos (isin_z.mpr ao)] at e0
    rw [z] at h1
    have q := (h1 (by decide)).1
    rw [← e0] at q
    have e00 : hv g0 396 0 = 3 := by rw [e0, eq_a]
    exact ⟨fun _ => ⟨fun y => by omega, fun _ => q⟩, fun y => by omega⟩
  rw [if_neg (fun y => isin_z.mp y ao)] at e0
  by_cases ar : R m
  case neg =>
    have z : wthr L R m turn most = 1 := by unfold wthr; rw [cif_p am, cif_p ⟨at', ao⟩, cif_n ar]
    have r0 : hv h 457 m = 0 := by
      apply Classical.byContradiction
      intro y
      exact ar ((tw.2.2.2.1 m am).mp y)
    rw [if_pos r0] at e0
    rw [z] at h1
    have q := (h1 (by decide)).2
    have e00 : hv g0 396 0 = 4 := by rw [e0, eq_a]
    refine ⟨fun y => by omega, fun _ => ?_⟩
    intro g6 e6
    have e60 : hv g6 396 0 = 1 := by rw [e6, eq_a]
    refine ⟨fun y => by omega, fun _ => ?_⟩
    rw [e6, e0]; exact q
  have z : wthr L R m turn most = 0 := by unfold wthr; rw [cif_p am, cif_p ⟨at', ao⟩, cif_p ar]
  have h2' := h2 z
  rw [if_neg ((tw.2.2.2.1 m am).mpr ar)] at e0
  have e00 : hv g0 396 0 = 0 := by rw [e0, eq_a]
  refine ⟨fun _ => ⟨fun _ => ?_, fun y => by omega⟩, fun y => by omega⟩
  refine s_X9_forgetWalks rfl fun K2 k2 => r_X9_forgetWalks_0 k2 hG ?_
  intro g1 a1 g2 a2 g3 a3 g4 a4 g5 a5 g6 a6 g7 a7
  refine ⟨Or.inl rfl, fun g8 a8 x4 ex4 => ?_⟩
  -- the loop of the walk
  have s5 := at'.1
  have fin8 : ∀ (g : MH) (A' : MA) (how v4 t : Int), how ≠ -1 → wki L R h g A' most how → wres L turn most (stW L (hv h) m, -1, 0, 0) A' how → JW K 238 [(2009, 396), (0, m), (0, turn), (0, most), (0, v4), (0, how), (0, t), (5000, 0)] [] g := by
    intro g A' how v4 t nh wk wr
    refine r_X9_walk_238 ki hG ⟨fun _ => ?_, fun y => absurd y nh⟩
    intro g' eg'
    obtain ⟨p1, p2, p3, p4, p5, p6, p7, p8⟩ := wk
    have el : g' = lft g (mset (hv g) 396 80 0) := eg'
    have fw : frW g g' := by rw [el]; exact frW_mset (Or.inr ⟨rfl, by decide, by decide⟩)
    have ee : eqm (hv g') (mset A' 396 80 0) := by rw [el, lft_hv]; exact mset_c p3
    have ev : ∀ a j, ¬ (a = 396 ∧ j = 80) → hv g' a j = hv g a j := fun a j q => by rw [el, lft_hv, m_ne q]
    refine h2' how g' A' (frV_tr p1 (frV_W fw)) (frW_TW fw p2) wr ee ?_ ?_ ?_
    · rw [ev _ _ (by omega)]; exact p6.2.2
    · unfold STR bgn fA at p5 ⊢
      rw [ev 396 83 (by omega)]
      refine ⟨p5.1, fun t a b => ?_⟩
      have := p5.2 t a b
      rw [ev 508 _ (by omega), ev 509 _ (by omega), ev 511 _ (by omega)]
      exact this
    · rw [ev _ _ (by omega)]; exact p7
  have fin7 : ∀ (g : MH) (A' : MA) (how v4 t j : Int), how ≠ -1 → wki L R h g A' most how → wres L turn most (stW L (hv h) m, -1, 0, 0) A' how → JW K 247 [(2009, 396), (0, m), (0, turn), (0, most), (0, v4), (0, how), (0, t), (0, j)] [] g := by
    intro g A' how v4 t j nh wk wr
    exact r_X9_walk_247 ki hG ⟨fun _ y => absurd y nh, fun y => absurd y.2.1 nh, fun _ => ⟨fun _ x ex => fin8 g A' how v4 x nh wk wr, fun y => absurd y nh⟩⟩
  have mvv : ∀ (g : MH) (A : MA) (v4 t j : Int), wki L R h g A most (-1) → 0 ≤ t → t < bgn A → ¬ (j < turn ∧ rnb L A t) → (∀ A' x, wres L turn most (A, -1, t, j) A' x → wres L turn most (stW L (hv h) m, -1, 0, 0) A' x) →
      (¬ stk L A → (∀ A' x, wres L turn most (A, -1, nxT A t, 0) A' x → wres L turn most (stW L (hv h) m, -1, 0, 0) A' x) → JW K 247 [(2009, 396), (0, m), (0, turn), (0, most), (0, v4), (0, -1), (0, nxT A t), (0, 0)] [] g) →
      JW K 247 [(2009, 396), (0, m), (0, turn), (0, most), (0, v4), (0, -1), (0, t), (0, j)] [] g := by
    intro g A v4 t j wk t0 t1 nc hs hk
    have wk' := wk
    obtain ⟨p1, p2, p3, p4, p5, p6, p7, p8⟩ := wk'
    have eb := bgn_c p3
    have b8 := p5.1
    have e83 : hv g 396 83 = bgn A := eb
    have stu : S_X9_isStuck l G [(2009, 396)] g (fun z24 h25 =>
        ((z24 = 0 →
          (∀ x6_26 : Int, x6_26 = (if (w32 (t + 1)) < (hv h25 396 83) then (w32 (t + 1)) else 0 : Int) →
          JW K 238 [(2009, 396), (0, m), (0, turn), (0, most), (0, v4), (0, -1), (0, x6_26), (5000, 0)] [] h25)) ∧
        (¬ z24 = 0 →
          (∀ x5_27 : Int, x5_27 = (if (hv h25 396 95) = most then 1 else 2 : Int) →
          (∀ x6_28 : Int, x6_28 = (if (w32 (t + 1)) < (hv h25 396 83) then (w32 (t + 1)) else 0 : Int) →
          JW K 238 [(2009, 396), (0, m), (0, turn), (0, most), (0, v4), (0, x5_27), (0, x6_28), (5000, 0)] [] h25))))) E := by
      refine t_isStuck hG p2.tf w p5 fun z z01 iz => ⟨fun z0 x6 ex => ?_, fun z1 x5 e5 x6 ex => ?_⟩
      · have ns : ¬ stk L A := fun q => by
          have := iz.mpr ((stk_c p3).mpr q)
          exact this z0
        rw [w32_i (by omega) (by omega), e83] at ex
        have ex' : x6 = nxT A t := ex
        rw [ex']
        refine r_X9_walk_238 ki hG ⟨fun y => absurd rfl y, fun _ x7 e7 => ?_⟩
        rw [e7]
        exact hk ns (fun A' x q => hs A' x (wres_s (by rw [wnx_mv nc, cif_n ns]; exact q)))
      · have st : stk L A := (stk_c p3).mp (iz.mp z1)
        have e95 : hv g 396 95 = A 396 95 := p3.s (by decide) (by decide)
        rw [e95] at e5
        have n1 : x5 ≠ -1 := by rw [e5]; split <;> decide
        refine fin8 g A x5 v4 x6 n1 ⟨p1, p2, p3, p4, p5, p6, p7, fun y => absurd y n1⟩ (hs A x5 (wres_s ?_))
        rw [wnx_mv nc, cif_p st, ← e5]
        exact wres_0 n1
    refine r_X9_walk_247 ki hG ⟨fun _ _ => ⟨t0, by omega⟩, fun y => ?_, fun _ => ⟨fun q => absurd rfl q, fun _ => stu⟩⟩
    have f := p5.f t0 (by omega) y.2.2
    refine t_isWaiting hG p2.tf w f.1 f.2 fun z z01 iz => ⟨fun z1 => ⟨fun q => absurd rfl q, fun _ => stu⟩, fun z0 => ?_⟩
    exfalso
    apply nc
    refine ⟨y.1, (rnb_c p3 t).mp ⟨y.2.2, fun q => ?_⟩⟩
    exact (iz.mpr q) z0
  have act : ∀ (g : MH) (A : MA) (v4 t j : Int), wki L R h g A most (-1) → 0 ≤ t → t < bgn A → j < turn → 0 ≤ j → rnb L A t → (∀ A' x, wres L turn most (A, -1, t, j) A' x → wres L turn most (stW L (hv h) m, -1, 0, 0) A' x) →
      (hv g 396 95 < most → ∀ (g' : MH) (A' : MA) (t' j' : Int), wki L R h g' A' most (-1) → hv g' 396 95 = hv g 396 95 + 1 → 0 ≤ t' → t' < bgn A' → 0 ≤ j' → j' ≤ turn → (∀ B x, wres L turn most (A', -1, t', j') B x → wres L turn most (stW L (hv h) m, -1, 0, 0) B x) →
        JW K 247 [(2009, 396), (0, m), (0, turn), (0, most), (0, v4), (0, -1), (0, t'), (0, j')] [] g') →
      JW K 247 [(2009, 396), (0, m), (0, turn), (0, most), (0, v4), (0, -1), (0, t), (0, j)] [] g := by
    intro g A v4 t j wk t0 t1 jt j0 rn hs ihA
    have wk' := wk
    obtain ⟨p1, p2, p3, p4, p5, p6, p7, p8⟩ := wk'
    obtain ⟨f103, o0, o1, o2⟩ := p8 rfl
    have eb := bgn_c p3
    have b8 := p5.1
    have rg := (rnb_c p3 t).mpr rn
    have f := p5.f t0 (by omega) rg.1
    have e95 : hv g 396 95 = A 396 95 := p3.s (by decide) (by decide)
    refine r_X9_walk_247 ki hG ⟨fun _ _ => ⟨t0, by omega⟩, fun y => ?_, fun y => absurd ⟨jt, rfl, rg.1⟩ y⟩
    refine t_isWaiting hG p2.tf w f.1 f.2 fun z z01 iz => ⟨fun z1 => absurd (iz.mp z1) rg.2, fun _ => ⟨fun sm => ?_, fun sm => ?_⟩⟩
    · refine t_act hG p2 wt p4 t0 (by omega) rg.1 rg.2 f103 p6 ⟨by omega, by omega⟩ fun z9 g' f' tw' em' I' S' z01' z103 e0' => ?_
      intro x5 ex5
      have eA : eqm (hv g') (acA L A t) := eqm_tr em' (ac_c p3 t)
      have af := ac_f (L := L) (A := hv g) (t := t) p6.1.2.1
      have k80 : hv g' 396 80 = hv g 396 80 := (em'.s (by decide) (by decide)).trans af.2.1
      have k82 : hv g' 396 82 = acA L (hv g) t 396 82 := em'.s (by decide) (by decide)
      have k96 : hv g' 396 96 = acA L (hv g) t 396 96 := em'.s (by decide) (by decide)
      have k95 : hv g' 396 103 = 0 → hv g' 396 95 = hv g 396 95 + 1 := fun q => by
        rw [em'.s (j := 103) (by decide) (by decide)] at q
        rw [em'.s (j := 95) (by decide) (by decide)]; exact af.1 q
      have a82 := af.2.2.2.2.1
      have a96 := af.2.2.2.1
      have i82 := p6.1
      have ioo' : ioo (hv g') := by
        refine ⟨by omega, fun i a b => ?_, by omega⟩
        rw [em'.a (a := 507) (by decide) (by decide), af.2.2.1 i]
        exact p6.2.1 i a b
      have b' := S'.1
      have eb' := bgn_c eA
      have e83 : hv g' 396 83 = bgn (hv g') := rfl
      have bm : bgn A ≤ bgn (acA L A t) := by
        unfold acA bgn
        have q := (m57_do (L := L) (A := mset A 396 102 0) (t := t) (k := A 511 (fA A t))).g
        rw [m_ne (by omega)] at q
        split
        · rw [m_ne (by omega)]; exact q
        · exact q
      have w0 : ∀ x, x ≠ -1 → wki L R h g' (acA L A t) most x := fun x nx => ⟨frV_tr p1 f', tw', eA, I', S', ioo', e0'.trans p7, fun y => absurd y nx⟩
      refine t_endedThreads hG (by omega) b'.2 ?_
      rw [endN_c eA, e83, eb']
      have wg := wnx_go (L := L) (turn := turn) (most := most) (A := A) (t := t) (j := j) ⟨jt, rn⟩ (by rw [← e95]; exact sm)
      have e103 : acA L A t 396 103 = hv g' 396 103 := (eA.s (by decide) (by decide)).symm
      refine ⟨fun ne x7 e7 => ?_, fun eq x6 e6 x7 e7 => ?_⟩
      · rw [if_neg ne, e103] at wg
        by_cases c103 : hv g' 396 103 = 0
        · rw [if_pos c103] at wg
          have ez : z9 = 1 := z103.mpr c103
          rw [if_neg (by omega)] at ex5
          rw [ex5, e7, w32_i (by omega) (by omega)]
          have k := k95 c103
          refine ihA (by omega) g' (acA L A t) t (j + 1) ⟨frV_tr p1 f', tw', eA, I', S', ioo', e0'.trans p7, fun _ => ⟨c103, by omega, by omega, by omega⟩⟩ k t0 (by omega) (by omega) (by omega) (fun B x q => hs B x (wres_s (by rw [wg]; exact q)))
        · rw [if_neg c103] at wg
          have ez : z9 = 0 := by
            rcases z01' with q | q
            · exact q
            · exact absurd (z103.mp q) c103
          rw [if_pos ez] at ex5
          rw [ex5]
          exact fin7 g' (acA L A t) 3 v4 t x7 (by decide) (w0 3 (by decide)) (hs _ _ (wres_s (by rw [wg]; exact wres_0 (by decide))))
      · rw [if_pos eq] at wg
        rw [e6]
        exact fin7 g' (acA L A t) 0 v4 t x7 (by decide) (w0 0 (by decide)) (hs _ _ (wres_s (by rw [wg]; exact wres_0 (by decide))))
    · intro x5 e5
      have w0 : ∀ x, x ≠ -1 → wki L R h g A most x := fun x nx => ⟨p1, p2, p3, p4, p5, p6, p7, fun y => absurd y nx⟩
      refine t_endedThreads hG (by omega) b8.2 ?_
      have e83 : hv g 396 83 = bgn (hv g) := rfl
      rw [endN_c p3, e83, eb]
      have wg := wnx_sp (L := L) (turn := turn) (most := most) (A := A) (t := t) (j := j) ⟨jt, rn⟩ (by rw [← e95]; exact sm)
      refine ⟨fun ne x7 e7 => ?_, fun eq x6 e6 x7 e7 => ?_⟩
      · rw [if_neg ne] at wg
        rw [e5]
        exact fin7 g A 1 v4 t x7 (by decide) (w0 1 (by decide)) (hs _ _ (wres_s (by rw [wg]; exact wres_0 (by decide))))
      · rw [if_pos eq] at wg
        rw [e6]
        exact fin7 g A 0 v4 t x7 (by decide) (w0 0 (by decide)) (hs _ _ (wres_s (by rw [wg]; exact wres_0 (by decide))))
  have tail : ∀ (g : MH) (A : MA) (v4 t j : Int), wki L R h g A most (-1) → 0 ≤ t → t < bgn A → 0 ≤ j → j ≤ turn → (∀ A' x, wres L turn most (A, -1, t, j) A' x → wres L turn most (stW L (hv h) m, -1, 0, 0) A' x) →
      (hv g 396 95 < most → ∀ (g' : MH) (A' : MA) (t' j' : Int), wki L R h g' A' most (-1) → hv g' 396 95 = hv g 396 95 + 1 → 0 ≤ t' → t' < bgn A' → 0 ≤ j' → j' ≤ turn → (∀ B x, wres L turn most (A', -1, t', j') B x → wres L turn most (stW L (hv h) m, -1, 0, 0) B x) →
        JW K 247 [(2009, 396), (0, m), (0, turn), (0, most), (0, v4), (0, -1), (0, t'), (0, j')] [] g') →
      JW K 247 [(2009, 396), (0, m), (0, turn), (0, most), (0, v4), (0, -1), (0, t), (0, j)] [] g := by
    intro g A v4 t j wk t0 t1 j0 j1 hs ihA
    have nx0 : ∀ t, 0 ≤ t → t < bgn A → 0 ≤ nxT A t ∧ nxT A t < bgn A := by
      intro t a b
      unfold nxT
      split <;> omega
    have dist : ∀ D : Nat, ∀ t, 0 ≤ t → t < bgn A → rnb L A (adv (bgn A) D t) → (∀ A' x, wres L turn most (A, -1, t, 0) A' x → wres L turn most (stW L (hv h) m, -1, 0, 0) A' x) →
        JW K 247 [(2009, 396), (0, m), (0, turn), (0, most), (0, v4), (0, -1), (0, t), (0, 0)] [] g := by
      intro D
      induction D with
      | zero => intro t a b r c; exact act g A v4 t 0 wk a b (by omega) (by omega) r c ihA
      | succ D ih =>
        intro t a b r c
        by_cases q : rnb L A t
        · exact act g A v4 t 0 wk a b (by omega) (by omega) q c ihA
        · have n := nx0 t a b
          exact mvv g A v4 t 0 wk a b (fun z => q z.2) c (fun _ c' => ih (nxT A t) n.1 n.2 r c')
    by_cases c : j < turn ∧ rnb L A t
    · exact act g A v4 t j wk t0 t1 c.1 j0 c.2 hs ihA
    · refine mvv g A v4 t j wk t0 t1 c hs (fun ns c' => ?_)
      have n := nx0 t t0 t1
      have : ∃ u, 0 ≤ u ∧ u < bgn A ∧ rnb L A u := by
        apply Classical.byContradiction
        intro y
        apply ns
        intro u u0 u1
        by_cases q : A 508 u = 0
        · right
          apply Classical.byContradiction
          intro q2
          exact y ⟨u, u0, u1, q, q2⟩
        · exact Or.inl q
      obtain ⟨u, u0, u1, ru⟩ := this
      obtain ⟨d, ed⟩ := adv_ex n.1 n.2 u0 u1
      exact dist d (nxT A t) n.1 n.2 (by rw [ed]; exact ru) c'
  have main : ∀ N : Nat, ∀ (g : MH) (A : MA) (v4 t j : Int), wki L R h g A most (-1) → (most - hv g 396 95).toNat ≤ N → 0 ≤ t → t < bgn A → 0 ≤ j → j ≤ turn → (∀ A' x, wres L turn most (A, -1, t, j) A' x → wres L turn most (stW L (hv h) m, -1, 0, 0) A' x) →
      JW K 247 [(2009, 396), (0, m), (0, turn), (0, most), (0, v4), (0, -1), (0, t), (0, j)] [] g := by
    intro N
    induction N with
    | zero =>
      intro g A v4 t j wk hN t0 t1 j0 j1 hs
      exact tail g A v4 t j wk t0 t1 j0 j1 hs (fun q => by omega)
    | succ N ih =>
      intro g A v4 t j wk hN t0 t1 j0 j1 hs
      exact tail g A v4 t j wk t0 t1 j0 j1 hs (fun q g' A' t' j' wk' e' a b c d s => ih g' A' v4 t' j' wk' (by omega) a b c d s)
  -- how it starts
  have v8 : ∀ a j, hv g8 a j = if a = 396 ∧ (j = 0 ∨ j = 82 ∨ j = 83 ∨ j = 91 ∨ j = 95 ∨ j = 96 ∨ j = 99 ∨ j = 100 ∨ j = 103) then 0 else hv h a j := by
    intro a j
    rw [a8, a7, a6, a5, a4, a3, a2, a1, e0]
    by_cases ha : a = 396
    · subst ha
      simp only [hv_set, true_and]
      by_cases hj : j = 0 ∨ j = 82 ∨ j = 83 ∨ j = 91 ∨ j = 95 ∨ j = 96 ∨ j = 99 ∨ j = 100 ∨ j = 103
      · rw [if_pos hj]
        repeat' split
        all_goals first | rfl | omega
      · rw [if_neg hj]
        repeat rw [if_neg (by omega)]
    · rw [if_neg (fun q => ha q.1)]
      repeat rw [ne_a ha]
  have t8 : g8.2 = h.2 := by rw [a8, a7, a6, a5, a4, a3, a2, a1, e0]; rfl
  subst ex4
  have ini : ∀ N : Nat, ∀ (n : Int) (g : MH), (8 - n).toNat ≤ N → 0 ≤ n → n ≤ 8 → (g.2 = h.2 ∧ ∀ a j, hv g a j = if a = 514 ∧ 0 ≤ j ∧ j < n then -1 else if a = 521 ∧ 0 ≤ j ∧ j < n then 0 else hv g8 a j) →
      JW K 114 [(2009, 396), (0, m), (0, turn), (0, most), (0, n), (5000, 0), (5000, 0), (5000, 0)] [] g := by
    intro N
    induction N with
    | succ N ih =>
      intro n g hN n0 n8 hg
      by_cases c : n = 8
      · exact ih n g (by omega) n0 n8 hg
      refine r_X9_walk_114 ki hG ⟨fun y => by omega, fun y => ⟨n0, y, fun q1 b1 => ⟨n0, y, fun q2 b2 x ex => ?_⟩⟩⟩
      rw [w32_i (by omega) (by omega)] at ex
      subst ex
      refine ih (n + 1) q2 (by omega) (by omega) (by omega) ⟨by rw [b2, b1]; exact hg.1, fun a j => ?_⟩
      rw [b2, b1]
      simp only [hv_set, hg.2 a j]
      by_cases h4 : a = 514
      · subst h4
        by_cases hj : j = n
        · subst hj
          rw [if_neg (by omega), if_pos ⟨rfl, rfl⟩, if_pos ⟨rfl, n0, by omega⟩]
        · rw [if_neg (by omega), if_neg (by omega)]
          by_cases hl : 0 ≤ j ∧ j < n
          · rw [if_pos ⟨rfl, hl⟩, if_pos ⟨rfl, hl.1, by omega⟩]
          · rw [if_neg (by omega), if_neg (by omega), if_neg (by omega), if_neg (by omega)]
      · by_cases h5 : a = 521
        · subst h5
          by_cases hj : j = n
          · subst hj
            rw [if_pos ⟨rfl, rfl⟩, if_neg (by omega), if_pos ⟨rfl, n0, by omega⟩]
          · rw [if_neg (by omega), if_neg (by omega)]
            by_cases hl : 0 ≤ j ∧ j < n
            · rw [if_neg (by omega), if_pos ⟨rfl, hl⟩, if_neg (by omega), if_pos ⟨rfl, hl.1, by omega⟩]
            · rw [if_neg (by omega), if_neg (by omega), if_neg (by omega), if_neg (by omega)]
        · rw [if_neg (by omega), if_neg (by omega), if_neg (by omega), if_neg (by omega), if_neg (by omega), if_neg (by omega)]
    | zero =>
      intro n g hN n0 n8 hg
      have en : n = 8 := by omega
      subst en
      refine r_X9_walk_114 ki hG ⟨fun _ q1 b1 => ⟨by decide, by decide, Or.inl rfl, fun q2 b2 => ⟨by decide, by decide, fun q3 b3 => ?_⟩⟩, fun y => by omega⟩
      have t3 : q3.2 = h.2 := by rw [b3, b2, b1]; exact hg.1
      have v3 : ∀ a j, hv q3 a j = if a = 396 ∧ j = 0 then 0 else w0A (hv h) a j := by
        intro a j
        rw [b3, b2, b1]
        simp only [hv_set, hg.2 a j, v8 a j]
        unfold w0A
        by_cases ha : a = 396
        · subst ha
          rw [if_neg (by omega), if_neg (by omega)]
          by_cases c0 : j = 0
          · rw [if_neg (by omega), if_neg (by omega), if_neg (by omega), if_pos ⟨rfl, Or.inl c0⟩, if_pos ⟨rfl, c0⟩]
          · by_cases c83 : j = 83
            · rw [if_pos ⟨rfl, c83⟩, if_neg (by omega), if_neg (by omega), if_pos ⟨rfl, c83⟩]
            · rw [if_neg (by omega), if_neg (by omega), if_neg (by omega)]
              by_cases cj : j = 82 ∨ j = 91 ∨ j = 95 ∨ j = 96 ∨ j = 99 ∨ j = 100 ∨ j = 103
              · rw [if_pos ⟨rfl, by omega⟩, if_neg (by omega), if_pos ⟨rfl, cj⟩]
              · rw [if_neg (by omega), if_neg (by omega), if_neg (by omega), if_neg (by omega), if_neg (by omega), if_neg (by omega), if_neg (by omega)]
        · by_cases h9 : a = 509 ∧ j = 0
          · rw [if_pos h9, if_neg (by omega), if_neg (by omega), if_neg (by omega), if_neg (by omega), if_neg (by omega), if_pos ⟨Or.inr h9.1, h9.2⟩]
          · by_cases h8 : a = 508 ∧ j = 0
            · rw [if_neg h9, if_pos h8, if_neg (by omega), if_neg (by omega), if_neg (by omega), if_neg (by omega), if_neg (by omega), if_pos ⟨Or.inl h8.1, h8.2⟩]
            · rw [if_neg h9, if_neg h8, if_neg (by omega)]
              by_cases h4 : a = 514 ∧ 0 ≤ j ∧ j < 8
              · rw [if_pos h4, if_neg (by omega), if_neg (by omega), if_neg (by omega), if_pos h4]
              · by_cases h5 : a = 521 ∧ 0 ≤ j ∧ j < 8
                · rw [if_neg h4, if_pos h5, if_neg (by omega), if_neg (by omega), if_neg (by omega), if_neg h4, if_pos h5]
                · rw [if_neg h4, if_neg h5, if_neg (by omega), if_neg (by omega), if_neg (by omega), if_neg (by omega), if_neg h4, if_neg h5, if_neg (by omega)]
      have tw0 : TW L R g0 := by rw [e0]; exact TW_set (Or.inl rfl) tw
      have f03 : frW g0 q3 := by
        refine ⟨by rw [t3, e0]; rfl, fun a j x y => ?_⟩
        rw [v3, e0, hv_set]
        by_cases c0 : a = 396 ∧ j = 0
        · rw [if_pos c0, if_pos c0]
        · rw [if_neg c0, if_neg c0]
          unfold w0A
          rw [if_neg (by omega), if_neg (by omega), if_neg (by omega), if_neg (by omega), if_neg (by omega)]
      have tw3 := frW_TW f03 tw0
      have e3 : eqm (hv q3) (w0A (hv h)) := by
        intro a j hm
        rw [v3, if_neg (by unfold mch at hm; omega)]
      have fV : frV h g0 := by rw [e0]; exact frV_Q (frQ_set (Or.inl rfl))
      have e509 : hv q3 509 0 = 0 := by rw [v3, if_neg (by omega)]; unfold w0A; simp
      have e396 : hv q3 396 0 = 0 := by rw [v3, if_pos ⟨rfl, rfl⟩]
      obtain ⟨-, -, -, ar0, ar4, -, -, -, al, l8, lk01, -⟩ := w.m am.1 am.2
      have m40 : 0 ≤ m ∧ m < 40 := ⟨am.1, by have := am.2; omega⟩
      refine t_open hG tw3.tf (by decide) (by decide) (by omega) (by omega) m40 ?_
      intro x4 ex4 x5 ex5
      rw [e509] at ex4
      have ex4' : x4 = 0 := ex4
      have ss := st_str (L := L) (A := hv h) (m := m) w am i1 ic
      have arg : ∀ N : Nat, ∀ n : Nat, ((pAr L m).toNat - n) ≤ N → n ≤ (pAr L m).toNat → JW K 173 [(2009, 396), (0, m), (0, turn), (0, most), (0, 0), (0, (n : Int)), (5000, 0), (5000, 0)] [] (lft q3 (wgA L m (opnA L (hv q3) 0 m) n)) := by
        intro N
        induction N with
        | zero =>
          intro n hN hn
          have en : n = (pAr L m).toNat := by omega
          have fW := mfr_W (h := q3) (mfr_wg (L := L) (m := m) (mfr_opn (L := L) (t := 0) (m := m) (mfr_rfl (hv q3))) n)
          have twn := frW_TW fW tw3
          have enn : (n : Int) = pAr L m := by omega
          refine r_X9_walk_173 ki hG ⟨twn.tf.ne, m40.1, m40.2, fun _ x5 e5 x6 e6 => ?_, fun y => ?_⟩
          · rw [e5, e6]
            refine r_X9_walk_238 ki hG ⟨fun y => absurd rfl y, fun _ x7 e7 => ?_⟩
            rw [e7]
            have eE : eqm (hv (lft q3 (wgA L m (opnA L (hv q3) 0 m) n))) (stW L (hv h) m) := by
              rw [lft_hv, en]
              exact wg_c (opn_c e3) _
            have k103 := (eE.s (j := 103) (by decide) (by decide)).trans ss.2.2.1
            have k96 := (eE.s (j := 96) (by decide) (by decide)).trans ss.2.2.2.1
            have k95 := (eE.s (j := 95) (by decide) (by decide)).trans ss.2.2.2.2.1
            refine main _ _ (stW L (hv h) m) 0 0 0 ⟨frV_tr fV (frV_W (frW_tr f03 fW)), twn, eE, fun T lT => INV_m w (eqm_sym eE) (st_inv w am ar i1 ic T lT), STR_c eE ss.1, ioo_c eE ss.2.1, ?_, fun _ => ⟨k103, by omega, by omega, by omega⟩⟩ (Nat.le_refl _) (by decide) (by rw [ss.2.2.2.2.2]; decide) (by decide) (by omega) (fun _ _ q => q)
            rw [fW.2 396 0 (by omega) (by omega)]; exact e396
          · rw [twn.tf.ar] at y; omega
        | succ N ih =>
          intro n hN hn
          by_cases en : n = (pAr L m).toNat
          · exact ih n (by omega) hn
          have mf := mfr_wg (L := L) (m := m) (mfr_opn (L := L) (t := 0) (m := m) (mfr_rfl (hv q3))) n
          have fW := mfr_W (h := q3) mf
          have twn := frW_TW fW tw3
          have nl : (n : Int) < pAr L m := by omega
          have ei : w32 (w32 (16 * 0) + (n : Int)) = n := by rw [w32_i (z := 16 * 0) (by decide) (by decide), w32_i (by omega) (by omega)]; omega
          have e8 : w32 (w32 (8 * m) + (n : Int)) = 8 * m + n := by rw [w32_i (z := 8 * m) (by omega) (by omega), w32_i (by omega) (by omega)]
          refine r_X9_walk_173 ki hG ⟨twn.tf.ne, m40.1, m40.2, fun y => ?_, fun y => ?_⟩
          · rw [twn.tf.ar] at y; omega
          rw [e8, ei, twn.tf.at 10 _ (by decide) (by decide)]
          refine ⟨twn.tf.ne, by omega, by omega, fun nk => ⟨by omega, by omega, fun q4 b4 x ex => ?_⟩, fun k0 => ?_⟩
          · rw [w32_i (by omega) (by omega)] at ex
            have hw : wgA L m (opnA L (hv q3) 0 m) (n + 1) = mset (wgA L m (opnA L (hv q3) 0 m) n) 513 n 0 := if_neg nk
            have := ih (n + 1) (by omega) (by omega)
            rw [hw] at this
            rw [b4, ex]
            exact this
          · have e80 : wgA L m (opnA L (hv q3) 0 m) n 396 80 = hv h 396 80 := by
              have q : eqm (wgA L m (opnA L (hv q3) 0 m) n) (wgA L m (opnA L (w0A (hv h)) 0 m) n) := wg_c (opn_c e3) n
              have o80 : opnA L (w0A (hv h)) 0 m 396 80 = hv h 396 80 := by rw [o0_v]; unfold w0A; simp
              have o82 : opnA L (w0A (hv h)) 0 m 396 82 = 0 := by rw [o0_v]; unfold w0A; simp
              have o507 : ∀ i, opnA L (w0A (hv h)) 0 m 507 i = hv h 507 i := fun i => by rw [o0_v]; unfold w0A; simp
              have wi := wg_inv (L := L) (m := m) (A := opnA L (w0A (hv h)) 0 m) (by omega) (by omega) (by omega) (fun i a b => by rw [o507]; exact ic i a b) n
              rw [q.s (by decide) (by decide), wi.1 396 80 (by decide) (by omega), o80]
            have e82 : 0 ≤ wgA L m (opnA L (hv q3) 0 m) n 396 82 ∧ wgA L m (opnA L (hv q3) 0 m) n 396 82 ≤ hv h 396 80 := by
              have q : eqm (wgA L m (opnA L (hv q3) 0 m) n) (wgA L m (opnA L (w0A (hv h)) 0 m) n) := wg_c (opn_c e3) n
              have o80 : opnA L (w0A (hv h)) 0 m 396 80 = hv h 396 80 := by rw [o0_v]; unfold w0A; simp
              have o82 : opnA L (w0A (hv h)) 0 m 396 82 = 0 := by rw [o0_v]; unfold w0A; simp
              have o507 : ∀ i, opnA L (w0A (hv h)) 0 m 507 i = hv h 507 i := fun i => by rw [o0_v]; unfold w0A; simp
              have wi := wg_inv (L := L) (m := m) (A := opnA L (w0A (hv h)) 0 m) (by omega) (by omega) (by omega) (fun i a b => by rw [o507]; exact ic i a b) n
              rw [q.s (by decide) (by decide), ← o80]; exact wi.2.1
            refine t_nextInput hG (by rw [lft_hv]; exact e82.1) (by rw [lft_hv]; omega) (by rw [lft_hv]; omega) ?_
            refine ⟨by omega, by omega, fun q7 b7 x ex => ?_⟩
            rw [w32_i (by omega) (by omega)] at ex
            have hw : wgA L m (opnA L (hv q3) 0 m) (n + 1) = mset (inA (wgA L m (opnA L (hv q3) 0 m) n)) 513 n (inV (wgA L m (opnA L (hv q3) 0 m) n)) := if_pos k0
            have := ih (n + 1) (by omega) (by omega)
            rw [hw] at this
            rw [b7, ex]
            exact this
      rw [ex4', ex5]
      exact arg _ 0 (Nat.le_refl _) (Nat.zero_le _)
  exact ini 8 0 g8 (by decide) (by decide) (by decide) ⟨t8, fun a j => by rw [if_neg (by omega), if_neg (by omega)]⟩
