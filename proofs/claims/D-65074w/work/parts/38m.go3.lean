/-! Part 38m: goOn: references, statics, locks -/
theorem bt1 {b : Bool} (h : (if b = true then 1 else 0 : Int) = 1) : b = true := by cases b <;> simp at h ⊢
theorem bt2 {b : Bool} (h : ¬ (if b = true then 1 else 0 : Int) = 0) : b = true := by cases b <;> simp at h ⊢
theorem bf1 {b : Bool} (h : (if b = true then 1 else 0 : Int) = 0) : b = false := by cases b <;> simp at h ⊢
theorem bf2 {b : Bool} (h : ¬ (if b = true then 1 else 0 : Int) = 1) : b = false := by cases b <;> simp at h ⊢
theorem opt_toss {l : Launch} {G : JG} (hG : gO G = true) {h h2 : MH} {L : PG} {k : Int} (q : wrk h L k h2) {g : MH} {P : TB → Prop} (a : AdvC L k h g P) (up : ∀ U V, tle U V → P U → P V) (e s : Int) (s0 : 1 ≤ s) (s1 : s < 7)
    (cond : ¬ e = 0 → ∀ U, tbok U → tle (tT h L) U → CLz L U U k → TS L U k (U 0 k) s (U 6 k 0)) {cont : MH → Prop} {E : Nat → Int → MH → Prop}
    (hC : ∀ h', AdvC L k h h' (fun U => P U ∧ (¬ e = 0 → TS L U k (tT h L 0 k) s (tT h L 6 k 0))) → cont h') : (e = 0 → cont g) ∧ (¬ e = 0 → S_X9_toss l G [(2009, 396), (0, k), (0, s)] g (fun _ h' => cont h') E) := by
  refine ⟨fun z => hC g (AdvC_w a (fun _ p => ⟨p, fun y => absurd z y⟩)), fun z => ?_⟩
  exact w_toss hG q a up s0 s1 (cond z) (Q := fun _ h' => cont h') (fun h' b => hC h' (AdvC_w b (fun _ p => ⟨p.1, fun _ => p.2⟩)))
/-- sites of a fact in a table are of the program -/
theorem tiv_sok {L : PG} {T : TB} (t : tiv L T) (w : WF L) (a i j : Int) : c64 (ast (T a i j)) ∧ ∀ s, 0 ≤ s → bl (ast (T a i j)) s = true → s < pNt L := by
  have nn := w.n
  unfold WFn at nn
  refine ⟨?_, fun s s0 q => ?_⟩
  · rcases t.1 a i j with z | z
    · rw [z]; show c64 0; unfold c64; omega
    · exact z.2.2.2.2.1
  · rcases t.2.1 a i j s s0 q with z | z
    · omega
    · exact z.1.2
theorem Flow_fs {L : PG} {U : TB} {q x so a b c : Int} {X : Int → FA} {lk : FA} (hs : c64 so) (nz : so ≠ 0) : Flow L U q (ux X x (fv a b c so)) lk ↔ ∀ s, 0 ≤ s → s < 64 → bl so s = true → Flow L U q (ux X x (fv a b c (l_shl 1 s))) lk := by
  have one : ∀ s, 0 ≤ s → s < 64 → bl so s = true → fle (fv a b c (l_shl 1 s)) (fv a b c so) := by
    intro s s0 s1 y
    refine fle_fv (Int.le_refl _) (Int.le_refl _) (fun _ z => z) (fun z y2 => ?_)
    by_cases z0 : 0 ≤ z
    · rw [bl_shl s0 s1 z0] at y2; simp at y2; rw [y2]; exact y
    · rw [bl_neg (by omega), bl_shl s0 s1 (by omega)] at y2
      simp at y2
      rw [bl_neg (by omega), y2]; exact y
  constructor
  · intro p s s0 s1 y
    exact Flow_le (ux_le (fun _ => fle_rfl _) (one s s0 s1 y)) (fle_rfl _) (tle_rfl _) p
  · intro p
    have ex : ∃ s, 0 ≤ s ∧ s < 64 ∧ bl so s = true := by
      apply Classical.byContradiction
      intro z
      apply nz
      rw [bl_eq0 hs]
      intro s s0 s1
      cases e : bl so s
      · rfl
      · exact absurd ⟨s, s0, s1, e⟩ z
    obtain ⟨s, s0, s1, y⟩ := ex
    refine ⟨fun j hj => ?_, (p s s0 s1 y).2⟩
    unfold ux
    by_cases jx : j = x
    · rw [if_pos jx]
      intro _
      have pj := fun s s0 s1 y => (p s s0 s1 y).1 j hj
      unfold ux at pj
      simp only [if_pos jx] at pj
      obtain ⟨r0, r1, r2, r3, r4, r5⟩ := pj s s0 s1 y (by decide : (1 : Int) ≠ 0)
      refine ⟨r0, r1, r2, r3, fun z y2 => ?_, r5⟩
      change bl so z = true at y2
      have get : ∀ z, 0 ≤ z → z < 64 → bl so z = true → bl (ast (U 0 q j)) z = true := by
        intro z z0 z1 y3
        refine (pj z z0 z1 y3 (by decide : (1 : Int) ≠ 0)).2.2.2.2.1 z ?_
        change bl (l_shl 1 z) z = true
        rw [bl_shl z0 z1 z0]; simp
      by_cases z0 : 0 ≤ z
      · by_cases z1 : z < 64
        · exact get z z0 z1 y2
        · rw [bl_hi (by omega)] at y2; cases y2
      · rw [bl_neg (by omega)] at y2 ⊢
        exact get 0 (by omega) (by omega) y2
    · rw [if_neg jx]
      have := (p s s0 s1 y).1 j hj
      unfold ux at this
      rw [if_neg jx] at this
      exact this
theorem GT_fs {L : PG} {U : TB} {k i x so a b c : Int} {X : Int → FA} {lk : FA} (hs : c64 so) (nz : so ≠ 0) : GT L U k i (ux X x (fv a b c so)) lk ↔ ∀ s, 0 ≤ s → s < 64 → bl so s = true → GT L U k i (ux X x (fv a b c (l_shl 1 s))) lk := by
  constructor
  · intro p s s0 s1 y
    exact ⟨p.1, (Flow_fs hs nz).mp p.2 s s0 s1 y⟩
  · intro p
    have ex : ∃ s, 0 ≤ s ∧ s < 64 ∧ bl so s = true := by
      apply Classical.byContradiction
      intro z
      apply nz
      rw [bl_eq0 hs]
      intro s s0 s1
      cases e : bl so s
      · rfl
      · exact absurd ⟨s, s0, s1, e⟩ z
    obtain ⟨s, s0, s1, y⟩ := ex
    exact ⟨(p s s0 s1 y).1, (Flow_fs hs nz).mpr (fun s s0 s1 y => (p s s0 s1 y).2)⟩
theorem CL18 {L : PG} {T U : TB} {k : Int} (e : pOp L k = 18) : CLz L T U k ↔ ∀ s, sb (T 0 k (pX L k)) s → (s = 0 → GT L U k (pZ L k) (ux (T 0 k) (pX L k) (rs (T 0 k (pX L k)) s)) (T 6 k 0)) ∧ (s ≠ 0 → GT L U k (nx L k) (ux (T 0 k) (pX L k) (rs (T 0 k (pX L k)) s)) (T 6 k 0)) := by simp [CLz, Csz, Co, Ccz, e]
theorem CL19 {L : PG} {T U : TB} {k : Int} (e : pOp L k = 19) : CLz L T U k ↔ ∀ s, sb (T 0 k (pX L k)) s → (s ≠ 0 ∧ isOf L s (pY L k) = true → GT L U k (pZ L k) (ux (T 0 k) (pX L k) (rs (T 0 k (pX L k)) s)) (T 6 k 0)) ∧ (¬ (s ≠ 0 ∧ isOf L s (pY L k) = true) → GT L U k (nx L k) (ux (T 0 k) (pX L k) (rs (T 0 k (pX L k)) s)) (T 6 k 0)) := by
  simp only [CLz, Csz, Co, Ccz, e]; simp
/-- facts are parted by sites: some jump, the others fall -/
theorem g_part {l : Launch} {G : JG} (hG : gO G = true) {h h2 : MH} {L : PG} {k : Int} (q : wrk h L k h2) (e : pOp L k = 18 ∨ pOp L k = 19) {C : Int → Prop}
    (cl : ∀ T U : TB, CLz L T U k ↔ ∀ s, sb (T 0 k (pX L k)) s → (C s → GT L U k (pZ L k) (ux (T 0 k) (pX L k) (rs (T 0 k (pX L k)) s)) (T 6 k 0)) ∧ (¬ C s → GT L U k (nx L k) (ux (T 0 k) (pX L k) (rs (T 0 k (pX L k)) s)) (T 6 k 0)))
    {so all : Int} (ea : all = ast (tT h L 0 k (pX L k))) (hso : c64 so) (es : ∀ s, 0 ≤ s → s < 64 → (bl so s = true ↔ (bl all s = true ∧ C s)))
    {Q : Int → MH → Prop} {E : Nat → Int → MH → Prop} (hQ : ∀ h', AdvC L k h h' (fun U => CLz L (tT h L) U k) → Q 0 h') :
      (((lc so 0) = 0 →
          (((lc (l_and all (l_xor so (-1))) 0) = 0 → Q 0 h2) ∧
          (¬ (lc (l_and all (l_xor so (-1))) 0) = 0 →
            (0 ≤ pX L k) ∧ (pX L k < 16) ∧
            (∀ h135, h135 = hset h2 502 (pX L k) (l_and all (l_xor so (-1))) →
            S_X9_flowOn l G [(2009, 396), (0, k)] h135 (fun _ h137 => Q 0 h137) E)))) ∧
        (¬ (lc so 0) = 0 →
          (0 ≤ pX L k) ∧ (pX L k < 16) ∧
          (∀ h138, h138 = hset h2 502 (pX L k) so →
          ((hv h138 396 3) ≠ 0) ∧ (0 ≤ k) ∧ (k < 1500) ∧
          S_X9_flow l G [(2009, 396), (0, k), (0, (hv h138 ((hv h138 396 3) + 22) k))] h138 (fun _ h140 =>
          (((lc (l_and all (l_xor so (-1))) 0) = 0 → Q 0 h140) ∧
          (¬ (lc (l_and all (l_xor so (-1))) 0) = 0 →
            (0 ≤ pX L k) ∧ (pX L k < 16) ∧
            (∀ h141, h141 = hset h140 502 (pX L k) (l_and all (l_xor so (-1))) →
            S_X9_flowOn l G [(2009, 396), (0, k)] h141 (fun _ h143 => Q 0 h143) E)))) E))) := by
  have q' := q
  obtain ⟨tf, w, mk, t, k0, k1, hr, s2, c2⟩ := q'
  have nn := w.n
  unfold WFn at nn
  obtain ⟨mo, -, xr, yr, xl, -, -, -, -, -, -, -, -, -, -, -, -, zz, -, dp, -⟩ := w.k k0 k1
  obtain ⟨-, -, -, -, -, -, -, -, -, lc1, -⟩ := w.m mo.1 mo.2.1
  have z3 := zz (by omega)
  have xl' := xl (by omega)
  have p0 : ppo L k = 0 := by rcases e with e | e <;> (unfold ppo; simp [e])
  have p1 : ppu L k = 0 := by rcases e with e | e <;> (unfold ppu; simp [e])
  have xrel : rel L k (pX L k) := Or.inl ⟨xr.1, xl'⟩
  have gs := q.sl xrel
  have ts : ath (tT h L 0 k (pX L k)) ≠ 0 := by rw [gs.2.2.2]; decide
  have sk := tiv_sok t w 0 k (pX L k)
  have fx := tT0_fv ts
  have rsx : ∀ s, rs (tT h L 0 k (pX L k)) s = fv (alo (tT h L 0 k (pX L k))) (ahi (tT h L 0 k (pX L k))) (alb (tT h L 0 k (pX L k))) (l_shl 1 s) := fun s => by unfold rs; rw [if_neg ts]
  simp only [lc_eq]
  obtain ⟨-, fa, fb', fc, fd, -⟩ := fok_there gs.1 ts
  have gsub : ∀ {T : TB} (v : Int), c64 v → tle (tT h L) T → (∀ s, 0 ≤ s → bl v s = true → bl all s = true) → fgd L T (fv (alo (tT h L 0 k (pX L k))) (ahi (tT h L 0 k (pX L k))) (alb (tT h L 0 k (pX L k))) v) :=
    fun v hv le sub => ⟨fok_fv fa fb' fc fd hv, fun s s0 y => mkd_le le (gs.2.1 s s0 (by rw [← ea]; exact sub s s0 y)), ⟨⟨gs.2.2.1.1.1, su8_0⟩, gs.2.2.1.2⟩, rfl⟩
  have cset : ∀ {g : MH} {v0 : Int} (v : Int), cur L (pMo L k) g (ux (tT h L 0 k) (pX L k) (fv (alo (tT h L 0 k (pX L k))) (ahi (tT h L 0 k (pX L k))) (alb (tT h L 0 k (pX L k))) v0)) (tT h L 6 k 0) (pDp L k) →
      cur L (pMo L k) (hset g 502 (pX L k) v) (ux (tT h L 0 k) (pX L k) (fv (alo (tT h L 0 k (pX L k))) (ahi (tT h L 0 k (pX L k))) (alb (tT h L 0 k (pX L k))) v)) (tT h L 6 k 0) (pDp L k) := by
    intro g v0 v c
    refine ⟨fun j hj => ?_, ?_, ?_⟩
    · have cj := c.1 j hj
      unfold ux at cj ⊢
      by_cases jx : j = pX L k
      · rw [if_pos jx] at cj ⊢
        subst jx
        have c1 : hv g 499 (pX L k) = alo (tT h L 0 k (pX L k)) := congrArg alo cj
        have c2' : hv g 500 (pX L k) = ahi (tT h L 0 k (pX L k)) := congrArg ahi cj
        have c3 : hv g 501 (pX L k) = alb (tT h L 0 k (pX L k)) := congrArg alb cj
        unfold cX
        rw [ne_a (by omega), ne_a (by omega), ne_a (by omega), eq_a, c1, c2', c3]
      · rw [if_neg jx] at cj ⊢
        rw [← cj]; unfold cX; simp [hv_set, jx]
    · rw [← c.2.1]; unfold lkc_; simp [hv_set]
    · rw [ne_a (by omega)]; exact c.2.2
  have hrest : c64 (l_and all (l_xor so (-1))) := c64_l_and _ _
  have brest : ∀ s, bl (l_and all (l_xor so (-1))) s = (bl all s && !bl so s) := fun s => bl_andn _ _ s
  have sbo : ∀ s, 0 ≤ s → bl all s = true → sb (tT h L 0 k (pX L k)) s := fun s s0 y => by
    rw [ea] at y
    have := sk.2 s s0 y
    exact ⟨s0, by omega, y⟩
  -- the fall, from any point
  have fall : ∀ {g : MH} {P : TB → Prop} {v0 : Int}, AdvC L k h g P → (∀ U V, tle U V → P U → P V) → cur L (pMo L k) g (ux (tT h L 0 k) (pX L k) (fv (alo (tT h L 0 k (pX L k))) (ahi (tT h L 0 k (pX L k))) (alb (tT h L 0 k (pX L k))) v0)) (tT h L 6 k 0) (pDp L k) →
      (∀ h', AdvC L k h h' (fun U => P U ∧ ∀ s, 0 ≤ s → bl all s = true → ¬ C s → GT L U k (nx L k) (ux (tT h L 0 k) (pX L k) (rs (tT h L 0 k (pX L k)) s)) (tT h L 6 k 0)) → Q 0 h') →
      ((l_and all (l_xor so (-1))) = 0 → Q 0 g) ∧ (¬ (l_and all (l_xor so (-1))) = 0 → (0 ≤ pX L k) ∧ (pX L k < 16) ∧ (∀ h135, h135 = hset g 502 (pX L k) (l_and all (l_xor so (-1))) → S_X9_flowOn l G [(2009, 396), (0, k)] h135 (fun _ h137 => Q 0 h137) E)) := by
    intro g P v0 a up cg hq
    refine ⟨fun z => hq g (AdvC_w a (fun _ p => ⟨p, fun s s0 y1 y2 => ?_⟩)), fun z => ⟨xr.1, by omega, fun h135 e135 => ?_⟩⟩
    · exfalso
      by_cases s64 : s < 64
      · have := (bl_eq0 hrest).mp z s s0 s64
        rw [brest, y1] at this
        simp at this
        exact y2 ((es s s0 s64).mp this).2
      · rw [bl_hi (by omega)] at y1; cases y1
    · have ss : same g h135 := by rw [e135]; exact same_set (by omega)
      have a' : AdvC L k h h135 P := AdvC_w (AdvC_tr a (AdvC_same ss a.2.2.1) up) (fun _ p => p.1)
      have c' := cset (l_and all (l_xor so (-1))) cg
      rw [← e135] at c'
      refine w_flowOn hG q a' up (by omega) (by omega) (by omega) c' (by omega) (gX_ux (fun j hj _ => fgd_le a'.2.2.2.1 (q.sl (vld_up hj (by omega)))) (gsub _ hrest a'.2.2.2.1 (fun s s0 y => ?_))) (fgd_le a'.2.2.2.1 q.lk) (fun U oU p cz => ?_) (fun h' b _ => hq h' (AdvC_w b (fun _ p => ⟨p.1, fun s s0 y1 y2 => ?_⟩)))
      · rw [brest] at y; simp at y; exact y.1
      · refine (GT_fs hrest z).mpr (fun s s0 s1 y => ?_)
        rw [brest] at y; simp at y
        have := ((cl _ _).mp (CL_dn t q.r (tle_trans a'.2.2.2.1 p) cz) s (sbo s s0 y.1)).2 (fun yc => by
          have := (es s s0 s1).mpr ⟨y.1, yc⟩
          rw [y.2] at this; cases this)
        rw [rsx] at this; exact this
      · rw [rsx]
        have s64 : s < 64 := by
          by_cases c : s < 64
          · exact c
          · rw [bl_hi (by omega)] at y1; cases y1
        refine (GT_fs hrest z).mp p.2 s s0 s64 ?_
        rw [brest, y1]
        cases r : bl so s
        · rfl
        · exact absurd ((es s s0 s64).mp r).2 y2
  have ssub : ∀ s, 0 ≤ s → bl so s = true → bl all s = true := by
    intro s s0 y
    by_cases s64 : s < 64
    · exact ((es s s0 s64).mp y).1
    · rw [bl_hi (by omega)] at y; cases y
  have c0 : cur L (pMo L k) h2 (ux (tT h L 0 k) (pX L k) (fv (alo (tT h L 0 k (pX L k))) (ahi (tT h L 0 k (pX L k))) (alb (tT h L 0 k (pX L k))) (ast (tT h L 0 k (pX L k))))) (tT h L 6 k 0) (pDp L k) :=
    cur_eq (fun j hj => by unfold ux; by_cases jx : j = pX L k; (rw [if_pos jx, jx]; exact fx); (rw [if_neg jx])) c2
  refine ⟨fun z => ?_, fun z => ⟨xr.1, by omega, fun h138 e138 => ?_⟩⟩
  · refine fall (AdvC_same s2 t) up_t c0 (fun h' b => hQ h' (AdvC_w b (fun _ p => (cl _ _).mpr (fun s y => ⟨fun yc => ?_, fun yc => p.2 s y.1 (by rw [ea]; exact y.2.2) yc⟩))))
    exfalso
    have := (es s y.1 (by have := y.2.1; omega)).mpr ⟨by rw [ea]; exact y.2.2, yc⟩
    rw [z, bl_zero] at this; cases this
  · have s138 : same h h138 := by rw [e138]; exact same_tr s2 (same_set (by omega))
    have tg := frA_TF s138.1 tf
    have Tg : tT h138 L = tT h L := same_T s138
    have c' := cset so c0
    rw [← e138] at c'
    refine ⟨tg.ne, k0, by omega, ?_⟩
    rw [tg.z]
    refine w_flow hG q (AdvC_same (k := k) s138 t) up_t z3.1 z3.2.1 c' (by omega) (by rw [Tg]; exact gX_ux (fun j hj _ => q.sl (vld_up hj (by omega))) (gsub _ hso (tle_rfl _) ssub)) (by rw [Tg]; exact q.lk) (fun U oU p cz => ?_) (fun h' a ws => ?_)
    · rw [Tg] at p
      refine (GT_fs hso z).mpr (fun s s0 s1 y => ?_)
      have y' := (es s s0 s1).mp y
      have := ((cl _ _).mp (CL_dn t q.r p cz) s (sbo s s0 y'.1)).1 y'.2
      rw [rsx] at this; exact this
    · refine fall a (fun U V p y => ⟨trivial, GT_up p y.2⟩) (wsm_cur ws c') (fun h'' b => hQ h'' (AdvC_w b (fun _ p => (cl _ _).mpr (fun s y => ⟨fun yc => ?_, fun yc => p.2 s y.1 (by rw [ea]; exact y.2.2) yc⟩))))
      rw [rsx]
      have s63 := y.2.1
      exact (GT_fs hso z).mp p.1.2 s y.1 (by omega) ((es s y.1 (by omega)).mpr ⟨by rw [ea]; exact y.2.2, yc⟩)
/-! statics -/
theorem t3_row {h : MH} {L : PG} {i : Int} (i0 : 0 ≤ i) (i1 : i < pNs L) : tT h L 3 i 0 = fv (hv h 480 i) (hv h 481 i) (hv h 482 i) (hv h 483 i) := by
  show t3 h L i 0 = _
  unfold t3
  rw [iff_p ⟨i0, i1, rfl⟩]
theorem CL27 {L : PG} {T U : TB} {k : Int} (e : pOp L k = 27) : CLz L T U k ↔ GT L U k (nx L k) (ux (T 0 k) (8 + pDp L k) (T 3 (pX L k) 0)) (T 6 k 0) := by simp [CLz, Csz, Co, Ccz, e]
theorem CL28 {L : PG} {T U : TB} {k : Int} (e : pOp L k = 28) : CLz L T U k ↔ (fle (T 0 k (7 + pDp L k)) (U 3 (pX L k) 0) ∧ GT L U k (nx L k) (T 0 k) (T 6 k 0)) := by simp [CLz, Csz, Co, Ccz, e]
theorem g_static {l : Launch} {G : JG} (hG : gO G = true) {h h2 : MH} {L : PG} {k : Int} (q : wrk h L k h2) (e : pOp L k = 27) {Q : Int → MH → Prop} {E : Nat → Int → MH → Prop} (hQ : ∀ h', AdvC L k h h' (fun U => CLz L (tT h L) U k) → Q 0 h') :
    S_X9_lay_2 l G [(2009, 396), (0, hv h2 480 (pX L k)), (0, hv h2 481 (pX L k)), (0, hv h2 482 (pX L k)), (1, hv h2 483 (pX L k))] h2 (fun _ h7 => S_X9_flowOn l G [(2009, 396), (0, k)] h7 (fun _ h9 => Q 0 h9) E) E := by
  have q' := q
  obtain ⟨tf, w, mk, t, k0, k1, hr, s2, c2⟩ := q'
  obtain ⟨mo, -, xr, yr, -, -, -, -, -, -, xs, -, -, -, -, -, -, -, -, dp, -⟩ := w.k k0 k1
  have p0 : ppo L k = 0 := by unfold ppo; simp [e]
  have p1 : ppu L k = 1 := by unfold ppu; simp [e]
  have xs' := xs (by omega)
  have r3 := t3_row (h := h) (L := L) xr.1 xs'
  refine t_lay2 hG c2 dp.1 (by omega) fun g s c => ?_
  have c' : cur L (pMo L k) g (ux (tT h L 0 k) (8 + pDp L k) (tT h L 3 (pX L k) 0)) (tT h L 6 k 0) (pDp L k + 1) := by
    rw [r3, ← s2.2.1 480 _ (by omega) (by omega), ← s2.2.1 481 _ (by omega) (by omega), ← s2.2.1 482 _ (by omega) (by omega), ← s2.2.1 483 _ (by omega) (by omega)]; exact c
  refine w_on hG q (by omega) (by omega) (by omega) (same_tr s2 s) c' (by omega) (gX_ux (fun j hj ne => ?_) ⟨t.1 _ _ _, t.2.1 _ _ _, t.2.2.1 _ _ _, by rw [r3]; rfl⟩) q.lk (fun U => CL27 e) hQ
  exact q.sl (by unfold vld at hj; unfold rel; omega)
/-! locks -/
theorem CL34 {L : PG} {T U : TB} {k : Int} (e : pOp L k = 34) : CLz L T U k ↔ ((bi (asu (T 6 k 0)) (pX L k) = false → GT L U k (nx L k) (T 0 k) (fk (i_or (asu (T 6 k 0)) (i_shl 1 (pX L k))) (i_or (alb (T 6 k 0)) (i_shl 1 (pX L k))))) ∧ (bi (alb (T 6 k 0)) (pX L k) = true → TS L U k (T 0 k) 6 (T 6 k 0))) := by simp [CLz, Csz, Co, Ccz, e]
theorem lkc_su (h : MH) : asu (lkc_ h) = hv h 396 62 := rfl
theorem lkc_lb (h : MH) : alb (lkc_ h) = hv h 396 63 := rfl
theorem t6_alb {g : MH} {L : PG} {k : Int} (hk : inP L k) (hg : hv g 460 k = 1) : hv g 466 k = alb (tT g L 6 k 0) ∧ hv g 465 k = asu (tT g L 6 k 0) := by
  have : tT g L 6 k 0 = fk (hv g 465 k) (hv g 466 k) := by
    show t6 g L k 0 = _
    unfold t6
    rw [iff_p ⟨hk, rfl, hg⟩]
  rw [this]
  exact ⟨rfl, rfl⟩
theorem su8_or {a b : Int} (ha : su8 a) (hb : su8 b) : su8 (i_or a b) := fun x hx => by rw [bi_or, ha x hx, hb x hx]; rfl
theorem su8_and {a b : Int} (ha : su8 a) : su8 (i_and a b) := fun x hx => by rw [bi_and, ha x hx]; rfl
theorem su8_bit {s : Int} (h0 : 0 ≤ s) (h1 : s ≤ 7) : su8 (i_shl 1 s) := fun x hx => by
  rw [bi_shl h0 (by omega) (by omega)]; simp; omega
theorem lock_last {l : Launch} {G : JG} (hG : gO G = true) {h h2 : MH} {L : PG} {k : Int} (q : wrk h L k h2) (e : pOp L k = 34) {Q : Int → MH → Prop} {E : Nat → Int → MH → Prop} (x0 : 0 ≤ pX L k) (x1 : pX L k ≤ 7)
    {g : MH} {P : TB → Prop} (a : AdvC L k h g P) (up : ∀ U V, tle U V → P U → P V) (hq : ∀ h', AdvC L k h h' (fun U => P U ∧ (bi (alb (tT h L 6 k 0)) (pX L k) = true → TS L U k (tT h L 0 k) 6 (tT h L 6 k 0))) → Q 0 h') :
      ((¬ (i_and (i_shr (hv g 466 k) (pX L k)) 1) = 1 → Q 0 g) ∧ ((i_and (i_shr (hv g 466 k) (pX L k)) 1) = 1 → S_X9_toss l G [(2009, 396), (0, k), (0, 6)] g (fun _ h258 => Q 0 h258) E)) := by
  have r := q.r
  obtain ⟨tf, w, mk, t, k0, k1, hr, s2, c2⟩ := q
  have le := a.2.2.2.1
  have rg := (rch_iff ⟨k0, k1⟩).mp (ath_le (le 6 k 0) r)
  rw [(t6_alb (L := L) ⟨k0, k1⟩ rg).1, i_bit (by omega) (by omega)]
  refine ⟨fun z => hq g (AdvC_w a (fun _ p => ⟨p, fun y => ?_⟩)), fun z => ?_⟩
  · have := alb_le (t.1 _ _ _) (le 6 k 0) _ y
    rw [bf2 z] at this; cases this
  · have zb : bi (alb (tT g L 6 k 0)) (pX L k) = true := bt1 z
    refine t_toss hG (frA_TF a.1 tf) w a.2.2.1 k0 k1 rg (by omega) (by omega) fun h' b => ?_
    have b' : AdvC L k g h' (fun U => TS L U k (tT g L 0 k) 6 (tT g L 6 k 0)) := Adv_w b (fun _ p => p) (fun U oU p cz => ((CL34 e).mp cz).2 (alb_le (a.2.2.1.1 _ _ _) (p 6 k 0) _ zb))
    exact hq h' (AdvC_w (AdvC_tr a b' up) (fun _ p => ⟨p.1, fun _ => TS_le (fun j => le _ _ _) (le _ _ _) (tle_rfl _) p.2⟩))
theorem g_lock {l : Launch} {G : JG} (hG : gO G = true) {h h2 : MH} {L : PG} {k : Int} (q : wrk h L k h2) (e : pOp L k = 34) {Q : Int → MH → Prop} {E : Nat → Int → MH → Prop} (hQ : ∀ h', AdvC L k h h' (fun U => CLz L (tT h L) U k) → Q 0 h') :
      ((¬ (i_and (i_shr (hv h2 396 62) (pX L k)) 1) = 0 →
        (0 ≤ k) ∧ (k < 1500) ∧
        ((¬ (i_and (i_shr (hv h2 466 k) (pX L k)) 1) = 1 → Q 0 h2) ∧
        ((i_and (i_shr (hv h2 466 k) (pX L k)) 1) = 1 → S_X9_toss l G [(2009, 396), (0, k), (0, 6)] h2 (fun _ h252 => Q 0 h252) E))) ∧
      ((i_and (i_shr (hv h2 396 62) (pX L k)) 1) = 0 →
        (∀ h253, h253 = hset h2 396 62 (i_or (hv h2 396 62) (i_shl 1 (pX L k))) →
        (∀ h254, h254 = hset h253 396 63 (i_or (hv h253 396 63) (i_shl 1 (pX L k))) →
        S_X9_flowOn l G [(2009, 396), (0, k)] h254 (fun _ h256 =>
        (0 ≤ k) ∧ (k < 1500) ∧
        ((¬ (i_and (i_shr (hv h256 466 k) (pX L k)) 1) = 1 → Q 0 h256) ∧
        ((i_and (i_shr (hv h256 466 k) (pX L k)) 1) = 1 → S_X9_toss l G [(2009, 396), (0, k), (0, 6)] h256 (fun _ h258 => Q 0 h258) E))) E)))) := by
  have q' := q
  obtain ⟨tf, w, mk, t, k0, k1, hr, s2, c2⟩ := q'
  have nn := w.n
  unfold WFn at nn
  obtain ⟨mo, -, xr, yr, -, x7, -, -, -, -, -, -, -, -, -, -, -, -, -, dp, -⟩ := w.k k0 k1
  have x7' := x7 (by omega)
  have p0 : ppo L k = 0 := by unfold ppo; simp [e]
  have p1 : ppu L k = 0 := by unfold ppu; simp [e]
  have l6 := c2.2.1
  have e62 : hv h2 396 62 = asu (tT h L 6 k 0) := (lkc_su h2).symm.trans (congrArg asu l6)
  have e63 : hv h2 396 63 = alb (tT h L 6 k 0) := (lkc_lb h2).symm.trans (congrArg alb l6)
  rw [e62, i_bit (by omega) (by omega)]
  refine ⟨fun z => ⟨k0, by omega, ?_⟩, fun z => ?_⟩
  · refine lock_last hG q e xr.1 x7' (AdvC_same s2 t) up_t (fun h' b => hQ h' (AdvC_w b (fun _ p => (CL34 e).mpr ⟨fun y => ?_, p.2⟩)))
    rw [bt2 z] at y; cases y
  · have zb : bi (asu (tT h L 6 k 0)) (pX L k) = false := bf1 z
    intro h253 e253 h254 e254
    have s54 : same h h254 := by rw [e254, e253]; exact same_tr (same_tr s2 (same_set (by omega))) (same_set (by omega))
    have T54 : tT h254 L = tT h L := same_T s54
    have c54 : cur L (pMo L k) h254 (tT h L 0 k) (fk (i_or (asu (tT h L 6 k 0)) (i_shl 1 (pX L k))) (i_or (alb (tT h L 6 k 0)) (i_shl 1 (pX L k)))) (pDp L k) := by
      refine ⟨fun j hj => ?_, ?_, ?_⟩
      · have o4 : ∀ a j' : Int, a ≠ 396 → hv h254 a j' = hv h2 a j' := fun a j' ha => by rw [e254, ne_a ha, e253, ne_a ha]
        rw [← c2.1 j hj]
        unfold cX
        rw [o4 499 j (by decide), o4 500 j (by decide), o4 501 j (by decide), o4 502 j (by decide)]
      · have v62 : hv h254 396 62 = i_or (asu (tT h L 6 k 0)) (i_shl 1 (pX L k)) := by
          rw [e254, ne_k (show (62 : Int) ≠ 63 by decide), e253]; exact eq_a
        have v63 : hv h254 396 63 = i_or (alb (tT h L 6 k 0)) (i_shl 1 (pX L k)) := by
          rw [e254, eq_a, e253, ne_k (show (63 : Int) ≠ 62 by decide), e63]
        show fk (hv h254 396 62) (hv h254 396 63) = _
        rw [v62, v63]
      · rw [e254, ne_k (show (61 : Int) ≠ 63 by decide), e253, ne_k (show (61 : Int) ≠ 62 by decide)]; exact c2.2.2
    refine w_flowOn hG q (AdvC_same (k := k) s54 t) up_t (by omega) (by omega) (by omega) c54 (by omega) (by rw [T54]; exact fun j hj => q.sl hj) (fgd_fk (c32_i_or _ _) (su8_or ((t.2.2.1 6 k 0).1.2) (su8_bit xr.1 x7')) (c32_i_or _ _)) (fun U oU p cz => ?_) (fun h' a _ => ⟨k0, by omega, ?_⟩)
    · rw [T54] at p
      exact ((CL34 e).mp (CL_dn t q.r p cz)).1 zb
    · refine lock_last hG q e xr.1 x7' a (fun U V p y => ⟨trivial, GT_up p y.2⟩) (fun h'' b => hQ h'' (AdvC_w b (fun _ p => (CL34 e).mpr ⟨fun _ => p.1.2, p.2⟩)))
