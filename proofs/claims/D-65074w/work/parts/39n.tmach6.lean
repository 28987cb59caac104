/-! Part 39n: the twin's machine: what is told is found; waiting -/
set_option maxRecDepth 100000
theorem t_isAsTold {l : Launch} {G : JG} (hG : gO G = true) {h : MH} {L : PG} {T : TB} {t k : Int} (tf : TF h L) (eT : tT h L = T) (g : wkg L T (hv h) t k) {Q : Int → MH → Prop} {E : Nat → Int → MH → Prop} (hQ : Q 1 h) : S_X9_isAsTold l G [(2009, 396), (0, t)] h Q E := by
  have nn := g.1.1.n
  unfold WFn at nn
  have n := g.n
  have tp := g.tp
  have d := g.d
  have k0 := tp.1.1.1
  have k1 := tp.1.1.2
  have fk' : frk (hv h) t := ⟨⟨n.2.2.1, by omega⟩, n.1, n.2.1⟩
  have fb := fA_b fk'
  have ef : fA (hv h) t = 30 * t + hv h 509 t - 1 := rfl
  have e12 : hv h 512 (fA (hv h) t) = pDp L k := tp.2.1
  have e11 : hv h 511 (fA (hv h) t) = k := g.2.2.2.2.2
  have o0 := g.2.1.2.1.1
  have o4 := g.2.1.2.1.2.1
  have mo := (g.1.1.k k0 k1).1
  have mo0 := mo.1
  have mo1 := mo.2.1
  have lc8 := (g.1.1.m mo0 mo1).2.2.2.2.2.2.2.2.2.1
  have r460 : hv h 460 k = 1 := by
    have := tp.1.2
    rw [← eT] at this
    exact (rch_iff tp.1.1).mp this
  have rT : rch (tT h L) k := (rch_iff tp.1.1).mpr r460
  have e6 : T 6 k 0 = fk (hv h 465 k) (hv h 466 k) := by rw [← eT]; exact rw_6 tp.1.1 r460
  refine s_X9_isAsTold rfl fun K ki => r_X9_isAsTold_0 ki hG ?_
  refine t_frame hG fk' ?_
  intro x2 e2
  subst e2
  refine ⟨fb.1, fb.2, ?_⟩
  rw [e11]
  intro x3 e3
  subst e3
  refine ⟨k0, by omega, fun _ => ⟨tf.ne, k0, by omega, ?_⟩, fun z => by omega⟩
  rw [tf.mo]
  intro x4 e4
  subst e4
  intro x5 e5 x6 e6'
  -- the locks
  have locks : ∀ N : Nat, ∀ x v : Int, (8 - x).toNat ≤ N → 0 ≤ x → x ≤ 8 → (∀ y, 0 ≤ y → y < 32 → (bi v y = true ↔ y < x ∧ hv h 514 y = t)) → JW K 243 [(2009, 396), (0, t), (0, fA (hv h) t), (0, x3), (0, pMo L x3), (0, 1), (0, v), (0, x), (5000, 0), (5000, 0)] [] h := by
    intro N
    induction N with
    | zero =>
      intro x v b1' b2 b3 iv
      have ex : x = 8 := by omega
      subst ex
      have z1 : i_and (hv h 465 x3) (i_xor v (-1)) = 0 := by
        apply Classical.byContradiction
        intro z
        obtain ⟨y, y0, y1, a1, a2⟩ := i_and_ne.mp z
        rw [bi_not y1] at a2
        have su := (g.1.2.2.2.1.2.2.1 6 x3 0).1.2
        rw [e6] at su
        have y8 : y < 8 := by
          apply Classical.byContradiction
          intro c
          have := su y (by omega)
          have q : bi (hv h 465 x3) y = false := this
          rw [q] at a1; cases a1
        have lo := tp.2.2.2.2 y y0 y8
        rw [e6] at lo
        have ow := lo.1 a1
        have bv := (iv y y0 y1).mpr ⟨y8, ow⟩
        rw [bv] at a2
        cases a2
      have z2 : i_and v (i_xor (hv h 466 x3) (-1)) = 0 := by
        apply Classical.byContradiction
        intro z
        obtain ⟨y, y0, y1, a1, a2⟩ := i_and_ne.mp z
        rw [bi_not y1] at a2
        have bv := (iv y y0 y1).mp a1
        have lo := tp.2.2.2.2 y y0 bv.1
        rw [e6] at lo
        have ow : bi (hv h 466 x3) y = true := lo.2 bv.2
        rw [ow] at a2
        cases a2
      refine r_X9_isAsTold_243 ki hG ⟨fun _ => ⟨fun _ => ⟨k0, by omega, fun _ => ⟨k0, by omega⟩⟩, ?_⟩, fun z => by omega⟩
      rw [if_neg (by decide), if_pos z1, if_pos z2]
      exact ⟨Or.inr rfl, hQ⟩
    | succ N ih =>
      intro x v b1' b2 b3 iv
      by_cases ex : x = 8
      · exact ih x v (by omega) b2 b3 iv
      refine r_X9_isAsTold_243 ki hG ⟨fun z => by omega, fun z => ⟨b2, z, ?_⟩⟩
      intro v' ev x' ex'
      rw [w32_i (by omega) (by omega)] at ex'
      subst ex'
      refine ih (x + 1) v' (by omega) (by omega) (by omega) (fun y y0 y1 => ?_)
      rw [ev, bi_or, Bool.or_eq_true, iv y y0 y1]
      by_cases c : hv h 514 x = t
      · rw [if_pos c, bi_shl b2 (by omega) y0]
        constructor
        · rintro (a | a)
          · exact ⟨by omega, a.2⟩
          · have e : y = x := of_decide_eq_true a
            rw [e]; exact ⟨by omega, c⟩
        · rintro ⟨a1, a2⟩
          by_cases e : y = x
          · exact Or.inr (decide_eq_true e)
          · exact Or.inl ⟨by omega, a2⟩
      · rw [if_neg c, bi_zero]
        constructor
        · rintro (a | a)
          · exact ⟨by omega, a.2⟩
          · cases a
        · rintro ⟨a1, a2⟩
          by_cases e : y = x
          · rw [e] at a2; exact absurd a2 c
          · exact Or.inl ⟨by omega, a2⟩
  have slots : ∀ N : Nat, ∀ i : Int, (8 + pDp L x3 - i).toNat ≤ N → 0 ≤ i → i ≤ 8 + pDp L x3 → JW K 41 [(2009, 396), (0, t), (0, fA (hv h) t), (0, x3), (0, pMo L x3), (0, 1), (0, i), (5000, 0), (5000, 0), (5000, 0)] [] h := by
    intro N
    have fin : JW K 41 [(2009, 396), (0, t), (0, fA (hv h) t), (0, x3), (0, pMo L x3), (0, 1), (0, 8 + pDp L x3), (5000, 0), (5000, 0), (5000, 0)] [] h := by
      refine r_X9_isAsTold_41 ki hG ⟨fb.1, fb.2, fun _ => ?_, fun z => by rw [e12, w32_i (by omega) (by omega)] at z; omega⟩
      intro y6 f6 y7 f7
      subst f6; subst f7
      refine locks _ 0 0 (Nat.le_refl _) (by omega) (by omega) (fun y y0 y1 => ?_)
      rw [bi_zero]
      exact ⟨fun a => (by cases a), fun a => by have := a.1; omega⟩
    induction N with
    | zero =>
      intro i b1' b2 b3
      have ei : i = 8 + pDp L x3 := by omega
      rw [ei]; exact fin
    | succ N ih =>
      intro i b1' b2 b3
      by_cases ei : i = 8 + pDp L x3
      · rw [ei]; exact fin
      have nxt : ∀ x : Int, x = w32 (i + 1) → JW K 41 [(2009, 396), (0, t), (0, fA (hv h) t), (0, x3), (0, pMo L x3), (0, 1), (0, x), (5000, 0), (5000, 0), (5000, 0)] [] h := by
        intro x ex
        rw [w32_i (by omega) (by omega)] at ex
        subst ex
        exact ih (i + 1) (by omega) (by omega) (by omega)
      refine r_X9_isAsTold_41 ki hG ⟨fb.1, fb.2, fun z => by rw [e12, w32_i (by omega) (by omega)] at z; omega, fun z => ⟨fun _ => ⟨tf.ne, mo0, by omega⟩, fun _ => nxt, fun c => ?_⟩⟩
      rw [tf.lc] at c
      have hr : rel L x3 i := by
        unfold rel
        by_cases c8 : i < 8
        · exact Or.inl ⟨b2, by
            apply Classical.byContradiction
            intro y; exact c ⟨c8, by omega⟩⟩
        · exact Or.inr ⟨by omega, by omega⟩
      have val := tp.2.2.1 i hr
      have row0 : T 0 x3 i = row h (16 * x3 + i) := by rw [← eT]; exact rw_0r tp.1.1 rT hr
      have kk : ∀ x7 : Int, x7 = (if i < 8 then (if pLk L (pMo L x3) i = 1 then 1 else 0 : Int) else (if i_and (i_shr (pKi L x3) (i - 8)) 1 = 1 then 1 else 0 : Int)) → (¬ x7 = 0 ↔ kd L x3 i = 1) := by
        intro x7 e7
        by_cases c8 : i < 8
        · rw [if_pos c8] at e7
          rw [kd_l c8, e7]
          by_cases q : pLk L (pMo L x3) i = 1
          · rw [if_pos q]; exact ⟨fun _ => q, fun _ => by decide⟩
          · rw [if_neg q]; exact ⟨fun y => absurd rfl y, fun y => absurd y q⟩
        · rw [if_neg c8, i_bit (by omega) (by omega)] at e7
          rw [kd_s (by omega)]
          unfold skd
          by_cases q : bi (pKi L x3) (i - 8) = true
          · rw [if_pos q, if_pos rfl] at e7
            rw [if_pos q, e7]; exact ⟨fun _ => rfl, fun _ => by decide⟩
          · rw [if_neg q, if_neg (by decide)] at e7
            rw [if_neg q, e7]; exact ⟨fun y => absurd rfl y, fun y => absurd y (by decide)⟩
      rw [tf.ki, w32_i (z := 8 * pMo L x3) (by omega) (by omega), w32_i (z := 8 * pMo L x3 + i) (by omega) (by omega), tf.at 10 (8 * pMo L x3 + i) (by omega) (by omega), w32_i (z := i - 8) (by omega) (by omega), w32_i (z := 16 * fA (hv h) t) (by omega) (by omega), w32_i (z := 16 * fA (hv h) t + i) (by omega) (by omega), w32_i (z := 16 * x3) (by omega) (by omega), w32_i (z := 16 * x3 + i) (by omega) (by omega)]
      refine ⟨fun _ => ⟨tf.ne, k0, by omega⟩, fun c8 => ⟨tf.ne, by omega, by omega⟩, ?_⟩
      intro x7 e7
      have kx := kk x7 e7
      refine ⟨by omega, by omega, ?_⟩
      intro x8 e8 x9 e9
      subst e9
      refine ⟨fun y => by omega, fun _ => ⟨fun y => ⟨by omega, by omega, fun _ => ⟨by omega, by omega⟩, ?_⟩, fun y => ⟨by omega, by omega, ?_⟩⟩⟩
      · have nk : kd L x3 i ≠ 1 := fun q => kx.mpr q y
        rw [gm_n nk, row0] at val
        have v1 : hv h 461 (16 * x3 + i) ≤ hv h 513 (16 * (30 * t + hv h 509 t - 1) + i) := val.2.1
        have v2 : hv h 513 (16 * (30 * t + hv h 509 t - 1) + i) ≤ hv h 462 (16 * x3 + i) := val.2.2
        rw [ef] at e8
        rw [← e8] at v1 v2
        rw [if_neg (by omega), if_neg (by omega)]
        intro y5 f5
        subst f5
        exact nxt
      · have yk := kx.mp y
        rw [gm_r yk, row0] at val
        have vb : bl (hv h 464 (16 * x3 + i)) (sit (hv h) (hv h 513 (16 * (30 * t + hv h 509 t - 1) + i))) = true := val.2.2
        have vo := val.2.1
        rw [ef] at e8
        rw [← e8] at vb vo
        have vo0 := vo.1
        have vo1 := vo.2
        have so := sit_ok g.1.1 g.2.1 vo
        refine t_siteOf hG vo0 (by omega) ?_
        rw [l_bit so.1 (by omega), if_pos vb, lc_if, if_pos rfl]
        intro y5 f5
        subst f5
        exact nxt
  subst e5; subst e6'
  exact slots _ 0 (Nat.le_refl _) (by omega) (by omega)
/-- a thread waits for a lock -/
def wtg (L : PG) (A : MA) (t : Int) : Prop := pOp L (A 511 (fA A t)) = 34 ∧ A 514 (pX L (A 511 (fA A t))) ≠ -1 ∧ A 514 (pX L (A 511 (fA A t))) ≠ t
theorem t_isWaiting {l : Launch} {G : JG} (hG : gO G = true) {h : MH} {L : PG} (tf : TF h L) (w : WF L) {t : Int} (f : frk (hv h) t) (hk : inP L (hv h 511 (fA (hv h) t))) {Q : Int → MH → Prop} {E : Nat → Int → MH → Prop} (hQ : ∀ z, (z = 0 ∨ z = 1) → (¬ z = 0 ↔ wtg L (hv h) t) → Q z h) : S_X9_isWaiting l G [(2009, 396), (0, t)] h Q E := by
  have nn := w.n
  unfold WFn at nn
  have fb := fA_b f
  have k0 := hk.1
  have k1 := hk.2
  obtain ⟨-, -, xr, -, -, x7, -⟩ := w.k k0 k1
  refine s_X9_isWaiting rfl fun K ki => r_X9_isWaiting_0 ki hG ?_
  refine t_frame hG f ⟨fb.1, fb.2, ?_⟩
  intro x2 e2
  have e2' : x2 = hv h 511 (fA (hv h) t) := e2
  rw [e2']
  rw [tf.op, tf.x]
  have xb : pOp L (hv h 511 (fA (hv h) t)) = 34 → 0 ≤ pX L (hv h 511 (fA (hv h) t)) ∧ pX L (hv h 511 (fA (hv h) t)) < 8 := fun o => ⟨xr.1, by have := x7 (by omega); omega⟩
  refine ⟨tf.ne, k0, by omega, fun o => ⟨tf.ne, k0, by omega, (xb o).1, (xb o).2, fun _ => ⟨tf.ne, k0, by omega, (xb o).1, (xb o).2⟩⟩, ?_, hQ _ ?_ ?_⟩
  · split
    · split
      · exact Or.inl rfl
      · exact zo1 _
    · exact Or.inl rfl
  · split
    · split
      · exact Or.inl rfl
      · exact zo1 _
    · exact Or.inl rfl
  · unfold wtg
    by_cases c1 : pOp L (hv h 511 (fA (hv h) t)) = 34
    · rw [if_pos c1]
      by_cases c2 : hv h 514 (pX L (hv h 511 (fA (hv h) t))) = -1
      · rw [if_pos c2]; exact ⟨fun y => absurd rfl y, fun y => absurd c2 y.2.1⟩
      · rw [if_neg c2]
        by_cases c3 : hv h 514 (pX L (hv h 511 (fA (hv h) t))) = t
        · rw [if_pos c3]; exact ⟨fun y => absurd rfl y, fun y => absurd c3 y.2.2⟩
        · rw [if_neg c3]; exact ⟨fun _ => ⟨c1, c2, c3⟩, fun _ => by decide⟩
    · rw [if_neg c1]; exact ⟨fun y => absurd rfl y, fun y => absurd y.1 c1⟩
