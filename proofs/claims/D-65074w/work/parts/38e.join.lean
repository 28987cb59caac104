/-! Part 38e: joinTo -/
theorem row_set {h : MH} {x a b c d : Int} (i : Int) : row (hset (hset (hset (hset h 461 x a) 462 x b) 463 x c) 464 x d) i = if i = x then fv a b c d else row h i := by
  unfold row
  by_cases e : i = x
  · subst e; simp [hv_set]
  · simp [hv_set, e]
theorem row_458 {h : MH} {q v : Int} (i : Int) : row (hset h 458 q v) i = row h i := by
  unfold row; simp [hv_set]
/-- what joinTo leaves -/
def jpost (h : MH) (L : PG) (q : Int) (h' : MH) : Prop := frA h h' ∧ tT h' L = jnS L (tT h L) q (cX h) (lkc_ h) ∧
  (∀ a j, a ≠ 458 → ¬ (460 ≤ a ∧ a ≤ 466) → hv h' a j = hv h a j) ∧ (∀ j, j ≠ q → hv h' 458 j = hv h 458 j) ∧ ((hv h 458 q = 1 → hv h' 458 q = 1) ∧ (tT h' L = tT h L → hv h' 458 q = hv h 458 q)) ∧
  (hv h' 458 q = 0 → tT h' L = tT h L) ∧ (hv h' 458 q = 0 ∨ hv h' 458 q = 1)
theorem rel_rng {L : PG} (w : WF L) {q s : Int} (h0 : 0 ≤ q) (h1 : q < pNp L) (r : rel L q s) : 0 ≤ s ∧ s < 16 := by
  have k := w.k h0 h1
  have m := w.m k.1.1 k.1.2.1
  obtain ⟨-, -, -, -, -, -, -, -, -, m9, -⟩ := m
  obtain ⟨-, -, -, -, -, -, -, -, -, -, -, -, -, -, -, -, -, -, -, k9, -⟩ := k
  rcases r with r | r <;> omega
theorem t_joinTo {l : Launch} {G : JG} (hG : gO G = true) {h : MH} {L : PG} (tf : TF h L) (w : WF L) {q : Int} (h0 : 0 ≤ q) (h1 : q < pNp L) {Q : Int → MH → Prop} {E : Nat → Int → MH → Prop} (hQ : ∀ h', jpost h L q h' → Q 0 h') : S_X9_joinTo l G [(2009, 396), (0, q)] h Q E := by
  refine Sem_hyp fun H ok => ?_
  have o9 : okv h (2009, 396) := ok _ List.mem_cons_self
  have nn := w.n
  unfold WFn at nn
  have wk := w.k h0 h1
  obtain ⟨mk, -⟩ := wk
  have wm := w.m mk.1 mk.2.1
  obtain ⟨-, -, -, ar0, -, -, -, -, lc0, lc1, -⟩ := wm
  obtain ⟨-, -, -, -, -, -, -, -, -, -, -, -, -, -, -, -, -, -, -, dp, -⟩ := w.k h0 h1
  have z460 := okf_z (tw_ok H hG o9 18 (off := 64) (n := 1500) (t := 102) (e := 2) (by decide) (by decide) (by decide) (by decide) (by decide) h0 (by omega : q < (1500 : Nat)))
  have z458 := okf_z (tw_ok H hG o9 15 (off := 62) (n := 1500) (t := 102) (e := 2) (by decide) (by decide) (by decide) (by decide) (by decide) h0 (by omega : q < (1500 : Nat)))
  rw [show (396 : Int) + 64 = 460 by decide] at z460
  rw [show (396 : Int) + 62 = 458 by decide] at z458
  refine s_X9_joinTo rfl fun K ki => r_X9_joinTo_0 ki hG ⟨tf.ne, h0, by omega, ?_⟩
  intro n en
  rw [tf.dp q, w32_i (by omega) (by omega)] at en
  refine ⟨h0, by omega, ?_⟩
  intro nw enw
  refine ⟨tf.ne, tf.ne, h0, by omega, ?_⟩
  rw [tf.mo q]
  refine ⟨mk.1, by omega, ?_⟩
  intro lo elo
  rw [tf.lc _] at elo
  intro k0 ek0
  have relx : ∀ k, 0 ≤ k → k < n → (rel L q k ↔ ¬ (lo ≤ k ∧ k < 8)) := by
    intro k a b
    unfold rel
    rw [en] at b
    rw [elo]
    constructor
    · intro r; omega
    · intro r; omega
  -- what holds after k slots
  have key : ∀ m : Nat, ∀ k : Int, ∀ g : MH, (n - k).toNat ≤ m → 0 ≤ k → k ≤ n →
      (g.2 = h.2 ∧ (∀ a j, a ≠ 458 → ¬ (461 ≤ a ∧ a ≤ 464) → hv g a j = hv h a j) ∧ (∀ j, j ≠ q → hv g 458 j = hv h 458 j) ∧ (hv g 458 q = 0 ∨ hv g 458 q = 1) ∧ ((hv h 458 q = 1 → hv g 458 q = 1) ∧ (hv h 458 q = 0 → nw = 0 → (∀ i, row g i = row h i) → hv g 458 q = 0)) ∧
        (∀ i, row g i = @ite FA (16 * q ≤ i ∧ i < 16 * q + k ∧ rel L q (i - 16 * q)) (Classical.propDecidable _) (if nw = 0 then fjoin (row h i) (cX h (i - 16 * q)) else cX h (i - 16 * q)) (row h i)) ∧
        (hv g 458 q = 0 → (∀ i, row g i = row h i) ∧ (nw = 0 ∨ ∀ s, 0 ≤ s → s < k → ¬ rel L q s))) →
      JW K 50 [(2009, 396), (0, q), (0, n), (0, nw), (0, lo), (0, k), (5000, 0), (5000, 0), (5000, 0), (5000, 0), (5000, 0), (5000, 0)] [] g := by
    intro m
    have fin : ∀ k : Int, ∀ g : MH, 0 ≤ k → k = n → (g.2 = h.2 ∧ (∀ a j, a ≠ 458 → ¬ (461 ≤ a ∧ a ≤ 464) → hv g a j = hv h a j) ∧ (∀ j, j ≠ q → hv g 458 j = hv h 458 j) ∧ (hv g 458 q = 0 ∨ hv g 458 q = 1) ∧ ((hv h 458 q = 1 → hv g 458 q = 1) ∧ (hv h 458 q = 0 → nw = 0 → (∀ i, row g i = row h i) → hv g 458 q = 0)) ∧
        (∀ i, row g i = @ite FA (16 * q ≤ i ∧ i < 16 * q + k ∧ rel L q (i - 16 * q)) (Classical.propDecidable _) (if nw = 0 then fjoin (row h i) (cX h (i - 16 * q)) else cX h (i - 16 * q)) (row h i)) ∧
        (hv g 458 q = 0 → (∀ i, row g i = row h i) ∧ (nw = 0 ∨ ∀ s, 0 ≤ s → s < k → ¬ rel L q s))) →
      JW K 50 [(2009, 396), (0, q), (0, n), (0, nw), (0, lo), (0, k), (5000, 0), (5000, 0), (5000, 0), (5000, 0), (5000, 0), (5000, 0)] [] g := by
      intro k g b1 b2 ⟨g1, g2, g3, g4, g5, g6, g7⟩
      refine r_X9_joinTo_50 ki hG ⟨fun _ => ⟨fun _ => ⟨h0, by omega⟩, ?_⟩, fun z => by omega⟩
      intro x5 e5
      refine ⟨fun _ => ⟨h0, by omega⟩, ?_⟩
      intro x6 e6
      rw [g2 465 q (by omega) (by omega), g2 396 62 (by omega) (by omega)] at e5
      rw [g2 466 q (by omega) (by omega), g2 396 63 (by omega) (by omega)] at e6
      refine ⟨h0, by omega, fun _ _ => ⟨h0, by omega, fun _ => ⟨h0, by omega⟩⟩, h0, by omega, by (repeat' split) <;> simp, ?_⟩
      intro h3 e3
      refine ⟨h0, by omega, ?_⟩
      intro h4 e4
      refine ⟨h0, by omega, ?_⟩
      intro h5 e5'
      refine ⟨h0, by omega, by simp, ?_⟩
      intro h6 e6'
      apply hQ
      have hh : ∀ a j, hv h6 a j = if a = 460 ∧ j = q then 1 else if a = 466 ∧ j = q then x6 else if a = 465 ∧ j = q then x5 else if a = 458 ∧ j = q then (if hv g 458 q = 0 then (if nw = 0 then (if x5 = hv g 465 q then (if x6 = hv g 466 q then 0 else 1 : Int) else 1 : Int) else 1 : Int) else 1 : Int) else hv g a j := by
        intro a j
        rw [e6', hv_set, e5', hv_set, e4, hv_set, e3, hv_set]
      have hr : ∀ i, row h6 i = row g i := by
        intro i
        unfold row
        rw [hh, hh, hh, hh]
        simp
      have lkj : fk x5 x6 = if nw = 0 then fjoin (fk (hv h 465 q) (hv h 466 q)) (lkc_ h) else lkc_ h := by
        rw [e5, e6]
        by_cases z : nw = 0
        · rw [if_pos z, if_pos z, if_pos z]; unfold lkc_; rw [fjoin_fk]
        · rw [if_neg z, if_neg z, if_neg z]; rfl
      have nwr : nw = 0 ↔ hv h 460 q = 1 := by
        rw [enw]
        rcases z460 with z | z <;> rw [z] <;> simp
      have h2e : h6.2 = h.2 := by rw [e6', e5', e4, e3]; exact g1
      have oth : ∀ a j, a ≠ 458 → ¬ (460 ≤ a ∧ a ≤ 466) → hv h6 a j = hv h a j := by
        intro a j p1 p2
        rw [hh, if_neg (by omega), if_neg (by omega), if_neg (by omega), if_neg (by omega)]
        exact g2 a j p1 (by omega)
      have TT : tT h6 L = jnS L (tT h L) q (cX h) (lkc_ h) := by
        funext a i j
        unfold jnS
        by_cases a0 : a = 0
        · subst a0
          have eT : ∀ g, tT g L 0 i j = t0 g L i j := fun g => rfl
          rw [eT, eT]
          by_cases c : i = q ∧ rel L q j
          · obtain ⟨rfl, c2⟩ := c
            rw [if_pos ⟨rfl, rfl, c2⟩]
            have rg := rel_rng w h0 h1 c2
            have jn : j < n := by rw [en]; unfold rel at c2; omega
            unfold t0
            rw [iff_p ⟨⟨h0, h1⟩, by rw [hh]; simp, c2⟩, hr, g6, if_pos ⟨by omega, by omega, by rw [show 16 * i + j - 16 * i = j by omega]; exact c2⟩, show 16 * i + j - 16 * i = j by omega]
            by_cases z : nw = 0
            · rw [if_pos z, iff_p ⟨⟨h0, h1⟩, nwr.mp z, c2⟩]
            · rw [if_neg z, iff_n (fun y => z (nwr.mpr y.2.1)), fjoin_zv rfl]
          · rw [if_neg (fun y => c y.2), if_neg (fun y => by have := y.1; omega)]
            unfold t0
            by_cases iq : i = q
            · subst iq
              rw [iff_n (fun y => c ⟨rfl, y.2.2⟩), iff_n (fun y => c ⟨rfl, y.2.2⟩)]
            · refine iff_c ?_ ?_
              · rw [hh, if_neg (by omega), if_neg (by omega), if_neg (by omega), if_neg (by omega), g2 460 i (by omega) (by omega)]
              · intro y
                have rg := rel_rng w y.1.1 y.1.2 y.2.2
                rw [hr, g6, if_neg (by omega)]
        · rw [if_neg (fun y => a0 y.1)]
          by_cases a6 : a = 6
          · subst a6
            have eT : ∀ g, tT g L 6 i j = t6 g L i j := fun g => rfl
            rw [eT, eT]
            unfold t6
            by_cases c : i = q ∧ j = 0
            · obtain ⟨rfl, rfl⟩ := c
              rw [if_pos ⟨rfl, rfl, rfl⟩, iff_p ⟨⟨h0, h1⟩, rfl, by rw [hh]; simp⟩, hh, hh]
              simp only [show ¬ ((465 : Int) = 460) by decide, show ¬ ((465 : Int) = 466) by decide, show ¬ ((466 : Int) = 460) by decide, false_and, if_false, true_and, if_true]
              rw [lkj]
              by_cases z : nw = 0
              · rw [if_pos z, iff_p ⟨⟨h0, h1⟩, nwr.mp z⟩]
              · rw [if_neg z, iff_n (fun y => z (nwr.mpr y.2)), fjoin_zv rfl]
            · rw [if_neg (fun y => c y.2)]
              refine iff_c ?_ ?_
              · by_cases iq : i = q
                · constructor
                  · intro y; exact absurd ⟨iq, y.2.1⟩ c
                  · intro y; exact absurd ⟨iq, y.2.1⟩ c
                · rw [hh, if_neg (by omega), if_neg (by omega), if_neg (by omega), if_neg (by omega), g2 460 i (by omega) (by omega)]
              · intro y
                have iq : i ≠ q := fun z => c ⟨z, y.2.1⟩
                rw [hh, if_neg (by omega), if_neg (by omega), if_neg (by omega), if_neg (by omega), hh, if_neg (by omega), if_neg (by omega), if_neg (by omega), if_neg (by omega), g2 465 i (by omega) (by omega), g2 466 i (by omega) (by omega)]
          · rw [if_neg (fun y => a6 y.1)]
            simp only [tT, if_neg a0, if_neg a6, t1, t2, t3, t4, t5, t7, t8, t9, t10, t11, t14, t15]
            simp only [oth 472 _ (by omega) (by omega), oth 473 _ (by omega) (by omega), oth 474 _ (by omega) (by omega), oth 475 _ (by omega) (by omega), oth 476 _ (by omega) (by omega), oth 477 _ (by omega) (by omega), oth 478 _ (by omega) (by omega), oth 479 _ (by omega) (by omega), oth 480 _ (by omega) (by omega), oth 481 _ (by omega) (by omega), oth 482 _ (by omega) (by omega), oth 483 _ (by omega) (by omega), oth 484 _ (by omega) (by omega), oth 485 _ (by omega) (by omega), oth 486 _ (by omega) (by omega), oth 487 _ (by omega) (by omega), oth 488 _ (by omega) (by omega), oth 489 _ (by omega) (by omega), oth 490 _ (by omega) (by omega), oth 491 _ (by omega) (by omega), oth 492 _ (by omega) (by omega), oth 493 _ (by omega) (by omega), oth 494 _ (by omega) (by omega), oth 495 _ (by omega) (by omega), oth 496 _ (by omega) (by omega), oth 497 _ (by omega) (by omega), oth 498 _ (by omega) (by omega), oth 467 _ (by omega) (by omega), oth 468 _ (by omega) (by omega), oth 469 _ (by omega) (by omega)]
      refine ⟨⟨h2e, fun a j p1 p2 => oth a j (by omega) (by omega)⟩, TT, oth, fun j hj => ?_, ⟨fun z => ?_, fun eT => ?_⟩, fun z => ?_, by rw [hh, if_neg (by omega), if_neg (by omega), if_neg (by omega), if_pos ⟨rfl, rfl⟩]; (repeat' split) <;> simp⟩
      · rw [hh, if_neg (by omega), if_neg (by omega), if_neg (by omega), if_neg (by omega)]; exact g3 j hj
      · rw [hh, if_neg (by omega), if_neg (by omega), if_neg (by omega), if_pos ⟨rfl, rfl⟩, if_neg (by have := g5.1 z; omega)]
      · have v6 : hv h6 460 q = 1 := by rw [hh]; simp
        have e6T : t6 h6 L q 0 = t6 h L q 0 := congrFun (congrFun (congrFun eT 6) q) 0
        have r1 : hv h 460 q = 1 := by
          apply Classical.byContradiction
          intro y
          have a1 : t6 h6 L q 0 = fk (hv h6 465 q) (hv h6 466 q) := by unfold t6; rw [iff_p ⟨⟨h0, h1⟩, rfl, v6⟩]
          have a2 : t6 h L q 0 = fz := by unfold t6; rw [iff_n (fun y2 => y y2.2.2)]
          rw [a1, a2] at e6T
          exact absurd (congrArg ath e6T) (by decide : ¬ (1 : Int) = 0)
        have nw0 : nw = 0 := nwr.mpr r1
        have a1 : t6 h6 L q 0 = fk x5 x6 := by
          unfold t6
          rw [iff_p ⟨⟨h0, h1⟩, rfl, v6⟩, hh 465 q, hh 466 q, if_neg (by omega), if_neg (by omega), if_pos ⟨rfl, rfl⟩, if_neg (by omega), if_pos ⟨rfl, rfl⟩]
        have a2 : t6 h L q 0 = fk (hv h 465 q) (hv h 466 q) := by unfold t6; rw [iff_p ⟨⟨h0, h1⟩, rfl, r1⟩]
        rw [a1, a2] at e6T
        have l5 : x5 = hv h 465 q := congrArg asu e6T
        have l6 : x6 = hv h 466 q := congrArg alb e6T
        have rws : ∀ i, row g i = row h i := by
          intro i
          by_cases c : 16 * q ≤ i ∧ i < 16 * q + k ∧ rel L q (i - 16 * q)
          · have e0 : t0 h6 L q (i - 16 * q) = t0 h L q (i - 16 * q) := congrFun (congrFun (congrFun eT 0) q) (i - 16 * q)
            unfold t0 at e0
            rw [iff_p ⟨⟨h0, h1⟩, v6, c.2.2⟩, iff_p ⟨⟨h0, h1⟩, r1, c.2.2⟩, show 16 * q + (i - 16 * q) = i by omega, hr] at e0
            exact e0
          · rw [g6 i, if_neg c]
        rw [hh, if_neg (by omega), if_neg (by omega), if_neg (by omega), if_pos ⟨rfl, rfl⟩]
        rcases z458 with z | z
        · rw [if_pos (g5.2 z nw0 rws), if_pos nw0, if_pos (by rw [g2 465 q (by omega) (by omega)]; exact l5), if_pos (by rw [g2 466 q (by omega) (by omega)]; exact l6), z]
        · rw [if_neg (by have := g5.1 z; omega), z]
      · rw [hh, if_neg (by omega), if_neg (by omega), if_neg (by omega), if_pos ⟨rfl, rfl⟩] at z
        split at z
        · rename_i z1
          split at z
          · rename_i z2
            split at z
            · rename_i z3
              split at z
              · rename_i z4
                rw [g2 465 q (by omega) (by omega)] at z3
                rw [g2 466 q (by omega) (by omega)] at z4
                rw [TT]
                funext a i j
                unfold jnS
                have r1 := nwr.mp z2
                obtain ⟨g71, -⟩ := g7 z1
                by_cases c : a = 0 ∧ i = q ∧ rel L q j
                · rw [if_pos c]
                  obtain ⟨rfl, rfl, c3⟩ := c
                  show fjoin (t0 h L i j) (cX h j) = t0 h L i j
                  have rg := rel_rng w h0 h1 c3
                  have jn : j < n := by rw [en]; unfold rel at c3; omega
                  unfold t0
                  rw [iff_p ⟨⟨h0, h1⟩, r1, c3⟩]
                  have e := g6 (16 * i + j)
                  rw [if_pos ⟨by omega, by omega, by rw [show 16 * i + j - 16 * i = j by omega]; exact c3⟩, if_pos z2, show 16 * i + j - 16 * i = j by omega, g71] at e
                  exact e.symm
                · rw [if_neg c]
                  by_cases d : a = 6 ∧ i = q ∧ j = 0
                  · rw [if_pos d]
                    obtain ⟨rfl, rfl, rfl⟩ := d
                    show fjoin (t6 h L i 0) (lkc_ h) = t6 h L i 0
                    unfold t6
                    rw [iff_p ⟨⟨h0, h1⟩, rfl, r1⟩]
                    rw [if_pos z2, z3, z4] at lkj
                    exact lkj.symm
                  · rw [if_neg d]
              · omega
            · omega
          · omega
        · omega
    induction m with
    | zero => intro k g b0 b1 b2 b3; exact fin k g b1 (by omega) b3
    | succ m ih =>
      intro k g b0 b1 b2 b3
      by_cases e : k = n
      · exact fin k g b1 e b3
      · obtain ⟨g1, g2, g3, g4, g5, g6, g7⟩ := b3
        have kn : k < n := by omega
        refine r_X9_joinTo_50 ki hG ⟨fun z => by omega, fun _ => ⟨fun z => ?_, fun z => ?_⟩⟩
        · intro k' ek
          rw [w32_i (by omega) (by omega)] at ek
          subst ek
          have nr : ¬ rel L q k := fun r => ((relx k b1 kn).mp r) z
          refine ih _ _ (by omega) (by omega) (by omega) ⟨g1, g2, g3, g4, g5, fun i => ?_, fun y => ?_⟩
          · rw [g6 i]
            by_cases c : 16 * q ≤ i ∧ i < 16 * q + k ∧ rel L q (i - 16 * q)
            · rw [if_pos c, if_pos (show 16 * q ≤ i ∧ i < 16 * q + (k + 1) ∧ rel L q (i - 16 * q) from ⟨c.1, by omega, c.2.2⟩)]
            · rw [if_neg c, if_neg]
              intro y
              apply c
              refine ⟨y.1, ?_, y.2.2⟩
              by_cases e2 : i - 16 * q = k
              · rw [e2] at y; exact absurd y.2.2 nr
              · omega
          · refine ⟨(g7 y).1, ?_⟩
            rcases (g7 y).2 with r | r
            · exact Or.inl r
            · refine Or.inr fun s s0 s1 => ?_
              by_cases e2 : s = k
              · rw [e2]; exact nr
              · exact r s s0 (by omega)
        · intro x6 e6
          have yr : rel L q k := (relx k b1 kn).mpr z
          have k16 := rel_rng w h0 h1 yr
          rw [w32_i (z := 16 * q) (by omega) (by omega), w32_i (by omega) (by omega)] at e6
          have sd : (nw = 0 → 0 ≤ x6 ∧ x6 < 24000 ∧ 0 ≤ k ∧ k < 16) := fun _ => ⟨by omega, by omega, by omega, by omega⟩
          have sd2 : (¬ nw = 0 → 0 ≤ k ∧ k < 16) := fun _ => ⟨by omega, by omega⟩
          refine ⟨sd, sd2, ?_⟩
          intro x7 e7
          refine ⟨sd, sd2, ?_⟩
          intro x8 e8
          refine ⟨sd, sd2, ?_⟩
          intro x9 e9
          refine ⟨sd, sd2, ?_⟩
          intro x10 e10
          refine ⟨h0, by omega, fun _ _ => ⟨by omega, by omega, fun _ => ⟨by omega, by omega, fun _ => ⟨by omega, by omega, fun _ => ⟨by omega, by omega⟩⟩⟩⟩, h0, by omega, by (repeat' split) <;> simp, ?_⟩
          intro h13 e13
          refine ⟨by omega, by omega, ?_⟩
          intro h14 e14
          refine ⟨by omega, by omega, ?_⟩
          intro h15 e15
          refine ⟨by omega, by omega, ?_⟩
          intro h16 e16
          refine ⟨by omega, by omega, ?_⟩
          intro h17 e17
          intro k' ek
          rw [w32_i (by omega) (by omega)] at ek
          subst ek
          -- the joined row
          have rx : row g x6 = row h x6 := by rw [g6, if_neg (by omega)]
          have cx : cX g k = cX h k := by
            unfold cX
            rw [g2 499 k (by omega) (by omega), g2 500 k (by omega) (by omega), g2 501 k (by omega) (by omega), g2 502 k (by omega) (by omega)]
          have jv : fv x7 x8 x9 x10 = if nw = 0 then fjoin (row h x6) (cX h k) else cX h k := by
            rw [← rx, ← cx, e7, e8, e9, e10]
            by_cases y : nw = 0
            · rw [if_pos y, if_pos y, if_pos y, if_pos y, if_pos y]; unfold row cX; rw [fjoin_fv]
            · rw [if_neg y, if_neg y, if_neg y, if_neg y, if_neg y]; rfl
          have hr : ∀ i, row h17 i = if i = x6 then fv x7 x8 x9 x10 else row g i := by
            intro i
            rw [e17, e16, e15, e14, row_set, e13, row_458]
          have hh : ∀ a j, ¬ (461 ≤ a ∧ a ≤ 464) → hv h17 a j = if a = 458 ∧ j = q then (if hv g 458 q = 0 then (if nw = 0 then (if x7 = hv g 461 x6 then (if x8 = hv g 462 x6 then (if x9 = hv g 463 x6 then (if lc x10 (hv g 464 x6) = 0 then 0 else 1 : Int) else 1 : Int) else 1 : Int) else 1 : Int) else 1 : Int) else 1 : Int) else hv g a j := by
            intro a j p
            rw [e17, ne_a (by omega), e16, ne_a (by omega), e15, ne_a (by omega), e14, ne_a (by omega), e13, hv_set]
          refine ih _ _ (by omega) (by omega) (by omega) ⟨by rw [e17, e16, e15, e14, e13]; exact g1, fun a j p1 p2 => ?_, fun j p => ?_, ?_, ⟨fun p => ?_, fun p1 p2 p3 => ?_⟩, fun i => ?_, fun y => ?_⟩
          · rw [hh a j p2, if_neg (by omega)]; exact g2 a j p1 p2
          · rw [hh 458 j (by omega), if_neg (by omega)]; exact g3 j p
          · rw [hh 458 q (by omega), if_pos ⟨rfl, rfl⟩]; (repeat' split) <;> simp
          · rw [hh 458 q (by omega), if_pos ⟨rfl, rfl⟩, if_neg (by have := g5.1 p; omega)]
          · have rg : ∀ i, row g i = row h i := by
              intro i
              by_cases ix : i = x6
              · rw [ix]; exact rx
              · have := p3 i
                rw [hr, if_neg ix] at this; exact this
            have ev := p3 x6
            rw [hr, if_pos rfl, ← rx] at ev
            have c1 : x7 = hv g 461 x6 := congrArg alo ev
            have c2 : x8 = hv g 462 x6 := congrArg ahi ev
            have c3 : x9 = hv g 463 x6 := congrArg alb ev
            have c4 : x10 = hv g 464 x6 := congrArg ast ev
            rw [hh 458 q (by omega), if_pos ⟨rfl, rfl⟩, if_pos (g5.2 p1 p2 rg), if_pos p2, if_pos c1, if_pos c2, if_pos c3, if_pos (by rw [lc_eq]; exact c4)]
          · rw [hr]
            by_cases ix : i = x6
            · rw [if_pos ix, if_pos ⟨by omega, by omega, by rw [show i - 16 * q = k by omega]; exact yr⟩, jv, ix, show x6 - 16 * q = k by omega]
            · rw [if_neg ix, g6 i]
              by_cases c : 16 * q ≤ i ∧ i < 16 * q + k ∧ rel L q (i - 16 * q)
              · rw [if_pos c, if_pos (show 16 * q ≤ i ∧ i < 16 * q + (k + 1) ∧ rel L q (i - 16 * q) from ⟨c.1, by omega, c.2.2⟩)]
              · rw [if_neg c, if_neg (fun y => c ⟨y.1, by omega, y.2.2⟩)]
          · rw [hh 458 q (by omega), if_pos ⟨rfl, rfl⟩] at y
            split at y
            · rename_i y1
              split at y
              · rename_i y2
                split at y
                · rename_i y3
                  split at y
                  · rename_i y4
                    split at y
                    · rename_i y5
                      split at y
                      · rename_i y6
                        rw [lc_eq] at y6
                        refine ⟨fun i => ?_, Or.inl y2⟩
                        rw [hr]
                        by_cases ix : i = x6
                        · rw [if_pos ix, y3, y4, y5, y6, ix, ← (g7 y1).1]; rfl
                        · rw [if_neg ix]; exact (g7 y1).1 i
                      · omega
                    · omega
                  · omega
                · omega
              · omega
            · omega
  subst ek0
  refine key _ 0 h (Nat.le_refl _) (by omega) (by omega) ⟨rfl, fun _ _ _ _ => rfl, fun _ _ => rfl, z458, ⟨fun x => x, fun x _ _ => x⟩, fun i => ?_, fun _ => ⟨fun _ => rfl, Or.inr (fun s s0 s1 => by omega)⟩⟩
  rw [if_neg (by omega)]
