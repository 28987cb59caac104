/-! Part 39i: the twin's machine: small steps -/
set_option maxRecDepth 100000
/-- a heap with other values -/
def lft (h : MH) (A : MA) : MH := (A, h.2)
theorem lft_hv (h : MH) (A : MA) : hv (lft h A) = A := rfl
theorem lft_id (h : MH) : lft h (hv h) = h := rfl
theorem lft_set (h : MH) (a k x : Int) : hset h a k x = lft h (mset (hv h) a k x) := rfl
theorem lft_set2 (h : MH) (A : MA) (a k x : Int) : hset (lft h A) a k x = lft h (mset A a k x) := rfl
/-- a thread has a call -/
def frk (A : MA) (t : Int) : Prop := (0 ≤ t ∧ t < 8) ∧ 1 ≤ A 509 t ∧ A 509 t ≤ 30
theorem t_frame {l : Launch} {G : JG} (hG : gO G = true) {h : MH} {t : Int} (f : frk (hv h) t) {Q : Int → MH → Prop} {E : Nat → Int → MH → Prop} (hQ : Q (fA (hv h) t) h) : S_X9_frame l G [(2009, 396), (0, t)] h Q E := by
  obtain ⟨⟨t0, t1⟩, n1, n2⟩ := f
  refine s_X9_frame rfl fun K ki => r_X9_frame_0 ki hG ⟨t0, t1, ?_⟩
  rw [w32_i (z := 30 * t) (by omega) (by omega), w32_i (z := 30 * t + hv h 509 t) (by omega) (by omega), w32_i (by omega) (by omega)]
  exact hQ
theorem fA_b {A : MA} {t : Int} (f : frk A t) : 0 ≤ fA A t ∧ fA A t < 240 := by
  obtain ⟨⟨t0, t1⟩, n1, n2⟩ := f
  unfold fA
  omega
theorem t_top {l : Launch} {G : JG} (hG : gO G = true) {h : MH} {t i : Int} (f : frk (hv h) t) (i0 : 0 ≤ i) (i1 : i < hv h 512 (fA (hv h) t)) (d8 : hv h 512 (fA (hv h) t) ≤ 8) {Q : Int → MH → Prop} {E : Nat → Int → MH → Prop} (hQ : Q (topA (hv h) t i) h) : S_X9_top l G [(2009, 396), (0, t), (0, i)] h Q E := by
  have fb := fA_b f
  refine s_X9_top rfl fun K ki => r_X9_top_0 ki hG ?_
  refine t_frame hG f ?_
  intro x ex
  subst ex
  rw [w32_i (z := 16 * fA (hv h) t) (by omega) (by omega), w32_i (z := 16 * fA (hv h) t + 8) (by omega) (by omega), w32_i (z := 16 * fA (hv h) t + 8 + hv h 512 (fA (hv h) t)) (by omega) (by omega), w32_i (z := 16 * fA (hv h) t + 8 + hv h 512 (fA (hv h) t) - 1) (by omega) (by omega), w32_i (by omega) (by omega)]
  exact ⟨fb.1, fb.2, by omega, by omega, hQ⟩
theorem t_drop {l : Launch} {G : JG} (hG : gO G = true) {h : MH} {t n : Int} (f : frk (hv h) t) (n0 : 0 ≤ n) (n1 : n ≤ 8) (d0 : 0 ≤ hv h 512 (fA (hv h) t)) (d8 : hv h 512 (fA (hv h) t) ≤ 8) {Q : Int → MH → Prop} {E : Nat → Int → MH → Prop} (hQ : Q 0 (lft h (dropA (hv h) t n))) : S_X9_drop l G [(2009, 396), (0, t), (0, n)] h Q E := by
  have fb := fA_b f
  refine s_X9_drop rfl fun K ki => r_X9_drop_0 ki hG ?_
  refine t_frame hG f ⟨fb.1, fb.2, fb.1, fb.2, ?_⟩
  intro g eg
  rw [w32_i (by omega) (by omega)] at eg
  rw [eg]
  exact hQ
theorem t_push {l : Launch} {G : JG} (hG : gO G = true) {h : MH} {t v : Int} (f : frk (hv h) t) (d0 : 0 ≤ hv h 512 (fA (hv h) t)) (d8 : hv h 512 (fA (hv h) t) < 8) {Q : Int → MH → Prop} {E : Nat → Int → MH → Prop} (hQ : Q 0 (lft h (pushA (hv h) t v))) : S_X9_push l G [(2009, 396), (0, t), (0, v)] h Q E := by
  have fb := fA_b f
  refine s_X9_push rfl fun K ki => r_X9_push_0 ki hG ?_
  refine t_frame hG f ?_
  intro x ex
  subst ex
  rw [w32_i (z := 16 * fA (hv h) t) (by omega) (by omega), w32_i (z := 16 * fA (hv h) t + 8) (by omega) (by omega), w32_i (z := 16 * fA (hv h) t + 8 + hv h 512 (fA (hv h) t)) (by omega) (by omega)]
  refine ⟨fb.1, fb.2, by omega, by omega, ?_⟩
  intro g eg
  refine ⟨fb.1, fb.2, fb.1, fb.2, ?_⟩
  intro g2 eg2
  have e : hv g 512 (fA (hv h) t) = hv h 512 (fA (hv h) t) := by rw [eg, ne_a (by omega)]
  rw [e, w32_i (by omega) (by omega), eg] at eg2
  rw [eg2]
  exact hQ
theorem t_stp {l : Launch} {G : JG} (hG : gO G = true) {h : MH} {t : Int} (f : frk (hv h) t) (k0 : 0 ≤ hv h 511 (fA (hv h) t)) (k1 : hv h 511 (fA (hv h) t) < 2000) {Q : Int → MH → Prop} {E : Nat → Int → MH → Prop} (hQ : Q 0 (lft h (stepA (hv h) t))) : S_X9_step l G [(2009, 396), (0, t)] h Q E := by
  have fb := fA_b f
  refine s_X9_step rfl fun K ki => r_X9_step_0 ki hG ?_
  refine t_frame hG f ⟨fb.1, fb.2, fb.1, fb.2, ?_⟩
  intro g eg
  rw [w32_i (by omega) (by omega)] at eg
  rw [eg]
  exact hQ
theorem t_lie {l : Launch} {G : JG} (hG : gO G = true) {h : MH} {t v : Int} (f : frk (hv h) t) (d0 : 0 ≤ hv h 512 (fA (hv h) t)) (d8 : hv h 512 (fA (hv h) t) < 8) (k0 : 0 ≤ hv h 511 (fA (hv h) t)) (k1 : hv h 511 (fA (hv h) t) < 2000) {Q : Int → MH → Prop} {E : Nat → Int → MH → Prop} (hQ : Q 0 (lft h (lieA (hv h) t v))) : S_X9_lie l G [(2009, 396), (0, t), (0, v)] h Q E := by
  refine s_X9_lie rfl fun K ki => r_X9_lie_0 ki hG ?_
  refine t_push hG f d0 d8 ?_
  have pf : fA (hv (lft h (pushA (hv h) t v))) t = fA (hv h) t := push_f _ _ _
  have p1 : hv (lft h (pushA (hv h) t v)) 511 (fA (hv h) t) = hv h 511 (fA (hv h) t) := by rw [lft_hv, push_v, if_neg (by omega), if_neg (by omega)]
  have p9 : hv (lft h (pushA (hv h) t v)) 509 t = hv h 509 t := by rw [lft_hv, push_v, if_neg (by omega), if_neg (by omega)]
  refine t_stp hG ⟨f.1, by rw [p9]; exact f.2.1, by rw [p9]; exact f.2.2⟩ (by rw [pf, p1]; exact k0) (by rw [pf, p1]; exact k1) ?_
  exact hQ
theorem t_siteOf {l : Launch} {G : JG} (hG : gO G = true) {h : MH} {v : Int} (v0 : 0 ≤ v) (v1 : v < 407) {Q : Int → MH → Prop} {E : Nat → Int → MH → Prop} (hQ : Q (sit (hv h) v) h) : S_X9_siteOf l G [(2009, 396), (0, v)] h Q E := by
  refine s_X9_siteOf rfl fun K ki => r_X9_siteOf_0 ki hG ?_
  rw [w32_i (by omega) (by omega)]
  exact ⟨fun _ => ⟨by omega, by omega⟩, hQ⟩
theorem t_make {l : Launch} {G : JG} (hG : gO G = true) {h : MH} {s n : Int} (o0 : 0 ≤ nob (hv h)) (o1 : nob (hv h) < 400) {Q : Int → MH → Prop} {E : Nat → Int → MH → Prop} (hQ : Q (nob (hv h) + 7) (lft h (mkA (hv h) s n))) : S_X9_make l G [(2009, 396), (0, s), (0, n)] h Q E := by
  have hn : hv h 396 91 = nob (hv h) := rfl
  refine s_X9_make rfl fun K ki => r_X9_make_0 ki hG ?_
  rw [hn]
  refine ⟨o0, o1, ?_⟩
  intro h1 e1
  have n1 : hv h1 396 91 = nob (hv h) := by rw [e1, ne_a (by omega)]; rfl
  rw [n1]
  refine ⟨o0, o1, ?_⟩
  intro h2 e2 x3 e3
  have key : ∀ N : Nat, ∀ j : Int, ∀ g : MH, (100 - j).toNat ≤ N → 0 ≤ j → j ≤ 100 → g.2 = h.2 → (∀ a i, hv g a i = if a = 517 ∧ 100 * nob (hv h) ≤ i ∧ i < 100 * nob (hv h) + j then 0 else hv h2 a i) → JW K 22 [(2009, 396), (0, s), (0, n), (0, j)] [] g := by
    intro N
    induction N with
    | zero =>
      intro j g b1' b2 b3 g2 iv
      have ej : j = 100 := by omega
      subst ej
      have n3 : hv g 396 91 = nob (hv h) := by rw [iv, if_neg (by omega), e2, ne_a (by omega)]; exact n1
      refine r_X9_make_22 ki hG ⟨fun _ => ?_, fun z => by omega⟩
      intro g' eg
      rw [n3, w32_i (by omega) (by omega)] at eg
      have n4 : hv g' 396 91 = nob (hv h) + 1 := by rw [eg, eq_a]
      rw [n4, w32_i (by omega) (by omega), show nob (hv h) + 1 + 6 = nob (hv h) + 7 by omega]
      have eh : g' = lft h (mkA (hv h) s n) := by
        have e1' : hv g' = mkA (hv h) s n := by
          funext a i
          rw [eg, hv_set, iv, e2, hv_set, e1, hv_set]
          unfold mkA
          by_cases c1 : a = 396 ∧ i = 91
          · rw [if_pos c1, if_pos c1]
          by_cases c4 : a = 517 ∧ 100 * nob (hv h) ≤ i ∧ i < 100 * nob (hv h) + 100
          · rw [if_neg c1, if_pos c4, if_neg c1, if_neg (by omega), if_neg (by omega), if_pos c4]
          by_cases c3 : a = 516 ∧ i = nob (hv h)
          · rw [if_neg c1, if_neg c4, if_pos c3, if_neg c1, if_neg (by omega), if_pos c3]
          by_cases c2 : a = 515 ∧ i = nob (hv h)
          · rw [if_neg c1, if_neg c4, if_neg c3, if_pos c2, if_neg c1, if_pos c2]
          · rw [if_neg c1, if_neg c4, if_neg c3, if_neg c2, if_neg c1, if_neg c2, if_neg c3, if_neg c4]
        have e2' : g'.2 = h.2 := by rw [eg]; exact g2
        show g' = (mkA (hv h) s n, h.2)
        rw [← e1', ← e2']
        rfl
      rw [eh]; exact hQ
    | succ N ih =>
      intro j g b1' b2 b3 g2 iv
      by_cases ej : j = 100
      · exact ih j g (by omega) b2 b3 g2 iv
      have n3 : hv g 396 91 = nob (hv h) := by rw [iv, if_neg (by omega), e2, ne_a (by omega)]; exact n1
      refine r_X9_make_22 ki hG ⟨fun z => by omega, fun z => ?_⟩
      rw [n3, w32_i (z := 100 * nob (hv h)) (by omega) (by omega), w32_i (z := 100 * nob (hv h) + j) (by omega) (by omega)]
      refine ⟨by omega, by omega, ?_⟩
      intro g' eg x ex
      rw [w32_i (by omega) (by omega)] at ex
      subst ex
      refine ih (j + 1) g' (by omega) (by omega) (by omega) (by rw [eg]; exact g2) (fun a i => ?_)
      rw [eg, hv_set, iv]
      by_cases c : a = 517 ∧ i = 100 * nob (hv h) + j
      · rw [if_pos c, if_pos (by omega)]
      · rw [if_neg c]
        by_cases c2 : a = 517 ∧ 100 * nob (hv h) ≤ i ∧ i < 100 * nob (hv h) + j
        · rw [if_pos c2, if_pos (by omega)]
        · rw [if_neg c2, if_neg (by omega)]
  subst e3
  refine key _ 0 h2 (Nat.le_refl _) (by omega) (by omega) (by rw [e2, e1]; rfl) (fun a i => ?_)
  rw [if_neg (by omega)]
theorem t_jmp {l : Launch} {G : JG} (hG : gO G = true) {h : MH} {L : PG} (tf : TF h L) (w : WF L) {t k b : Int} (f : frk (hv h) t) (hk : inP L k) (kz : ¬ b = 0 → 0 ≤ pZ L k ∧ pZ L k < 200) (k0 : 0 ≤ hv h 511 (fA (hv h) t)) (k1 : hv h 511 (fA (hv h) t) < 2000) {Q : Int → MH → Prop} {E : Nat → Int → MH → Prop} (hQ : Q 0 (lft h (jmpA L (hv h) t k b))) : S_X9_jump l G [(2009, 396), (0, t), (0, k), (0, b)] h Q E := by
  have nn := w.n
  unfold WFn at nn
  have fb := fA_b f
  have h0 := hk.1
  have h1 := hk.2
  have mo := (w.k h0 h1).1
  have mo0 := mo.1
  have mo1 := mo.2.1
  obtain ⟨-, -, -, -, -, -, -, -, -, -, -, -, -, -, -, -, -, fi0, fi1, -⟩ := w.m mo0 mo1
  unfold jmpA at hQ
  refine s_X9_jump rfl fun K ki => r_X9_jump_0 ki hG ⟨fun c => ?_, fun c => ?_⟩
  · rw [if_pos c] at hQ
    exact t_stp hG f k0 k1 hQ
  · rw [if_neg c] at hQ
    have kk := kz c
    refine t_frame hG f ?_
    rw [tf.mo, tf.fi, tf.z, w32_i (by omega) (by omega)]
    refine ⟨tf.ne, tf.ne, h0, by omega, mo0, by omega, tf.ne, h0, by omega, fb.1, fb.2, ?_⟩
    intro g eg
    rw [eg]
    exact hQ
/-- the machine may be too full -/
theorem t_isFullBy {l : Launch} {G : JG} (hG : gO G = true) {h : MH} {b : Int} (b01 : b = 0 ∨ b = 1) (z : hv h 396 103 = 0) {Q : Int → MH → Prop} {E : Nat → Int → MH → Prop} (h0 : b = 0 → Q 0 h) (h1 : b = 1 → Q 1 (lft h (mset (hv h) 396 103 1))) : S_X9_isFullBy l G [(2009, 396), (0, b)] h Q E := by
  refine s_X9_isFullBy rfl fun K ki => r_X9_isFullBy_0 ki hG ?_
  rw [if_pos z]
  rcases b01 with e | e
  · rw [if_pos e]
    refine ⟨Or.inl rfl, ?_⟩
    intro g eg
    have : g = h := by
      have e2 : hset h 396 103 0 = lft h (mset (hv h) 396 103 (hv h 396 103)) := by rw [z]; rfl
      rw [eg, e2, m_id]
      rfl
    rw [this, e]
    exact ⟨Or.inl rfl, h0 e⟩
  · rw [if_neg (by omega)]
    refine ⟨Or.inr rfl, ?_⟩
    intro g eg
    rw [eg, e]
    exact ⟨Or.inr rfl, h1 e⟩
theorem t_open {l : Launch} {G : JG} (hG : gO G = true) {h : MH} {L : PG} (tf : TF h L) {t m : Int} (t0 : 0 ≤ t) (t1 : t < 8) (n0 : 0 ≤ hv h 509 t) (n1 : hv h 509 t < 30) (hm : 0 ≤ m ∧ m < 40) {Q : Int → MH → Prop} {E : Nat → Int → MH → Prop} (hQ : Q (30 * t + hv h 509 t) (lft h (opnA L (hv h) t m))) : S_X9_open l G [(2009, 396), (0, t), (0, m)] h Q E := by
  refine s_X9_open rfl fun K ki => r_X9_open_0 ki hG ⟨t0, t1, t0, t1, ?_⟩
  intro h1 e1
  rw [w32_i (by omega) (by omega)] at e1
  have e9 : hv h1 509 t = hv h 509 t + 1 := by rw [e1, eq_a]
  have ff : fA (hv h1) t = 30 * t + hv h 509 t := by unfold fA; rw [e9]; omega
  refine t_frame hG ⟨⟨t0, t1⟩, by omega, by omega⟩ ?_
  rw [ff]
  intro x3 ex3
  subst ex3
  refine ⟨by omega, by omega, ?_⟩
  intro h5 e5
  have tf5 : TF h5 L := by
    refine tf.of ?_ (fun a j a0 a1 => ?_)
    · rw [e5, ne_a (by omega), e1, ne_a (by omega)]
    · rw [e5, ne_a (by omega), e1, ne_a (by omega)]
  refine ⟨tf5.ne, hm.1, hm.2, by omega, by omega, ?_⟩
  rw [tf5.fi]
  intro h6 e6
  refine ⟨by omega, by omega, ?_⟩
  intro h7 e7 x4 e4
  have key : ∀ N : Nat, ∀ j : Int, ∀ g : MH, (16 - j).toNat ≤ N → 0 ≤ j → j ≤ 16 → g.2 = h.2 → (∀ a i, hv g a i = if a = 513 ∧ 16 * (30 * t + hv h 509 t) ≤ i ∧ i < 16 * (30 * t + hv h 509 t) + j then 0 else hv h7 a i) → JW K 48 [(2009, 396), (0, t), (0, m), (0, 30 * t + hv h 509 t), (0, j)] [] g := by
    intro N
    induction N with
    | zero =>
      intro j g b1' b2 b3 g2 iv
      have ej : j = 16 := by omega
      subst ej
      refine r_X9_open_48 ki hG ⟨fun _ => ?_, fun z => by omega⟩
      have eh : g = lft h (opnA L (hv h) t m) := by
        have e1' : hv g = opnA L (hv h) t m := by
          funext a i
          rw [iv, e7, hv_set, e6, hv_set, e5, hv_set, e1, hv_set]
          unfold opnA
          by_cases c5 : a = 513 ∧ 16 * (30 * t + hv h 509 t) ≤ i ∧ i < 16 * (30 * t + hv h 509 t) + 16
          · rw [if_pos c5, if_neg (by omega), if_neg (by omega), if_neg (by omega), if_neg (by omega), if_pos c5]
          rw [if_neg c5]
          by_cases c1 : a = 509 ∧ i = t
          · rw [if_neg (by omega), if_neg (by omega), if_neg (by omega), if_pos c1, if_pos c1]
          rw [if_neg c1]
          by_cases c2 : a = 510 ∧ i = 30 * t + hv h 509 t
          · rw [if_neg (by omega), if_neg (by omega), if_pos c2, if_neg (by omega), if_pos c2]
          rw [if_neg c2]
          by_cases c3 : a = 511 ∧ i = 30 * t + hv h 509 t
          · rw [if_neg (by omega), if_pos c3, if_neg (by omega), if_neg (by omega), if_pos c3]
          rw [if_neg c3]
          by_cases c4 : a = 512 ∧ i = 30 * t + hv h 509 t
          · rw [if_pos c4, if_neg (by omega), if_neg (by omega), if_neg (by omega), if_pos c4]
          · rw [if_neg c4, if_neg c1, if_neg c2, if_neg c3, if_neg c4, if_neg c5]
        show g = (opnA L (hv h) t m, h.2)
        rw [← e1', ← g2]
        rfl
      rw [eh]; exact hQ
    | succ N ih =>
      intro j g b1' b2 b3 g2 iv
      by_cases ej : j = 16
      · exact ih j g (by omega) b2 b3 g2 iv
      refine r_X9_open_48 ki hG ⟨fun z => by omega, fun z => ?_⟩
      rw [w32_i (z := 16 * (30 * t + hv h 509 t)) (by omega) (by omega), w32_i (z := 16 * (30 * t + hv h 509 t) + j) (by omega) (by omega)]
      refine ⟨by omega, by omega, ?_⟩
      intro g' eg x ex
      rw [w32_i (by omega) (by omega)] at ex
      subst ex
      refine ih (j + 1) g' (by omega) (by omega) (by omega) (by rw [eg]; exact g2) (fun a i => ?_)
      rw [eg, hv_set, iv]
      by_cases c : a = 513 ∧ i = 16 * (30 * t + hv h 509 t) + j
      · rw [if_pos c, if_pos (by omega)]
      · rw [if_neg c]
        by_cases c2 : a = 513 ∧ 16 * (30 * t + hv h 509 t) ≤ i ∧ i < 16 * (30 * t + hv h 509 t) + j
        · rw [if_pos c2, if_pos (by omega)]
        · rw [if_neg c2, if_neg (by omega)]
  subst e4
  refine key _ 0 h7 (Nat.le_refl _) (by omega) (by omega) (by rw [e7, e6, e5, e1]; rfl) (fun a i => ?_)
  rw [if_neg (by omega)]
/-- what the twin's walk may change -/
def frW (h h' : MH) : Prop := h'.2 = h.2 ∧ ∀ a j, ¬ (507 ≤ a ∧ a ≤ 521) → ¬ (a = 396 ∧ 80 ≤ j ∧ j ≤ 103) → hv h' a j = hv h a j
theorem frW_rfl (h : MH) : frW h h := ⟨rfl, fun _ _ _ _ => rfl⟩
theorem frW_tr {h1 h2 h3 : MH} (a : frW h1 h2) (b : frW h2 h3) : frW h1 h3 := ⟨b.1.trans a.1, fun x j p q => (b.2 x j p q).trans (a.2 x j p q)⟩
theorem frW_TF {h h' : MH} {L : PG} (f : frW h h') (t : TF h L) : TF h' L := t.of (f.2 _ _ (by omega) (by omega)) (fun a j h1 h2 => f.2 a j (by omega) (by omega))
theorem frW_T {h h' : MH} {L : PG} (f : frW h h') : tT h' L = tT h L := tT_eq' (fun a j _ _ _ _ => f.2 a j (by omega) (by omega))
theorem frW_TW {h h' : MH} {L : PG} {R : Int → Prop} (f : frW h h') (t : TW L R h) : TW L R h' := by
  obtain ⟨t1, t2, t3, t4, t5⟩ := t
  exact ⟨frW_TF f t1, t2, t3, fun m hm => by rw [f.2 457 m (by omega) (by omega)]; exact t4 m hm, fun y => KN_of (fun a j h1 h2 => f.2 a j (by omega) (by omega)) (f.2 _ _ (by omega) (by omega)) (f.2 _ _ (by omega) (by omega)) (t5 (by rw [f.2 396 11 (by omega) (by omega)] at y; exact y))⟩
/-- a throw: through calls that wait, with facts that tell of it -/
theorem t_hurl {l : Launch} {G : JG} (hG : gO G = true) {h : MH} {L : PG} {T : TB} (tf : TF h L) (eT : tT h L = T) (ct : CT L T) {t v s : Int} {lk : FA} (r : rsg L T (hv h) t s lk) (ov : oref (hv h) v) (sv : sit (hv h) v = s) (v0 : v ≠ 0) (b0 : hv h 396 102 = 0) {Q : Int → MH → Prop} {E : Nat → Int → MH → Prop}
    (hQ : INV L T (hurlA L (hv h) t v) → Q 0 (lft h (hurlA L (hv h) t v))) : S_X9_hurl l G [(2009, 396), (0, t), (0, v)] h Q E := by
  have nn := ct.1.n
  unfold WFn at nn
  have o0 := r.1.1.2.1.1
  have o4 := r.1.1.2.1.2.1
  have ov0 := ov.1
  have ov1 := ov.2
  refine s_X9_hurl rfl fun K ki => r_X9_hurl_0 ki hG ?_
  refine t_siteOf hG (by omega) (by omega) ?_
  rw [sv]
  intro x3 e3
  subst e3
  have sr : 1 ≤ x3 ∧ x3 < 63 ∧ x3 < pNt L := by
    have q : ∀ A, INVx L T A t → oref A v → 1 ≤ sit A v ∧ sit A v < 63 ∧ sit A v < pNt L := by
      intro A I o
      have o1 := o.1
      have o2 := o.2
      unfold sit
      by_cases c : v < 7
      · rw [if_pos c]; omega
      · rw [if_neg c]
        have z := (I.2.1.2.2 (v - 7) (by omega) (by omega)).1
        have z0 := z.1
        have z1 := z.2
        omega
    have := q _ r.1.1 ov
    rw [sv] at this
    exact this
  have key : ∀ N : Nat, ∀ (A : MA) (lk : FA), (A 509 t).toNat = N → rsg L T A t x3 lk → (∀ a j, ¬ (507 ≤ a ∧ a ≤ 521) → A a j = hv h a j) → oref A v → sit A v = x3 → hurlN L t v x3 N A = hurlA L (hv h) t v →
      JW K 6 [(2009, 396), (0, t), (0, v), (0, x3), (5000, 0), (5000, 0), (5000, 0), (5000, 0)] [] (lft h A) := by
    intro N
    induction N with
    | zero => intro A lk e r' ; have := r'.2.1.1; omega
    | succ N ih =>
      intro A lk eN r' oth ov' sv' fin
      obtain ⟨⟨I', t0', t1', lv'⟩, ⟨n1, n30, fr⟩, ⟨hk, rk⟩, lc, ts, lo⟩ := id r'
      have tb : t < 8 := by have := I'.1.2; omega
      have ef : fA A t = 30 * t + A 509 t - 1 := rfl
      have hA : hv (lft h A) = A := rfl
      have tfA : TF (lft h A) L := tf.of (oth _ _ (by omega)) (fun a j h1 h2 => oth a j (by omega))
      have fk' : frk (hv (lft h A)) t := ⟨⟨t0', tb⟩, n1, n30⟩
      have fb := fA_b fk'
      rw [hA] at fb
      rw [← ef] at hk rk lc ts
      have k0 := hk.1
      have k1 := hk.2
      refine r_X9_hurl_6 ki hG ⟨t0', tb, fun z => by rw [hA] at z; omega, fun _ => t_frame hG fk' ?_⟩
      rw [hA]
      intro x4 e4
      subst e4
      refine ⟨fb.1, fb.2, ?_⟩
      intro x5 e5
      subst e5
      refine ⟨k0, by omega, k0, by omega, ?_⟩
      intro h7 e7
      have e7' : h7 = lft h (mset A 520 (A 511 (fA A t)) (l_or (A 520 (A 511 (fA A t))) (l_shl 1 x3))) := e7
      have b7 : hv h7 396 102 = 0 := by rw [e7', lft_hv, m_ne (by omega), oth 396 102 (by omega)]; exact b0
      have th7 : hv h7 467 (A 511 (fA A t)) = hv h 467 (A 511 (fA A t)) := by rw [e7', lft_hv, m_ne (by omega), oth 467 _ (by omega)]
      have bit : bl (hv h 467 (A 511 (fA A t))) x3 = true := by
        have q := (ts.1 (by decide : (1 : Int) ≠ 0)).2.2.2.2.1 x3 (by show bl (l_shl 1 x3) x3 = true; rw [bl_shl (by omega) (by omega) (by omega)]; simp)
        rw [← eT, rw_9 hk] at q
        exact q
      rw [if_pos b7, th7, l_bit (by omega) (by omega), if_pos bit, lc_if, if_neg (by decide)]
      refine ⟨fun _ => ⟨k0, by omega⟩, Or.inl rfl, ?_⟩
      intro h8 e8
      have e8' : h8 = h7 := by
        have : hset h7 396 102 0 = lft h7 (mset (hv h7) 396 102 (hv h7 396 102)) := by rw [b7]; rfl
        rw [e8, this, m_id]; rfl
      subst e8'
      have tf8 : TF h8 L := by
        rw [e7']
        exact tf.of (by rw [lft_hv, m_ne (by omega)]; exact oth _ _ (by omega)) (fun a j h1 h2 => by rw [lft_hv, m_ne (by omega)]; exact oth a j (by omega))
      refine t_handlerOf hG tf8 ct.1 k0 k1 sr.1 sr.2.2 ?_
      intro x6 e6
      have r1 := rsg_eq (A' := mset A 520 (A 511 (fA A t)) (l_or (A 520 (A 511 (fA A t))) (l_shl 1 x3))) ct.1 r' (fun a j q => m_ne (by omega))
      unfold hurlN at fin
      rw [e7'] at *
      generalize hA1 : mset A 520 (A 511 (fA A t)) (l_or (A 520 (A 511 (fA A t))) (l_shl 1 x3)) = A1 at *
      have a509 : A1 509 t = A 509 t := by rw [← hA1]; exact m_ne (by omega)
      have hA1' : hv (lft h A1) = A1 := rfl
      have mo := (ct.1.k k0 k1).1
      have mo0 := mo.1
      have mo1 := mo.2.1
      have wm := ct.1.m mo0 mo1
      obtain ⟨-, -, -, -, -, -, -, -, -, -, -, -, -, hn0, hn4, -, -, fi0, fi1, -, -, hh⟩ := wm
      have hneg : hnd L (A 511 (fA A t)) x3 < 0 → hnd L (A 511 (fA A t)) x3 = -1 := fun y => by
        have := (frm_neg _ _ _ (by omega) y).1
        exact this
      refine ⟨fun c => ⟨t0', tb, t0', tb, ?_⟩, fun c => ?_⟩
      · intro h12 e12
        rw [hA1', a509, w32_i (by omega) (by omega)] at e12
        have nh : ¬ 0 ≤ hnd L (A 511 (fA A t)) x3 := by omega
        have fin' : hurlN L t v x3 N (mset A1 509 t (A 509 t - 1)) = hurlA L (hv h) t v := by
          have := fin
          simp only at this
          rw [if_neg nh] at this
          exact this
        have e12' : h12 = lft h (mset A1 509 t (A 509 t - 1)) := e12
        rw [e12']
        have o12 : ∀ a j, ¬ (507 ≤ a ∧ a ≤ 521) → mset A1 509 t (A 509 t - 1) a j = hv h a j := fun a j y => by
          rw [m_ne (by omega), ← hA1, m_ne (by omega)]; exact oth a j y
        by_cases n2 : A 509 t = 1
        · -- the last call is left
          have N0 : N = 0 := by omega
          subst N0
          unfold hurlN at fin'
          have t12 : TF (lft h (mset A1 509 t (A 509 t - 1))) L := tf.of (show hv (lft h (mset A1 509 t (A 509 t - 1))) 396 3 = hv h 396 3 from o12 396 3 (by omega)) (fun a j h1 h2 => o12 a j (by omega))
          refine r_X9_hurl_6 ki hG ⟨t0', tb, fun _ => ⟨t0', tb, by decide, ?_⟩, fun z => by rw [lft_hv, m_eq] at z; omega⟩
          intro h13 e13
          have e13' : h13 = lft h (mset (mset A1 509 t (A 509 t - 1)) 508 t 1) := e13
          have t13 : TF h13 L := by
            rw [e13']
            exact t12.of (by rw [lft_hv, lft_hv, m_ne (by omega)]) (fun a j h1 h2 => by rw [lft_hv, lft_hv, m_ne (by omega)])
          refine ⟨fun _ => ⟨t13.ne, by omega, by omega⟩, ?_⟩
          rw [t13.ss]
          intro h14 e14
          have e14' : h14 = lft h (hurlA L (hv h) t v) := by
            rw [e14, e13', ← fin']
            have q : mset (mset A1 509 t (A 509 t - 1)) 508 t 1 396 100 = mset A1 509 t (A 509 t - 1) 396 100 := m_ne (by omega)
            rw [lft_hv, q]
            rfl
          rw [e14']
          refine hQ ?_
          rw [← fin']
          refine t_end (A := A1) (t := t) r1.1.1 r1.1.2.1 r1.1.2.2.1 (fun a j p => ?_) ?_
          · by_cases c2 : a = 396 ∧ j = 100
            · exact Or.inr ⟨c2.1, by omega, by omega⟩
            · refine Or.inl ?_
              rw [m_ne c2, m_ne (by omega), m_ne (by omega)]
          · rw [m_ne (by omega), m_eq]
        · have r2 := hu_2 (A' := mset A1 509 t (A1 509 t - 1)) ct r1 sr.1 sr.2.1 (by
            have q : A1 511 (30 * t + A1 509 t - 1) = A 511 (fA A t) := by rw [← hA1, m_ne (by omega), m_ne (by omega)]; rfl
            rw [q]; omega) (by omega) (fun a j p => m_ne p) m_eq
          rw [a509] at r2
          refine ih _ _ (by rw [m_eq]; omega) r2 o12 ?_ ?_ fin'
          · unfold oref nob at *
            rw [m_ne (by omega), ← hA1, m_ne (by omega)]; exact ov'
          · unfold sit at *
            rw [m_ne (by omega), ← hA1, m_ne (by omega)]; exact sv'
      · have hp : 0 ≤ hnd L (A 511 (fA A t)) x3 := by
          apply Classical.byContradiction
          intro y
          have := hneg (by omega)
          omega
        have hl := frm_lt _ _ _ hp
        have hx : x6 = hnd L (A 511 (fA A t)) x3 := e6
        have hlt : hnd L (A 511 (fA A t)) x3 < pHn L (pMo L (A 511 (fA A t))) := by unfold hnd at *; omega
        have hb := hh _ hp hlt
        refine ⟨tf8.ne, k0, by omega, ?_⟩
        rw [tf8.mo]
        intro x7 e7''
        subst e7''
        rw [hx, w32_i (z := 16 * pMo L (A 511 (fA A t))) (by omega) (by omega), w32_i (z := 4 * hnd L (A 511 (fA A t)) x3) (by omega) (by omega), w32_i (z := 16 * pMo L (A 511 (fA A t)) + 4 * hnd L (A 511 (fA A t)) x3) (by omega) (by omega), w32_i (z := 16 * pMo L (A 511 (fA A t)) + 4 * hnd L (A 511 (fA A t)) x3 + 2) (by omega) (by omega)]
        rw [tf8.fi, tf8.at 13 _ (by omega) (by omega)]
        refine ⟨tf8.ne, mo0, by omega, tf8.ne, by omega, by omega, fb.1, fb.2, ?_⟩
        intro h14 e14
        refine ⟨fb.1, fb.2, ?_⟩
        intro h15 e15
        have hb3 := hb.2.2.2.1
        have hb4 := hb.2.2.2.2.1
        have pe : L 13 (16 * pMo L (A 511 (fA A t)) + 4 * hnd L (A 511 (fA A t)) x3 + 2) = pHa L (pMo L (A 511 (fA A t))) (hnd L (A 511 (fA A t)) x3) 2 := rfl
        rw [pe, w32_i (by omega) (by omega)] at e14
        have e15' : h15 = lft h (mset (mset A1 511 (fA A t) (pFi L (pMo L (A 511 (fA A t))) + pHa L (pMo L (A 511 (fA A t))) (hnd L (A 511 (fA A t)) x3) 2)) 512 (fA A t) 0) := by rw [e15, e14]; rfl
        have fin' : pushA (mset (mset A1 511 (fA A t) (pFi L (pMo L (A 511 (fA A t))) + pHa L (pMo L (A 511 (fA A t))) (hnd L (A 511 (fA A t)) x3) 2)) 512 (fA A t) 0) t v = hurlA L (hv h) t v := by
          have := fin
          simp only at this
          rw [if_pos hp] at this
          exact this
        rw [e15']
        have ff : fA (mset (mset A1 511 (fA A t) (pFi L (pMo L (A 511 (fA A t))) + pHa L (pMo L (A 511 (fA A t))) (hnd L (A 511 (fA A t)) x3) 2)) 512 (fA A t) 0) t = fA A t := by rw [fA_ne (by omega), fA_ne (by omega)]; unfold fA; rw [a509]
        have n9 : mset (mset A1 511 (fA A t) (pFi L (pMo L (A 511 (fA A t))) + pHa L (pMo L (A 511 (fA A t))) (hnd L (A 511 (fA A t)) x3) 2)) 512 (fA A t) 0 509 t = A 509 t := by rw [m_ne (by omega), m_ne (by omega)]; exact a509
        refine t_push hG ⟨⟨t0', tb⟩, by rw [lft_hv, n9]; exact n1, by rw [lft_hv, n9]; exact n30⟩ (by rw [lft_hv, ff, m_eq]; decide) (by rw [lft_hv, ff, m_eq]; decide) ?_
        rw [lft_hv, fin']
        refine hQ ?_
        have := d_hurl ct sr.1 sr.2.1 _ _ _ r' eN ov' sv'
        unfold hurlN at this
        rw [hA1] at this
        simp only at this
        rw [if_pos hp] at this
        rw [← fin']
        exact this
  exact key _ (hv h) lk rfl r (fun _ _ _ => rfl) ov sv (by unfold hurlA; rw [sv])
