/-! Part 39u: the twin: what a walk was, its output, what was met; input; the tape -/
set_option maxRecDepth 100000
theorem h0_m {h : MH} {x : Int} : eqm (hv (hset h 396 0 x)) (hv h) := fun a j c => by
  unfold mch at c
  rw [hv_set, if_neg (by omega)]
/-- numbers of a walk -/
noncomputable def wkd (A : MA) (v : Int) : Int := if v = 0 then A 396 95 else if v = 1 then A 396 83 else if v = 2 then endN A else if v = 3 then A 396 91 else if v = 4 then A 396 96 else if v = 5 then A 396 82 else if v = 6 then A 396 99 else if v = 7 then A 396 100 else A 396 101
theorem t_walked {l : Launch} {G : JG} (hG : gO G = true) {h : MH} (b0 : 0 ≤ bgn (hv h)) (b8 : bgn (hv h) ≤ 8) {v : Int} {Q : Int → MH → Prop} {E : Nat → Int → MH → Prop} (h1 : ¬ (0 ≤ v ∧ v ≤ 8) → Q 0 (hset h 396 0 1)) (h2 : 0 ≤ v → v ≤ 8 → Q (wkd (hv h) v) (hset h 396 0 0)) : S_X9_walked l G [(2009, 396), (0, v)] h Q E := by
  refine s_X9_walked rfl fun K ki => r_X9_walked_0 ki hG ?_
  intro g eg
  by_cases c : 0 ≤ v ∧ v ≤ 8
  · rw [if_neg (fun z => isin_z.mp z c)] at eg
    have e0 : hv g 396 0 = 0 := by rw [eg, eq_a]
    have ev : ∀ j, j ≠ 0 → hv g 396 j = hv h 396 j := fun j q => by rw [eg, ne_k q]
    have em : eqm (hv g) (hv h) := by rw [eg]; exact h0_m
    have q := h2 c.1 c.2
    rw [← eg] at q
    have w : ∀ x, wkd (hv h) v = x → Q x g := fun x e => by rw [← e]; exact q
    have eb := bgn_c em
    refine ⟨fun _ => ⟨⟨fun z => w _ ?_, fun z => w _ ?_, fun z => ?_, fun z => w _ ?_, fun z => w _ ?_, fun z => w _ ?_, fun z => w _ ?_, fun z => w _ ?_, trivial⟩, fun z => w _ ?_⟩, fun z => by omega⟩
    · unfold wkd; rw [if_pos z, ev _ (by decide)]
    · have z' : v = 1 := by omega
      unfold wkd; rw [if_neg (by omega), if_pos z', ev _ (by decide)]
    · have z' : v = 2 := by omega
      refine t_endedThreads hG (by omega) (by omega) (w _ ?_)
      unfold wkd; rw [if_neg (by omega), if_neg (by omega), if_pos z', endN_c em]
    · have z' : v = 3 := by omega
      unfold wkd; rw [if_neg (by omega), if_neg (by omega), if_neg (by omega), if_pos z', ev _ (by decide)]
    · have z' : v = 4 := by omega
      unfold wkd; rw [if_neg (by omega), if_neg (by omega), if_neg (by omega), if_neg (by omega), if_pos z', ev _ (by decide)]
    · have z' : v = 5 := by omega
      unfold wkd; rw [if_neg (by omega), if_neg (by omega), if_neg (by omega), if_neg (by omega), if_neg (by omega), if_pos z', ev _ (by decide)]
    · have z' : v = 6 := by omega
      unfold wkd; rw [if_neg (by omega), if_neg (by omega), if_neg (by omega), if_neg (by omega), if_neg (by omega), if_neg (by omega), if_pos z', ev _ (by decide)]
    · have z' : v = 7 := by omega
      unfold wkd; rw [if_neg (by omega), if_neg (by omega), if_neg (by omega), if_neg (by omega), if_neg (by omega), if_neg (by omega), if_neg (by omega), if_pos z', ev _ (by decide)]
    · unfold wkd; rw [if_neg (by omega), if_neg (by omega), if_neg (by omega), if_neg (by omega), if_neg (by omega), if_neg (by omega), if_neg (by omega), if_neg (by omega), ev _ (by decide)]
  · rw [if_pos (isin_z.mpr c)] at eg
    have e0 : hv g 396 0 = 1 := by rw [eg, eq_a]
    have q := h1 c
    rw [← eg] at q
    exact ⟨fun z => by omega, fun _ => q⟩
theorem t_output {l : Launch} {G : JG} (hG : gO G = true) {h : MH} (o0 : 0 ≤ hv h 396 96 ∧ hv h 396 96 < 1000000) {u v : Int} {Q : Int → MH → Prop} {E : Nat → Int → MH → Prop}
    (h1 : ¬ ((0 ≤ u ∧ u < hv h 396 96 ∧ u < 200) ∧ 0 ≤ v ∧ v ≤ 1) → Q 0 (hset h 396 0 1)) (h2 : (0 ≤ u ∧ u < hv h 396 96 ∧ u < 200) ∧ 0 ≤ v ∧ v ≤ 1 → Q (if v = 0 then hv h 518 u else hv h 519 u) (hset h 396 0 0)) : S_X9_output l G [(2009, 396), (0, u), (0, v)] h Q E := by
  refine s_X9_output rfl fun K ki => r_X9_output_0 ki hG ?_
  intro g eg
  rw [w32_i (by omega) (by omega)] at eg
  by_cases c : 0 ≤ u ∧ u < hv h 396 96 ∧ u < 200
  · rw [if_neg (fun z => isin_z.mp z (by omega))] at eg
    by_cases d : 0 ≤ v ∧ v ≤ 1
    · rw [if_neg (fun z => isin_z.mp z d)] at eg
      have e0 : hv g 396 0 = 0 := by rw [eg, eq_a]
      have q := h2 ⟨c, d⟩
      refine ⟨fun _ => ⟨fun _ => ⟨c.1, c.2.2⟩, fun _ => ⟨c.1, c.2.2⟩⟩, ?_⟩
      rw [if_neg (by omega)]
      have e1 : hv g 518 u = hv h 518 u := by rw [eg, ne_a (by decide)]
      have e2 : hv g 519 u = hv h 519 u := by rw [eg, ne_a (by decide)]
      rw [e1, e2, eg]
      exact q
    · rw [if_pos (isin_z.mpr d)] at eg
      have e0 : hv g 396 0 = 1 := by rw [eg, eq_a]
      have q := h1 (fun z => d z.2)
      rw [← eg] at q
      refine ⟨fun z => by omega, ?_⟩
      rw [if_pos (by omega)]
      exact q
  · rw [if_pos (isin_z.mpr (by omega))] at eg
    have e0 : hv g 396 0 = 1 := by rw [eg, eq_a]
    have q := h1 (fun z => c z.1)
    rw [← eg] at q
    refine ⟨fun z => by omega, ?_⟩
    rw [if_pos (by omega)]
    exact q
theorem t_met {l : Launch} {G : JG} (hG : gO G = true) {h : MH} {L : PG} {R : Int → Prop} (t : TW L R h) {m i : Int} {Q : Int → MH → Prop} {E : Nat → Int → MH → Prop}
    (hQ : ∀ z h', ans L R h h' z (fun _ => cif (pOK L m i) (0, hv h 520 (pFi L m + i)) (2, 0)) → Q z h') : S_X9_met l G [(2009, 396), (0, m), (0, i)] h Q E := by
  refine s_X9_met rfl fun K ki => r_X9_met_0 ki hG ?_
  refine t_placeOf hG t (fun p h' fr t' e => ?_) (fun p h' fr t' e => ?_)
  · intro x ex
    have ip := (pOK_in t.w p).1
    have nn := t.w.n
    unfold WFn at nn
    have ip1 := ip.1
    have ip2 := ip.2
    rw [ex]
    refine ⟨fun _ => ⟨by omega, by omega⟩, ?_⟩
    rw [if_neg (by omega)]
    have e5 : hv h' 520 (pFi L m + i) = hv h 520 (pFi L m + i) := fr.2 520 _ (by omega) (by omega)
    rw [e5]
    exact hQ _ _ (ans_c fr t' e rfl (fun _ => by show cif _ _ _ = _; rw [cif_p p]))
  · intro x ex
    rw [ex]
    refine ⟨fun z => absurd z (by decide), ?_⟩
    rw [if_pos (by decide)]
    exact hQ _ _ (ans_c fr t' e rfl (fun _ => by show cif _ _ _ = _; rw [cif_n p]))
theorem t_input {l : Launch} {G : JG} (hG : gO G = true) {h : MH} (i1 : 0 ≤ hv h 396 80 ∧ hv h 396 80 ≤ 200) {v : Int} {Q : Int → MH → Prop} {E : Nat → Int → MH → Prop} (h1 : hv h 396 80 = 200 → Q 0 (hset h 396 0 1))
    (h2 : hv h 396 80 < 200 → Q (hv h 396 80 + 1) (hset (hset (hset h 396 0 0) 507 (hv h 396 80) v) 396 80 (hv h 396 80 + 1))) : S_X9_input l G [(2009, 396), (0, v)] h Q E := by
  refine s_X9_input rfl fun K ki => r_X9_input_0 ki hG ?_
  intro g eg
  by_cases c : hv h 396 80 = 200
  · rw [if_pos c] at eg
    have e0 : hv g 396 0 = 1 := by rw [eg, eq_a]
    have q := h1 c
    rw [← eg] at q
    exact ⟨fun z => by omega, fun _ => q⟩
  · rw [if_neg c] at eg
    have e0 : hv g 396 0 = 0 := by rw [eg, eq_a]
    have e8 : hv g 396 80 = hv h 396 80 := by rw [eg, ne_k (by decide)]
    refine ⟨fun _ => ⟨by omega, by omega, fun g2 b2 g3 b3 => ?_⟩, fun z => by omega⟩
    have e82 : hv g2 396 80 = hv h 396 80 := by rw [b2, ne_a (by decide), e8]
    rw [e82, w32_i (by omega) (by omega)] at b3
    have e83 : hv g3 396 80 = hv h 396 80 + 1 := by rw [b3, eq_a]
    rw [e83, b3, b2, e8, eg]
    exact h2 (by omega)
/-- a byte of a long -/
def tyB (w k : Int) : Int := w8 (w32 (l_shr w (8 * k)))
theorem t_type {l : Launch} {G : JG} (hG : gO G = true) {h : MH} (s0 : 0 ≤ hv h 396 2 ∧ hv h 396 2 ≤ 20000) {w n : Int} {Q : Int → MH → Prop} {E : Nat → Int → MH → Prop} (h1 : ¬ (1 ≤ n ∧ n ≤ 8) → Q 0 (hset h 396 0 1)) (h2 : 1 ≤ n → n ≤ 8 → 20000 < hv h 396 2 + n → Q 0 (hset h 396 0 2))
    (h3 : 1 ≤ n → n ≤ 8 → hv h 396 2 + n ≤ 20000 → ∀ h', h'.2 = h.2 → hv h' 396 0 = 0 → hv h' 396 2 = hv h 396 2 + n → (∀ i, 0 ≤ i → i < n → hv h' 397 (hv h 396 2 + i) = tyB w (n - 1 - i)) → (∀ a j, ¬ (a = 396 ∧ (j = 0 ∨ j = 2)) → ¬ (a = 397 ∧ hv h 396 2 ≤ j ∧ j < hv h 396 2 + n) → hv h' a j = hv h a j) → Q (hv h 396 2 + n) h') : S_X9_type l G [(2009, 396), (1, w), (0, n)] h Q E := by
  refine s_X9_type rfl fun K ki => r_X9_type_0 ki hG ?_
  intro g eg
  by_cases c : 1 ≤ n ∧ n ≤ 8
  · rw [if_neg (fun z => isin_z.mp z c), w32_i (by omega) (by omega)] at eg
    by_cases d : 20000 < hv h 396 2 + n
    · rw [if_pos d] at eg
      have e0 : hv g 396 0 = 2 := by rw [eg, eq_a]
      have q := h2 c.1 c.2 d
      rw [← eg] at q
      exact ⟨fun z => by omega, fun _ => q⟩
    · rw [if_neg d] at eg
      have e0 : hv g 396 0 = 0 := by rw [eg, eq_a]
      refine ⟨fun _ x ex => ?_, fun z => by omega⟩
      rw [w32_i (by omega) (by omega)] at ex
      have key : ∀ N : Nat, ∀ (k : Int) (f : MH), (k + 1).toNat ≤ N → -1 ≤ k → k ≤ n - 1 → (f.2 = h.2 ∧ hv f 396 0 = 0 ∧ hv f 396 2 = hv h 396 2 + (n - 1 - k) ∧ (∀ i, 0 ≤ i → i < n - 1 - k → hv f 397 (hv h 396 2 + i) = tyB w (n - 1 - i)) ∧ (∀ a j, ¬ (a = 396 ∧ (j = 0 ∨ j = 2)) → ¬ (a = 397 ∧ hv h 396 2 ≤ j ∧ j < hv h 396 2 + n) → hv f a j = hv h a j)) →
          JW K 51 [(2009, 396), (1, w), (5000, 0), (0, n), (0, k)] [] f := by
        intro N
        induction N with
        | zero =>
          intro k f hN k0 k1 ⟨f1, f2, f3, f4, f5⟩
          have ek : k = -1 := by omega
          refine r_X9_type_51 ki hG ⟨fun _ => ?_, fun z => by omega⟩
          rw [f3, ek, show hv h 396 2 + (n - 1 - -1) = hv h 396 2 + n by omega]
          exact h3 c.1 c.2 (by omega) f f1 f2 (by rw [f3]; omega) (fun i i0 i1 => f4 i i0 (by omega)) f5
        | succ N ih =>
          intro k f hN k0 k1 hf
          by_cases ek : k = -1
          · exact ih k f (by omega) k0 k1 hf
          obtain ⟨f1, f2, f3, f4, f5⟩ := hf
          refine r_X9_type_51 ki hG ⟨fun z => by omega, fun _ => ⟨by omega, by omega, w8_c _, fun p1 b1 p2 b2 y ey => ?_⟩⟩
          rw [w32_i (z := 8 * k) (by omega) (by omega)] at b1
          have e12 : hv p1 396 2 = hv f 396 2 := by rw [b1, ne_a (by decide)]
          rw [e12, w32_i (by omega) (by omega)] at b2
          rw [w32_i (by omega) (by omega)] at ey
          subst ey
          refine ih (k + -1) p2 (by omega) (by omega) (by omega) ⟨by rw [b2, b1]; exact f1, ?_, ?_, fun i i0 i1 => ?_, fun a j q1 q2 => ?_⟩
          · rw [b2, ne_k (by decide), b1, ne_a (by decide)]; exact f2
          · rw [b2, eq_a, f3]; omega
          · rw [b2, ne_a (by decide), b1, hv_set]
            by_cases ei : i = n - 1 - k
            · rw [if_pos ⟨rfl, by omega⟩, ei, show n - 1 - (n - 1 - k) = k by omega]; rfl
            · rw [if_neg (by omega)]; exact f4 i i0 (by omega)
          · rw [b2, hv_set, if_neg (by omega), b1, hv_set, if_neg (by omega)]
            exact f5 a j q1 q2
      rw [ex]
      refine key _ (n - 1) g (Nat.le_refl _) (by omega) (by omega) ⟨by rw [eg]; rfl, e0, ?_, fun i i0 i1 => by omega, fun a j q1 q2 => ?_⟩
      · rw [eg, ne_k (by decide)]; omega
      · rw [eg, hv_set, if_neg (by omega)]
  · rw [if_pos (isin_z.mpr c)] at eg
    have e0 : hv g 396 0 = 1 := by rw [eg, eq_a]
    have q := h1 c
    rw [← eg] at q
    exact ⟨fun z => by omega, fun _ => q⟩
