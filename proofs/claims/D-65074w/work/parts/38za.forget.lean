/-! Part 38za: facts are forgotten; whether a place asks for what has grown -/
set_option maxRecDepth 100000
/-- an array is clear up to n -/
def clr (a n : Int) (h : MH) : Prop := ∀ j, 0 ≤ j → j < n → hv h a j = 0
theorem clr_0 (a : Int) (h : MH) : clr a 0 h := fun j a b => by omega
theorem clr_o {a b n k x : Int} {h : MH} (e : a ≠ b) (c : clr a n h) : clr a n (hset h b k x) := fun j j0 j1 => by rw [ne_a e]; exact c j j0 j1
theorem clr_s {a n m : Int} {h : MH} (e : m = n + 1) (c : clr a n h) : clr a m (hset h a n 0) := fun j j0 j1 => by
  by_cases q : j = n
  · rw [q, eq_a]
  · rw [ne_k q]; exact c j j0 (by omega)
/-- all but arrays of the analysis, its flags and its marks is as it was -/
def frG (h h' : MH) : Prop := h'.2 = h.2 ∧ ∀ a j, ¬ (458 ≤ a ∧ a ≤ 502) → ¬ (a = 396 ∧ ((12 ≤ j ∧ j ≤ 14) ∨ j = 16)) → hv h' a j = hv h a j
theorem frG_rfl (h : MH) : frG h h := ⟨rfl, fun _ _ _ _ => rfl⟩
theorem frG_tr {h1 h2 h3 : MH} (a : frG h1 h2) (b : frG h2 h3) : frG h1 h3 := ⟨b.1.trans a.1, fun x j p q => (b.2 x j p q).trans (a.2 x j p q)⟩
theorem frG_TF {h h' : MH} {L : PG} (f : frG h h') (t : TF h L) : TF h' L := t.of (f.2 _ _ (by omega) (by omega)) (fun a j h1 h2 => f.2 a j (by omega) (by omega))
/-- but for arrays of a set all is as it was -/
def onl (A : Int → Prop) (h h' : MH) : Prop := h'.2 = h.2 ∧ ∀ a j, ¬ A a → hv h' a j = hv h a j
theorem onl_rfl (A : Int → Prop) (h : MH) : onl A h h := ⟨rfl, fun _ _ _ => rfl⟩
theorem onl_s {A : Int → Prop} {h g : MH} {a k x : Int} (e : A a) (o : onl A h g) : onl A h (hset g a k x) := ⟨o.1, fun b j q => by
  have ne : b ≠ a := fun y => q (by rw [y]; exact e)
  rw [ne_a ne]; exact o.2 b j q⟩
theorem onl_c {A : Int → Prop} {h g : MH} {a n : Int} (o : onl A h g) (e : ¬ A a) (c : clr a n h) : clr a n g := fun j j0 j1 => by rw [o.2 a j e]; exact c j j0 j1
theorem onl_G {A : Int → Prop} {h g : MH} (o : onl A h g) (e : ∀ a, A a → 458 ≤ a ∧ a ≤ 502) : frG h g := ⟨o.1, fun a j p _ => o.2 a j (fun y => p (e a y))⟩
/-- FACTS ARE FORGOTTEN -/
def FGT (h : MH) (L : PG) : Prop := (clr 460 1500 h ∧ clr 458 1500 h ∧ clr 467 1500 h ∧ clr 468 1500 h ∧ clr 471 1500 h ∧ clr 469 3000 h ∧ clr 470 3000 h) ∧ (clr 472 63 h ∧ clr 479 63 h ∧ clr 477 63 h ∧ clr 478 63 h) ∧ (clr 475 504 h ∧ clr 476 504 h) ∧
  (clr 480 8 h ∧ clr 481 8 h ∧ clr 482 8 h ∧ clr 484 8 h ∧ ∀ i, 0 ≤ i → i < pNs L → hv h 483 i = if pSk L i = 1 then 1 else 0) ∧ (clr 488 40 h ∧ clr 491 40 h ∧ clr 492 40 h ∧ clr 495 40 h ∧ clr 498 40 h ∧ clr 489 40 h ∧ clr 490 40 h) ∧ (hv h 396 12 = 0 ∧ hv h 396 13 = 0 ∧ hv h 396 14 = 0)
def fA1 (a : Int) : Prop := a = 460 ∨ a = 458 ∨ a = 467 ∨ a = 468 ∨ a = 471 ∨ a = 469 ∨ a = 470
def fA2 (a : Int) : Prop := a = 472 ∨ a = 479 ∨ a = 477 ∨ a = 478
def fA3 (a : Int) : Prop := 473 ≤ a ∧ a ≤ 476
def fA4 (a : Int) : Prop := 480 ≤ a ∧ a ≤ 484
def fA5 (a : Int) : Prop := a = 488 ∨ a = 489 ∨ a = 490 ∨ a = 491 ∨ a = 492 ∨ a = 495 ∨ a = 498
theorem t_forgetFacts {l : Launch} {G : JG} (hG : gO G = true) {h : MH} {L : PG} (tf : TF h L) (w : WF L) {Q : Int → MH → Prop} {E : Nat → Int → MH → Prop} (hQ : ∀ h', frG h h' → MK h' L → FGT h' L → Q 0 h') : S_X9_forgetFacts l G [(2009, 396)] h Q E := by
  have nn := w.n
  unfold WFn at nn
  refine s_X9_forgetFacts rfl fun K ki => r_X9_forgetFacts_0 ki hG ?_
  intro h1 e1 h2 e2 h3 e3
  have f3 : frG h h3 := ⟨by rw [e3, e2, e1]; rfl, fun a j _ p2 => by rw [e3, hv_set, if_neg (by omega), e2, hv_set, if_neg (by omega), e1, hv_set, if_neg (by omega)]⟩
  have z12 : hv h3 396 12 = 0 := by rw [e3, ne_k (by omega), e2, ne_k (by omega), e1, eq_a]
  have z13 : hv h3 396 13 = 0 := by rw [e3, ne_k (by omega), e2, eq_a]
  have z14 : hv h3 396 14 = 0 := by rw [e3, eq_a]
  refine t_findMarks hG (frG_TF f3 tf) w fun h5 f5 mk5 => ?_
  have f35 : frG h h5 := frG_tr f3 ⟨f5.1, fun a j p1 p2 => f5.2 a j (by omega) (by omega)⟩
  have y12 : ∀ j, 12 ≤ j → j ≤ 14 → hv h5 396 j = 0 := by
    intro j j0 j1
    rw [f5.2 396 j (by omega) (by omega)]
    have : j = 12 ∨ j = 13 ∨ j = 14 := by omega
    rcases this with rfl | rfl | rfl
    · exact z12
    · exact z13
    · exact z14
  intro x0 ex0
  -- the methods' rows
  have k5 : ∀ N : Nat, ∀ n : Int, ∀ g0 g : MH, frG h g0 → MK g0 L → (∀ j, 12 ≤ j → j ≤ 14 → hv g0 396 j = 0) → (clr 460 1500 g0 ∧ clr 458 1500 g0 ∧ clr 467 1500 g0 ∧ clr 468 1500 g0 ∧ clr 471 1500 g0 ∧ clr 469 3000 g0 ∧ clr 470 3000 g0) → (clr 472 63 g0 ∧ clr 479 63 g0 ∧ clr 477 63 g0 ∧ clr 478 63 g0) → (clr 475 504 g0 ∧ clr 476 504 g0) → (clr 480 8 g0 ∧ clr 481 8 g0 ∧ clr 482 8 g0 ∧ clr 484 8 g0 ∧ ∀ i, 0 ≤ i → i < pNs L → hv g0 483 i = if pSk L i = 1 then 1 else 0) →
      (40 - n).toNat ≤ N → 0 ≤ n → n ≤ 40 → onl fA5 g0 g → clr 488 n g → clr 491 n g → clr 492 n g → clr 495 n g → clr 498 n g → clr 489 n g → clr 490 n g → JW K 273 [(2009, 396), (0, n)] [] g := by
    intro N
    induction N with
    | zero =>
      intro n g0 g fg mkg yg c1 c2 c3 c4 b1' b2 b3 o d1 d2 d3 d4 d5 d6 d7
      have en : n = 40 := by omega
      subst en
      refine r_X9_forgetFacts_273 ki hG ⟨fun _ => hQ g (frG_tr fg (onl_G o (by unfold fA5; omega))) (mkg.of (o.2 _ _ (by unfold fA5; omega)) (fun j => o.2 _ j (by unfold fA5; omega))) ?_, fun z => by omega⟩
      have q : ∀ {a m : Int}, ¬ fA5 a → clr a m g0 → clr a m g := fun e c => onl_c o e c
      exact ⟨⟨q (by unfold fA5; omega) c1.1, q (by unfold fA5; omega) c1.2.1, q (by unfold fA5; omega) c1.2.2.1, q (by unfold fA5; omega) c1.2.2.2.1, q (by unfold fA5; omega) c1.2.2.2.2.1, q (by unfold fA5; omega) c1.2.2.2.2.2.1, q (by unfold fA5; omega) c1.2.2.2.2.2.2⟩,
        ⟨q (by unfold fA5; omega) c2.1, q (by unfold fA5; omega) c2.2.1, q (by unfold fA5; omega) c2.2.2.1, q (by unfold fA5; omega) c2.2.2.2⟩, ⟨q (by unfold fA5; omega) c3.1, q (by unfold fA5; omega) c3.2⟩,
        ⟨q (by unfold fA5; omega) c4.1, q (by unfold fA5; omega) c4.2.1, q (by unfold fA5; omega) c4.2.2.1, q (by unfold fA5; omega) c4.2.2.2.1, fun i i0 i1 => by rw [o.2 483 i (by unfold fA5; omega)]; exact c4.2.2.2.2 i i0 i1⟩,
        ⟨d1, d2, d3, d4, d5, d6, d7⟩, by rw [o.2 396 12 (by unfold fA5; omega)]; exact yg 12 (by omega) (by omega), by rw [o.2 396 13 (by unfold fA5; omega)]; exact yg 13 (by omega) (by omega), by rw [o.2 396 14 (by unfold fA5; omega)]; exact yg 14 (by omega) (by omega)⟩
    | succ N ih =>
      intro n g0 g fg mkg yg c1 c2 c3 c4 b1' b2 b3 o d1 d2 d3 d4 d5 d6 d7
      by_cases en : n = 40
      · exact ih n g0 g fg mkg yg c1 c2 c3 c4 (by omega) b2 b3 o d1 d2 d3 d4 d5 d6 d7
      refine r_X9_forgetFacts_273 ki hG ⟨fun z => by omega, fun z => ⟨b2, z, by decide, fun g1 q1 => ⟨b2, z, fun g2 q2 => ⟨b2, z, fun g3 q3 => ⟨b2, z, fun g4 q4 => ⟨b2, z, fun g5 q5 => ⟨b2, z, fun g6 q6 => ⟨b2, z, fun g7 q7 => ?_⟩⟩⟩⟩⟩⟩⟩⟩
      intro x ex
      rw [w32_i (by omega) (by omega)] at ex
      subst ex; subst q1; subst q2; subst q3; subst q4; subst q5; subst q6; subst q7
      refine ih (n + 1) g0 _ fg mkg yg c1 c2 c3 c4 (by omega) (by omega) (by omega) ?_ ?_ ?_ ?_ ?_ ?_ ?_ ?_
      · repeat (first | exact o | refine onl_s (by unfold fA5; omega) ?_)
      · repeat (first | exact clr_s rfl d1 | refine clr_o (by decide) ?_)
      · repeat (first | exact clr_s rfl (clr_o (by decide) (clr_o (by decide) (clr_o (by decide) d2))) | refine clr_o (by decide) ?_)
      · repeat (first | exact clr_s rfl (clr_o (by decide) (clr_o (by decide) (clr_o (by decide) (clr_o (by decide) d3)))) | refine clr_o (by decide) ?_)
      · repeat (first | exact clr_s rfl (clr_o (by decide) (clr_o (by decide) (clr_o (by decide) (clr_o (by decide) (clr_o (by decide) d4))))) | refine clr_o (by decide) ?_)
      · exact clr_s rfl (clr_o (by decide) (clr_o (by decide) (clr_o (by decide) (clr_o (by decide) (clr_o (by decide) (clr_o (by decide) d5))))))
      · exact clr_o (by decide) (clr_o (by decide) (clr_o (by decide) (clr_o (by decide) (clr_o (by decide) (clr_s rfl (clr_o (by decide) d6))))))
      · exact clr_o (by decide) (clr_o (by decide) (clr_o (by decide) (clr_o (by decide) (clr_s rfl (clr_o (by decide) (clr_o (by decide) d7))))))
  -- statics and sinks
  have k4 : ∀ N : Nat, ∀ n : Int, ∀ g0 g : MH, frG h g0 → MK g0 L → (∀ j, 12 ≤ j → j ≤ 14 → hv g0 396 j = 0) → (clr 460 1500 g0 ∧ clr 458 1500 g0 ∧ clr 467 1500 g0 ∧ clr 468 1500 g0 ∧ clr 471 1500 g0 ∧ clr 469 3000 g0 ∧ clr 470 3000 g0) → (clr 472 63 g0 ∧ clr 479 63 g0 ∧ clr 477 63 g0 ∧ clr 478 63 g0) → (clr 475 504 g0 ∧ clr 476 504 g0) →
      (8 - n).toNat ≤ N → 0 ≤ n → n ≤ 8 → onl fA4 g0 g → clr 480 n g → clr 481 n g → clr 482 n g → clr 484 n g → (∀ i, 0 ≤ i → i < n → i < pNs L → hv g 483 i = if pSk L i = 1 then 1 else 0) → JW K 196 [(2009, 396), (0, n)] [] g := by
    intro N
    induction N with
    | zero =>
      intro n g0 g fg mkg yg c1 c2 c3 b1' b2 b3 o d1 d2 d3 d4 d5
      have en : n = 8 := by omega
      subst en
      refine r_X9_forgetFacts_196 ki hG ⟨fun _ => ?_, fun z => by omega⟩
      intro x ex
      subst ex
      have q : ∀ {a m : Int}, ¬ fA4 a → clr a m g0 → clr a m g := fun e c => onl_c o e c
      exact k5 _ 0 g g (frG_tr fg (onl_G o (by unfold fA4; omega))) (mkg.of (o.2 _ _ (by unfold fA4; omega)) (fun j => o.2 _ j (by unfold fA4; omega))) (fun j j0 j1 => by rw [o.2 396 j (by unfold fA4; omega)]; exact yg j j0 j1)
        ⟨q (by unfold fA4; omega) c1.1, q (by unfold fA4; omega) c1.2.1, q (by unfold fA4; omega) c1.2.2.1, q (by unfold fA4; omega) c1.2.2.2.1, q (by unfold fA4; omega) c1.2.2.2.2.1, q (by unfold fA4; omega) c1.2.2.2.2.2.1, q (by unfold fA4; omega) c1.2.2.2.2.2.2⟩
        ⟨q (by unfold fA4; omega) c2.1, q (by unfold fA4; omega) c2.2.1, q (by unfold fA4; omega) c2.2.2.1, q (by unfold fA4; omega) c2.2.2.2⟩ ⟨q (by unfold fA4; omega) c3.1, q (by unfold fA4; omega) c3.2⟩
        ⟨d1, d2, d3, d4, fun i i0 i1 => d5 i i0 (by omega) i1⟩ (Nat.le_refl _) (by omega) (by omega) (onl_rfl _ _) (clr_0 _ _) (clr_0 _ _) (clr_0 _ _) (clr_0 _ _) (clr_0 _ _) (clr_0 _ _) (clr_0 _ _)
    | succ N ih =>
      intro n g0 g fg mkg yg c1 c2 c3 b1' b2 b3 o d1 d2 d3 d4 d5
      by_cases en : n = 8
      · exact ih n g0 g fg mkg yg c1 c2 c3 (by omega) b2 b3 o d1 d2 d3 d4 d5
      have tg : TF g L := frG_TF (frG_tr fg (onl_G o (by unfold fA4; omega))) tf
      refine r_X9_forgetFacts_196 ki hG ⟨fun z => by omega, fun z => ⟨b2, z, fun g1 q1 => ⟨b2, z, fun g2 q2 => ⟨b2, z, fun g3 q3 => ?_⟩⟩⟩⟩
      have o3 : onl fA4 g0 g3 := by
        rw [q3, q2, q1]
        exact onl_s (by unfold fA4; omega) (onl_s (by unfold fA4; omega) (onl_s (by unfold fA4; omega) o))
      have tg3 : TF g3 L := frG_TF (frG_tr fg (onl_G o3 (by unfold fA4; omega))) tf
      rw [tg3.nns, tg3.sk]
      refine ⟨tg3.ne, fun _ => ⟨tg3.ne, b2, z⟩, b2, z, fun g4 q4 => ⟨b2, z, by decide, fun g5 q5 => ?_⟩⟩
      intro x ex
      rw [w32_i (by omega) (by omega)] at ex
      subst ex
      have o5 : onl fA4 g0 g5 := by
        rw [q5, q4]
        exact onl_s (by unfold fA4; omega) (onl_s (by unfold fA4; omega) o3)
      refine ih (n + 1) g0 g5 fg mkg yg c1 c2 c3 (by omega) (by omega) (by omega) o5 ?_ ?_ ?_ ?_ ?_
      · rw [q5, q4, q3, q2, q1]
        exact clr_o (by decide) (clr_o (by decide) (clr_o (by decide) (clr_o (by decide) (clr_s rfl d1))))
      · rw [q5, q4, q3, q2, q1]
        exact clr_o (by decide) (clr_o (by decide) (clr_o (by decide) (clr_s rfl (clr_o (by decide) d2))))
      · rw [q5, q4, q3, q2, q1]
        exact clr_o (by decide) (clr_o (by decide) (clr_s rfl (clr_o (by decide) (clr_o (by decide) d3))))
      · rw [q5, q4, q3, q2, q1]
        exact clr_s rfl (clr_o (by decide) (clr_o (by decide) (clr_o (by decide) (clr_o (by decide) d4))))
      · intro i i0 i1 i2
        rw [q5, ne_a (by decide), q4]
        by_cases y : i = n
        · subst y
          rw [eq_a, if_pos i2]
        · rw [ne_k y, q3, ne_a (by decide), q2, ne_a (by decide), q1, ne_a (by decide)]
          exact d5 i i0 (by omega) i2
  have k3 : ∀ N : Nat, ∀ n : Int, ∀ g0 g : MH, frG h g0 → MK g0 L → (∀ j, 12 ≤ j → j ≤ 14 → hv g0 396 j = 0) → (clr 460 1500 g0 ∧ clr 458 1500 g0 ∧ clr 467 1500 g0 ∧ clr 468 1500 g0 ∧ clr 471 1500 g0 ∧ clr 469 3000 g0 ∧ clr 470 3000 g0) → (clr 472 63 g0 ∧ clr 479 63 g0 ∧ clr 477 63 g0 ∧ clr 478 63 g0) →
      (504 - n).toNat ≤ N → 0 ≤ n → n ≤ 504 → onl fA3 g0 g → clr 475 n g → clr 476 n g → JW K 153 [(2009, 396), (0, n)] [] g := by
    intro N
    induction N with
    | zero =>
      intro n g0 g fg mkg yg c1 c2 b1' b2 b3 o d1 d2
      have en : n = 504 := by omega
      subst en
      refine r_X9_forgetFacts_153 ki hG ⟨fun _ => ?_, fun z => by omega⟩
      intro x ex
      subst ex
      have q : ∀ {a m : Int}, ¬ fA3 a → clr a m g0 → clr a m g := fun e c => onl_c o e c
      exact k4 _ 0 g g (frG_tr fg (onl_G o (by unfold fA3; omega))) (mkg.of (o.2 _ _ (by unfold fA3; omega)) (fun j => o.2 _ j (by unfold fA3; omega))) (fun j j0 j1 => by rw [o.2 396 j (by unfold fA3; omega)]; exact yg j j0 j1)
        ⟨q (by unfold fA3; omega) c1.1, q (by unfold fA3; omega) c1.2.1, q (by unfold fA3; omega) c1.2.2.1, q (by unfold fA3; omega) c1.2.2.2.1, q (by unfold fA3; omega) c1.2.2.2.2.1, q (by unfold fA3; omega) c1.2.2.2.2.2.1, q (by unfold fA3; omega) c1.2.2.2.2.2.2⟩
        ⟨q (by unfold fA3; omega) c2.1, q (by unfold fA3; omega) c2.2.1, q (by unfold fA3; omega) c2.2.2.1, q (by unfold fA3; omega) c2.2.2.2⟩ ⟨d1, d2⟩ (Nat.le_refl _) (by omega) (by omega) (onl_rfl _ _) (clr_0 _ _) (clr_0 _ _) (clr_0 _ _) (clr_0 _ _) (fun i a b _ => by omega)
    | succ N ih =>
      intro n g0 g fg mkg yg c1 c2 b1' b2 b3 o d1 d2
      by_cases en : n = 504
      · exact ih n g0 g fg mkg yg c1 c2 (by omega) b2 b3 o d1 d2
      refine r_X9_forgetFacts_153 ki hG ⟨fun z => by omega, fun z => ⟨b2, z, fun g1 q1 => ⟨b2, z, fun g2 q2 => ⟨b2, z, fun g3 q3 => ⟨b2, z, fun g4 q4 => ?_⟩⟩⟩⟩⟩
      intro x ex
      rw [w32_i (by omega) (by omega)] at ex
      subst ex; subst q1; subst q2; subst q3; subst q4
      exact ih (n + 1) g0 _ fg mkg yg c1 c2 (by omega) (by omega) (by omega) (onl_s (by unfold fA3; omega) (onl_s (by unfold fA3; omega) (onl_s (by unfold fA3; omega) (onl_s (by unfold fA3; omega) o))))
        (clr_o (by decide) (clr_s rfl (clr_o (by decide) (clr_o (by decide) d1)))) (clr_s rfl (clr_o (by decide) (clr_o (by decide) (clr_o (by decide) d2))))
  have k2 : ∀ N : Nat, ∀ n : Int, ∀ g0 g : MH, frG h g0 → MK g0 L → (∀ j, 12 ≤ j → j ≤ 14 → hv g0 396 j = 0) → (clr 460 1500 g0 ∧ clr 458 1500 g0 ∧ clr 467 1500 g0 ∧ clr 468 1500 g0 ∧ clr 471 1500 g0 ∧ clr 469 3000 g0 ∧ clr 470 3000 g0) →
      (63 - n).toNat ≤ N → 0 ≤ n → n ≤ 63 → onl fA2 g0 g → clr 472 n g → clr 479 n g → clr 477 n g → clr 478 n g → JW K 111 [(2009, 396), (0, n)] [] g := by
    intro N
    induction N with
    | zero =>
      intro n g0 g fg mkg yg c1 b1' b2 b3 o d1 d2 d3 d4
      have en : n = 63 := by omega
      subst en
      refine r_X9_forgetFacts_111 ki hG ⟨fun _ => ?_, fun z => by omega⟩
      intro x ex
      subst ex
      have q : ∀ {a m : Int}, ¬ fA2 a → clr a m g0 → clr a m g := fun e c => onl_c o e c
      exact k3 _ 0 g g (frG_tr fg (onl_G o (by unfold fA2; omega))) (mkg.of (o.2 _ _ (by unfold fA2; omega)) (fun j => o.2 _ j (by unfold fA2; omega))) (fun j j0 j1 => by rw [o.2 396 j (by unfold fA2; omega)]; exact yg j j0 j1)
        ⟨q (by unfold fA2; omega) c1.1, q (by unfold fA2; omega) c1.2.1, q (by unfold fA2; omega) c1.2.2.1, q (by unfold fA2; omega) c1.2.2.2.1, q (by unfold fA2; omega) c1.2.2.2.2.1, q (by unfold fA2; omega) c1.2.2.2.2.2.1, q (by unfold fA2; omega) c1.2.2.2.2.2.2⟩
        ⟨d1, d2, d3, d4⟩ (Nat.le_refl _) (by omega) (by omega) (onl_rfl _ _) (clr_0 _ _) (clr_0 _ _)
    | succ N ih =>
      intro n g0 g fg mkg yg c1 b1' b2 b3 o d1 d2 d3 d4
      by_cases en : n = 63
      · exact ih n g0 g fg mkg yg c1 (by omega) b2 b3 o d1 d2 d3 d4
      refine r_X9_forgetFacts_111 ki hG ⟨fun z => by omega, fun z => ⟨b2, z, by decide, fun g1 q1 => ⟨b2, z, by decide, fun g2 q2 => ⟨b2, z, fun g3 q3 => ⟨b2, z, fun g4 q4 => ?_⟩⟩⟩⟩⟩
      intro x ex
      rw [w32_i (by omega) (by omega)] at ex
      subst ex; subst q1; subst q2; subst q3; subst q4
      exact ih (n + 1) g0 _ fg mkg yg c1 (by omega) (by omega) (by omega) (onl_s (by unfold fA2; omega) (onl_s (by unfold fA2; omega) (onl_s (by unfold fA2; omega) (onl_s (by unfold fA2; omega) o))))
        (clr_o (by decide) (clr_o (by decide) (clr_o (by decide) (clr_s rfl d1)))) (clr_o (by decide) (clr_o (by decide) (clr_s rfl (clr_o (by decide) d2))))
        (clr_o (by decide) (clr_s rfl (clr_o (by decide) (clr_o (by decide) d3)))) (clr_s rfl (clr_o (by decide) (clr_o (by decide) (clr_o (by decide) d4))))
  have k1 : ∀ N : Nat, ∀ n : Int, ∀ g : MH, (1500 - n).toNat ≤ N → 0 ≤ n → n ≤ 1500 → onl fA1 h5 g → clr 460 n g → clr 458 n g → clr 467 n g → clr 468 n g → clr 471 n g → clr 469 (2 * n) g → clr 470 (2 * n) g → JW K 21 [(2009, 396), (0, n)] [] g := by
    intro N
    induction N with
    | zero =>
      intro n g b1' b2 b3 o d1 d2 d3 d4 d5 d6 d7
      have en : n = 1500 := by omega
      subst en
      refine r_X9_forgetFacts_21 ki hG ⟨fun _ => ?_, fun z => by omega⟩
      intro x ex
      subst ex
      exact k2 _ 0 g g (frG_tr f35 (onl_G o (by unfold fA1; omega))) (mk5.of (o.2 _ _ (by unfold fA1; omega)) (fun j => o.2 _ j (by unfold fA1; omega))) (fun j j0 j1 => by rw [o.2 396 j (by unfold fA1; omega)]; exact y12 j j0 j1)
        ⟨d1, d2, d3, d4, d5, d6, d7⟩ (Nat.le_refl _) (by omega) (by omega) (onl_rfl _ _) (clr_0 _ _) (clr_0 _ _) (clr_0 _ _) (clr_0 _ _)
    | succ N ih =>
      intro n g b1' b2 b3 o d1 d2 d3 d4 d5 d6 d7
      by_cases en : n = 1500
      · exact ih n g (by omega) b2 b3 o d1 d2 d3 d4 d5 d6 d7
      refine r_X9_forgetFacts_21 ki hG ⟨fun z => by omega, fun z => ?_⟩
      rw [w32_i (z := 2 * n) (by omega) (by omega), w32_i (z := 2 * n + 1) (by omega) (by omega)]
      refine ⟨b2, z, by decide, fun g1 q1 => ⟨b2, z, by decide, fun g2 q2 => ⟨b2, z, fun g3 q3 => ⟨b2, z, fun g4 q4 => ⟨b2, z, fun g5 q5 => ⟨by omega, by omega, fun g6 q6 => ⟨by omega, by omega, fun g7 q7 => ⟨by omega, by omega, fun g8 q8 => ⟨by omega, by omega, fun g9 q9 => ?_⟩⟩⟩⟩⟩⟩⟩⟩⟩
      intro x ex
      rw [w32_i (by omega) (by omega)] at ex
      subst ex; subst q1; subst q2; subst q3; subst q4; subst q5; subst q6; subst q7; subst q8; subst q9
      refine ih (n + 1) _ (by omega) (by omega) (by omega) ?_ ?_ ?_ ?_ ?_ ?_ ?_ ?_
      · repeat (first | exact o | refine onl_s (by unfold fA1; omega) ?_)
      · exact clr_o (by decide) (clr_o (by decide) (clr_o (by decide) (clr_o (by decide) (clr_o (by decide) (clr_o (by decide) (clr_o (by decide) (clr_o (by decide) (clr_s rfl d1))))))))
      · exact clr_o (by decide) (clr_o (by decide) (clr_o (by decide) (clr_o (by decide) (clr_o (by decide) (clr_o (by decide) (clr_o (by decide) (clr_s rfl (clr_o (by decide) d2))))))))
      · exact clr_o (by decide) (clr_o (by decide) (clr_o (by decide) (clr_o (by decide) (clr_o (by decide) (clr_o (by decide) (clr_s rfl (clr_o (by decide) (clr_o (by decide) d3))))))))
      · exact clr_o (by decide) (clr_o (by decide) (clr_o (by decide) (clr_o (by decide) (clr_o (by decide) (clr_s rfl (clr_o (by decide) (clr_o (by decide) (clr_o (by decide) d4))))))))
      · exact clr_o (by decide) (clr_o (by decide) (clr_o (by decide) (clr_o (by decide) (clr_s rfl (clr_o (by decide) (clr_o (by decide) (clr_o (by decide) (clr_o (by decide) d5))))))))
      · exact clr_o (by decide) (clr_o (by decide) (clr_s (n := 2 * n + 1) (by omega) (clr_s rfl (clr_o (by decide) (clr_o (by decide) (clr_o (by decide) (clr_o (by decide) (clr_o (by decide) d6))))))))
      · exact clr_s (n := 2 * n + 1) (by omega) (clr_s rfl (clr_o (by decide) (clr_o (by decide) (clr_o (by decide) (clr_o (by decide) (clr_o (by decide) (clr_o (by decide) (clr_o (by decide) d7))))))))
  subst ex0
  exact k1 _ 0 h5 (Nat.le_refl _) (by omega) (by omega) (onl_rfl _ _) (clr_0 _ _) (clr_0 _ _) (clr_0 _ _) (clr_0 _ _) (clr_0 _ _) (clr_0 _ _) (clr_0 _ _)
/-- how far below the top a place finds the sites that it reads -/
def blo (L : PG) (k : Int) : Int := if pOp L k = 22 then 1 else if pOp L k = 25 then 1 else if pOp L k = 23 then 2 else if pOp L k = 24 then 3 else 0
/-- a place asks for what has grown: sites, statics, methods -/
def ask (L : PG) (T : TB) (k ns nst nm : Int) : Prop :=
  ((pOp L k = 29 ∨ pOp L k = 30 ∨ pOp L k = 36) ∧ ∃ m, 0 ≤ m ∧ m < 64 ∧ ath (T 10 k m) ≠ 0 ∧ bl nm m = true) ∨ (pOp L k = 27 ∧ bi nst (pX L k) = true) ∨
  (0 < blo L k ∧ ∃ s, 0 ≤ s ∧ s < 64 ∧ bl (ast (T 0 k (8 + pDp L k - blo L k))) s = true ∧ bl ns s = true)
theorem lc_if (a b x y : Int) : (if lc a b = 0 then x else y) = (if a = b then x else y) := by
  by_cases c : a = b
  · rw [if_pos c, if_pos ((lc_eq a b).mpr c)]
  · rw [if_neg c, if_neg (fun z => c ((lc_eq a b).mp z))]
theorem rw_10 {g : MH} {L : PG} {k m : Int} (hk : inP L k) (m0 : 0 ≤ m) (m1 : m < 64) : ath (tT g L 10 k m) ≠ 0 ↔ bl (hv g 468 k) m = true := by
  show ath (t10 g L k m) ≠ 0 ↔ _
  unfold t10
  by_cases z : bl (hv g 468 k) m = true
  · rw [iff_p ⟨hk, m0, m1, z⟩]; exact ⟨fun _ => z, fun _ => (by decide : (1 : Int) ≠ 0)⟩
  · rw [iff_n (fun y => z y.2.2.2)]; exact ⟨fun y => absurd rfl y, fun y => absurd y z⟩
theorem rw_0s {g : MH} {L : PG} {k j : Int} (hk : inP L k) (z : hv g 460 k = 1) (r : rel L k j) : ast (tT g L 0 k j) = hv g 464 (16 * k + j) := by
  show ast (t0 g L k j) = _
  unfold t0
  rw [iff_p ⟨hk, z, r⟩]; rfl
theorem zo1 (p : Prop) [Decidable p] : (if p then 0 else 1 : Int) = 0 ∨ (if p then 0 else 1 : Int) = 1 := by split <;> simp
theorem oz1 (p : Prop) [Decidable p] : (if p then 1 else 0 : Int) = 0 ∨ (if p then 1 else 0 : Int) = 1 := by split <;> simp
theorem t_asks {l : Launch} {G : JG} (hG : gO G = true) {h : MH} {L : PG} (tf : TF h L) (w : WF L) {k : Int} (k0 : 0 ≤ k) (k1 : k < pNp L) (hr : hv h 460 k = 1) {ns nst nm : Int} {Q : Int → MH → Prop} {E : Nat → Int → MH → Prop}
    (hQ : ∀ z, (¬ z = 0 ↔ ask L (tT h L) k ns nst nm) → Q z h) : S_X9_asks l G [(2009, 396), (0, k), (1, ns), (0, nst), (1, nm)] h Q E := by
  have nn := w.n
  unfold WFn at nn
  obtain ⟨mo, ops, xr, yr, x2, x7, x5, x47, xc, xa, xs, y19, y25, cy, cw, c36, yz, jz, si, dp, nxt⟩ := w.k k0 k1
  refine s_X9_asks rfl fun K ki => r_X9_asks_0 ki hG ?_
  refine ⟨tf.ne, k0, by omega, ?_⟩
  rw [tf.op]
  intro op eop
  subst eop
  refine ⟨fun e => ⟨k0, by omega, zo1 _, hQ _ ?_⟩, fun e => ⟨fun e2 => ?_, fun e2 => ⟨tf.ne, k0, by omega, oz1 _, hQ _ ?_⟩⟩⟩
  · rw [lc_if]
    by_cases z : l_and (hv h 468 k) nm = 0
    · rw [if_pos z]
      refine ⟨fun y => absurd rfl y, fun y => ?_⟩
      exfalso
      rcases y with ⟨-, m, m0, m1, y1, y2⟩ | y | ⟨y, -⟩
      · exact l_and_ne.mpr ⟨m, m0, m1, (rw_10 ⟨k0, k1⟩ m0 m1).mp y1, y2⟩ z
      · have := y.1; omega
      · unfold blo at y; rw [if_neg (by omega), if_neg (by omega), if_neg (by omega), if_neg (by omega)] at y; omega
    · rw [if_neg z]
      refine ⟨fun _ => Or.inl ⟨e, ?_⟩, fun _ => by decide⟩
      obtain ⟨m, m0, m1, y1, y2⟩ := l_and_ne.mp z
      exact ⟨m, m0, m1, (rw_10 ⟨k0, k1⟩ m0 m1).mpr y1, y2⟩
  · intro x8 e8
    have e8' : x8 = blo L k := e8
    subst e8'
    rw [tf.dp]
    have bb : 0 < blo L k → blo L k ≤ pDp L k := by
      intro y
      have d1 := dp.2.2.1
      unfold blo at y ⊢
      unfold ppo at d1
      by_cases o1 : pOp L k = 22
      · rw [if_pos o1]; rw [if_pos (by omega)] at d1; omega
      rw [if_neg o1] at y ⊢
      by_cases o2 : pOp L k = 25
      · rw [if_pos o2]; rw [if_pos (by omega)] at d1; omega
      rw [if_neg o2] at y ⊢
      by_cases o3 : pOp L k = 23
      · rw [if_pos o3]; rw [if_neg (by omega), if_pos (by omega)] at d1; omega
      rw [if_neg o3] at y ⊢
      by_cases o4 : pOp L k = 24
      · rw [if_pos o4]; rw [if_neg (by omega), if_neg (by omega), if_pos o4] at d1; omega
      rw [if_neg o4] at y; omega
    have ix : 0 < blo L k → w32 (w32 (w32 (w32 (16 * k) + 8) + pDp L k) - blo L k) = 16 * k + (8 + pDp L k - blo L k) := by
      intro y
      have := bb y
      rw [w32_i (z := 16 * k) (by omega) (by omega), w32_i (z := 16 * k + 8) (by omega) (by omega), w32_i (z := 16 * k + 8 + pDp L k) (by omega) (by omega), w32_i (by omega) (by omega)]
      omega
    refine ⟨fun y => ⟨tf.ne, k0, by omega, ?_⟩, ?_, hQ _ ?_⟩
    · rw [ix y]; have := bb y; omega
    · split
      · exact zo1 _
      · exact Or.inl rfl
    · have no : ¬ ((pOp L k = 29 ∨ pOp L k = 30 ∨ pOp L k = 36)) := e
      by_cases y : 0 < blo L k
      · rw [if_pos y, ix y, lc_if]
        have := bb y
        have es := rw_0s (g := h) (j := 8 + pDp L k - blo L k) ⟨k0, k1⟩ hr (Or.inr ⟨by omega, by omega⟩)
        rw [← es]
        by_cases z : l_and (ast (tT h L 0 k (8 + pDp L k - blo L k))) ns = 0
        · rw [if_pos z]
          refine ⟨fun y => absurd rfl y, fun y => ?_⟩
          exfalso
          rcases y with y | y | ⟨-, s, s0, s1, y1, y2⟩
          · exact no y.1
          · exact e2 y.1
          · exact l_and_ne.mpr ⟨s, s0, s1, y1, y2⟩ z
        · rw [if_neg z]
          exact ⟨fun _ => Or.inr (Or.inr ⟨y, l_and_ne.mp z⟩), fun _ => by decide⟩
      · rw [if_neg y]
        refine ⟨fun y => absurd rfl y, fun z => ?_⟩
        exfalso
        rcases z with z | z | z
        · exact no z.1
        · exact e2 z.1
        · exact y z.1
  · rw [tf.x]
    have x8 := xs (by omega)
    rw [i_bit (by omega) (by omega)]
    by_cases z : bi nst (pX L k) = true
    · rw [if_pos z, if_pos rfl]
      exact ⟨fun _ => Or.inr (Or.inl ⟨e2, z⟩), fun _ => by decide⟩
    · rw [if_neg z, if_neg (by decide)]
      refine ⟨fun y => absurd rfl y, fun y => ?_⟩
      exfalso
      rcases y with y | y | ⟨y, -⟩
      · have := y.1; omega
      · exact z y.2
      · unfold blo at y; rw [if_neg (by omega), if_neg (by omega), if_neg (by omega), if_neg (by omega)] at y; omega
