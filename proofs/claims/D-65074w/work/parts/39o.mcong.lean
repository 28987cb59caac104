/-! Part 39o: the machine's part of a heap goes its own way (plain) -/
set_option maxRecDepth 100000
def mch (a j : Int) : Prop := (507 ≤ a ∧ a ≤ 521) ∨ (a = 396 ∧ 80 ≤ j ∧ j ≤ 103)
/-- alike as machines -/
def eqm (A B : MA) : Prop := ∀ a j, mch a j → A a j = B a j
theorem eqm_rfl (A : MA) : eqm A A := fun _ _ _ => rfl
theorem eqm_sym {A B : MA} (e : eqm A B) : eqm B A := fun a j h => (e a j h).symm
theorem eqm_tr {A B C : MA} (e : eqm A B) (f : eqm B C) : eqm A C := fun a j h => (e a j h).trans (f a j h)
theorem eqm.a {A B : MA} (e : eqm A B) {a : Int} (h1 : 507 ≤ a) (h2 : a ≤ 521) (j : Int) : A a j = B a j := e a j (Or.inl ⟨h1, h2⟩)
theorem eqm.s {A B : MA} (e : eqm A B) {j : Int} (h1 : 80 ≤ j) (h2 : j ≤ 103) : A 396 j = B 396 j := e 396 j (Or.inr ⟨rfl, h1, h2⟩)
theorem fA_c {A B : MA} (e : eqm A B) (t : Int) : fA A t = fA B t := by unfold fA; rw [e.a (by decide) (by decide)]
theorem top_c {A B : MA} (e : eqm A B) (t i : Int) : topA A t i = topA B t i := by unfold topA; rw [fA_c e, e.a (a := 512) (by decide) (by decide), e.a (a := 513) (by decide) (by decide)]
theorem sit_c {A B : MA} (e : eqm A B) (v : Int) : sit A v = sit B v := by unfold sit; rw [e.a (a := 515) (by decide) (by decide)]
theorem nob_c {A B : MA} (e : eqm A B) : nob A = nob B := e.s (by decide) (by decide)
theorem bgn_c {A B : MA} (e : eqm A B) : bgn A = bgn B := e.s (by decide) (by decide)
theorem mset_c {A B : MA} {a k x : Int} (e : eqm A B) : eqm (mset A a k x) (mset B a k x) := fun b j h => by
  unfold mset
  by_cases c : b = a ∧ j = k
  · rw [if_pos c, if_pos c]
  · rw [if_neg c, if_neg c]; exact e b j h
theorem drop_c {A B : MA} {t n : Int} (e : eqm A B) : eqm (dropA A t n) (dropA B t n) := by
  unfold dropA
  rw [fA_c e, e.a (a := 512) (by decide) (by decide)]
  exact mset_c e
theorem push_c {A B : MA} {t v : Int} (e : eqm A B) : eqm (pushA A t v) (pushA B t v) := by
  unfold pushA
  rw [fA_c e, e.a (a := 512) (by decide) (by decide)]
  exact mset_c (mset_c e)
theorem step_c {A B : MA} {t : Int} (e : eqm A B) : eqm (stepA A t) (stepA B t) := by
  unfold stepA
  rw [fA_c e, e.a (a := 511) (by decide) (by decide)]
  exact mset_c e
theorem lie_c {A B : MA} {t v : Int} (e : eqm A B) : eqm (lieA A t v) (lieA B t v) := step_c (push_c e)
theorem mk_c {A B : MA} {s n : Int} (e : eqm A B) : eqm (mkA A s n) (mkA B s n) := fun a j h => by
  unfold mkA
  rw [nob_c e, e a j h]
theorem ite_c {P : Prop} [Decidable P] {A A' B B' : MA} (h : P → eqm A A') (g : ¬ P → eqm B B') : eqm (if P then A else B) (if P then A' else B') := by
  by_cases c : P
  · rw [if_pos c, if_pos c]; exact h c
  · rw [if_neg c, if_neg c]; exact g c
theorem jmp_c {L : PG} {A B : MA} {t k b : Int} (e : eqm A B) : eqm (jmpA L A t k b) (jmpA L B t k b) := by
  unfold jmpA
  rw [fA_c e]
  exact ite_c (fun _ => step_c e) (fun _ => mset_c e)
theorem hurlN_c {L : PG} {t v s : Int} : ∀ (n : Nat) {A B : MA}, eqm A B → eqm (hurlN L t v s n A) (hurlN L t v s n B)
  | 0, A, B, e => by
    unfold hurlN
    rw [e.s (j := 100) (by decide) (by decide)]
    exact mset_c (mset_c e)
  | n + 1, A, B, e => by
    unfold hurlN
    simp only
    rw [fA_c e, e.a (a := 511) (by decide) (by decide), e.a (a := 520) (by decide) (by decide), e.a (a := 509) (by decide) (by decide)]
    exact ite_c (fun _ => push_c (mset_c (mset_c (mset_c e)))) (fun _ => hurlN_c n (mset_c (mset_c e)))
theorem hurl_c {L : PG} {A B : MA} {t v : Int} (e : eqm A B) : eqm (hurlA L A t v) (hurlA L B t v) := by
  unfold hurlA
  rw [sit_c e, e.a (a := 509) (by decide) (by decide)]
  exact hurlN_c _ e
theorem opn_c {L : PG} {A B : MA} {t m : Int} (e : eqm A B) : eqm (opnA L A t m) (opnA L B t m) := fun a j h => by
  unfold opnA
  rw [e.a (a := 509) (by decide) (by decide), e a j h]
theorem cal_c {L : PG} {A B : MA} {t m n : Int} (e : eqm A B) : eqm (calA L A t m n) (calA L B t m n) := fun a j h => by
  unfold calA
  rw [e.a (a := 509) (by decide) (by decide), fA_c e, e.a (a := 512) (by decide) (by decide), e.a (a := 513) (by decide) (by decide), opn_c (drop_c e) a j h]
theorem bgnA_c {L : PG} {A B : MA} {u m v : Int} (e : eqm A B) : eqm (bgnA L A u m v) (bgnA L B u m v) := mset_c (opn_c (mset_c (mset_c (mset_c e))))
theorem ret_c {L : PG} {A B : MA} {t k : Int} (e : eqm A B) : eqm (retA L A t k) (retA L B t k) := by
  unfold retA
  rw [e.a (a := 509) (by decide) (by decide), top_c e, sit_c e, e.s (j := 99) (by decide) (by decide)]
  exact ite_c (fun _ => mset_c (mset_c (mset_c e))) (fun _ => step_c (ite_c (fun _ => push_c (mset_c e)) (fun _ => mset_c e)))
theorem inV_c {A B : MA} (e : eqm A B) : inV A = inV B := by
  unfold inV
  rw [e.s (j := 82) (by decide) (by decide), e.s (j := 80) (by decide) (by decide), e.a (a := 507) (by decide) (by decide)]
theorem in_c {A B : MA} (e : eqm A B) : eqm (inA A) (inA B) := by
  unfold inA
  rw [e.s (j := 82) (by decide) (by decide), e.s (j := 80) (by decide) (by decide)]
  exact ite_c (fun _ => e) (fun _ => mset_c e)
theorem ou_c {A B : MA} {x v : Int} (e : eqm A B) : eqm (ouA A x v) (ouA B x v) := by
  unfold ouA
  rw [e.s (j := 96) (by decide) (by decide)]
  exact ite_c (fun _ => mset_c (mset_c (mset_c e))) (fun _ => mset_c e)
theorem el_c {L : PG} {A B : MA} {t k : Int} (e : eqm A B) : eqm (elA L A t k) (elA L B t k) := by
  unfold elA
  simp only [top_c e, sit_c e, e.a (a := 516) (by decide) (by decide), e.a (a := 517) (by decide) (by decide)]
  repeat' (first | exact e | apply lie_c | apply step_c | apply drop_c | apply mset_c | apply hurl_c | refine ite_c (fun _ => ?_) (fun _ => ?_))
theorem fd_c {L : PG} {A B : MA} {t k : Int} (e : eqm A B) : eqm (fdA L A t k) (fdA L B t k) := by
  unfold fdA
  simp only [top_c e, sit_c e, e.a (a := 517) (by decide) (by decide)]
  repeat' (first | exact e | apply lie_c | apply step_c | apply drop_c | apply mset_c | apply hurl_c | refine ite_c (fun _ => ?_) (fun _ => ?_))
theorem ec_c {L : PG} {A B : MA} {t k : Int} (e : eqm A B) : eqm (ecA L A t k) (ecA L B t k) := by
  unfold ecA
  simp only [top_c e, sit_c e, e.a (a := 509) (by decide) (by decide)]
  repeat' (first | exact e | apply cal_c | apply mset_c | apply hurl_c | refine ite_c (fun _ => ?_) (fun _ => ?_))
theorem bg_c {L : PG} {A B : MA} {t k : Int} (e : eqm A B) : eqm (bgA L A t k) (bgA L B t k) := by
  unfold bgA
  simp only [top_c e, sit_c e, bgn_c e]
  repeat' (first | exact e | apply bgnA_c | apply step_c | apply drop_c | apply hurl_c | refine ite_c (fun _ => ?_) (fun _ => ?_))
theorem doA_c {L : PG} {A B : MA} {t k : Int} (e : eqm A B) : eqm (doA L A t k) (doA L B t k) := by
  unfold doA
  simp only [top_c e, sit_c e, nob_c e, fA_c e, inV_c e, e.a (a := 513) (by decide) (by decide), e.a (a := 514) (by decide) (by decide), e.a (a := 521) (by decide) (by decide)]
  repeat' (first | exact e | apply lie_c | apply step_c | apply drop_c | apply push_c | apply mset_c | apply hurl_c | apply jmp_c | apply mk_c | apply in_c | apply ou_c | apply el_c | apply fd_c | apply ec_c | apply ret_c | apply bg_c | refine ite_c (fun _ => ?_) (fun _ => ?_))
/-! what an instruction leaves -/
theorem lie_s (A : MA) (t v j : Int) : lieA A t v 396 j = A 396 j := by rw [lie_v, if_neg (by omega), if_neg (by omega), if_neg (by omega)]
theorem drop_s (A : MA) (t n j : Int) : dropA A t n 396 j = A 396 j := by rw [drop_v, if_neg (by omega)]
theorem push_s (A : MA) (t v j : Int) : pushA A t v 396 j = A 396 j := by rw [push_v, if_neg (by omega), if_neg (by omega)]
theorem step_s (A : MA) (t j : Int) : stepA A t 396 j = A 396 j := by unfold stepA; rw [m_ne (by omega)]
theorem mset_s {A : MA} {a k x j : Int} (h : a ≠ 396) : mset A a k x 396 j = A 396 j := m_ne (by omega)
theorem mset_sj {A : MA} {k x j : Int} (h : j ≠ k) : mset A 396 k x 396 j = A 396 j := m_ne (by omega)
theorem mk_s {A : MA} {s n j : Int} (h : j ≠ 91) : mkA A s n 396 j = A 396 j := mk_ne (by omega) (by omega) (by omega)
theorem jmp_s (L : PG) (A : MA) (t k b j : Int) : jmpA L A t k b 396 j = A 396 j := by
  unfold jmpA
  split
  · exact step_s _ _ _
  · exact mset_s (by decide)
theorem hurlN_s {L : PG} {t v s j : Int} (h : j ≠ 100) : ∀ (n : Nat) (A : MA), hurlN L t v s n A 396 j = A 396 j
  | 0, A => by unfold hurlN; rw [mset_sj h, mset_s (by decide)]
  | n + 1, A => by
    unfold hurlN
    simp only
    split
    · rw [push_s, mset_s (by decide), mset_s (by decide), mset_s (by decide)]
    · rw [hurlN_s h n, mset_s (by decide), mset_s (by decide)]
theorem hurl_s {L : PG} {A : MA} {t v j : Int} (h : j ≠ 100) : hurlA L A t v 396 j = A 396 j := hurlN_s h _ _
theorem opn_s (L : PG) (A : MA) (t m j : Int) : opnA L A t m 396 j = A 396 j := opn_ne (by omega) (by omega) (by omega)
theorem cal_s (L : PG) (A : MA) (t m n j : Int) : calA L A t m n 396 j = A 396 j := by unfold calA; rw [if_neg (by omega), opn_s, drop_s]
theorem bgnA_s {L : PG} {A : MA} {u m v j : Int} (h : j ≠ 83) : bgnA L A u m v 396 j = A 396 j := by
  unfold bgnA
  rw [mset_s (by decide), opn_s, mset_s (by decide), mset_s (by decide), mset_sj h]
theorem ret_s {L : PG} {A : MA} {t k j : Int} (h : j ≠ 99) : retA L A t k 396 j = A 396 j := by
  unfold retA
  split
  · rw [mset_sj h, mset_s (by decide), mset_s (by decide)]
  · rw [step_s]
    split
    · rw [push_s, mset_s (by decide)]
    · rw [mset_s (by decide)]
/-- scalars that an instruction leaves -/
def lvs (j : Int) : Prop := j ≠ 83 ∧ j ≠ 91 ∧ j ≠ 99 ∧ j ≠ 100 ∧ j ≠ 103
theorem ite_s {P : Prop} [Decidable P] {A B : MA} {a j x : Int} (h : P → A a j = x) (g : ¬ P → B a j = x) : (if P then A else B) a j = x := by
  by_cases c : P
  · rw [if_pos c]; exact h c
  · rw [if_neg c]; exact g c
theorem el_s {L : PG} {A : MA} {t k j : Int} (h : lvs j) : elA L A t k 396 j = A 396 j := by
  obtain ⟨h1, h2, h3, h4, h5⟩ := h
  unfold elA
  repeat' split
  all_goals first | exact hurl_s h4 | simp only [lie_s, drop_s, step_s, mset_s (show (517 : Int) ≠ 396 by decide)]
theorem fd_s {L : PG} {A : MA} {t k j : Int} (h : lvs j) : fdA L A t k 396 j = A 396 j := by
  obtain ⟨h1, h2, h3, h4, h5⟩ := h
  unfold fdA
  repeat' split
  all_goals first | exact hurl_s h4 | simp only [lie_s, drop_s, step_s, mset_s (show (517 : Int) ≠ 396 by decide)]
theorem ec_s {L : PG} {A : MA} {t k j : Int} (h : lvs j) : ecA L A t k 396 j = A 396 j := by
  obtain ⟨h1, h2, h3, h4, h5⟩ := h
  unfold ecA
  repeat' split
  all_goals first | exact hurl_s h4 | exact mset_sj h5 | exact cal_s _ _ _ _ _ _
theorem bg_s {L : PG} {A : MA} {t k j : Int} (h : lvs j) : bgA L A t k 396 j = A 396 j := by
  obtain ⟨h1, h2, h3, h4, h5⟩ := h
  unfold bgA
  repeat' split
  all_goals first | exact hurl_s h4 | (rw [bgnA_s h1, step_s, drop_s])
theorem in_s {A : MA} {j : Int} (h : j ≠ 82) : inA A 396 j = A 396 j := by
  unfold inA
  split
  · rfl
  · exact mset_sj h
theorem ou_s {A : MA} {x v j : Int} (h : j ≠ 96) : ouA A x v 396 j = A 396 j := by
  unfold ouA
  split
  · rw [mset_sj h, mset_s (by decide), mset_s (by decide)]
  · exact mset_sj h
theorem doA_s {L : PG} {A : MA} {t k j : Int} (h : lvs j) (h82 : j = 82 → pOp L k ≠ 13) (h96 : j = 96 → pOp L k ≠ 14) : doA L A t k 396 j = A 396 j := by
  have h' := h
  obtain ⟨h1, h2, h3, h4, h5⟩ := h'
  unfold doA
  repeat' (first
    | exact hurl_s h4
    | exact el_s h
    | exact fd_s h
    | exact ec_s h
    | exact bg_s h
    | exact ret_s h3
    | exact jmp_s _ _ _ _ _ _
    | exact mset_sj h5
    | (rw [jmp_s, drop_s]; done)
    | (rw [lie_s, in_s (fun y => h82 y (by assumption))]; done)
    | (rw [step_s, drop_s, ou_s (fun y => h96 y (by assumption))]; done)
    | (rw [lie_s, mk_s h2, drop_s]; done)
    | (rw [lie_s, mk_s h2]; done)
    | (rw [lie_s]; done)
    | (rw [lie_s, drop_s]; done)
    | (rw [lie_s, push_s, drop_s]; done)
    | (rw [step_s]; done)
    | (rw [step_s, drop_s]; done)
    | (rw [step_s, drop_s, mset_s (by decide)]; done)
    | (rw [step_s, mset_s (by decide)]; done)
    | refine ite_s (fun _ => ?_) (fun _ => ?_))
