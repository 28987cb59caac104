/-! Part 39r: the twin walks: to the end -/
set_option maxRecDepth 100000
/-- the twin's walk stands, seen as A -/
def wki (L : PG) (R : Int → Prop) (h0 h : MH) (A : MA) (most how : Int) : Prop := frV h0 h ∧ TW L R h ∧ eqm (hv h) A ∧ INVL L R (hv h) ∧ STR L (hv h) ∧ ioo (hv h) ∧ hv h 396 0 = 0 ∧ (how = -1 → hv h 396 103 = 0 ∧ 0 ≤ hv h 396 96 ∧ hv h 396 96 ≤ hv h 396 95 ∧ hv h 396 95 ≤ most)
theorem do_96 {L : PG} {A : MA} {t k : Int} : doA L A t k 396 96 = A 396 96 ∨ doA L A t k 396 96 = A 396 96 + 1 := by
  by_cases c : pOp L k = 14
  · have dd : doA L A t k = stepA (dropA (ouA A (pX L k) (topA A t 0)) t 1) t := by unfold doA; simp [c]
    rw [dd, step_s, drop_s]
    unfold ouA
    split
    · exact Or.inr m_eq
    · exact Or.inr m_eq
  · exact Or.inl (doA_s (by unfold lvs; omega) (by omega) (fun _ => c))
theorem do_82 {L : PG} {A : MA} {t k : Int} (h : A 396 82 ≤ A 396 80) : A 396 82 ≤ doA L A t k 396 82 ∧ doA L A t k 396 82 ≤ A 396 80 := by
  by_cases c : pOp L k = 13
  · have dd : doA L A t k = lieA (inA A) t (pY L k + (inV A - pY L k) % (pZ L k - pY L k + 1)) := by unfold doA; simp [c]
    rw [dd, lie_s]
    unfold inA
    split
    · omega
    · rw [m_eq]; omega
  · rw [doA_s (by unfold lvs; omega) (fun _ => c) (by omega)]; omega
/-- the input stands, threads stay -/
def m57 (A B : MA) : Prop := (∀ i, B 507 i = A 507 i) ∧ A 396 83 ≤ B 396 83
theorem m57.e {A B : MA} (f : m57 A B) : ∀ i, B 507 i = A 507 i := f.1
theorem m57.g {A B : MA} (f : m57 A B) : A 396 83 ≤ B 396 83 := f.2
theorem m57_rfl (A : MA) : m57 A A := ⟨fun _ => rfl, Int.le_refl _⟩
theorem m57_sa {A B : MA} {a k x : Int} (f : m57 A B) (c : ¬ a = 507) (d : ¬ a = 396) : m57 A (mset B a k x) := ⟨fun j => by rw [m_ne (by omega), f.e j], by rw [m_ne (by omega)]; exact f.g⟩
theorem m57_ss {A B : MA} {k x : Int} (f : m57 A B) (c : ¬ k = 83) : m57 A (mset B 396 k x) := ⟨fun j => by rw [m_ne (by omega), f.e j], by rw [m_ne (by omega)]; exact f.g⟩
theorem m57_ite {P : Prop} [Decidable P] {A B C : MA} (h : P → m57 A B) (g : ¬ P → m57 A C) : m57 A (if P then B else C) := by
  by_cases c : P
  · rw [if_pos c]; exact h c
  · rw [if_neg c]; exact g c
theorem m57_drop {A B : MA} {t n : Int} (f : m57 A B) : m57 A (dropA B t n) := m57_sa f (by decide) (by decide)
theorem m57_push {A B : MA} {t n : Int} (f : m57 A B) : m57 A (pushA B t n) := m57_sa (m57_sa f (by decide) (by decide)) (by decide) (by decide)
theorem m57_step {A B : MA} {t : Int} (f : m57 A B) : m57 A (stepA B t) := m57_sa f (by decide) (by decide)
theorem m57_lie {A B : MA} {t n : Int} (f : m57 A B) : m57 A (lieA B t n) := m57_step (m57_push f)
theorem m57_mk {A B : MA} {s n : Int} (f : m57 A B) : m57 A (mkA B s n) := ⟨fun j => by rw [mk_ne (by omega) (by omega) (by omega)]; exact f.e j, by rw [mk_ne (by omega) (by omega) (by omega)]; exact f.g⟩
theorem m57_jmp {L : PG} {A B : MA} {t k b : Int} (f : m57 A B) : m57 A (jmpA L B t k b) := by
  unfold jmpA
  exact m57_ite (fun _ => m57_step f) (fun _ => m57_sa f (by decide) (by decide))
theorem m57_hurlN {L : PG} {t v s : Int} {A : MA} : ∀ (n : Nat) {B : MA}, m57 A B → m57 A (hurlN L t v s n B)
  | 0, B, f => by unfold hurlN; exact m57_ss (m57_sa f (by decide) (by decide)) (by decide)
  | n + 1, B, f => by
    unfold hurlN
    simp only
    exact m57_ite (fun _ => m57_push (m57_sa (m57_sa (m57_sa f (by decide) (by decide)) (by decide) (by decide)) (by decide) (by decide))) (fun _ => m57_hurlN n (m57_sa (m57_sa f (by decide) (by decide)) (by decide) (by decide)))
theorem m57_hurl {L : PG} {A B : MA} {t v : Int} (f : m57 A B) : m57 A (hurlA L B t v) := m57_hurlN _ f
theorem m57_opn {L : PG} {A B : MA} {t m : Int} (f : m57 A B) : m57 A (opnA L B t m) := ⟨fun j => by rw [opn_ne (by omega) (by omega) (by omega)]; exact f.e j, by rw [opn_ne (by omega) (by omega) (by omega)]; exact f.g⟩
theorem m57_cal {L : PG} {A B : MA} {t m n : Int} (f : m57 A B) : m57 A (calA L B t m n) := by
  have q : m57 A (opnA L (dropA B t n) t m) := m57_opn (m57_drop f)
  refine ⟨fun j => ?_, ?_⟩
  · unfold calA
    rw [if_neg (by omega)]
    exact q.e j
  · unfold calA
    rw [if_neg (by omega)]
    exact q.g
theorem m57_bgnA {L : PG} {A B : MA} {m v : Int} (f : m57 A B) : m57 A (bgnA L B (bgn A) m v) := by
  have q : m57 A (mset B 396 83 (bgn A + 1)) := ⟨fun j => by rw [m_ne (by omega), f.e j], by rw [m_eq]; unfold bgn; omega⟩
  exact m57_sa (m57_opn (m57_sa (m57_sa q (by decide) (by decide)) (by decide) (by decide))) (by decide) (by decide)
theorem m57_ret {L : PG} {A B : MA} {t k : Int} (f : m57 A B) : m57 A (retA L B t k) := by
  unfold retA
  exact m57_ite (fun _ => m57_ss (m57_sa (m57_sa f (by decide) (by decide)) (by decide) (by decide)) (by decide)) (fun _ => m57_step (m57_ite (fun _ => m57_push (m57_sa f (by decide) (by decide))) (fun _ => m57_sa f (by decide) (by decide))))
theorem m57_in {A B : MA} (f : m57 A B) : m57 A (inA B) := by
  unfold inA
  exact m57_ite (fun _ => f) (fun _ => m57_ss f (by decide))
theorem m57_ou {A B : MA} {x v : Int} (f : m57 A B) : m57 A (ouA B x v) := by
  unfold ouA
  exact m57_ite (fun _ => m57_ss (m57_sa (m57_sa f (by decide) (by decide)) (by decide) (by decide)) (by decide)) (fun _ => m57_ss f (by decide))
theorem m57_do {L : PG} {A : MA} {t k : Int} : m57 A (doA L A t k) := by
  have f := m57_rfl A
  unfold doA elA fdA ecA bgA
  repeat' (first | with_reducible exact f | with_reducible refine m57_ite (fun _ => ?_) (fun _ => ?_) | with_reducible apply m57_lie | with_reducible apply m57_step | with_reducible apply m57_drop | with_reducible apply m57_push | with_reducible apply m57_hurl | with_reducible apply m57_jmp | with_reducible apply m57_mk | with_reducible apply m57_in | with_reducible apply m57_ou | with_reducible apply m57_ret | with_reducible apply m57_cal | with_reducible apply m57_bgnA | (with_reducible refine m57_ss ?_ (by decide)) | (with_reducible refine m57_sa ?_ (by decide) (by decide)))
theorem do_507 {L : PG} {A : MA} {t k i : Int} : doA L A t k 507 i = A 507 i := m57_do.e i
