/-! Part 39p: the twin walks -/
set_option maxRecDepth 100000
/-! one step of a thread -/
def acA (L : PG) (A : MA) (t : Int) : MA :=
  if doA L (mset A 396 102 0) t (A 511 (fA A t)) 396 103 = 0 then mset (doA L (mset A 396 102 0) t (A 511 (fA A t))) 396 95 (doA L (mset A 396 102 0) t (A 511 (fA A t)) 396 95 + 1) else doA L (mset A 396 102 0) t (A 511 (fA A t))
def frV (h h' : MH) : Prop := h'.2 = h.2 ∧ ∀ a j, ¬ (458 ≤ a ∧ a ≤ 521) → ¬ (a = 396 ∧ (fq j ∨ (80 ≤ j ∧ j ≤ 103))) → hv h' a j = hv h a j
theorem frV_rfl (h : MH) : frV h h := ⟨rfl, fun _ _ _ _ => rfl⟩
theorem frV_tr {h1 h2 h3 : MH} (a : frV h1 h2) (b : frV h2 h3) : frV h1 h3 := ⟨b.1.trans a.1, fun x j p q => (b.2 x j p q).trans (a.2 x j p q)⟩
theorem frV_Q {h h' : MH} (a : frQ h h') : frV h h' := ⟨a.1, fun x j p q => a.2 x j (by omega) (fun y => q ⟨y.1, Or.inl y.2⟩)⟩
theorem frV_W {h h' : MH} (a : frW h h') : frV h h' := ⟨a.1, fun x j p q => a.2 x j (by omega) (fun y => q ⟨y.1, Or.inr y.2⟩)⟩
theorem frQ_m {h h' : MH} (a : frQ h h') : eqm (hv h') (hv h) := fun x j m => by
  unfold mch at m
  exact a.2 x j (by omega) (fun y => by have := y.2; unfold fq at this; omega)
/-- facts are as they must be for the machine -/
theorem KN.ct {L : PG} {R : Int → Prop} {h : MH} (k : KN L R h) (w : WF L) (wt : WFt L) (hz : ¬ L 99 0 = 1) : CT L (tT h L) := ⟨w, wt, hz, k.1.1.1, fun i hi r => (k.1.2 i hi r).1⟩
/-- the machine is as facts tell, whatever they are -/
def INVL (L : PG) (R : Int → Prop) (A : MA) : Prop := ∀ T, LST L R T → INV L T A
theorem INV_m {L : PG} {T : TB} {A B : MA} (w : WF L) (e : eqm A B) (I : INV L T A) : INV L T B := INV_eq w I (fun a j y => (e a j (by unfold mch; omega)).symm)
theorem frW_mset {h : MH} {a k x : Int} (c : (507 ≤ a ∧ a ≤ 521) ∨ (a = 396 ∧ 80 ≤ k ∧ k ≤ 103)) : frW h (lft h (mset (hv h) a k x)) := ⟨rfl, fun b j p q => by rw [lft_hv, m_ne]; rintro ⟨rfl, rfl⟩; rcases c with c | c; exact p c; exact q c⟩
/-- frames of the machine's functions -/
def mfr (A B : MA) : Prop := ∀ a j, ¬ mch a j → B a j = A a j
theorem mfr_rfl (A : MA) : mfr A A := fun _ _ _ => rfl
theorem mfr_set {A B : MA} {a k x : Int} (f : mfr A B) (c : mch a k) : mfr A (mset B a k x) := fun b j h => by
  rw [m_ne, f b j h]
  rintro ⟨rfl, rfl⟩
  exact h c
theorem mfr_ite {P : Prop} [Decidable P] {A B C : MA} (h : P → mfr A B) (g : ¬ P → mfr A C) : mfr A (if P then B else C) := by
  by_cases c : P
  · rw [if_pos c]; exact h c
  · rw [if_neg c]; exact g c
theorem mch_a {a j : Int} (h1 : 507 ≤ a) (h2 : a ≤ 521) : mch a j := Or.inl ⟨h1, h2⟩
theorem mch_s {j : Int} (h1 : 80 ≤ j) (h2 : j ≤ 103) : mch 396 j := Or.inr ⟨rfl, h1, h2⟩
theorem mfr_drop {A B : MA} {t n : Int} (f : mfr A B) : mfr A (dropA B t n) := mfr_set f (mch_a (by decide) (by decide))
theorem mfr_push {A B : MA} {t n : Int} (f : mfr A B) : mfr A (pushA B t n) := mfr_set (mfr_set f (mch_a (by decide) (by decide))) (mch_a (by decide) (by decide))
theorem mfr_step {A B : MA} {t : Int} (f : mfr A B) : mfr A (stepA B t) := mfr_set f (mch_a (by decide) (by decide))
theorem mfr_lie {A B : MA} {t n : Int} (f : mfr A B) : mfr A (lieA B t n) := mfr_step (mfr_push f)
theorem mfr_mk {A B : MA} {s n : Int} (f : mfr A B) : mfr A (mkA B s n) := fun a j h => by
  unfold mch at h
  rw [mk_ne (by omega) (by omega) (by omega)]
  exact f a j h
theorem mfr_jmp {L : PG} {A B : MA} {t k b : Int} (f : mfr A B) : mfr A (jmpA L B t k b) := by
  unfold jmpA
  exact mfr_ite (fun _ => mfr_step f) (fun _ => mfr_set f (mch_a (by decide) (by decide)))
theorem mfr_hurlN {L : PG} {t v s : Int} {A : MA} : ∀ (n : Nat) {B : MA}, mfr A B → mfr A (hurlN L t v s n B)
  | 0, B, f => by unfold hurlN; exact mfr_set (mfr_set f (mch_a (by decide) (by decide))) (mch_s (by decide) (by decide))
  | n + 1, B, f => by
    unfold hurlN
    simp only
    exact mfr_ite (fun _ => mfr_push (mfr_set (mfr_set (mfr_set f (mch_a (by decide) (by decide))) (mch_a (by decide) (by decide))) (mch_a (by decide) (by decide)))) (fun _ => mfr_hurlN n (mfr_set (mfr_set f (mch_a (by decide) (by decide))) (mch_a (by decide) (by decide))))
theorem mfr_hurl {L : PG} {A B : MA} {t v : Int} (f : mfr A B) : mfr A (hurlA L B t v) := mfr_hurlN _ f
theorem mfr_opn {L : PG} {A B : MA} {t m : Int} (f : mfr A B) : mfr A (opnA L B t m) := fun a j h => by
  have h' := h
  unfold mch at h'
  rw [opn_ne (by omega) (by omega) (by omega)]
  exact f a j h
theorem mfr_cal {L : PG} {A B : MA} {t m n : Int} (f : mfr A B) : mfr A (calA L B t m n) := fun a j h => by
  have h' := h
  unfold mch at h'
  unfold calA
  rw [if_neg (by omega)]
  exact mfr_opn (mfr_drop f) a j h
theorem mfr_bgnA {L : PG} {A B : MA} {u m v : Int} (f : mfr A B) : mfr A (bgnA L B u m v) := mfr_set (mfr_opn (mfr_set (mfr_set (mfr_set f (mch_s (by decide) (by decide))) (mch_a (by decide) (by decide))) (mch_a (by decide) (by decide)))) (mch_a (by decide) (by decide))
theorem mfr_ret {L : PG} {A B : MA} {t k : Int} (f : mfr A B) : mfr A (retA L B t k) := by
  unfold retA
  exact mfr_ite (fun _ => mfr_set (mfr_set (mfr_set f (mch_a (by decide) (by decide))) (mch_a (by decide) (by decide))) (mch_s (by decide) (by decide))) (fun _ => mfr_step (mfr_ite (fun _ => mfr_push (mfr_set f (mch_a (by decide) (by decide)))) (fun _ => mfr_set f (mch_a (by decide) (by decide)))))
theorem mfr_in {A B : MA} (f : mfr A B) : mfr A (inA B) := by
  unfold inA
  exact mfr_ite (fun _ => f) (fun _ => mfr_set f (mch_s (by decide) (by decide)))
theorem mfr_ou {A B : MA} {x v : Int} (f : mfr A B) : mfr A (ouA B x v) := by
  unfold ouA
  exact mfr_ite (fun _ => mfr_set (mfr_set (mfr_set f (mch_a (by decide) (by decide))) (mch_a (by decide) (by decide))) (mch_s (by decide) (by decide))) (fun _ => mfr_set f (mch_s (by decide) (by decide)))
theorem mfr_do {L : PG} {A : MA} {t k : Int} : mfr A (doA L A t k) := by
  have f := mfr_rfl A
  unfold doA elA fdA ecA bgA
  repeat' (first | exact f | apply mfr_lie | apply mfr_step | apply mfr_drop | apply mfr_push | apply mfr_hurl | apply mfr_jmp | apply mfr_mk | apply mfr_in | apply mfr_ou | apply mfr_ret | apply mfr_cal | apply mfr_bgnA | (refine mfr_set ?_ (mch_s (by decide) (by decide))) | (refine mfr_set ?_ (mch_a (by decide) (by decide))) | refine mfr_ite (fun _ => ?_) (fun _ => ?_))
theorem mfr_W {h : MH} {A : MA} (f : mfr (hv h) A) : frW h (lft h A) := ⟨rfl, fun a j p q => by rw [lft_hv]; exact f a j (by unfold mch; omega)⟩
/-- threads stand in order, whatever facts tell -/
def STR (L : PG) (A : MA) : Prop := (1 ≤ bgn A ∧ bgn A ≤ 8) ∧ ∀ t, 0 ≤ t → t < bgn A → (A 508 t = 0 ∨ A 508 t = 1) ∧ (A 508 t = 0 → (1 ≤ A 509 t ∧ A 509 t ≤ 30) ∧ inP L (A 511 (fA A t)))
theorem INV.str {L : PG} {T : TB} {A : MA} (I : INV L T A) : STR L A := ⟨I.1, fun t t0 t1 => ⟨(I.2.2.2.2 t t0 t1).1, fun lv => by
  have q := (I.2.2.2.2 t t0 t1).2 lv
  exact ⟨⟨q.1, q.2.1⟩, q.2.2.2.1.1⟩⟩⟩
theorem t_act {l : Launch} {G : JG} (hG : gO G = true) {h : MH} {L : PG} {R : Int → Prop} (tw : TW L R h) (wt : WFt L) (I : INVL L R (hv h)) {t : Int} (t0 : 0 ≤ t) (t1 : t < bgn (hv h)) (lv : hv h 508 t = 0) (nw : ¬ wtg L (hv h) t) (f0 : hv h 396 103 = 0) (io : ioo (hv h)) (s5 : 0 ≤ hv h 396 95 ∧ hv h 396 95 < 100000) {Q : Int → MH → Prop} {E : Nat → Int → MH → Prop}
    (hQ : ∀ z h', frV h h' → TW L R h' → eqm (hv h') (acA L (hv h) t) → INVL L R (hv h') → STR L (hv h') → (z = 0 ∨ z = 1) → (z = 1 ↔ hv h' 396 103 = 0) → hv h' 396 0 = hv h 396 0 → Q z h') : S_X9_act l G [(2009, 396), (0, t)] h Q E := by
  refine s_X9_act rfl fun K ki => r_X9_act_0 ki hG ?_
  refine t_kff hG tw fun h2 f2 tw2 kn2 e00 => ?_
  have e2 := frQ_m f2
  have ct := kn2.ct tw2.w wt tw2.2.2.1
  have lst := kn2.l
  have I2 : INV L (tT h2 L) (hv h2) := INV_m tw2.w (eqm_sym e2) (I _ lst)
  have b2 : bgn (hv h2) = bgn (hv h) := bgn_c e2
  have fe := fA_c e2 t
  have g2 : wkg L (tT h2 L) (hv h2) t (hv h2 511 (fA (hv h2) t)) := ⟨ct, I2, t0, by rw [b2]; exact t1, by rw [e2.a (by decide) (by decide)]; exact lv, rfl⟩
  refine t_isAsTold hG tw2.tf rfl g2 ?_
  rw [if_neg (by decide)]
  refine ⟨Or.inl rfl, ?_⟩
  intro h5 e5
  have e5' : h5 = lft h2 (mset (hv h2) 396 102 0) := e5
  have w5 : frW h2 h5 := by rw [e5']; exact frW_mset (Or.inr ⟨rfl, by decide, by decide⟩)
  have g5 : wkg L (tT h2 L) (hv h5) t (hv h2 511 (fA (hv h2) t)) := by
    rw [e5', lft_hv]
    exact wkg_eq g2 (INV_eq tw2.w I2 (fun a j y => m_ne (by omega))) (fun a j y => m_ne (by omega))
  have q5 : mwk h5 L (tT h2 L) t (hv h2 511 (fA (hv h2) t)) := by
    refine ⟨frW_TF w5 tw2.tf, frW_T w5, g5, by rw [e5', lft_hv, m_eq], ?_⟩
    rw [e5', lft_hv, m_ne (by omega), e2.s (by decide) (by decide)]; exact f0
  have io5 : ioo (hv h5) := by
    rw [e5', lft_hv]
    unfold ioo
    rw [m_ne (by omega), m_ne (by omega), m_ne (by omega), e2.s (by decide) (by decide), e2.s (by decide) (by decide), e2.s (by decide) (by decide)]
    refine ⟨io.1, fun i i0 i1 => ?_, io.2.2⟩
    rw [m_ne (by omega), e2.a (by decide) (by decide)]
    exact io.2.1 i i0 i1
  have nw5 : nwt L (hv h5) t (hv h2 511 (fA (hv h2) t)) := by
    intro o
    rw [e5', lft_hv, m_ne (by omega), e2.a (a := 514) (by decide) (by decide)]
    apply Classical.byContradiction
    intro y
    apply nw
    unfold wtg
    rw [← e2.a (a := 511) (by decide) (by decide), ← fe]
    exact ⟨o, fun z => y (Or.inl z), fun z => y (Or.inr z)⟩
  have cA : eqm (mset (hv h2) 396 102 0) (mset (hv h) 396 102 0) := mset_c e2
  have kk : hv h2 511 (fA (hv h2) t) = hv h 511 (fA (hv h) t) := by rw [fe, e2.a (by decide) (by decide)]
  have cD : eqm (doA L (hv h5) t (hv h2 511 (fA (hv h2) t))) (doA L (mset (hv h) 396 102 0) t (hv h 511 (fA (hv h) t))) := by
    rw [kk, e5', lft_hv]
    exact doA_c cA
  refine t_doIt hG q5 io5 nw5 fun inv => ?_
  generalize hD : doA L (hv h5) t (hv h2 511 (fA (hv h2) t)) = D at *
  have fD : mfr (hv h5) D := by rw [← hD]; exact mfr_do
  have d102 : D 396 102 = 0 := by rw [← hD, doA_s (by unfold lvs; omega) (by omega) (by omega), e5', lft_hv, m_eq]
  have d95 : D 396 95 = hv h 396 95 := by rw [← hD, doA_s (by unfold lvs; omega) (by omega) (by omega), e5', lft_hv, m_ne (by omega), e2.s (by decide) (by decide)]
  have fW : frW h5 (lft h5 D) := mfr_W fD
  have w2D : frW h2 (lft h5 D) := frW_tr w5 fW
  have fin : ∀ A' : MA, mfr (hv h2) A' → INV L (tT h2 L) A' → eqm A' (acA L (hv h) t) → ∀ z, (z = 0 ∨ z = 1) → (z = 1 ↔ A' 396 103 = 0) → Q z (lft h2 A') := by
    intro A' fa ia ea z z01 hz
    have fw : frW h2 (lft h2 A') := mfr_W fa
    refine hQ z _ (frV_tr (frV_Q f2) (frV_W fw)) (frW_TW fw tw2) ea (fun T lT => ?_) ia.str z01 hz ?_
    · rw [LST_one lT lst]; exact ia
    · rw [lft_hv, fa 396 0 (by unfold mch; omega)]; exact e00
  have hl : lft h5 D = lft h2 D := by rw [e5']; rfl
  have m25 : mfr (hv h2) D := by
    intro a j y
    rw [fD a j y, e5', lft_hv, m_ne]
    rintro ⟨rfl, rfl⟩
    exact y (mch_s (by decide) (by decide))
  have ac : acA L (hv h) t = if doA L (mset (hv h) 396 102 0) t (hv h 511 (fA (hv h) t)) 396 103 = 0 then mset (doA L (mset (hv h) 396 102 0) t (hv h 511 (fA (hv h) t))) 396 95 (doA L (mset (hv h) 396 102 0) t (hv h 511 (fA (hv h) t)) 396 95 + 1) else doA L (mset (hv h) 396 102 0) t (hv h 511 (fA (hv h) t)) := rfl
  rw [← cD.s (j := 103) (by decide) (by decide), ← cD.s (j := 95) (by decide) (by decide)] at ac
  rw [hl]
  refine ⟨fun c => ?_, fun c => ⟨Or.inl rfl, ?_⟩⟩
  · have c' : D 396 103 = 0 := c
    rw [if_pos c'] at ac
    intro h8 e8
    have e95 : hv (lft h2 D) 396 95 = D 396 95 := rfl
    rw [e95, d95, w32_i (by omega) (by omega)] at e8
    have e8' : h8 = lft h2 (mset D 396 95 (D 396 95 + 1)) := by rw [e8, d95]; rfl
    have b8 : hv h8 396 102 = 0 := by rw [e8', lft_hv, m_ne (by omega)]; exact d102
    intro h9 e9
    rw [if_pos b8] at e9
    have e9' : h9 = lft h2 (mset D 396 95 (D 396 95 + 1)) := by
      rw [e9, e8']
      have : hset (lft h2 (mset D 396 95 (D 396 95 + 1))) 396 101 (hv (lft h2 (mset D 396 95 (D 396 95 + 1))) 396 101) = lft h2 (mset (mset D 396 95 (D 396 95 + 1)) 396 101 (mset D 396 95 (D 396 95 + 1) 396 101)) := rfl
      rw [this, m_id]
    rw [e9']
    refine ⟨Or.inr rfl, fin _ (mfr_set m25 (mch_s (by decide) (by decide))) (INV_eq tw2.w inv (fun a j y => m_ne (by omega))) ?_ 1 (Or.inr rfl) ⟨fun _ => ?_, fun _ => rfl⟩⟩
    · rw [ac]; exact mset_c cD
    · rw [m_ne (by omega)]; exact c'
  · have c' : ¬ D 396 103 = 0 := c
    rw [if_neg c'] at ac
    refine fin D m25 inv ?_ 0 (Or.inl rfl) ⟨fun y => absurd y (by decide), fun y => absurd y c'⟩
    rw [ac]; exact cD
