/-! Part 38x: the twin finds marks -/
set_option maxRecDepth 100000
/-- the marks as they stand are those of a set -/
def SM (h : MH) (S : Int → Prop) : Prop := 0 ≤ hv h 396 16 ∧ (∀ i j, 0 ≤ i → i < j → j < hv h 396 16 → hv h 459 i < hv h 459 j) ∧ (∀ i, 0 ≤ i → i < hv h 396 16 → S (hv h 459 i)) ∧ (∀ v, S v → ∃ i, 0 ≤ i ∧ i < hv h 396 16 ∧ hv h 459 i = v)
def frM (h h' : MH) : Prop := h'.2 = h.2 ∧ ∀ a j, a ≠ 459 → ¬ (a = 396 ∧ j = 16) → hv h' a j = hv h a j
theorem frM_rfl (h : MH) : frM h h := ⟨rfl, fun _ _ _ _ => rfl⟩
theorem frM_tr {h1 h2 h3 : MH} (a : frM h1 h2) (b : frM h2 h3) : frM h1 h3 := ⟨b.1.trans a.1, fun x j p q => (b.2 x j p q).trans (a.2 x j p q)⟩
theorem frM_TF {h h' : MH} {L : PG} (f : frM h h') (t : TF h L) : TF h' L := t.of (f.2 _ _ (by omega) (by omega)) (fun a j h1 h2 => f.2 a j (by omega) (by omega))
theorem SM_eq {h : MH} {S S' : Int → Prop} (s : SM h S) (e : ∀ v, S v ↔ S' v) : SM h S' := ⟨s.1, s.2.1, fun i a b => (e _).mp (s.2.2.1 i a b), fun v hv => s.2.2.2 v ((e v).mpr hv)⟩
theorem t_addMark {l : Launch} {G : JG} (hG : gO G = true) {h : MH} {S : Int → Prop} (sm : SM h S) (cap : hv h 396 16 < 9000) {v : Int} (hv' : c32 v) {Q : Int → MH → Prop} {E : Nat → Int → MH → Prop}
    (hQ : ∀ h', frM h h' → SM h' (fun u => S u ∨ u = v) → hv h' 396 16 ≤ hv h 396 16 + 1 → Q 0 h') : S_X9_addMark l G [(2009, 396), (1, v)] h Q E := by
  have v1 := hv'.1
  have v2 := hv'.2
  obtain ⟨m0, srt, mS, Sm⟩ := sm
  refine s_X9_addMark rfl fun K ki => r_X9_addMark_0 ki hG ?_
  intro x3 e3 x4 e4
  rw [show max (-2147483648) (min 2147483647 v) = v by omega, w32_i (by omega) (by omega)] at e3
  subst e3
  have key : ∀ N : Nat, ∀ n : Int, n.toNat ≤ N → 0 ≤ n → n ≤ hv h 396 16 → (∀ i, n ≤ i → i < hv h 396 16 → x3 ≤ hv h 459 i) → JW K 21 [(2009, 396), (1, x3), (5000, 0), (0, x3), (0, n), (5000, 0)] [] h := by
    have stop : ∀ n : Int, 0 ≤ n → n ≤ hv h 396 16 → (∀ i, n ≤ i → i < hv h 396 16 → x3 ≤ hv h 459 i) → ¬ (0 < n ∧ x3 ≤ hv h 459 (w32 (n - 1))) → JW K 21 [(2009, 396), (1, x3), (5000, 0), (0, x3), (0, n), (5000, 0)] [] h := by
      intro n n0 n1 up z
      have low : ∀ i, 0 ≤ i → i < n → hv h 459 i < x3 := by
        intro i i0 i1
        rw [w32_i (by omega) (by omega)] at z
        by_cases y : i = n - 1
        · rw [y]; omega
        · have := srt i (n - 1) i0 (by omega) (by omega); omega
      refine r_X9_addMark_21 ki hG ⟨fun y => by rw [w32_i (by omega) (by omega)]; omega, fun y => absurd y z, fun _ => ⟨fun y => ⟨n0, by omega⟩, fun y => ?_, fun y => ?_⟩⟩
      · refine hQ h (frM_rfl h) ⟨m0, srt, fun i i0 i1 => Or.inl (mS i i0 i1), fun u hu => ?_⟩ (by omega)
        rcases hu with hu | hu
        · exact Sm u hu
        · exact ⟨n, n0, y.1, by rw [hu]; exact y.2⟩
      · intro x5 e5
        have up' : ∀ i, n ≤ i → i < hv h 396 16 → x3 < hv h 459 i := by
          intro i i0 i1
          have a1 := up i i0 i1
          by_cases r : i = n
          · subst r
            have : hv h 459 i ≠ x3 := fun r2 => y ⟨i1, r2⟩
            omega
          · have := srt n i n0 (by omega) i1
            have := up n (by omega) (by omega)
            omega
        -- what lies behind is moved
        have mv : ∀ M : Nat, ∀ p : Int, ∀ g : MH, (p - n).toNat ≤ M → n ≤ p → p ≤ hv h 396 16 → frM h g → hv g 396 16 = hv h 396 16 → (∀ j, hv g 459 j = if p < j ∧ j ≤ hv h 396 16 then hv h 459 (j - 1) else hv h 459 j) →
            JW K 72 [(2009, 396), (1, x3), (5000, 0), (0, x3), (0, n), (0, p)] [] g := by
          have last : ∀ g : MH, frM h g → hv g 396 16 = hv h 396 16 → (∀ j, hv g 459 j = if n < j ∧ j ≤ hv h 396 16 then hv h 459 (j - 1) else hv h 459 j) → JW K 72 [(2009, 396), (1, x3), (5000, 0), (0, x3), (0, n), (0, n)] [] g := by
            intro g fg g16 g59
            refine r_X9_addMark_72 ki hG ⟨fun _ => ⟨n0, by omega, ?_⟩, fun r => by omega⟩
            intro g1 f1 g2 f2
            have d16 : hv g2 396 16 = hv h 396 16 + 1 := by
              rw [f2, eq_a, f1, ne_a (by decide), g16, w32_i (by omega) (by omega)]
            have d59 : ∀ j, hv g2 459 j = if j = n then x3 else if n < j ∧ j ≤ hv h 396 16 then hv h 459 (j - 1) else hv h 459 j := by
              intro j
              rw [f2, ne_a (by decide), f1, hv_set, g59]
              by_cases r : j = n
              · simp [r]
              · simp [r]
            refine hQ g2 (frM_tr fg ⟨by rw [f2, f1]; rfl, fun a j p1 p2 => by rw [f2, hv_set, if_neg p2, f1, ne_a p1]⟩) ⟨by omega, fun i j i0 ij j1 => ?_, fun i i0 i1 => ?_, fun u hu => ?_⟩ (by omega)
            · rw [d59, d59]
              rw [d16] at j1
              by_cases r1 : i = n
              · rw [if_pos r1, if_neg (by omega), if_pos (by omega)]; exact up' _ (by omega) (by omega)
              · rw [if_neg r1]
                by_cases r2 : j = n
                · rw [if_pos r2, if_neg (by omega)]; exact low i i0 (by omega)
                · rw [if_neg r2]
                  by_cases r3 : n < i
                  · rw [if_pos (by omega), if_pos (by omega)]; exact srt _ _ (by omega) (by omega) (by omega)
                  · rw [if_neg (by omega)]
                    by_cases r4 : n < j
                    · rw [if_pos (by omega)]
                      have a1 := low i i0 (by omega)
                      have a2 := up' (j - 1) (by omega) (by omega)
                      omega
                    · rw [if_neg (by omega)]; exact srt _ _ i0 ij (by omega)
            · rw [d59]
              rw [d16] at i1
              by_cases r1 : i = n
              · rw [if_pos r1]; exact Or.inr rfl
              · rw [if_neg r1]
                by_cases r2 : n < i
                · rw [if_pos (by omega)]; exact Or.inl (mS _ (by omega) (by omega))
                · rw [if_neg (by omega)]; exact Or.inl (mS _ i0 (by omega))
            · rcases hu with hu | hu
              · obtain ⟨i, i0, i1, ei⟩ := Sm u hu
                by_cases r : i < n
                · exact ⟨i, i0, by omega, by rw [d59, if_neg (by omega), if_neg (by omega)]; exact ei⟩
                · exact ⟨i + 1, by omega, by omega, by rw [d59, if_neg (by omega), if_pos (by omega), show i + 1 - 1 = i by omega]; exact ei⟩
              · exact ⟨n, n0, by omega, by rw [d59, if_pos rfl, hu]⟩
          intro M
          induction M with
          | zero =>
            intro p g b1' b2 b3 fg g16 g59
            have : p = n := by omega
            subst this
            exact last g fg g16 g59
          | succ M ih =>
            intro p g b1' b2 b3 fg g16 g59
            by_cases pn : p = n
            · subst pn; exact last g fg g16 g59
            · refine r_X9_addMark_72 ki hG ⟨fun r => by omega, fun _ => ?_⟩
              rw [w32_i (z := p - 1) (by omega) (by omega)]
              refine ⟨by omega, by omega, by omega, by omega, ?_⟩
              intro g3 f3 p' ep
              rw [w32_i (by omega) (by omega)] at ep
              subst ep
              refine ih _ _ (by omega) (by omega) (by omega) (frM_tr fg ⟨by rw [f3]; rfl, fun a j p1 _ => by rw [f3, ne_a p1]⟩) (by rw [f3, ne_a (by decide)]; exact g16) (fun j => ?_)
              rw [f3, hv_set, g59 j, g59 (p - 1)]
              by_cases r : j = p
              · rw [if_pos ⟨rfl, r⟩, if_neg (by omega), if_pos (by omega), r]
              · rw [if_neg (fun r2 => r r2.2)]
                by_cases r2 : p < j ∧ j ≤ hv h 396 16
                · rw [if_pos r2, if_pos (by omega)]
                · rw [if_neg r2, if_neg (by omega)]
        subst e5
        exact mv _ _ h (Nat.le_refl _) n1 (by omega) (frM_rfl h) rfl (fun j => by rw [if_neg (by omega)])
    intro N
    induction N with
    | zero =>
      intro n b1' b2 b3 up
      exact stop n b2 b3 up (by omega)
    | succ N ih =>
      intro n b1' b2 b3 up
      by_cases z : 0 < n ∧ x3 ≤ hv h 459 (w32 (n - 1))
      · refine r_X9_addMark_21 ki hG ⟨fun y => by rw [w32_i (by omega) (by omega)]; omega, fun _ => ?_, fun y => absurd z y⟩
        intro n' en
        rw [w32_i (by omega) (by omega)] at en
        subst en
        rw [w32_i (by omega) (by omega)] at z
        refine ih _ (by omega) (by omega) (by omega) (fun i i0 i1 => ?_)
        by_cases r : i = n - 1
        · rw [r]; exact z.2
        · exact up i (by omega) i1
      · exact stop n b2 b3 up z
  subst e4
  exact key _ _ (Nat.le_refl _) m0 (by omega) (fun i i0 i1 => by omega)
/-- marks of the first n places -/
def mks (L : PG) (n v : Int) : Prop := v = -2147483648 ∨ v = 2147483647 ∨ v = -1 ∨ v = 0 ∨ v = 1 ∨ v = 100 ∨
  ∃ k, 0 ≤ k ∧ k < n ∧ (((pOp L k = 0 ∨ pOp L k = 17) ∧ (v = pY L k - 1 ∨ v = pY L k ∨ v = pY L k + 1)) ∨ (pOp L k = 13 ∧ (v = pY L k ∨ v = pZ L k)))
theorem mks_s {L : PG} {n v : Int} (h0 : 0 ≤ n) : mks L (n + 1) v ↔ (mks L n v ∨ (((pOp L n = 0 ∨ pOp L n = 17) ∧ (v = pY L n - 1 ∨ v = pY L n ∨ v = pY L n + 1)) ∨ (pOp L n = 13 ∧ (v = pY L n ∨ v = pZ L n)))) := by
  unfold mks
  constructor
  · rintro (h | h | h | h | h | h | ⟨k, k0, k1, h⟩)
    · exact Or.inl (Or.inl h)
    · exact Or.inl (Or.inr (Or.inl h))
    · exact Or.inl (Or.inr (Or.inr (Or.inl h)))
    · exact Or.inl (Or.inr (Or.inr (Or.inr (Or.inl h))))
    · exact Or.inl (Or.inr (Or.inr (Or.inr (Or.inr (Or.inl h)))))
    · exact Or.inl (Or.inr (Or.inr (Or.inr (Or.inr (Or.inr (Or.inl h))))))
    · by_cases e : k = n
      · subst e; exact Or.inr h
      · exact Or.inl (Or.inr (Or.inr (Or.inr (Or.inr (Or.inr (Or.inr ⟨k, k0, by omega, h⟩))))))
  · rintro ((h | h | h | h | h | h | ⟨k, k0, k1, h⟩) | h)
    · exact Or.inl h
    · exact Or.inr (Or.inl h)
    · exact Or.inr (Or.inr (Or.inl h))
    · exact Or.inr (Or.inr (Or.inr (Or.inl h)))
    · exact Or.inr (Or.inr (Or.inr (Or.inr (Or.inl h))))
    · exact Or.inr (Or.inr (Or.inr (Or.inr (Or.inr (Or.inl h)))))
    · exact Or.inr (Or.inr (Or.inr (Or.inr (Or.inr (Or.inr ⟨k, k0, by omega, h⟩)))))
    · exact Or.inr (Or.inr (Or.inr (Or.inr (Or.inr (Or.inr ⟨n, h0, by omega, h⟩)))))
theorem t_findMarks {l : Launch} {G : JG} (hG : gO G = true) {h : MH} {L : PG} (tf : TF h L) (w : WF L) {Q : Int → MH → Prop} {E : Nat → Int → MH → Prop} (hQ : ∀ h', frM h h' → MK h' L → Q 0 h') : S_X9_findMarks l G [(2009, 396)] h Q E := by
  have nn := w.n
  unfold WFn at nn
  refine s_X9_findMarks rfl fun K ki => r_X9_findMarks_0 ki hG ?_
  intro h1 e1
  have f1 : frM h h1 := ⟨by rw [e1]; rfl, fun a j _ p2 => by rw [e1, hv_set, if_neg p2]⟩
  have c1 : hv h1 396 16 = 0 := by rw [e1, eq_a]
  have s1 : SM h1 (fun _ => False) := ⟨by omega, fun i j i0 ij j1 => by omega, fun i i0 i1 => by omega, fun v hv => hv.elim⟩
  have cc : ∀ z : Int, -2147483648 ≤ z → z ≤ 2147483647 → c32 z := fun z a b => ⟨a, b⟩
  refine t_addMark hG s1 (by omega) (cc _ (by omega) (by omega)) fun h3 f3 s3 b3 => ?_
  refine t_addMark hG s3 (by omega) (cc _ (by omega) (by omega)) fun h5 f5 s5 b5 => ?_
  refine t_addMark hG s5 (by omega) (cc _ (by omega) (by omega)) fun h7 f7 s7 b7 => ?_
  refine t_addMark hG s7 (by omega) (cc _ (by omega) (by omega)) fun h9 f9 s9 b9 => ?_
  refine t_addMark hG s9 (by omega) (cc _ (by omega) (by omega)) fun h11 f11 s11 b11 => ?_
  refine t_addMark hG s11 (by omega) (cc _ (by omega) (by omega)) fun h13 f13 s13 b13 => ?_
  intro k0 ek0
  have key : ∀ N : Nat, ∀ n : Int, ∀ g : MH, (pNp L - n).toNat ≤ N → 0 ≤ n → n ≤ pNp L → frM h g → SM g (mks L n) → hv g 396 16 ≤ 6 + 4 * n → JW K 45 [(2009, 396), (0, n), (5000, 0)] [] g := by
    intro N
    induction N with
    | zero =>
      intro n g b1' b2 b3 fg sg bg
      have tg := frM_TF fg tf
      refine r_X9_findMarks_45 ki hG ⟨tg.ne, fun _ => ?_, fun z => by rw [tg.nnp] at z; omega⟩
      have en : n = pNp L := by omega
      subst en
      obtain ⟨i, i0, i1, -⟩ := sg.2.2.2 0 (Or.inr (Or.inr (Or.inr (Or.inl rfl))))
      exact hQ g fg ⟨by omega, by omega, sg.2.1, sg.2.2.1, sg.2.2.2⟩
    | succ N ih =>
      intro n g b1' b2 b3 fg sg bg
      have tg := frM_TF fg tf
      refine r_X9_findMarks_45 ki hG ⟨tg.ne, fun z => ?_, fun z => ?_⟩
      · rw [tg.nnp] at z
        have en : n = pNp L := by omega
        subst en
        obtain ⟨i, i0, i1, -⟩ := sg.2.2.2 0 (Or.inr (Or.inr (Or.inr (Or.inl rfl))))
        exact hQ g fg ⟨by omega, by omega, sg.2.1, sg.2.2.1, sg.2.2.2⟩
      · rw [tg.nnp] at z
        obtain ⟨-, -, -, yr, -⟩ := w.k b2 z
        refine ⟨tg.ne, b2, by omega, ?_⟩
        intro op eop
        rw [tg.op] at eop
        subst eop
        have nxt : ∀ g' : MH, frM h g' → SM g' (mks L (n + 1)) → hv g' 396 16 ≤ 6 + 4 * (n + 1) → ∀ x1 : Int, x1 = w32 (n + 1) → JW K 45 [(2009, 396), (0, x1), (5000, 0)] [] g' := by
          intro g' fg' sg' bg' x1 ex
          rw [w32_i (by omega) (by omega)] at ex
          subst ex
          exact ih _ _ (by omega) (by omega) (by omega) fg' sg' bg'
        refine ⟨fun y => ⟨tg.ne, b2, by omega, ?_⟩, fun y => ⟨fun y2 => ⟨tg.ne, b2, by omega, ?_⟩, fun y2 => ⟨fun y3 => nxt g fg (SM_eq sg (fun v => ?_)) (by omega), fun y3 => by omega⟩⟩⟩
        · rw [tg.y, w64_i (by omega) (by omega)]
          refine t_addMark hG sg (by omega) (cc _ (by omega) (by omega)) fun g3 k3 r3 q3 => ?_
          have tg3 := frM_TF (frM_tr fg k3) tf
          refine ⟨tg3.ne, b2, by omega, ?_⟩
          rw [tg3.y, w64_i (by omega) (by omega)]
          refine t_addMark hG r3 (by omega) (cc _ (by omega) (by omega)) fun g5 k5 r5 q5 => ?_
          have tg5 := frM_TF (frM_tr (frM_tr fg k3) k5) tf
          refine ⟨fun _ => ⟨tg5.ne, b2, by omega, ?_⟩, fun y2 => by omega⟩
          rw [tg5.y]
          refine t_addMark hG r5 (by omega) (cc _ (by omega) (by omega)) fun g7 k7 r7 q7 => ?_
          refine ⟨fun _ => nxt g7 (frM_tr (frM_tr (frM_tr fg k3) k5) k7) (SM_eq r7 (fun v => ?_)) (by omega), fun y3 => by omega⟩
          rw [mks_s b2]
          constructor
          · rintro (((a | a) | a) | a)
            · exact Or.inl a
            · exact Or.inr (Or.inl ⟨y, Or.inl a⟩)
            · exact Or.inr (Or.inl ⟨y, Or.inr (Or.inr a)⟩)
            · exact Or.inr (Or.inl ⟨y, Or.inr (Or.inl a)⟩)
          · rintro (a | ⟨-, a | a | a⟩ | a)
            · exact Or.inl (Or.inl (Or.inl a))
            · exact Or.inl (Or.inl (Or.inr a))
            · exact Or.inr a
            · exact Or.inl (Or.inr a)
            · omega
        · have e13 : pOp L n = 13 := by omega
          rw [tg.y]
          refine t_addMark hG sg (by omega) (cc _ (by omega) (by omega)) fun g3 k3 r3 q3 => ?_
          have tg3 := frM_TF (frM_tr fg k3) tf
          refine ⟨fun y3 => absurd e13 y3, fun _ => ⟨tg3.ne, b2, by omega, ?_⟩⟩
          rw [tg3.z]
          refine t_addMark hG r3 (by omega) (cc _ (by omega) (by omega)) fun g5 k5 r5 q5 => ?_
          refine nxt g5 (frM_tr (frM_tr fg k3) k5) (SM_eq r5 (fun v => ?_)) (by omega)
          rw [mks_s b2]
          constructor
          · rintro ((a | a) | a)
            · exact Or.inl a
            · exact Or.inr (Or.inr ⟨e13, Or.inl a⟩)
            · exact Or.inr (Or.inr ⟨e13, Or.inr a⟩)
          · rintro (a | a | ⟨-, a | a⟩)
            · exact Or.inl (Or.inl a)
            · omega
            · exact Or.inl (Or.inr a)
            · exact Or.inr a
        · rw [mks_s b2]
          constructor
          · intro a; exact Or.inl a
          · rintro (a | a | a)
            · exact a
            · exact absurd a.1 y
            · have := a.1; omega
  subst ek0
  refine key _ 0 h13 (Nat.le_refl _) (by omega) (by omega) (frM_tr (frM_tr (frM_tr (frM_tr (frM_tr (frM_tr f1 f3) f5) f7) f9) f11) f13) (SM_eq s13 (fun v => ?_)) (by omega)
  unfold mks
  constructor
  · rintro ((((((a | a) | a) | a) | a) | a) | a)
    · exact a.elim
    · exact Or.inl a
    · exact Or.inr (Or.inr (Or.inl a))
    · exact Or.inr (Or.inr (Or.inr (Or.inl a)))
    · exact Or.inr (Or.inr (Or.inr (Or.inr (Or.inl a))))
    · exact Or.inr (Or.inr (Or.inr (Or.inr (Or.inr (Or.inl a)))))
    · exact Or.inr (Or.inl a)
  · rintro (a | a | a | a | a | a | ⟨k, k0, k1, -⟩)
    · exact Or.inl (Or.inl (Or.inl (Or.inl (Or.inl (Or.inr a)))))
    · exact Or.inr a
    · exact Or.inl (Or.inl (Or.inl (Or.inl (Or.inr a))))
    · exact Or.inl (Or.inl (Or.inl (Or.inr a)))
    · exact Or.inl (Or.inl (Or.inr a))
    · exact Or.inl (Or.inr a)
    · omega
