/-! Part 38zh: rings of locks, races -/
set_option maxRecDepth 100000
/-- a lock may be held where another is taken -/
def bfr (L : PG) (T : TB) (a x : Int) : Prop := x ≠ a ∧ ∃ k, inP L k ∧ rch T k ∧ pOp L k = 34 ∧ pX L k = a ∧ bi (alb (T 6 k 0)) x = true
theorem t_before {l : Launch} {G : JG} (hG : gO G = true) {h : MH} {L : PG} (tf : TF h L) (w : WF L) (b460 : ∀ k, 0 ≤ k → k < 1500 → hv h 460 k = 0 ∨ hv h 460 k = 1) {a : Int} (a0 : 0 ≤ a) (a1 : a < 8) {Q : Int → MH → Prop} {E : Nat → Int → MH → Prop}
    (hQ : ∀ z, c32 z → (∀ x, 0 ≤ x → x < 32 → (bi z x = true ↔ bfr L (tT h L) a x)) → Q z h) : S_X9_before l G [(2009, 396), (0, a)] h Q E := by
  have nn := w.n
  unfold WFn at nn
  refine s_X9_before rfl fun K ki => r_X9_before_0 ki hG ?_
  intro x2 e2 x3 e3
  have key : ∀ N : Nat, ∀ n v : Int, (pNp L - n).toNat ≤ N → 0 ≤ n → n ≤ pNp L → (∀ x, 0 ≤ x → x < 32 → (bi v x = true ↔ ∃ k, 0 ≤ k ∧ k < n ∧ rch (tT h L) k ∧ pOp L k = 34 ∧ pX L k = a ∧ bi (alb (tT h L 6 k 0)) x = true)) → JW K 4 [(2009, 396), (0, a), (0, v), (0, n)] [] h := by
    intro N
    induction N with
    | zero =>
      intro n v b1' b2 b3 iv
      have en : n = pNp L := by omega
      subst en
      refine r_X9_before_4 ki hG ⟨tf.ne, fun _ => hQ _ (c32_i_and _ _) (fun x x0 x1 => ?_), fun z => by rw [tf.nnp] at z; omega⟩
      rw [bi_and, bi_not x1, bi_shl a0 (by omega) x0, Bool.and_eq_true, iv x x0 x1]
      unfold bfr inP
      constructor
      · rintro ⟨⟨k, k0, k1, q⟩, y⟩
        exact ⟨fun e => by rw [e] at y; simp at y, k, ⟨k0, k1⟩, q⟩
      · rintro ⟨y, k, ⟨k0, k1⟩, q⟩
        exact ⟨⟨k, k0, k1, q⟩, by simp [y]⟩
    | succ N ih =>
      intro n v b1' b2 b3 iv
      by_cases en : n = pNp L
      · exact ih n v (by omega) b2 b3 iv
      have hn : inP L n := ⟨b2, by omega⟩
      have z460 := b460 n b2 (by omega)
      refine r_X9_before_4 ki hG ⟨tf.ne, fun z => by rw [tf.nnp] at z; omega, fun z => ⟨b2, by omega, fun _ => ⟨tf.ne, b2, by omega, fun _ => ⟨tf.ne, b2, by omega, fun _ => ⟨b2, by omega⟩⟩⟩, ?_⟩⟩
      rw [tf.op, tf.x]
      intro v' ev x3' ex3
      rw [w32_i (by omega) (by omega)] at ex3
      subst ex3
      refine ih (n + 1) v' (by omega) (by omega) (by omega) (fun x x0 x1 => ?_)
      have E1 : (∃ k, 0 ≤ k ∧ k < n + 1 ∧ rch (tT h L) k ∧ pOp L k = 34 ∧ pX L k = a ∧ bi (alb (tT h L 6 k 0)) x = true) ↔ (∃ k, 0 ≤ k ∧ k < n ∧ rch (tT h L) k ∧ pOp L k = 34 ∧ pX L k = a ∧ bi (alb (tT h L 6 k 0)) x = true) ∨ (rch (tT h L) n ∧ pOp L n = 34 ∧ pX L n = a ∧ bi (alb (tT h L 6 n 0)) x = true) := by
        constructor
        · rintro ⟨k, k0, k1, q⟩
          by_cases e : k = n
          · rw [e] at q; exact Or.inr q
          · exact Or.inl ⟨k, k0, by omega, q⟩
        · rintro (⟨k, k0, k1, q⟩ | q)
          · exact ⟨k, k0, by omega, q⟩
          · exact ⟨n, b2, by omega, q⟩
      rw [ev, bi_or, Bool.or_eq_true, E1, iv x x0 x1]
      refine or_congr Iff.rfl ?_
      by_cases c1 : hv h 460 n = 0
      · rw [if_pos c1, bi_zero]
        exact ⟨fun y => (by cases y), fun y => by
          have q := (rch_iff hn).mp y.1
          rw [c1] at q
          exact absurd q (by decide)⟩
      · rw [if_neg c1]
        by_cases c2 : pOp L n = 34
        · rw [if_pos c2]
          by_cases c3 : pX L n = a
          · have rn : hv h 460 n = 1 := z460.resolve_left c1
            rw [if_pos c3, rw_6 hn rn]
            exact ⟨fun y => ⟨(rch_iff hn).mpr rn, c2, c3, y⟩, fun y => y.2.2.2⟩
          · rw [if_neg c3, bi_zero]
            exact ⟨fun y => (by cases y), fun y => absurd y.2.2.1 c3⟩
        · rw [if_neg c2, bi_zero]
          exact ⟨fun y => (by cases y), fun y => absurd y.2.1 c2⟩
  subst e2; subst e3
  refine key _ 0 0 (Nat.le_refl _) (by omega) (by omega) (fun x x0 x1 => ?_)
  rw [bi_zero]
  constructor
  · intro y; cases y
  · rintro ⟨k, k0, k1, -⟩; omega
/-- locks in turn -/
def tcl (B : Int → Int → Prop) (a x : Int) : Prop := ∀ S : Int → Prop, (∀ y, B a y → S y) → (∀ b y, 0 ≤ b → b < 8 → S b → B b y → S y) → S x
def cl8 (B : Int → Int → Prop) (v : Int) : Prop := ∀ b x, 0 ≤ b → b < 8 → 0 ≤ x → x < 8 → bi v b = true → B b x → bi v x = true
def c8 (v : Int) : Nat := sm 8 (fun s => wb (bi v (s : Nat)))
theorem c8_le {v u : Int} (h : ∀ x, 0 ≤ x → x < 8 → bi v x = true → bi u x = true) : c8 u ≤ c8 v := sm_le (fun i _ => wb_mono (h _ (by omega) (by omega)))
theorem c8_lt {v u : Int} (h : ∀ x, 0 ≤ x → x < 8 → bi v x = true → bi u x = true) (g : ∃ x, 0 ≤ x ∧ x < 8 ∧ bi u x = true ∧ bi v x = false) : c8 u < c8 v := by
  have hle : ∀ i : Nat, i < 8 → wb (bi u (i : Nat)) ≤ wb (bi v (i : Nat)) := fun i _ => wb_mono (h _ (by omega) (by omega))
  have h1 := c8_le h
  apply Classical.byContradiction
  intro no
  obtain ⟨s, s0, s1, a, b⟩ := g
  have := wb_eq (sm_eq hle (show c8 u = c8 v by omega) s.toNat (by omega))
  rw [show ((s.toNat : Nat) : Int) = s by omega, a, b] at this
  cases this
theorem c8_0 {v : Int} (h : c8 v = 0) : ∀ x, 0 ≤ x → x < 8 → bi v x = true := by
  intro x x0 x1
  have hle : ∀ i : Nat, i < 8 → (fun _ => 0) i ≤ wb (bi v (i : Nat)) := fun i _ => Nat.zero_le _
  have e0 : sm 8 (fun _ => 0) = 0 := by decide
  have := sm_eq (f := fun _ => 0) hle (by rw [e0]; exact h.symm) x.toNat (by omega)
  rw [show ((x.toNat : Nat) : Int) = x by omega] at this
  cases r : bi v x
  · rw [r] at this; simp [wb] at this
  · rfl
theorem c8_8 (v : Int) : c8 v ≤ 8 := by
  have := sm_bd (n := 8) (k := 1) (f := fun s => wb (bi v (s : Nat))) (fun i _ => wb_le _)
  unfold c8; omega
/-- a lock is in a ring -/
def rng_ (L : PG) (T : TB) (a : Int) : Prop := 0 ≤ a ∧ a < 8 ∧ tcl (bfr L T) a a
theorem t_ring {l : Launch} {G : JG} (hG : gO G = true) {h : MH} {L : PG} (tf : TF h L) (w : WF L) (b460 : ∀ k, 0 ≤ k → k < 1500 → hv h 460 k = 0 ∨ hv h 460 k = 1) {Q : Int → MH → Prop} {E : Nat → Int → MH → Prop}
    (hQ : ∀ z, c32 z → (∀ x, 0 ≤ x → x < 32 → (bi z x = true ↔ rng_ L (tT h L) x)) → Q z h) : S_X9_ring l G [(2009, 396)] h Q E := by
  refine s_X9_ring rfl fun K ki => r_X9_ring_0 ki hG ?_
  intro x1 e1 x2 e2
  have outer : ∀ N : Nat, ∀ a v : Int, (8 - a).toNat ≤ N → 0 ≤ a → a ≤ 8 → c32 v → (∀ x, 0 ≤ x → x < 32 → (bi v x = true ↔ x < a ∧ rng_ L (tT h L) x)) → JW K 4 [(2009, 396), (0, v), (0, a), (5000, 0), (5000, 0), (5000, 0)] [] h := by
    intro N
    induction N with
    | zero =>
      intro a v b1' b2 b3 cv iv
      have ea : a = 8 := by omega
      subst ea
      exact r_X9_ring_4 ki hG ⟨fun _ => hQ v cv (fun x x0 x1 => by rw [iv x x0 x1]; exact ⟨fun y => y.2, fun y => ⟨y.2.1, y⟩⟩), fun z => by omega⟩
    | succ N ih =>
      intro a v b1' b2 b3 cv iv
      by_cases ea : a = 8
      · exact ih a v (by omega) b2 b3 cv iv
      refine r_X9_ring_4 ki hG ⟨fun z => by omega, fun z => t_before hG tf w b460 b2 (by omega) fun z1 cz1 hz1 => ?_⟩
      intro x3 e3 x4 e4
      have turns : ∀ M : Nat, ∀ n u : Int, (8 - n).toNat ≤ M → 0 ≤ n → n ≤ 8 → (∀ x, 0 ≤ x → x < 32 → bfr L (tT h L) a x → bi u x = true) → (∀ x, 0 ≤ x → x < 32 → bi u x = true → tcl (bfr L (tT h L)) a x) → (cl8 (bfr L (tT h L)) u ∨ (c8 u : Int) + n ≤ 8) → JW K 19 [(2009, 396), (0, v), (0, a), (0, u), (0, n), (5000, 0)] [] h := by
        intro M
        induction M with
        | zero =>
          intro n u m1 m2 m3 inc snd cl
          have en : n = 8 := by omega
          subst en
          refine r_X9_ring_19 ki hG ⟨fun _ => ?_, fun z => by omega⟩
          intro v' ev a' ea'
          rw [w32_i (by omega) (by omega)] at ea'
          subst ea'
          have cl' : cl8 (bfr L (tT h L)) u := by
            rcases cl with y | y
            · exact y
            · intro b x b0 b1 x0 x1 _ _
              exact c8_0 (by omega) x x0 x1
          refine ih (a + 1) v' (by omega) (by omega) (by omega) (by rw [ev]; exact c32_i_or _ _) (fun x x0 x1 => ?_)
          rw [ev, bi_or, bi_and, bi_shl b2 (by omega) x0, Bool.or_eq_true, Bool.and_eq_true, iv x x0 x1]
          constructor
          · rintro (y | ⟨y1, y2⟩)
            · exact ⟨by omega, y.2⟩
            · have e : x = a := of_decide_eq_true y2
              subst e
              exact ⟨by omega, b2, by omega, snd x x0 x1 y1⟩
          · rintro ⟨y1, y2⟩
            by_cases e : x = a
            · refine Or.inr ⟨?_, decide_eq_true e⟩
              subst e
              have := y2.2.2 (fun x => 0 ≤ x → x < 8 → bi u x = true) (fun y hy y0 y1 => inc y y0 (by omega) hy) (fun b y b0 b1 hb hy y0 y1 => cl' b y b0 b1 y0 y1 (hb b0 b1) hy)
              exact this x0 (by omega)
            · exact Or.inl ⟨by omega, y2⟩
        | succ M ihM =>
          intro n u m1 m2 m3 inc snd cl
          by_cases en : n = 8
          · exact ihM n u (by omega) m2 m3 inc snd cl
          refine r_X9_ring_19 ki hG ⟨fun z => by omega, fun z => ?_⟩
          intro x5 e5
          have steps : ∀ P : Nat, ∀ b q : Int, (8 - b).toNat ≤ P → 0 ≤ b → b ≤ 8 → (∀ x, 0 ≤ x → x < 32 → bi u x = true → bi q x = true) → (∀ x, 0 ≤ x → x < 32 → bi q x = true → tcl (bfr L (tT h L)) a x) →
              (((∀ x, 0 ≤ x → x < 8 → bi q x = true → bi u x = true) ∧ ∀ b' x, 0 ≤ b' → b' < b → 0 ≤ x → x < 8 → bi q b' = true → bfr L (tT h L) b' x → bi q x = true) ∨ (¬ cl8 (bfr L (tT h L)) u ∧ c8 q < c8 u)) →
              JW K 29 [(2009, 396), (0, v), (0, a), (0, q), (0, n), (0, b)] [] h := by
            intro P
            induction P with
            | zero =>
              intro b q p1 p2 p3 sup snd' alt
              have eb : b = 8 := by omega
              subst eb
              refine r_X9_ring_29 ki hG ⟨fun _ => ?_, fun z => by omega⟩
              intro n' en'
              rw [w32_i (by omega) (by omega)] at en'
              subst en'
              refine ihM (n + 1) q (by omega) (by omega) (by omega) (fun x x0 x1 y => sup x x0 x1 (inc x x0 x1 y)) snd' ?_
              rcases alt with ⟨-, y⟩ | ⟨y1, y2⟩
              · exact Or.inl (fun b x b0 b1 x0 x1 r s => y b x b0 (by omega) x0 x1 r s)
              · rcases cl with y | y
                · exact absurd y y1
                · exact Or.inr (by omega)
            | succ P ihP =>
              intro b q p1 p2 p3 sup snd' alt
              by_cases eb : b = 8
              · exact ihP b q (by omega) p2 p3 sup snd' alt
              refine r_X9_ring_29 ki hG ⟨fun z => by omega, fun z => ?_⟩
              rw [i_bit (by omega) (by omega)]
              refine ⟨fun y => ?_, fun y => ?_⟩
              · have nb : ¬ bi q b = true := fun y2 => by rw [if_pos y2] at y; exact y rfl
                intro q' eq' b' eb'
                rw [w32_i (by omega) (by omega)] at eb'
                subst eb'
                have qq : ∀ x, bi q' x = bi q x := fun x => by rw [eq', bi_or, bi_zero]; simp
                refine ihP (b + 1) q' (by omega) (by omega) (by omega) (fun x x0 x1 y => by rw [qq]; exact sup x x0 x1 y) (fun x x0 x1 y => snd' x x0 x1 (by rw [qq] at y; exact y)) ?_
                rcases alt with ⟨y1, y2⟩ | ⟨y1, y2⟩
                · refine Or.inl ⟨fun x x0 x1 y => y1 x x0 x1 (by rw [qq] at y; exact y), fun b' x b0 b1 x0 x1 r s => ?_⟩
                  rw [qq] at r ⊢
                  by_cases e : b' = b
                  · rw [e] at r; exact absurd r nb
                  · exact y2 b' x b0 (by omega) x0 x1 r s
                · refine Or.inr ⟨y1, ?_⟩
                  have : c8 q' = c8 q := by unfold c8; simp only [qq]
                  omega
              · have yb : bi q b = true := by
                  cases r : bi q b
                  · rw [r] at y; simp at y
                  · rfl
                refine t_before hG tf w b460 p2 (by omega) fun z4 cz4 hz4 => ?_
                intro q' eq' b' eb'
                rw [w32_i (by omega) (by omega)] at eb'
                subst eb'
                have qq : ∀ x, 0 ≤ x → x < 32 → (bi q' x = true ↔ bi q x = true ∨ bfr L (tT h L) b x) := fun x x0 x1 => by rw [eq', bi_or, Bool.or_eq_true, hz4 x x0 x1]
                refine ihP (b + 1) q' (by omega) (by omega) (by omega) (fun x x0 x1 y => (qq x x0 x1).mpr (Or.inl (sup x x0 x1 y))) (fun x x0 x1 y => ?_) ?_
                · rcases (qq x x0 x1).mp y with y1 | y1
                  · exact snd' x x0 x1 y1
                  · exact fun S s1 s2 => s2 b x p2 (by omega) (snd' b p2 (by omega) yb S s1 s2) y1
                · rcases alt with ⟨y1, y2⟩ | ⟨y1, y2⟩
                  · by_cases nw : ∃ x, 0 ≤ x ∧ x < 8 ∧ bfr L (tT h L) b x ∧ bi q x = false
                    · obtain ⟨x, x0, x1, x2, x3⟩ := nw
                      have ux : bi u x = false := by
                        cases r : bi u x
                        · rfl
                        · rw [sup x x0 (by omega) r] at x3; cases x3
                      refine Or.inr ⟨fun c => ?_, c8_lt (fun y y0 y1' r => (qq y y0 (by omega)).mpr (Or.inl (sup y y0 (by omega) r))) ⟨x, x0, x1, (qq x x0 (by omega)).mpr (Or.inr x2), ux⟩⟩
                      have := c b x p2 (by omega) x0 x1 (y1 b p2 (by omega) yb) x2
                      rw [this] at ux; cases ux
                    · have low : ∀ x, 0 ≤ x → x < 8 → (bi q' x = true ↔ bi q x = true) := fun x x0 x1 => by
                        rw [qq x x0 (by omega)]
                        refine ⟨fun r => ?_, fun r => Or.inl r⟩
                        rcases r with r | r
                        · exact r
                        · cases r2 : bi q x
                          · exact absurd ⟨x, x0, x1, r, r2⟩ nw
                          · rfl
                      refine Or.inl ⟨fun x x0 x1 r => y1 x x0 x1 ((low x x0 x1).mp r), fun b' x b0 b1 x0 x1 r s => ?_⟩
                      rw [low x x0 x1]
                      rw [low b' b0 (by omega)] at r
                      by_cases e : b' = b
                      · rw [e] at s
                        cases r2 : bi q x
                        · exact absurd ⟨x, x0, x1, s, r2⟩ nw
                        · rfl
                      · exact y2 b' x b0 (by omega) x0 x1 r s
                  · refine Or.inr ⟨y1, ?_⟩
                    have := c8_le (v := q) (u := q') (fun x x0 x1 r => (qq x x0 (by omega)).mpr (Or.inl r))
                    omega
          subst e5
          exact steps _ 0 u (Nat.le_refl _) (by omega) (by omega) (fun _ _ _ y => y) snd (Or.inl ⟨fun _ _ _ y => y, fun b' x b0 b1 => by omega⟩)
      subst e3; subst e4
      exact turns _ 0 x3 (Nat.le_refl _) (by omega) (by omega) (fun x x0 x1 y => (hz1 x x0 x1).mpr y) (fun x x0 x1 y S s1 _ => s1 x ((hz1 x x0 x1).mp y)) (Or.inr (by have := c8_8 x3; omega))
  subst e1; subst e2
  refine outer _ 0 0 (Nat.le_refl _) (by omega) (by omega) (by unfold c32; omega) (fun x x0 x1 => ?_)
  rw [bi_zero]
  exact ⟨fun y => (by cases y), fun y => by have := y.1; omega⟩
/-- TWO PLACES RACE -/
def rac (L : PG) (T : TB) (R : Int → Prop) (a b : Int) : Prop := (rch T a ∧ rch T b) ∧ (usesf (pOp L a) ≠ 0 ∧ usesf (pOp L a) = usesf (pOp L b)) ∧ (setsf (pOp L a) ≠ 0 ∨ setsf (pOp L b) ≠ 0) ∧ i_and (asu (T 6 a 0)) (asu (T 6 b 0)) = 0 ∧
  ((usesf (pOp L a) = 3 ∧ pX L a = pX L b) ∨ (usesf (pOp L a) ≠ 3 ∧ (∃ s, 0 ≤ s ∧ s < 64 ∧ usd L T a s ∧ usd L T b s) ∧ (usesf (pOp L a) = 2 ∨ pY L a = pY L b))) ∧ apt L T R (pMo L a) (pMo L b)
theorem uses_r {o : Int} (h : usesf o ≠ 0) (n : usesf o ≠ 3) : 23 ≤ o ∧ o ≤ 26 := by
  unfold usesf at h n
  by_cases c1 : o = 25
  · omega
  by_cases c2 : o = 26
  · omega
  by_cases c3 : o = 23
  · omega
  by_cases c4 : o = 24
  · omega
  rw [if_neg c1, if_neg c2, if_neg c3, if_neg c4] at h n
  by_cases c5 : o = 27
  · rw [if_pos c5] at n; exact absurd rfl n
  by_cases c6 : o = 28
  · rw [if_neg c5, if_pos c6] at n; exact absurd rfl n
  rw [if_neg c5, if_neg c6] at h; exact absurd rfl h
theorem t_isRace {l : Launch} {G : JG} (hG : gO G = true) {h : MH} {L : PG} {R : Int → Prop} (tf : TF h L) (w : WF L) (kn : KN L R h) {a b : Int} (ha : inP L a) (hb : inP L b) {Q : Int → MH → Prop} {E : Nat → Int → MH → Prop}
    (hQ : ∀ z, (z = 0 ∨ z = 1) → (¬ z = 0 ↔ rac L (tT h L) R a b) → Q z h) : S_X9_isRace l G [(2009, 396), (0, a), (0, b)] h Q E := by
  have nn := w.n
  unfold WFn at nn
  have a0 := ha.1
  have a1 := ha.2
  have b0 := hb.1
  have b1' := hb.2
  have za : hv h 460 a = 0 ∨ hv h 460 a = 1 := kn.2.2.2.2.2.2.1 a a0 (by omega)
  have zb : hv h 460 b = 0 ∨ hv h 460 b = 1 := kn.2.2.2.2.2.2.1 b b0 (by omega)
  have wa := (w.k a0 a1).1
  have wb' := (w.k b0 b1').1
  have ma : inM L (pMo L a) := ⟨wa.1, wa.2.1⟩
  have mb : inM L (pMo L b) := ⟨wb'.1, wb'.2.1⟩
  have ma0 := wa.1
  have ma1 := wa.2.1
  have mb0 := wb'.1
  have mb1 := wb'.2.1
  refine s_X9_isRace rfl fun K ki => r_X9_isRace_0 ki hG ⟨tf.ne, a0, by omega, ?_⟩
  rw [tf.op, tf.op]
  intro x3 e3
  refine ⟨fun _ => ⟨tf.ne, b0, by omega, fun _ => ⟨a0, by omega, fun _ => ⟨b0, by omega⟩⟩⟩, fun y => ⟨Or.inl rfl, hQ 0 (Or.inl rfl) ⟨fun z => absurd rfl z, fun z => ?_⟩⟩, fun y => ⟨tf.ne, a0, by omega, fun _ => ⟨a0, by omega, b0, by omega⟩, fun _ => ⟨tf.ne, b0, by omega, fun _ => ⟨a0, by omega, b0, by omega⟩⟩, fun y2 => ⟨Or.inl rfl, hQ 0 (Or.inl rfl) ⟨fun z => absurd rfl z, fun z => ?_⟩⟩, fun y2 => ?_⟩⟩
  · obtain ⟨⟨z1, z2⟩, ⟨z3, z4⟩, -⟩ := z
    have r1 := (rch_iff ha).mp z1
    have r2 := (rch_iff hb).mp z2
    rcases y with y | y | y | y
    · rw [e3] at y; exact absurd y z3
    · rw [e3] at y; exact absurd z4 y
    · omega
    · omega
  · obtain ⟨⟨z1, z2⟩, -, z5, z6, -⟩ := z
    have r1 := (rch_iff ha).mp z1
    have r2 := (rch_iff hb).mp z2
    rw [rw_6 ha r1, rw_6 hb r2] at z6
    have z6' : i_and (hv h 465 a) (hv h 465 b) = 0 := z6
    rcases y2 with ⟨-, y2⟩ | ⟨y2, y3 | y3⟩
    · exact absurd z6' y2
    · rcases z5 with z5 | z5
      · exact absurd y2 z5
      · exact absurd y3 z5
    · exact absurd z6' y3
  · have n0 : ¬ x3 = 0 := fun z => y (Or.inl z)
    have n1 : x3 = usesf (pOp L b) := by
      apply Classical.byContradiction
      intro z; exact y (Or.inr (Or.inl z))
    have ra : hv h 460 a = 1 := by
      rcases za with z | z
      · exact absurd (Or.inr (Or.inr (Or.inl z))) y
      · exact z
    have rb : hv h 460 b = 1 := by
      rcases zb with z | z
      · exact absurd (Or.inr (Or.inr (Or.inr z))) y
      · exact z
    have ca := (rch_iff ha).mpr ra
    have cb := (rch_iff hb).mpr rb
    have lk : i_and (asu (tT h L 6 a 0)) (asu (tT h L 6 b 0)) = i_and (hv h 465 a) (hv h 465 b) := by rw [rw_6 ha ra, rw_6 hb rb]; rfl
    have st : (setsf (pOp L a) ≠ 0 ∨ setsf (pOp L b) ≠ 0) ∧ i_and (hv h 465 a) (hv h 465 b) = 0 := by
      by_cases s1 : setsf (pOp L a) = 0
      · by_cases s2 : setsf (pOp L b) = 0
        · exact absurd (Or.inr ⟨s1, Or.inl s2⟩) y2
        · refine ⟨Or.inr s2, ?_⟩
          apply Classical.byContradiction
          intro z; exact y2 (Or.inr ⟨s1, Or.inr z⟩)
      · refine ⟨Or.inl s1, ?_⟩
        apply Classical.byContradiction
        intro z; exact y2 (Or.inl ⟨s1, z⟩)
    refine ⟨fun _ => ⟨a0, by omega, b0, by omega, fun _ _ => ⟨tf.ne, a0, by omega, tf.ne, b0, by omega⟩⟩, fun _ => ⟨tf.ne, a0, by omega, tf.ne, b0, by omega⟩, ?_⟩
    rw [tf.x, tf.x, tf.y, tf.y, tf.mo, tf.mo]
    intro x4 e4
    rw [w32_i (z := 40 * pMo L a) (by omega) (by omega), w32_i (z := 40 * pMo L a + pMo L b) (by omega) (by omega)]
    have e4' : ¬ x4 = 0 ↔ ((usesf (pOp L a) = 3 ∧ pX L a = pX L b) ∨ (usesf (pOp L a) ≠ 3 ∧ (∃ s, 0 ≤ s ∧ s < 64 ∧ usd L (tT h L) a s ∧ usd L (tT h L) b s) ∧ (usesf (pOp L a) = 2 ∨ pY L a = pY L b))) := by
      rw [e4, ← e3]
      by_cases c1 : x3 = 3
      · rw [if_pos c1]
        by_cases c2 : pX L a = pX L b
        · rw [if_pos c2]; exact ⟨fun _ => Or.inl ⟨c1, c2⟩, fun _ => by decide⟩
        · rw [if_neg c2]
          refine ⟨fun z => absurd rfl z, fun z => ?_⟩
          rcases z with z | z
          · exact absurd z.2 c2
          · exact absurd c1 z.1
      · rw [if_neg c1, lc_if]
        have oa := uses_r (by rw [← e3]; exact n0) (by rw [← e3]; exact c1)
        have ob := uses_r (o := pOp L b) (by rw [← n1]; exact n0) (by rw [← n1]; exact c1)
        have ua := (kn.1.2 a ha ca).2 oa.1 oa.2
        have ub := (kn.1.2 b hb cb).2 ob.1 ob.2
        have ue : l_and (hv h 471 a) (hv h 471 b) ≠ 0 ↔ ∃ s, 0 ≤ s ∧ s < 64 ∧ usd L (tT h L) a s ∧ usd L (tT h L) b s := by
          rw [l_and_ne]
          constructor
          · rintro ⟨s, s0, s1, p, q⟩; exact ⟨s, s0, s1, (ua s s0).mp p, (ub s s0).mp q⟩
          · rintro ⟨s, s0, s1, p, q⟩; exact ⟨s, s0, s1, (ua s s0).mpr p, (ub s s0).mpr q⟩
        by_cases c2 : l_and (hv h 471 a) (hv h 471 b) = 0
        · rw [if_pos c2]
          refine ⟨fun z => absurd rfl z, fun z => ?_⟩
          rcases z with z | z
          · exact absurd z.1 c1
          · exact absurd c2 (ue.mpr z.2.1)
        · rw [if_neg c2]
          have uu := ue.mp c2
          by_cases c3 : x3 = 2
          · rw [if_pos c3]; exact ⟨fun _ => Or.inr ⟨c1, uu, Or.inl c3⟩, fun _ => by decide⟩
          · rw [if_neg c3]
            by_cases c4 : pY L a = pY L b
            · rw [if_pos c4]; exact ⟨fun _ => Or.inr ⟨c1, uu, Or.inr c4⟩, fun _ => by decide⟩
            · rw [if_neg c4]
              refine ⟨fun z => absurd rfl z, fun z => ?_⟩
              rcases z with z | z
              · exact absurd z.1 c1
              · rcases z.2.2 with z | z
                · exact absurd z c3
                · exact absurd z c4
    have ap := kn.2.2.1.2 (pMo L a) (pMo L b) ma mb
    refine ⟨fun _ => ⟨tf.ne, a0, by omega, tf.ne, b0, by omega, by omega, by omega⟩, ?_, hQ _ ?_ ?_⟩
    · split
      · exact Or.inl rfl
      · exact zo1 _
    · split
      · exact Or.inl rfl
      · exact zo1 _
    · have full : rac L (tT h L) R a b ↔ ¬ x4 = 0 ∧ apt L (tT h L) R (pMo L a) (pMo L b) := by
        unfold rac
        rw [e4']
        constructor
        · rintro ⟨-, -, -, -, p, q⟩; exact ⟨p, q⟩
        · rintro ⟨p, q⟩
          exact ⟨⟨ca, cb⟩, ⟨by rw [← e3]; exact n0, by rw [← e3]; exact n1⟩, st.1, by rw [lk]; exact st.2, p, q⟩
      rw [full]
      by_cases c1 : x4 = 0
      · rw [if_pos c1]; exact ⟨fun z => absurd rfl z, fun z => absurd c1 z.1⟩
      · rw [if_neg c1]
        by_cases c2 : hv h 506 (40 * pMo L a + pMo L b) = 0
        · rw [if_pos c2]; exact ⟨fun z => absurd rfl z, fun z => by have := ap.2.mpr z.2; omega⟩
        · rw [if_neg c2]; exact ⟨fun _ => ⟨c1, ap.2.mp (by omega)⟩, fun _ => by decide⟩
