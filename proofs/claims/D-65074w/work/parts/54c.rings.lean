/-! Part 54c: locks behind locks; rings of locks -/
/-- a way whose stops are below n -/
def PTx (B : Int → Int → Prop) : Nat → Int → Int → Prop
  | 0, b, x => B b x
  | n + 1, b, x => PTx B n b x ∨ (PTx B n b n ∧ PTx B n n x)
theorem PT_B {B : Int → Int → Prop} {b x : Int} : ∀ n : Nat, B b x → PTx B n b x
  | 0, h => h
  | n + 1, h => Or.inl (PT_B n h)
theorem PT_tr {B : Int → Int → Prop} : ∀ (n : Nat) (b c y : Int), 0 ≤ c → c < n → PTx B n b c → PTx B n c y → PTx B n b y
  | 0, b, c, y, c0, c1, _, _ => by omega
  | n + 1, b, c, y, c0, c1, p, q => by
    by_cases e : c = n
    · subst e
      have p' : PTx B n b n := by rcases p with p | p; exact p; exact p.1
      have q' : PTx B n n y := by rcases q with q | q; exact q; exact q.2
      exact Or.inr ⟨p', q'⟩
    · have cn : c < n := by omega
      rcases p with p | ⟨p1, p2⟩
      · rcases q with q | ⟨q1, q2⟩
        · exact Or.inl (PT_tr n b c y c0 cn p q)
        · exact Or.inr ⟨PT_tr n b c n c0 cn p q1, q2⟩
      · rcases q with q | ⟨q1, q2⟩
        · exact Or.inr ⟨p1, PT_tr n n c y c0 cn p2 q⟩
        · exact Or.inr ⟨p1, q2⟩
theorem tcl_tr {B : Int → Int → Prop} {a b x : Int} (b0 : 0 ≤ b) (b1' : b < 8) (p : tcl B a b) (q : tcl B b x) : tcl B a x :=
  fun S s1 s2 => q S (fun y hy => s2 b y b0 b1' (p S s1 s2) hy) s2
theorem PT_tcl {B : Int → Int → Prop} : ∀ (n : Nat) (b x : Int), n ≤ 8 → PTx B n b x → tcl B b x
  | 0, b, x, _, h => fun S s1 _ => s1 x h
  | n + 1, b, x, h8, h => by
    rcases h with h | ⟨h1, h2⟩
    · exact PT_tcl n b x (by omega) h
    · exact tcl_tr (by omega) (by omega) (PT_tcl n b n (by omega) h1) (PT_tcl n n x (by omega) h2)
theorem tcl_PT {B : Int → Int → Prop} {b x : Int} : tcl B b x ↔ PTx B 8 b x :=
  ⟨fun h => h (PTx B 8 b) (fun y hy => PT_B 8 hy) (fun c y c0 c1 hc hy => PT_tr 8 b c y c0 c1 hc (PT_B 8 hy)), PT_tcl 8 b x (Nat.le_refl _)⟩
section FL3
variable {l : Launch} {G : JG} {h : MH} {L : PG} {R : Int → Prop} {T : TB} {P : Int} {Q : Int → MH → Prop} {E : Nat → Int → MH → Prop}
/-- LOCKS BEHIND LOCKS -/
def BHx (L : PG) (T : TB) (h : MH) : Prop := ∀ a, 0 ≤ a → a < 8 → c32 (hv h 301 a) ∧ ∀ x, 0 ≤ x → x < 32 → (bi (hv h 301 a) x = true ↔ bfr L T a x)
theorem fwf_of {g : MH} {a : Int} (ha : 297 ≤ a ∧ a < 346) (e2 : g.2 = h.2) (e : ∀ b j, b ≠ a → hv g b j = hv h b j) : fwf h g := ⟨e2, fun b j z => e b j (fun q => z (by unfold wfl; omega))⟩
theorem c_findRings (hG : gO G = true) (w : FW L R T P h) (hQ : ∀ h', h'.2 = h.2 → (∀ b j, b ≠ 301 → hv h' b j = hv h b j) → BHx L T h' → Q 0 h') : S_X7_findRings l G [(2007, 296)] h Q E := by
  have nn := w.1.1.n
  unfold WFn at nn
  refine s_X7_findRings rfl fun K ki => r_X7_findRings_0 ki hG fun x ex => ?_
  subst ex
  have loop2 : ∀ N : Nat, ∀ (n : Int) (g : MH), (pNp L - n).toNat ≤ N → 0 ≤ n → n ≤ pNp L → g.2 = h.2 → (∀ b j, b ≠ 301 → hv g b j = hv h b j) → (∀ a, 0 ≤ a → a < 8 → c32 (hv g 301 a) ∧ ∀ x, 0 ≤ x → x < 32 → (bi (hv g 301 a) x = true ↔ x ≠ a ∧ ∃ k, (0 ≤ k ∧ k < n) ∧ rch T k ∧ pOp L k = 34 ∧ pX L k = a ∧ bi (alb (T 6 k 0)) x = true)) → JW K 23 [(2007, 296), (0, n)] [] g := by
    intro N
    induction N with
    | zero =>
      intro n g a1 a2 a3 g2 ev iv
      have en : n = pNp L := by omega
      subst en
      have wg := FW_fr w (fwf_of (by omega) g2 ev)
      have ep := wg.1.2.2.1
      have pp := wg.1.2.1.1.1
      have enp := wg.1.2.1.2.1.2.1
      refine r_X7_findRings_23 ki hG ?_
      rw [ep, enp]
      exact ⟨by omega, fun _ => hQ g g2 ev iv, fun y => by omega⟩
    | succ N ih =>
      intro n g a1 a2 a3 g2 ev iv
      by_cases en : n = pNp L
      · exact ih n g (by omega) a2 a3 g2 ev iv
      have wg := FW_fr w (fwf_of (by omega) g2 ev)
      have ep := wg.1.2.2.1
      have e3' := wg.1.2.2.2.1
      have pp := wg.1.2.1.1.1
      have enp := wg.1.2.1.2.1.2.1
      have hn : inP L n := ⟨a2, by omega⟩
      have skip : ¬ (rch T n ∧ pOp L n = 34) → ∀ x : Int, x = w32 (n + 1) → JW K 23 [(2007, 296), (0, x)] [] g := by
        intro ns x ex
        rw [w32_i (by omega) (by omega)] at ex
        subst ex
        refine ih (n + 1) g (by omega) (by omega) (by omega) g2 ev (fun a a0 a1' => ⟨(iv a a0 a1').1, fun x x0 x1 => ?_⟩)
        rw [(iv a a0 a1').2 x x0 x1]
        refine and_congr Iff.rfl ⟨?_, ?_⟩
        · rintro ⟨k, ⟨k0, k1⟩, y⟩
          exact ⟨k, ⟨k0, by omega⟩, y⟩
        · rintro ⟨k, ⟨k0, k1⟩, y1, y2, y3⟩
          refine ⟨k, ⟨k0, ?_⟩, y1, y2, y3⟩
          by_cases e : k = n
          · subst e; exact absurd ⟨y1, y2⟩ ns
          · omega
      refine r_X7_findRings_23 ki hG ?_
      rw [ep, enp]
      refine ⟨by omega, fun y => by omega, fun _ => c_fre hG wg hn fun z z01 zr => ⟨fun y => skip (fun q => by have := zr.mpr q.1; omega), fun y => c_fop hG wg hn ⟨fun y2 => skip (fun q => y2 q.2), fun y2 => c_fx hG wg hn ?_⟩⟩⟩
      have x8 := (w.1.1.k hn.1 hn.2).2.2.2.2.2.1 (by omega)
      have x0 := (w.1.1.k hn.1 hn.2).2.2.1.1
      obtain ⟨s1, s2, s3, s4⟩ := wg.2.1 n hn
      have rn : rch T n := zr.mp (by omega)
      rw [e3', show (3 : Int) + 1 = 4 from rfl]
      refine ⟨x0, by omega, by decide, a2, by omega, by omega, c_fx hG wg hn ⟨x0, by omega, fun g11 e11 x ex => ?_⟩⟩
      rw [w32_i (by omega) (by omega)] at ex
      subst ex
      have alb6 : alb (T 6 n 0) = hv g (hv g 4 n) 3 := by rw [s4 rn]; rfl
      refine ih (n + 1) g11 (by omega) (by omega) (by omega) (by rw [e11]; exact g2) (fun b j hb => by rw [e11, ne_a hb]; exact ev b j hb) (fun a a0 a1' => ?_)
      by_cases ea : a = pX L n
      · rw [e11, ea, eq_a]
        refine ⟨c32_i_or _ _, fun x x0' x1 => ?_⟩
        rw [bi_or, Bool.or_eq_true, bi_andn, Bool.and_eq_true, bi_shl x0 (by omega) x0', (iv _ x0 (by omega)).2 x x0' x1, ← alb6]
        constructor
        · rintro (⟨y0, k, ⟨k0, k1⟩, y⟩ | ⟨y3, y4⟩)
          · exact ⟨y0, k, ⟨k0, by omega⟩, y⟩
          · refine ⟨fun q => ?_, n, ⟨a2, by omega⟩, rn, y2, rfl, y3⟩
            rw [q] at y4
            simp at y4
        · rintro ⟨y0, k, ⟨k0, k1⟩, y3, y4, y5, y6⟩
          by_cases e : k = n
          · subst e
            refine Or.inr ⟨y6, ?_⟩
            simp [y0]
          · exact Or.inl ⟨y0, k, ⟨k0, by omega⟩, y3, y4, y5, y6⟩
      · rw [e11, ne_k ea]
        refine ⟨(iv a a0 a1').1, fun x x0' x1 => ?_⟩
        rw [(iv a a0 a1').2 x x0' x1]
        refine and_congr Iff.rfl ⟨?_, ?_⟩
        · rintro ⟨k, ⟨k0, k1⟩, y⟩
          exact ⟨k, ⟨k0, by omega⟩, y⟩
        · rintro ⟨k, ⟨k0, k1⟩, y3, y4, y5, y6⟩
          refine ⟨k, ⟨k0, ?_⟩, y3, y4, y5, y6⟩
          by_cases e : k = n
          · subst e; exact absurd y5.symm ea
          · omega
  have loop1 : ∀ N : Nat, ∀ (n : Int) (g : MH), (8 - n).toNat ≤ N → 0 ≤ n → n ≤ 8 → g.2 = h.2 → (∀ b j, b ≠ 301 → hv g b j = hv h b j) → (∀ m, 0 ≤ m → m < n → hv g 301 m = 0) → JW K 2 [(2007, 296), (0, n)] [] g := by
    intro N
    induction N with
    | zero =>
      intro n g a1 a2 a3 g2 ev iv
      have en : n = 8 := by omega
      subst en
      refine r_X7_findRings_2 ki hG ⟨fun _ x ex => ?_, fun y => by omega⟩
      subst ex
      refine loop2 _ 0 g (Nat.le_refl _) (by decide) (by omega) g2 ev (fun a a0 a1' => ?_)
      rw [iv a a0 a1']
      refine ⟨by unfold c32; omega, fun x x0 x1 => ?_⟩
      rw [bi_zero]
      exact ⟨(fun y => by cases y), fun ⟨_, k, ⟨k0, k1⟩, _⟩ => by omega⟩
    | succ N ih =>
      intro n g a1 a2 a3 g2 ev iv
      by_cases en : n = 8
      · exact ih n g (by omega) a2 a3 g2 ev iv
      refine r_X7_findRings_2 ki hG ⟨fun y => by omega, fun _ => ⟨a2, by omega, fun g' e' x ex => ?_⟩⟩
      rw [w32_i (by omega) (by omega)] at ex
      subst ex
      refine ih (n + 1) g' (by omega) (by omega) (by omega) (by rw [e']; exact g2) (fun b j hb => by rw [e', ne_a hb]; exact ev b j hb) (fun m m0 m1 => ?_)
      by_cases em : m = n
      · rw [e', em, eq_a]
      · rw [e', ne_k em]; exact iv m m0 (by omega)
  exact loop1 _ 0 h (Nat.le_refl _) (by decide) (by decide) rfl (fun _ _ _ => rfl) (fun m m0 m1 => by omega)
theorem r_X7_rings_15 {K : JC} {h0 : MH} (ki : KI K l G yX7_rings cX7_rings 3 (some .int) [] 7 239 0 Q E h0) (hG : gO G = true) {h : MH} (H :
    (∀ x1_1 : Int, x1_1 = 0 → JW K 17 [(2007, 296), (0, x1_1), (5000, 0)] [] h)) : JW K 15 [(2007, 296), (5000, 0), (5000, 0)] [] h := by
  have e1 := ki.2.2.2.2.1
  have e2 := ki.2.2.2.2.2.1
  subst e1; subst e2
  exact run_ok (dia := []) (cnr := []) (cuts := [(17, [2007, 0, 5000], []), (25, [2007, 0, 0], []), (76, [2007, 0, 0], [])]) ki.1 (pk_X7_rings ki hG) ok_X7_rings (by decide) 4 true _ _ _ _ H
/-- RINGS OF LOCKS -/
theorem c_rings (hG : gO G = true) (o7 : 1 ≤ (296 : Int) ∧ (296 : Int) ≤ hz h ∧ ht h 296 = 7) (bh : BHx L T h) (hQ : ∀ h' z, h'.2 = h.2 → (∀ b j, b ≠ 304 → hv h' b j = hv h b j) → c32 z → (∀ x, 0 ≤ x → x < 32 → (bi z x = true ↔ rng_ L T x)) → Q z h') : S_X7_rings l G [(2007, 296)] h Q E := by
  refine s_X7_rings rfl fun K ki => ?_
  refine JW_hyp fun H0 _ _ => ?_
  have hG' : gO (kG K) = true := by rw [ki.2.2.1]; exact hG
  have n301 := sg_hn H0 hG' o7 7 (off := 5) (n := 8) (t := 100) (by decide) (by decide) (by decide) (by decide)
  have n304 := sg_hn H0 hG' o7 10 (off := 8) (n := 8) (t := 100) (by decide) (by decide) (by decide) (by decide)
  rw [show (296 : Int) + 5 = 301 from rfl] at n301
  rw [show (296 : Int) + 8 = 304 from rfl] at n304
  have ob1 : obj h 100 301 := ⟨n301.2.2.1, n301.2.2.2, n301.2.1⟩
  have ob2 : obj h 100 304 := ⟨n304.2.2.1, n304.2.2.2, n304.2.1⟩
  refine r_X7_rings_0 ki hG (j_acp (idx := 137) (ty := .int) (t := 100) ki.1 (by decide +kernel) q1803 (by rw [ki.2.2.2.2.2.2.2.1]; decide) (by rw [ki.2.2.2.2.2.2.2.2.1]; decide) (by decide) (by decide) rfl (by decide) (by decide) (by decide) (fun _ => ob1) (fun _ => ob2) (by decide) (by decide) (by decide) (by rw [n301.1]; decide) (by rw [n304.1]; decide) ?_)
  have fin : ∀ g : MH, g.2 = h.2 → (∀ b j, b ≠ 304 → hv g b j = hv h b j) → (∀ b x, 0 ≤ b → b < 8 → 0 ≤ x → x < 32 → (bi (hv g 304 b) x = true ↔ PTx (bfr L T) 8 b x)) → ∀ N : Nat, ∀ n v : Int, (8 - n).toNat ≤ N → 0 ≤ n → n ≤ 8 → c32 v → (∀ x, 0 ≤ x → x < 32 → (bi v x = true ↔ x < n ∧ rng_ L T x)) → JW K 76 [(2007, 296), (0, v), (0, n)] [] g := by
    intro g g2 ev pt N
    induction N with
    | zero =>
      intro n v a1 a2 a3 cv iv
      have en : n = 8 := by omega
      subst en
      exact r_X7_rings_76 ki hG ⟨fun _ => hQ g v g2 ev cv (fun x x0 x1 => by rw [iv x x0 x1]; exact ⟨fun y => y.2, fun y => ⟨y.2.1, y⟩⟩), fun y => by omega⟩
    | succ N ih =>
      intro n v a1 a2 a3 cv iv
      by_cases en : n = 8
      · exact ih n v (by omega) a2 a3 cv iv
      refine r_X7_rings_76 ki hG ⟨fun y => by omega, fun _ => ⟨a2, by omega, fun v' ev' x ex => ?_⟩⟩
      rw [w32_i (by omega) (by omega)] at ex
      subst ex
      refine ih (n + 1) v' (by omega) (by omega) (by omega) (by rw [ev']; exact c32_i_or _ _) (fun x x0 x1 => ?_)
      rw [ev', bi_or, Bool.or_eq_true, bi_and, Bool.and_eq_true, bi_shl a2 (by omega) x0, iv x x0 x1, pt n x a2 (by omega) x0 x1]
      constructor
      · rintro (⟨y1, y2⟩ | ⟨y1, y2⟩)
        · exact ⟨by omega, y2⟩
        · have e : x = n := of_decide_eq_true y2
          subst e
          exact ⟨by omega, x0, by omega, tcl_PT.mpr y1⟩
      · rintro ⟨y1, y2⟩
        by_cases e : x = n
        · subst e
          exact Or.inr ⟨tcl_PT.mp y2.2.2, decide_eq_true rfl⟩
        · exact Or.inl ⟨by omega, y2⟩
  have pass : ∀ N : Nat, ∀ (k : Nat) (g : MH), 8 - k ≤ N → k ≤ 8 → g.2 = h.2 → (∀ b j, b ≠ 304 → hv g b j = hv h b j) → (∀ b x, 0 ≤ b → b < 8 → 0 ≤ x → x < 32 → (bi (hv g 304 b) x = true ↔ PTx (bfr L T) k b x)) → JW K 17 [(2007, 296), (0, (k : Int)), (5000, 0)] [] g := by
    intro N
    induction N with
    | zero =>
      intro k g a1 a2 g2 ev iv
      have en : k = 8 := by omega
      subst en
      refine r_X7_rings_17 ki hG ⟨fun _ x1 e1 x2 e2 => ?_, fun y => absurd y (by decide)⟩
      subst e1; subst e2
      refine fin g g2 ev iv _ 0 0 (Nat.le_refl _) (by decide) (by decide) (by unfold c32; omega) (fun x x0 x1 => ?_)
      rw [bi_zero]
      exact ⟨(fun y => by cases y), fun y => by omega⟩
    | succ N ih =>
      intro k g a1 a2 g2 ev iv
      by_cases en : k = 8
      · exact ih k g (by omega) a2 g2 ev iv
      refine r_X7_rings_17 ki hG ⟨fun y => by omega, fun _ x ex => ?_⟩
      subst ex
      have rows : ∀ M : Nat, ∀ (b : Int) (g1 : MH), (8 - b).toNat ≤ M → 0 ≤ b → b ≤ 8 → g1.2 = h.2 → (∀ c j, c ≠ 304 → hv g1 c j = hv h c j) → (∀ c x, 0 ≤ c → c < 8 → 0 ≤ x → x < 32 → (bi (hv g1 304 c) x = true ↔ if c < b then PTx (bfr L T) (k + 1) c x else PTx (bfr L T) k c x)) → JW K 25 [(2007, 296), (0, (k : Int)), (0, b)] [] g1 := by
        intro M
        induction M with
        | zero =>
          intro b g1 m1 m2 m3 g2' ev' iv'
          have eb : b = 8 := by omega
          subst eb
          refine r_X7_rings_25 ki hG ⟨fun _ x ex => ?_, fun y => by omega⟩
          rw [w32_i (by omega) (by omega), show (k : Int) + 1 = ((k + 1 : Nat) : Int) by omega] at ex
          subst ex
          refine ih (k + 1) g1 (by omega) (by omega) g2' ev' (fun c x c0 c1 x0 x1 => ?_)
          rw [iv' c x c0 c1 x0 x1, if_pos c1]
        | succ M ihM =>
          intro b g1 m1 m2 m3 g2' ev' iv'
          by_cases eb : b = 8
          · exact ihM b g1 (by omega) m2 m3 g2' ev' iv'
          have rk : ∀ x, 0 ≤ x → x < 32 → (bi (hv g1 304 k) x = true ↔ PTx (bfr L T) k k x) := by
            intro x x0 x1
            rw [iv' k x (by omega) (by omega) x0 x1]
            split
            · constructor
              · rintro (y | y)
                · exact y
                · exact y.2
              · intro y; exact Or.inl y
            · exact Iff.rfl
          have rb : ∀ x, 0 ≤ x → x < 32 → (bi (hv g1 304 b) x = true ↔ PTx (bfr L T) k b x) := by
            intro x x0 x1
            rw [iv' b x m2 (by omega) x0 x1, if_neg (by omega)]
          refine r_X7_rings_25 ki hG ?_
          rw [i_bit (by omega) (by omega)]
          refine ⟨fun y => by omega, fun _ => ⟨m2, by omega, fun y x ex => ?_, fun y => ⟨m2, by omega, by omega, by omega, m2, by omega, fun g3 e3 x ex => ?_⟩⟩⟩
          · rw [w32_i (by omega) (by omega)] at ex
            subst ex
            have nb : ¬ PTx (bfr L T) k b k := fun q => by
              rw [if_pos ((rb k (by omega) (by omega)).mpr q)] at y
              exact y rfl
            refine ihM (b + 1) g1 (by omega) (by omega) (by omega) g2' ev' (fun c x c0 c1 x0 x1 => ?_)
            by_cases ec : c = b
            · subst ec
              rw [rb x x0 x1, if_pos (by omega)]
              constructor
              · intro q; exact Or.inl q
              · rintro (q | q)
                · exact q
                · exact absurd q.1 nb
            · rw [iv' c x c0 c1 x0 x1]
              by_cases lt : c < b
              · rw [if_pos lt, if_pos (by omega)]
              · rw [if_neg lt, if_neg (by omega)]
          · rw [w32_i (by omega) (by omega)] at ex
            subst ex
            have yb : PTx (bfr L T) k b k := by
              apply Classical.byContradiction
              intro q
              rw [if_neg (fun z => q ((rb k (by omega) (by omega)).mp z))] at y
              cases y
            refine ihM (b + 1) g3 (by omega) (by omega) (by omega) (by rw [e3]; exact g2') (fun c j hc => by rw [e3, ne_a hc]; exact ev' c j hc) (fun c x c0 c1 x0 x1 => ?_)
            by_cases ec : c = b
            · subst ec
              rw [e3, eq_a, bi_or, Bool.or_eq_true, rb x x0 x1, rk x x0 x1, if_pos (by omega)]
              constructor
              · rintro (q | q)
                · exact Or.inl q
                · exact Or.inr ⟨yb, q⟩
              · rintro (q | q)
                · exact Or.inl q
                · exact Or.inr q.2
            · rw [e3, ne_k ec, iv' c x c0 c1 x0 x1]
              by_cases lt : c < b
              · rw [if_pos lt, if_pos (by omega)]
              · rw [if_neg lt, if_neg (by omega)]
      exact rows _ 0 g (Nat.le_refl _) (by decide) (by decide) g2 ev (fun c x c0 c1 x0 x1 => by rw [iv c x c0 c1 x0 x1, if_neg (by omega)])
  refine r_X7_rings_15 ki hG fun x ex => ?_
  subst ex
  refine pass _ 0 _ (Nat.le_refl _) (by decide) rfl (fun b j hb => by rw [hv_cp, if_neg (fun z => hb z.1)]) (fun b x b0 b1' x0 x1 => ?_)
  rw [hv_cp, if_pos ⟨rfl, b0, by omega⟩, show b - 0 + 0 = b by omega]
  exact (bh b b0 b1').2 x x0 x1
end FL3
