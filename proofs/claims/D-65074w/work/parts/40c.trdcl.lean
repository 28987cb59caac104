/-! Part 40c: the twin reads classes -/
set_option maxRecDepth 100000
section
variable {l : Launch} {G : JG} {A n : Int} {B : Int → Int} {h0 h : MH} {p : Int} {L : PG} {E : Nat → Int → MH → Prop} {K : Int → PG → Prop} {X : Int → Prop}
theorem t_readClasses (hG : gO G = true) (r : RDS A n h0 h p L) (b : RDB B n h0) (z0 : 455 ≤ hz h0) (hX : ∀ e, X e → ∀ a h', FLT A h0 h' a e → E 17 a h') (hr : prs (rdCs B n p L) K X) {Q : Int → MH → Prop}
    (hQ : ∀ p' L' h', K p' L' → RDS A n h0 h' p' L' → Q 0 h') : S_X9_readClasses l G [(2009, 396), (14, A)] h Q E := by
  refine s_X9_readClasses rfl fun K1 ki => r_X9_readClasses_0 ki hG ?_
  have ne := r.ne
  unfold rdCs at hr
  refine t_take2 hG r b z0 hX hr fun _ b0 _ c0 c1 hr1 h2 r2 => ?_
  refine ⟨ne, fun h3 e3 => ?_⟩
  subst e3
  have r3 := r2.set0 (i := 0) (v := B p)
  refine t_take2 hG r3 b z0 hX hr1 fun _ d0 _ s0 s1 hr2 h5 r5 => ?_
  refine ⟨ne, fun h6 e6 x2 ex2 => ?_⟩
  subst e6; subst ex2
  have r6 := r5.set0 (i := 1) (v := B (p + 1))
  rw [show p + 1 + 1 = p + 2 by omega] at r6
  rw [prs_bnd] at hr2
  generalize hc : B p = nc at *
  generalize hs : B (p + 1) = ns at *
  have eL0 : mset (mset L 0 0 nc) 0 1 ns 0 0 = nc ∧ mset (mset L 0 0 nc) 0 1 ns 0 1 = ns := ⟨by rw [m_ne (by omega), m_eq], m_eq⟩
  generalize hL : mset (mset L 0 0 nc) 0 1 ns = L1 at *
  -- classes
  have cls : ∀ N : Nat, ∀ (c p : Int) (L : PG) (h : MH), c = 8 + nc - N → 8 ≤ c → L 0 0 = nc → RDS A n h0 h p L → prs (rep (rdCl B n) N c p L) K X → (∀ q, 0 ≤ q → q < 24 → 0 ≤ L 3 q ∧ L 3 q ≤ 8) →
      JW K1 92 [(2009, 396), (14, A), (0, c), (5000, 0), (5000, 0), (5000, 0)] [] h := by
    intro N
    induction N with
    | zero =>
      intro c p L h ec c8 l0 r hr hf
      refine r_X9_readClasses_92 ki hG ⟨ne, fun _ => hQ p L h hr r, fun y => ?_⟩
      rw [r.sc, l0, w32_i (by omega) (by omega)] at y
      omega
    | succ N ih =>
      intro c p L h ec c8 l0 r hr hf
      refine r_X9_readClasses_92 ki hG ⟨ne, fun y => ?_, fun y => ⟨ne, ?_⟩⟩
      · rw [r.sc, l0, w32_i (by omega) (by omega)] at y
        omega
      rw [rep_s, prs_bnd] at hr
      unfold rdCl at hr
      rw [w32_i (z := c - 1) (by omega) (by omega)]
      refine t_take2 hG r b z0 hX hr fun _ _ _ q0 q1 hr1 h2 r2 => ?_
      generalize hq : B p = q at *
      refine ⟨by omega, by omega, fun h3 e3 => ?_⟩
      subst e3
      have r3 := r2.set (o := 2) (i := c) (v := q) (by decide) (by decide)
      have e2 : hv (hset h2 (A + 2) c q) (A + 2) c = q := eq_a
      rw [e2]
      refine ⟨ne, ne, by omega, by omega, by omega, by omega, fun x3 ex3 => ?_⟩
      rw [r3.at 3 q (by decide) (by decide), m_ne (by omega)] at ex3
      refine t_take2 hG r3 b z0 hX hr1 fun _ _ _ o0 o1 hr2 h6 r6 => ?_
      intro x4 ex4
      generalize ho : B (p + 1) = o at *
      have hf3 := hf q (by omega) (by omega)
      rw [show p + 1 + 1 = p + 2 by omega] at r6
      have hr2' := prs_if hr2
      rw [ex3, ex4, w32_i (by omega) (by omega)]
      refine ⟨fun y => ?_, fun y => ?_⟩
      · have hr3 := hr2'.2 (by omega)
        rw [prs_bnd] at hr3
        intro x5 ex5
        subst ex5
        -- fields of the class above
        have up : ∀ M : Nat, ∀ (j : Int) (h : MH), (L 3 q - j).toNat ≤ M → 0 ≤ j → j ≤ L 3 q → RDS A n h0 h (p + 2) (cpF (mset L 2 c q) c q j) →
            (∀ h', RDS A n h0 h' (p + 2) (cpF (mset L 2 c q) c q (L 3 q)) → JW K1 207 [(2009, 396), (14, A), (0, c), (0, L 3 q), (0, o), (0, L 3 q)] [] h') → JW K1 163 [(2009, 396), (14, A), (0, c), (0, L 3 q), (0, o), (0, j)] [] h := by
          intro M
          induction M with
          | zero =>
            intro j h hM j0 j1 r k
            have ej : j = L 3 q := by omega
            refine r_X9_readClasses_163 ki hG ⟨fun _ x ex => ?_, fun y => by omega⟩
            rw [ex]
            rw [ej] at r
            exact k h r
          | succ M ihM =>
            intro j h hM j0 j1 r k
            by_cases ej : j = L 3 q
            · exact ihM j h (by omega) j0 j1 r k
            have e2 : hv h (A + 2) c = q := by
              rw [r.at 2 c (by decide) (by decide)]
              unfold cpF
              rw [if_neg (by omega), m_eq]
            refine r_X9_readClasses_163 ki hG ⟨fun y => by omega, fun y => ?_⟩
            rw [e2, w32_i (z := 8 * q) (by omega) (by omega), w32_i (z := 8 * q + j) (by omega) (by omega), w32_i (z := 8 * c) (by omega) (by omega), w32_i (z := 8 * c + j) (by omega) (by omega)]
            refine ⟨ne, ne, ne, by omega, by omega, by omega, by omega, by omega, by omega, fun h2 e2' x ex => ?_⟩
            rw [w32_i (by omega) (by omega)] at ex
            subst ex; subst e2'
            refine ihM (j + 1) _ (by omega) (by omega) (by omega) ((r.set (o := 4) (i := 8 * c + j) (by decide) (by decide)).eq fun o' i' a b => ?_) k
            have v4 : cpF (mset L 2 c q) c q j 4 (8 * q + j) = L 4 (8 * q + j) := by
              unfold cpF
              rw [if_neg (by omega), m_ne (by omega)]
            rw [r.at 4 _ (by decide) (by decide), v4]
            by_cases x : o' = 4
            · subst x
              by_cases y2 : i' = 8 * c + j
              · rw [y2, m_eq]
                unfold cpF
                rw [if_pos ⟨rfl, by omega, by omega⟩, m_ne (by omega), show 8 * q + (8 * c + j - 8 * c) = 8 * q + j by omega]
              · rw [m_ne (by omega)]
                unfold cpF
                by_cases z : 8 * c ≤ i' ∧ i' < 8 * c + j
                · rw [if_pos ⟨rfl, z.1, by omega⟩, if_pos ⟨rfl, z⟩]
                · rw [if_neg (by omega), if_neg (by omega)]
            · rw [m_ne (fun y => x y.1)]
              unfold cpF
              rw [if_neg (fun y => x y.1), if_neg (fun y => x y.1)]
        -- its own fields
        have own : ∀ M : Nat, ∀ (j p' : Int) (L' : PG) (h : MH), j = L 3 q + o - M → 0 ≤ j → RDS A n h0 h p' L' → L' 0 0 = nc → (∀ q, 0 ≤ q → q < 24 → 0 ≤ L' 3 q ∧ L' 3 q ≤ 8) → prs (rep (rdK B n 4 (8 * c)) M j p' L') (fun p'' L'' => prs (.ok (p'', mset L'' 3 c (L 3 q + o))) (fun p L => prs (rep (rdCl B n) N (c + 1) p L) K X) X) X →
            JW K1 207 [(2009, 396), (14, A), (0, c), (0, L 3 q), (0, o), (0, j)] [] h := by
          intro M
          induction M with
          | zero =>
            intro j p' L' h ej j0 r l0' hf' hr
            have hr' : prs (rep (rdCl B n) N (c + 1) p' (mset L' 3 c (L 3 q + o))) K X := hr
            refine r_X9_readClasses_207 ki hG ?_
            rw [w32_i (z := L 3 q + o) (by omega) (by omega)]
            refine ⟨fun _ => ⟨ne, by omega, by omega, fun h1 e1 x ex => ?_⟩, fun y => by omega⟩
            rw [w32_i (by omega) (by omega)] at ex
            subst ex; subst e1
            refine ih (c + 1) p' _ _ (by omega) (by omega) ?_ (r.set (by decide) (by decide)) hr' (fun u u0 u1 => ?_)
            · rw [m_ne (by omega)]; exact l0'
            · by_cases eu : u = c
              · rw [eu, m_eq]; omega
              · rw [m_ne (by omega)]; exact hf' u u0 u1
          | succ M ihM =>
            intro j p' L' h ej j0 r l0' hf' hr
            rw [rep_s, prs_bnd] at hr
            unfold rdK at hr
            refine r_X9_readClasses_207 ki hG ?_
            rw [w32_i (z := L 3 q + o) (by omega) (by omega)]
            refine ⟨fun y => by omega, fun y => ⟨ne, ?_⟩⟩
            refine t_take2 hG r b z0 hX hr fun _ _ _ v0 v1 hr1 h4 r4 => ?_
            rw [w32_i (z := 8 * c) (by omega) (by omega), w32_i (z := 8 * c + j) (by omega) (by omega)]
            refine ⟨by omega, by omega, fun h5 e5 x ex => ?_⟩
            rw [w32_i (by omega) (by omega)] at ex
            subst ex; subst e5
            refine ihM (j + 1) (p' + 1) _ _ (by omega) (by omega) (r4.set (by decide) (by decide)) ?_ ?_ hr1
            · rw [m_ne (by omega)]; exact l0'
            · intro u u0 u1
              rw [m_ne (by omega)]; exact hf' u u0 u1
        refine up _ 0 h6 (Nat.le_refl _) (by decide) hf3.1 (r6.eq fun o' i' a b => ?_) (fun h' r' => ?_)
        · unfold cpF
          rw [if_neg (by omega)]
        · refine own o.toNat (L 3 q) (p + 2) _ h' (by omega) hf3.1 r' ?_ (fun u u0 u1 => ?_) hr3
          · unfold cpF
            rw [if_neg (by omega), m_ne (by omega)]; exact l0
          · unfold cpF
            rw [if_neg (by omega), m_ne (by omega)]; exact hf u u0 u1
      · have hx := hr2'.1 (by omega)
        have q1 := t_flt (l := l) hG r6 b z0 (e := p + 1) (E := E) (hX (p + 1) hx)
        refine ⟨q1.1, q1.2.1, fun h9 e9 => ?_⟩
        have e99 : hv h9 396 9 = p + 2 := by
          have ez := h2_hz r6.2.1
          rw [e9]
          show (if (396 : Int) = hz h6 + 1 then 0 else h6.1 396 9) = p + 2
          rw [if_neg (by omega)]; exact r6.p
        have nb := b.1
        have hp := r6.2.2.2.1
        rw [e99, w32_i (by omega) (by omega), show p + 2 - 1 = p + 1 by omega]
        exact q1.2.2 h9 e9
  -- classes from the first
  have ini : ∀ N : Nat, ∀ (c : Int) (p : Int) (L : PG) (h : MH), (24 - c).toNat ≤ N → 0 ≤ c → c ≤ 24 → L 0 0 = nc → RDS A n h0 h p (fun a b => if a = 2 ∧ 0 ≤ b ∧ b < c then (if b < 2 then b - 1 else 1) else if a = 3 ∧ 0 ≤ b ∧ b < c then 0 else L a b) → prs (rep (rdCl B n) nc.toNat 8 p (ini24 L)) K X →
      JW K1 52 [(2009, 396), (14, A), (0, c), (5000, 0), (5000, 0), (5000, 0)] [] h := by
    intro N
    induction N with
    | zero =>
      intro c p L h hN c0 c24 l0 r hr
      have ec : c = 24 := by omega
      subst ec
      refine r_X9_readClasses_52 ki hG ⟨fun _ x ex => ?_, fun y => by omega⟩
      subst ex
      refine cls nc.toNat 8 p (ini24 L) h (by omega) (by decide) ?_ r hr (fun u u0 u1 => ?_)
      · unfold ini24
        rw [if_neg (by omega), if_neg (by omega)]; exact l0
      · unfold ini24
        rw [if_neg (by omega), if_pos ⟨rfl, u0, u1⟩]; decide
    | succ N ih =>
      intro c p L h hN c0 c24 l0 r hr
      by_cases ec : c = 24
      · exact ih c p L h (by omega) c0 c24 l0 r hr
      refine r_X9_readClasses_52 ki hG ⟨fun y => by omega, fun y => ⟨ne, c0, y, fun h2 e2 => ⟨ne, c0, y, fun h3 e3 x ex => ?_⟩⟩⟩
      rw [w32_i (by omega) (by omega)] at ex
      rw [w32_i (z := c - 1) (by omega) (by omega)] at e2
      subst ex; subst e3; subst e2
      refine ih (c + 1) p L _ (by omega) (by omega) (by omega) l0 (((r.set (o := 2) (i := c) (by decide) (by decide)).set (o := 3) (i := c) (by decide) (by decide)).eq fun o' i' a b => ?_) hr
      by_cases x : o' = 2
      · subst x
        rw [m_ne (by omega)]
        by_cases z : i' = c
        · rw [z, m_eq, if_pos ⟨rfl, c0, by omega⟩]
        · rw [m_ne (by omega)]
          by_cases u : 0 ≤ i' ∧ i' < c
          · rw [if_pos ⟨rfl, u.1, by omega⟩]
            exact (if_pos ⟨rfl, u⟩).symm
          · rw [if_neg (by omega), if_neg (by omega), if_neg (by omega), if_neg (by omega)]
      · by_cases x3 : o' = 3
        · subst x3
          by_cases z : i' = c
          · rw [z, m_eq, if_neg (by omega), if_pos ⟨rfl, c0, by omega⟩]
          · rw [m_ne (by omega), m_ne (by omega)]
            by_cases u : 0 ≤ i' ∧ i' < c
            · rw [if_neg (by omega), if_pos ⟨rfl, u.1, by omega⟩, if_neg (by omega), if_pos ⟨rfl, u⟩]
            · rw [if_neg (by omega), if_neg (by omega), if_neg (by omega), if_neg (by omega)]
        · rw [m_ne (by omega), m_ne (by omega), if_neg (by omega), if_neg (by omega), if_neg (by omega), if_neg (by omega)]
  -- statics
  have sta : ∀ N : Nat, ∀ (i p : Int) (L : PG) (h : MH), i = ns - N → 0 ≤ i → L 0 0 = nc → L 0 1 = ns → RDS A n h0 h p L → prs (rep (rdK B n 1 0) N i p L) (fun p' L' => prs (rep (rdCl B n) nc.toNat 8 p' (ini24 L')) K X) X →
      JW K1 24 [(2009, 396), (14, A), (0, i), (5000, 0), (5000, 0), (5000, 0)] [] h := by
    intro N
    induction N with
    | zero =>
      intro i p L h ei i0 l0 l1 r hr
      refine r_X9_readClasses_24 ki hG ⟨ne, fun _ x ex => ?_, fun y => ?_⟩
      · subst ex
        refine ini 24 0 p L h (by decide) (by decide) (by decide) l0 (r.eq fun o' i' a b => ?_) hr
        rw [if_neg (by omega), if_neg (by omega)]
      · rw [r.sc, l1] at y; omega
    | succ N ih =>
      intro i p L h ei i0 l0 l1 r hr
      refine r_X9_readClasses_24 ki hG ⟨ne, fun y => ?_, fun y => ⟨ne, ?_⟩⟩
      · rw [r.sc, l1] at y; omega
      rw [rep_s, prs_bnd] at hr
      unfold rdK at hr
      refine t_take2 hG r b z0 hX hr fun _ _ _ v0 v1 hr1 h3 r3 => ?_
      refine ⟨i0, by omega, fun h4 e4 x ex => ?_⟩
      rw [w32_i (by omega) (by omega)] at ex
      subst ex; subst e4
      have r4 := r3.set (o := 1) (i := i) (v := B p) (by decide) (by decide)
      rw [Int.zero_add] at hr1
      exact ih (i + 1) (p + 1) _ _ (by omega) (by omega) (by rw [m_ne (by omega)]; exact l0) (by rw [m_ne (by omega)]; exact l1) r4 hr1
  exact sta ns.toNat 0 (p + 2) L1 _ (by omega) (by decide) eL0.1 eL0.2 r6 hr2
end
