/-! J-layer, part 19: values and conditions by branches are right -/
def isBr (i : Instr) : Bool := match i with
  | .goto _ | .if_icmp _ _ | .ifCond _ _ | .ifnull _ | .ifnonnull _ => true
  | _ => false
section EP
variable {K : JC} {own : String} {cc : ByteArray} {P : JP} {code : List (Nat × List (Nat × Instr))}
theorem evP_gen {bw join n pc : Nat} {lv r : List LV} {h : MH} {i : Instr} (hj : Nat.beq pc join = false) (hi : lkc code pc = some i) (hb : isBr i = false) : evP P bw code join (n + 1) pc lv r h = (match pst P bw i lv r h with
          | some (ps, _, r') => cond (kpl i) (match evP P bw code join n (pc + iln i) lv r' h with
            | some (s, g, z) => some (ps ++ s, g, z)
            | none => none) none
          | none => none) := by
  show evPb P bw code join (evP P bw code join n) pc lv r h = _
  unfold evPb
  rw [hj, hi]
  cases i <;> first | rfl | cases hb
theorem evC_gen {bw X Y n pc : Nat} {lv r : List LV} {h : MH} {i : Instr} (hx : Nat.beq pc X = false) (hy : Nat.beq pc Y = false) (hi : lkc code pc = some i) (hb : isBr i = false) : evC P bw code X Y (n + 1) pc lv r h = (match pst P bw i lv r h with
          | some (ps, _, r') => cond (kpl i) (match evC P bw code X Y n (pc + iln i) lv r' h with
            | some (k, C, s) => some (k, C, ps ++ s)
            | none => none) none
          | none => none) := by
  show evCb P bw code X Y (evC P bw code X Y n) pc lv r h = _
  unfold evCb
  rw [hx, hy, hi]
  cases i <;> first | rfl | cases hb
theorem isBr_sw {i : Instr} (h : isSw i = true) : isBr i = false := by
  cases i <;> first | rfl | cases h
theorem pst_sw {P : JP} {bw : Nat} {i : Instr} {lv st : List LV} {h : MH} (hs : isSw i = true) : pst P bw i lv st h = none := by
  cases i <;> first | rfl | cases hs
theorem cond_s {α : Type} {b : Bool} {x : Option α} {y : α} (h : cond b x none = some y) : b = true ∧ x = some y := by
  cases b with
  | true => exact ⟨rfl, h⟩
  | false => cases h
set_option maxHeartbeats 4000000 in
theorem evP_ok {hp0 : Prop} (ko : KO K own cc) (po : POKx K own P hp0) (hc : CodeOK cc code) {bw join : Nat} : ∀ (n pc : Nat) (lv r : List LV) (h : MH) (st : List LV) (s : List Prop) (g : Nat) (z : Int), wst st ≤ bw → evP P bw code join n pc lv r h = some (s, g, z) → cj s → JW K join lv ((g, z) :: st) h → JW K pc lv (r ++ st) h
  | 0, pc, lv, r, h, st, s, g, z, _, e, _, _ => by cases e
  | n + 1, pc, lv, r, h, st, s, g, z, hw, e, hs, hk => by
    have e0 := e
    replace e : evPb P bw code join (evP P bw code join n) pc lv r h = some (s, g, z) := e
    unfold evPb at e
    cases hj : Nat.beq pc join with
    | true =>
      rw [hj] at e
      simp only [cond_true] at e
      split at e
      · rename_i g0 z0
        cases h5 : Nat.beq g0 5000 with
        | true => rw [h5] at e; cases e
        | false =>
          rw [h5] at e
          cases e
          have := Nat.eq_of_beq_eq_true hj
          subst this
          exact hk
      · cases e
    | false =>
      cases hi : lkc code pc with
      | none => rw [hj, hi] at e; cases e
      | some i =>
        cases hb : isBr i with
        | false =>
          replace e := e0
          rw [evP_gen hj hi hb] at e
          split at e
          · rename_i ps lv' r' hp
            obtain ⟨e1, e2⟩ := cond_s e
            split at e2
            · rename_i s' g' z' he
              cases e2
              have hlv := pst_lv e1 hp
              subst hlv
              rw [cj_app] at hs
              cases hsw : isSw i with
              | true => rw [pst_sw hsw] at hp; cases hp
              | false =>
                refine pst_ok ko po hw (code_at hc hi hsw) hp (sides_cj.mpr ⟨hs.1, ?_⟩)
                exact evP_ok ko po hc n _ _ _ h st _ _ _ hw he hs.2 hk
            · cases e2
          · cases e
        | true =>
          cases i with
          | goto off =>
            rw [hj, hi] at e
            obtain ⟨e1, e2⟩ := cond_s e
            exact j_goto ko (code_at hc hi rfl) (tgt_ok e1) (evP_ok ko po hc n _ _ _ h st _ _ _ hw e2 hs hk)
          | if_icmp c off =>
            rw [hj, hi] at e
            simp only [cond_false] at e
            split at e
            · rename_i gb b ga a r0
              obtain ⟨e1, e2⟩ := cond_s e
              simp only [Bool.and_eq_true] at e1
              obtain ⟨a1, a2, a3⟩ := e1
              cases beq_0 a1
              cases beq_0 a2
              split at e2
              · rename_i s1 g1 z1 s2 g2 z2 k1 k2
                obtain ⟨f1, f2⟩ := cond_s e2
                cases f2
                have f1 := Nat.eq_of_beq_eq_true f1
                subst f1
                obtain ⟨q1, q2⟩ := csd_ok hs
                refine j_icmp ko (code_at hc hi rfl) (tgt_ok a3) (fun cq => ?_) (fun cq => ?_)
                · exact evP_ok ko po hc n _ _ _ h st _ _ _ hw k1 (q1 cq) (by rw [sel_t cq] at hk; exact hk)
                · exact evP_ok ko po hc n _ _ _ h st _ _ _ hw k2 (q2 cq) (by rw [sel_f cq] at hk; exact hk)
              · cases e2
            · cases e
          | ifCond c off =>
            rw [hj, hi] at e
            simp only [cond_false] at e
            split at e
            · rename_i ga a r0
              obtain ⟨e1, e2⟩ := cond_s e
              simp only [Bool.and_eq_true] at e1
              obtain ⟨a1, a3⟩ := e1
              cases beq_0 a1
              split at e2
              · rename_i s1 g1 z1 s2 g2 z2 k1 k2
                obtain ⟨f1, f2⟩ := cond_s e2
                cases f2
                have f1 := Nat.eq_of_beq_eq_true f1
                subst f1
                obtain ⟨q1, q2⟩ := csd_ok hs
                refine j_if ko (code_at hc hi rfl) (tgt_ok a3) (fun cq => ?_) (fun cq => ?_)
                · exact evP_ok ko po hc n _ _ _ h st _ _ _ hw k1 (q1 cq) (by rw [sel_t cq] at hk; exact hk)
                · exact evP_ok ko po hc n _ _ _ h st _ _ _ hw k2 (q2 cq) (by rw [sel_f cq] at hk; exact hk)
              · cases e2
            · cases e
          | ifnull off =>
            rw [hj, hi] at e
            simp only [cond_false] at e
            split at e
            · rename_i ga a r0
              obtain ⟨e1, e2⟩ := cond_s e
              simp only [Bool.and_eq_true] at e1
              obtain ⟨a1, a3⟩ := e1
              split at e2
              · rename_i s1 g1 z1 s2 g2 z2 k1 k2
                obtain ⟨f1, f2⟩ := cond_s e2
                cases f2
                have f1 := Nat.eq_of_beq_eq_true f1
                subst f1
                obtain ⟨q1, q2⟩ := csd_ok hs
                refine j_ifnull ko (code_at hc hi rfl) (pR_4 a1).1 (tgt_ok a3) (fun cq => ?_) (fun cq => ?_)
                · exact evP_ok ko po hc n _ _ _ h st _ _ _ hw k1 (q1 cq) (by rw [if_pos cq] at hk; exact hk)
                · exact evP_ok ko po hc n _ _ _ h st _ _ _ hw k2 (q2 cq) (by rw [if_neg cq] at hk; exact hk)
              · cases e2
            · cases e
          | ifnonnull off =>
            rw [hj, hi] at e
            simp only [cond_false] at e
            split at e
            · rename_i ga a r0
              obtain ⟨e1, e2⟩ := cond_s e
              simp only [Bool.and_eq_true] at e1
              obtain ⟨a1, a3⟩ := e1
              split at e2
              · rename_i s1 g1 z1 s2 g2 z2 k1 k2
                obtain ⟨f1, f2⟩ := cond_s e2
                cases f2
                have f1 := Nat.eq_of_beq_eq_true f1
                subst f1
                obtain ⟨q1, q2⟩ := csd_ok hs
                refine j_ifnonnull ko (code_at hc hi rfl) (pR_4 a1).1 (tgt_ok a3) (fun cq => ?_) (fun cq => ?_)
                · exact evP_ok ko po hc n _ _ _ h st _ _ _ hw k1 (q1 cq) (by rw [if_neg cq] at hk; exact hk)
                · exact evP_ok ko po hc n _ _ _ h st _ _ _ hw k2 (q2 cq) (by rw [if_pos cq] at hk; exact hk)
              · cases e2
            · cases e
          | _ => cases hb
theorem cmb_ok {c nc : Prop} {x y : Nat × Prop × List Prop} (hn : nc ↔ ¬ c) (hx : (x.1 = 0 → x.2.1) ∧ (x.1 = 1 → ¬ x.2.1)) (hy : (y.1 = 0 → y.2.1) ∧ (y.1 = 1 → ¬ y.2.1)) : (cmb c nc x y).2.2 = csd c nc x.2.2 y.2.2 ∧ ((cmb c nc x y).2.1 ↔ (c ∧ x.2.1) ∨ (nc ∧ y.2.1)) ∧ ((cmb c nc x y).1 = 0 → (cmb c nc x y).2.1) ∧ ((cmb c nc x y).1 = 1 → ¬ (cmb c nc x y).2.1) := by
  obtain ⟨x1, x2, x3⟩ := x
  obtain ⟨y1, y2, y3⟩ := y
  simp only at hx hy
  have hn' : nc = ¬ c := propext hn
  subst hn'
  clear hn
  have b0 : ∀ k : Nat, (Nat.beq k 0 = true → k = 0) ∧ (Nat.beq k 1 = true → k = 1) := fun k => ⟨Nat.eq_of_beq_eq_true, Nat.eq_of_beq_eq_true⟩
  unfold cmb
  simp only
  cases h1 : Nat.beq x1 0 <;> cases h2 : Nat.beq y1 0 <;> cases h3 : Nat.beq x1 1 <;> cases h4 : Nat.beq y1 1 <;> simp only [cond_true, cond_false] <;>
    (try have p1 := hx.1 ((b0 x1).1 h1)) <;> (try have p2 := hy.1 ((b0 y1).1 h2)) <;> (try have p3 := hx.2 ((b0 x1).2 h3)) <;> (try have p4 := hy.2 ((b0 y1).2 h4)) <;>
    refine ⟨trivial, ?_, ?_, ?_⟩ <;> (by_cases hc : c <;> simp_all)
set_option maxHeartbeats 4000000 in
theorem evC_ok {hp0 : Prop} (ko : KO K own cc) (po : POKx K own P hp0) (hc : CodeOK cc code) {bw X Y : Nat} : ∀ (n pc : Nat) (lv r : List LV) (h : MH) (st : List LV) (kd : Nat) (C : Prop) (s : List Prop), wst st ≤ bw → evC P bw code X Y n pc lv r h = some (kd, C, s) → ((kd = 0 → C) ∧ (kd = 1 → ¬ C)) ∧ (cj s → (C → JW K X lv st h) → (¬ C → JW K Y lv st h) → JW K pc lv (r ++ st) h)
  | 0, pc, lv, r, h, st, kd, C, s, _, e => by cases e
  | n + 1, pc, lv, r, h, st, kd, C, s, hw, e => by
    have e0 := e
    replace e : evCb P bw code X Y (evC P bw code X Y n) pc lv r h = some (kd, C, s) := e
    unfold evCb at e
    cases hj : Nat.beq pc X with
    | true =>
      rw [hj] at e
      simp only [cond_true] at e
      split at e
      · cases e
        have := Nat.eq_of_beq_eq_true hj
        subst this
        exact ⟨⟨fun _ => trivial, fun q => by cases q⟩, fun _ kx _ => kx trivial⟩
      · cases e
    | false =>
      cases hj2 : Nat.beq pc Y with
      | true =>
        rw [hj, hj2] at e
        simp only [cond_true, cond_false] at e
        split at e
        · cases e
          have := Nat.eq_of_beq_eq_true hj2
          subst this
          exact ⟨⟨fun q => (by cases q), fun _ q => q⟩, fun _ _ ky => ky (fun q => q)⟩
        · cases e
      | false =>
        cases hi : lkc code pc with
        | none => rw [hj, hj2, hi] at e; cases e
        | some i =>
          cases hb : isBr i with
          | false =>
            replace e := e0
            rw [evC_gen hj hj2 hi hb] at e
            split at e
            · rename_i ps lv' r' hp
              obtain ⟨e1, e2⟩ := cond_s e
              split at e2
              · rename_i k' C' s' he
                cases e2
                have hlv := pst_lv e1 hp
                subst hlv
                cases hsw : isSw i with
                | true => rw [pst_sw hsw] at hp; cases hp
                | false =>
                  obtain ⟨i1, i2⟩ := evC_ok ko po hc n _ _ _ h st _ _ _ hw he
                  refine ⟨i1, fun hs kx ky => ?_⟩
                  rw [cj_app] at hs
                  exact pst_ok ko po hw (code_at hc hi hsw) hp (sides_cj.mpr ⟨hs.1, i2 hs.2 kx ky⟩)
              · cases e2
            · cases e
          | true =>
            cases i with
            | goto off =>
              rw [hj, hj2, hi] at e
              obtain ⟨e1, e2⟩ := cond_s e
              obtain ⟨i1, i2⟩ := evC_ok ko po hc n _ _ _ h st _ _ _ hw e2
              exact ⟨i1, fun hs kx ky => j_goto ko (code_at hc hi rfl) (tgt_ok e1) (i2 hs kx ky)⟩
            | if_icmp c off =>
              rw [hj, hj2, hi] at e
              simp only [cond_false] at e
              split at e
              · rename_i gb b ga a r0
                obtain ⟨e1, e2⟩ := cond_s e
                simp only [Bool.and_eq_true] at e1
                obtain ⟨a1, a2, a3⟩ := e1
                cases beq_0 a1
                cases beq_0 a2
                split at e2
                · rename_i x y k1 k2
                  obtain ⟨xk, xC, xs⟩ := x
                  obtain ⟨yk, yC, ys⟩ := y
                  obtain ⟨i1, i2⟩ := evC_ok ko po hc n _ _ _ h st _ _ _ hw k1
                  obtain ⟨j1, j2⟩ := evC_ok ko po hc n _ _ _ h st _ _ _ hw k2
                  obtain ⟨m1, m2, m3⟩ := cmb_ok (c := cnd c a b) (nc := cnd (neg c) a b) (x := (xk, xC, xs)) (y := (yk, yC, ys)) (cnd_neg c a b) i1 j1
                  have e3 := Option.some.inj e2
                  rw [e3] at m1 m2 m3
                  simp only at m1 m2 m3
                  refine ⟨m3, fun hs kx ky => ?_⟩
                  rw [m1] at hs
                  obtain ⟨q1, q2⟩ := csd_ok hs
                  refine j_icmp ko (code_at hc hi rfl) (tgt_ok a3) (fun cq => ?_) (fun cq => ?_)
                  · exact i2 (q1 cq) (fun q => kx (m2.mpr (Or.inl ⟨cq, q⟩))) (fun q => ky (fun t => by
                      rcases m2.mp t with ⟨_, z⟩ | ⟨z, _⟩
                      · exact q z
                      · exact (cnd_neg c a b).mp z cq))
                  · exact j2 (q2 cq) (fun q => kx (m2.mpr (Or.inr ⟨cq, q⟩))) (fun q => ky (fun t => by
                      rcases m2.mp t with ⟨z, _⟩ | ⟨_, z⟩
                      · exact (cnd_neg c a b).mp cq z
                      · exact q z))
                · cases e2
              · cases e
            | ifCond c off =>
              rw [hj, hj2, hi] at e
              simp only [cond_false] at e
              split at e
              · rename_i ga a r0
                obtain ⟨e1, e2⟩ := cond_s e
                simp only [Bool.and_eq_true] at e1
                obtain ⟨a1, a3⟩ := e1
                cases beq_0 a1
                split at e2
                · rename_i x y k1 k2
                  obtain ⟨xk, xC, xs⟩ := x
                  obtain ⟨yk, yC, ys⟩ := y
                  obtain ⟨i1, i2⟩ := evC_ok ko po hc n _ _ _ h st _ _ _ hw k1
                  obtain ⟨j1, j2⟩ := evC_ok ko po hc n _ _ _ h st _ _ _ hw k2
                  obtain ⟨m1, m2, m3⟩ := cmb_ok (c := cnd c a 0) (nc := cnd (neg c) a 0) (x := (xk, xC, xs)) (y := (yk, yC, ys)) (cnd_neg c a 0) i1 j1
                  have e3 := Option.some.inj e2
                  rw [e3] at m1 m2 m3
                  simp only at m1 m2 m3
                  refine ⟨m3, fun hs kx ky => ?_⟩
                  rw [m1] at hs
                  obtain ⟨q1, q2⟩ := csd_ok hs
                  refine j_if ko (code_at hc hi rfl) (tgt_ok a3) (fun cq => ?_) (fun cq => ?_)
                  · exact i2 (q1 cq) (fun q => kx (m2.mpr (Or.inl ⟨cq, q⟩))) (fun q => ky (fun t => by
                      rcases m2.mp t with ⟨_, z⟩ | ⟨z, _⟩
                      · exact q z
                      · exact (cnd_neg c a 0).mp z cq))
                  · exact j2 (q2 cq) (fun q => kx (m2.mpr (Or.inr ⟨cq, q⟩))) (fun q => ky (fun t => by
                      rcases m2.mp t with ⟨z, _⟩ | ⟨_, z⟩
                      · exact (cnd_neg c a 0).mp cq z
                      · exact q z))
                · cases e2
              · cases e
            | ifnull off =>
              rw [hj, hj2, hi] at e
              simp only [cond_false] at e
              split at e
              · rename_i ga a r0
                obtain ⟨e1, e2⟩ := cond_s e
                simp only [Bool.and_eq_true] at e1
                obtain ⟨a1, a3⟩ := e1
                split at e2
                · rename_i x y k1 k2
                  obtain ⟨xk, xC, xs⟩ := x
                  obtain ⟨yk, yC, ys⟩ := y
                  obtain ⟨i1, i2⟩ := evC_ok ko po hc n _ _ _ h st _ _ _ hw k1
                  obtain ⟨j1, j2⟩ := evC_ok ko po hc n _ _ _ h st _ _ _ hw k2
                  obtain ⟨m1, m2, m3⟩ := cmb_ok (c := a = 0) (nc := ¬ a = 0) (x := (xk, xC, xs)) (y := (yk, yC, ys)) (Iff.rfl) i1 j1
                  have e3 := Option.some.inj e2
                  rw [e3] at m1 m2 m3
                  simp only at m1 m2 m3
                  refine ⟨m3, fun hs kx ky => ?_⟩
                  rw [m1] at hs
                  obtain ⟨q1, q2⟩ := csd_ok hs
                  refine j_ifnull ko (code_at hc hi rfl) (pR_4 a1).1 (tgt_ok a3) (fun cq => ?_) (fun cq => ?_)
                  · exact i2 (q1 cq) (fun q => kx (m2.mpr (Or.inl ⟨cq, q⟩))) (fun q => ky (fun t => by
                      rcases m2.mp t with ⟨_, z⟩ | ⟨z, _⟩
                      · exact q z
                      · exact z cq))
                  · exact j2 (q2 cq) (fun q => kx (m2.mpr (Or.inr ⟨cq, q⟩))) (fun q => ky (fun t => by
                      rcases m2.mp t with ⟨z, _⟩ | ⟨_, z⟩
                      · exact cq z
                      · exact q z))
                · cases e2
              · cases e
            | ifnonnull off =>
              rw [hj, hj2, hi] at e
              simp only [cond_false] at e
              split at e
              · rename_i ga a r0
                obtain ⟨e1, e2⟩ := cond_s e
                simp only [Bool.and_eq_true] at e1
                obtain ⟨a1, a3⟩ := e1
                split at e2
                · rename_i x y k1 k2
                  obtain ⟨xk, xC, xs⟩ := x
                  obtain ⟨yk, yC, ys⟩ := y
                  obtain ⟨i1, i2⟩ := evC_ok ko po hc n _ _ _ h st _ _ _ hw k1
                  obtain ⟨j1, j2⟩ := evC_ok ko po hc n _ _ _ h st _ _ _ hw k2
                  obtain ⟨m1, m2, m3⟩ := cmb_ok (c := ¬ a = 0) (nc := a = 0) (x := (xk, xC, xs)) (y := (yk, yC, ys)) (Decidable.not_not.symm) i1 j1
                  have e3 := Option.some.inj e2
                  rw [e3] at m1 m2 m3
                  simp only at m1 m2 m3
                  refine ⟨m3, fun hs kx ky => ?_⟩
                  rw [m1] at hs
                  obtain ⟨q1, q2⟩ := csd_ok hs
                  refine j_ifnonnull ko (code_at hc hi rfl) (pR_4 a1).1 (tgt_ok a3) (fun cq => ?_) (fun cq => ?_)
                  · exact i2 (q1 cq) (fun q => kx (m2.mpr (Or.inl ⟨cq, q⟩))) (fun q => ky (fun t => by
                      rcases m2.mp t with ⟨_, z⟩ | ⟨z, _⟩
                      · exact q z
                      · exact cq z))
                  · exact j2 (q2 cq) (fun q => kx (m2.mpr (Or.inr ⟨cq, q⟩))) (fun q => ky (fun t => by
                      rcases m2.mp t with ⟨z, _⟩ | ⟨_, z⟩
                      · exact z cq
                      · exact q z))
                · cases e2
              · cases e
            | _ => cases hb
end EP
