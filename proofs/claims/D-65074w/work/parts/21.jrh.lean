theorem tgt_ok {pc : Nat} {off : Int} (h : tok pc off = true) : (pc : Int) + off = (tgt pc off : Int) := by
  have := of_decide_eq_true h
  unfold tgt
  rw [Int.toNat_of_nonneg this]
  rfl
theorem cj_cons {p : Prop} {ps : List Prop} : cj (p :: ps) ↔ p ∧ cj ps := by
  cases ps with
  | nil => simp [cj]
  | cons q qs => exact Iff.rfl
theorem sides_cj : ∀ {ps : List Prop} {q : Prop}, sides ps q ↔ cj ps ∧ q
  | [], q => by simp [sides, cj]
  | p :: ps, q => by rw [show sides (p :: ps) q = (p ∧ sides ps q) from rfl, sides_cj (ps := ps), cj_cons, and_assoc]
theorem cj_app {a b : List Prop} : cj (a ++ b) ↔ cj a ∧ cj b := by
  induction a with
  | nil => simp [cj]
  | cons p ps ih => rw [List.cons_append, cj_cons, ih, cj_cons, and_assoc]
theorem csd_ok {c nc : Prop} {s1 s2 : List Prop} (h : cj (csd c nc s1 s2)) : (c → cj s1) ∧ (nc → cj s2) := by
  unfold csd at h
  split at h
  · exact ⟨fun _ => trivial, fun _ => trivial⟩
  · exact ⟨fun _ => trivial, by simpa [cj] using h⟩
  · exact ⟨by simpa [cj] using h, fun _ => trivial⟩
  · obtain ⟨a, b⟩ := h
    exact ⟨a, b⟩
theorem sel_t {c : Jvm.ClassFile.Cond} {a b z1 z2 : Int} (h : cnd c a b) : sel c a b z1 z2 = z1 := by
  cases c <;> simp only [cnd, sel] at h ⊢ <;> split <;> first | rfl | omega
theorem sel_f {c : Jvm.ClassFile.Cond} {a b z1 z2 : Int} (h : cnd (neg c) a b) : sel c a b z1 z2 = z2 := by
  cases c <;> simp only [cnd, neg, sel] at h ⊢ <;> split <;> first | rfl | omega
section EV
variable {K : JC} {own : String} {cc : ByteArray} {P : JP} {code : List (Nat × List (Nat × Instr))}
theorem code_at (hc : CodeOK cc code) {pc : Nat} {i : Instr} (h : lkc code pc = some i) (hs : isSw i = false) : decode cc pc = .ok (i, iln i) := by
  obtain ⟨p, h3, h4⟩ := lkc_mem h
  obtain ⟨len, h1, h2⟩ := hc _ h3 _ h4
  rcases h2 with h2 | h2
  · rw [show isSw (pc, i).2 = false from hs] at h2; cases h2
  · subst h2; exact h1
theorem pst_lv {P : JP} {bw : Nat} {i : Instr} {lv st lv' st' : List LV} {h : MH} {ps : List Prop} (hk : kpl i = true) (e : pst P bw i lv st h = some (ps, lv', st')) : lv' = lv := by
  cases i with
  | getfield k =>
    simp only [pst] at e
    split at e
    · rename_i t f tg off g a r0 hk'
      cases hc : (isRf g && Nat.beq (arT g) t) with
      | false => rw [hc] at e; cases e
      | true =>
        rw [hc] at e
        cases hc2 : Nat.beq off 0 with
        | true => rw [hc2] at e; cases e; rfl
        | false => rw [hc2] at e; cases e; rfl
    · cases e
  | invokestatic k =>
    simp only [pst] at e
    split at e
    · split at e
      · obtain ⟨-, e2⟩ := cond_some e
        cases e2
        rfl
      · cases e
    · cases e
  | _ =>
    simp only [kpl, Bool.false_eq_true] at hk
    try (simp only [pst, ldv, ii, ll, li, u1, aal] at e)
    all_goals first
      | (cases e; done)
      | (cases e; rfl)
      | (obtain ⟨-, e2⟩ := cond_some e; cases e2; rfl)
      | (split at e <;> first | (cases e; done) | (cases e; rfl) | (obtain ⟨-, e2⟩ := cond_some e; cases e2; rfl))
end EV
