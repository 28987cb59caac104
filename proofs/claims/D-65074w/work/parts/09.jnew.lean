/-! J-layer, part 7: stores of elements by kind; new cells -/
section SE
variable {K : JC} {own : String} {cc : ByteArray} {pc : Nat} {lv st : List LV} {h : MH} {idx t k g gx : Nat} {a x i : Int}
theorem j_iast (ko : KO K own cc) (hd : decode cc pc = .ok (.iastore, 1)) (hg : 4 ≤ g) (ho : okv h (g, a) → obj h 100 a) (h0 : 0 ≤ i) (h1 : i < hn h a) (kk : JW K (pc + 1) lv st (hset h a i x)) : JW K pc lv ((0, x) :: (0, i) :: (g, a) :: st) h :=
  j_ast (t := 100) (ty := .int) ko (by omega) rfl hg ho rfl (fun q => by unfold okv at q; exact q) (fun _ H locs cs ss ls rest cell _ e1 e2 _ e3 e4 k => W.iast ko.1 ko.2.1 e1 e3 (by rw [e2]; exact fun q => by cases q) e4 rfl rfl hd k) h0 h1 kk
theorem j_last (ko : KO K own cc) (hd : decode cc pc = .ok (.lastore, 1)) (hg : 4 ≤ g) (ho : okv h (g, a) → obj h 101 a) (h0 : 0 ≤ i) (h1 : i < hn h a) (kk : JW K (pc + 1) lv st (hset h a i x)) : JW K pc lv ((1, x) :: (0, i) :: (g, a) :: st) h :=
  j_ast (t := 101) (ty := .long) ko (by omega) rfl hg ho rfl (fun q => by unfold okv at q; exact q) (fun _ H locs cs ss ls rest cell _ e1 e2 _ e3 e4 k => W.last ko.1 ko.2.1 e1 e3 (by rw [e2]; exact fun q => by cases q) e4 rfl rfl hd k) h0 h1 kk
theorem j_zast (ko : KO K own cc) (hd : decode cc pc = .ok (.bastore, 1)) (hg : 4 ≤ g) (ho : okv h (g, a) → obj h 102 a) (h0 : 0 ≤ i) (h1 : i < hn h a) (hx : x = 0 ∨ x = 1) (kk : JW K (pc + 1) lv st (hset h a i x)) : JW K pc lv ((0, x) :: (0, i) :: (g, a) :: st) h :=
  j_ast (t := 102) (ty := .boolean) ko (by omega) rfl hg ho rfl (fun _ => by simp [okf, ety]; exact hx)
    (fun hk H locs cs ss ls rest cell _ e1 e2 _ e3 e4 k => W.zast ko.1 ko.2.1 e1 e3 (by rw [e2]; exact fun q => by cases q) e4 rfl rfl hd (by
      have hn := (nar_ok (G := kG K) (ty := .boolean) (vt := 2) rfl hk).1
      intro H' d1 d2 d3
      exact k H' (by show H'[ad (kG K) _]? = some (cell.setSlot _ (vl (kG K) (2, x))); rw [← hn]; exact d1) d2 d3)) h0 h1 kk
theorem j_bast (ko : KO K own cc) (hd : decode cc pc = .ok (.bastore, 1)) (hg : 4 ≤ g) (ho : okv h (g, a) → obj h 103 a) (h0 : 0 ≤ i) (h1 : i < hn h a) (hx : -128 ≤ x ∧ x ≤ 127) (kk : JW K (pc + 1) lv st (hset h a i x)) : JW K pc lv ((0, x) :: (0, i) :: (g, a) :: st) h :=
  j_ast (t := 103) (ty := .byte) ko (by omega) rfl hg ho rfl (fun _ => by simp [okf, ety]; exact hx)
    (fun hk H locs cs ss ls rest cell _ e1 e2 _ e3 e4 k => W.bast ko.1 ko.2.1 e1 e3 (by rw [e2]; exact fun q => by cases q) e4 rfl rfl hd (by
      have hn := (nar_ok (G := kG K) (ty := .byte) (vt := 3) rfl hk).1
      intro H' d1 d2 d3
      exact k H' (by show H'[ad (kG K) _]? = some (cell.setSlot _ (vl (kG K) (3, x))); rw [← hn]; exact d1) d2 d3)) h0 h1 kk
theorem cell_c {G : JG} {h : MH} {H : Heap} {t : Nat} {a : Int} (hR : JR G h H) (ho : obj h t a) : ∃ cell : Cell, H[ad G a]? = some cell ∧ cell.vm = .none ∧ cell.cls = gcls G t := by
  unfold gcls
  by_cases ht : t < 100
  · obtain ⟨cell, c1, c2, c3, -⟩ := cell_o hR ho ht
    exact ⟨cell, c1, c2, by rw [if_pos ht]; exact c3⟩
  · obtain ⟨cell, c1, c2, c3, -⟩ := cell_a hR ho (by omega)
    exact ⟨cell, c1, c2, by rw [if_neg ht]; exact c3⟩
theorem j_aast {ty : FieldType} (ko : KO K own cc) (hd : decode cc pc = .ok (.aastore, 1)) (ht : 100 ≤ t) (hty : jat t = some ty) (hr : ty.isReference = true) (h4 : 4 ≤ ety t) (hg : 4 ≤ g) (ho : okv h (g, a) → obj h t a) (hgx : 4 ≤ gx) (hx : okv h (gx, x) → obj h (ety t - 4) x) (h0 : 0 ≤ i) (h1 : i < hn h a)
    (kk : JW K (pc + 1) lv st (hset h a i x)) : JW K pc lv ((gx, x) :: (0, i) :: (g, a) :: st) h := by
  intro ls H locs hl hlv hst hR hq
  have hox := hx (hst _ List.mem_cons_self)
  refine j_ast (t := t) (ty := ty) ko ht hty hg ho (by rw [vl_r hgx hox.1, vl_r h4 hox.1]) (fun _ => ?_) ?_ h0 h1 kk ls H locs hl hlv hst hR hq
  · unfold okf
    simp only [show ¬ ety t = 0 by omega, show ¬ ety t = 1 by omega, show ¬ ety t = 2 by omega, show ¬ ety t = 3 by omega, if_false]
    exact Or.inr hox
  · intro _ H locs cs ss ls rest cell hR e1 e2 e2' e3 e4 k
    obtain ⟨kA, comp, a1, a2, -, -, a3⟩ := (ko.2.2.2.2.1.2.1 t ty hty).1
    obtain ⟨b1, b2, kc, b3⟩ := a3 h4
    obtain ⟨cv, v1, v2, v3⟩ := cell_c hR hox
    rw [vl_r h4 hox.1] at k ⊢
    refine W.aast ko.1 ko.2.1 e1 (fun q e => by rw [e2] at e; cases e) (by rw [e2]; exact fun q => by cases q) (by rw [e2']; exact a1) a2 hr b3 ⟨fun q => e4 (Or.inl q), Nat.not_le.mp fun q => e4 (Or.inr q)⟩ v1 (fun q e => by rw [v2] at e; cases e) (kv := kc) (by rw [v3, ← b1]; exact b3) (by rw [v3, ← b1]; exact b2) rfl rfl hd k
end SE
theorem push_of {H H' : Heap} {cell : Cell} (h1 : H'[H.size]? = some cell) (h2 : H'.size = H.size + 1) (h3 : ∀ q, q < H.size → H'[q]? = H[q]?) : H' = H.push cell := by
  apply Array.ext_getElem?
  intro i
  rw [Array.getElem?_push]
  by_cases hi : i = H.size
  · rw [if_pos hi, hi]
    exact h1
  · rw [if_neg hi]
    by_cases hl : i < H.size
    · exact h3 i hl
    · have e1 : H'[i]? = none := by simp; omega
      have e2 : H[i]? = none := by simp; omega
      rw [e1, e2]
theorem ssum_push {H : Heap} {cell : Cell} {n : Nat} (hn : n ≤ H.size) : ssum (H.push cell) n = ssum H n + cell.slots.size := by
  unfold ssum
  rw [Array.toList_push, List.drop_append_of_le_length (by simpa using hn)]
  simp
theorem ssum_split {H0 H : Heap} {b : Nat} (hb : b ≤ H0.size) (hz : H0.size ≤ H.size) (hs : ∀ (q : Nat) (c : Cell), H0[q]? = some c → ∃ c', H[q]? = some c' ∧ c'.slots.size = c.slots.size) : ssum H b = ssum H0 b + ssum H H0.size := by
  unfold ssum
  have e : (H.toList.drop b).map (·.slots.size) = (H0.toList.drop b).map (·.slots.size) ++ (H.toList.drop H0.size).map (·.slots.size) := by
    apply List.ext_getElem?
    intro i
    rw [List.getElem?_append]
    simp only [List.length_map, List.length_drop, Array.length_toList, List.getElem?_map, List.getElem?_drop, Array.getElem?_toList]
    by_cases hi : i < H0.size - b
    · rw [if_pos hi]
      have h1 : H0[b + i]? = some H0[b + i] := Array.getElem?_eq_getElem (by omega)
      obtain ⟨c', e1, e2⟩ := hs _ _ h1
      rw [h1, e1]
      simp [e2]
    · rw [if_neg hi]
      rw [show H0.size + (i - (H0.size - b)) = b + i by omega]
  rw [e, List.sum_append]
theorem vl_zero {G : JG} {ty : FieldType} {vt : Nat} (h : ktOf ty vt = true) : defaultValue ty = vl G (vt, 0) := by
  cases ty with
  | int => simp [ktOf] at h; subst h; rfl
  | long => simp [ktOf] at h; subst h; rfl
  | boolean => simp [ktOf] at h; subst h; rfl
  | byte => simp [ktOf] at h; subst h; rfl
  | object n =>
    simp only [ktOf, Nat.ble_eq] at h
    unfold vl
    rw [if_neg (by show ¬ vt = 1; omega), if_neg (by show ¬ vt < 4; omega), if_pos rfl]
    rfl
  | array n =>
    simp only [ktOf, Nat.ble_eq] at h
    unfold vl
    rw [if_neg (by show ¬ vt = 1; omega), if_neg (by show ¬ vt < 4; omega), if_pos rfl]
    rfl
  | _ => simp [ktOf] at h
theorem okf_zero (h : MH) (vt : Nat) : okf h vt 0 := by
  unfold okf
  split
  · exact c32_0
  · split
    · unfold c64; omega
    · split
      · exact Or.inl rfl
      · split
        · omega
        · exact Or.inl rfl
/-- a new cell at the heap's end -/
theorem JR_push {G : JG} {h : MH} {H : Heap} {t : Nat} {n c : Int} {cell : Cell} (hR : JR G h H) (h1 : hz h + 1 ≤ LIMC) (h2 : hs h + c ≤ LIMS) (hc : (cell.slots.size : Int) = c) (hcell : cellA G (hnew h t n c) (H.push cell) (hz h + 1)) (hk : gO G = true → kft t = []) : JR G (hnew h t n c) (H.push cell) := by
  obtain ⟨r1, r2, r3, r4, r5, r6, r7, r8⟩ := hR
  have hold : ∀ q, q < H.size → (H.push cell)[q]? = H[q]? := fun q hq => by rw [Array.getElem?_push, if_neg (Nat.ne_of_lt hq)]
  refine ⟨by rw [hz_new]; omega, by rw [hz_new, Array.size_push, r2]; omega, ?_, by rw [hz_new]; exact h1, by rw [hs_new]; exact h2, fun b b1 b2 => ?_, fun q hq => ?_, fun g => ?_⟩
  · rw [hs_new, ssum_push (by rw [r2]; omega)]
    omega
  · rw [hz_new] at b2
    by_cases hb : b = hz h + 1
    · subst hb
      exact hcell
    · obtain ⟨cb, c1, c2, c3⟩ := r6 b b1 (by omega)
      refine ⟨cb, by rw [hold _ (Array.getElem?_eq_some_iff.mp c1).1]; exact c1, c2, ?_⟩
      have e1 : ht (hnew h t n c) b = ht h b := by rw [ht_new, if_neg hb]
      have e2 : hn (hnew h t n c) b = hn h b := by rw [hn_new, if_neg hb]
      have e3 : ∀ j, hv (hnew h t n c) b j = hv h b j := fun j => by rw [hv_new, if_neg hb]
      rw [e1, e2]
      rcases c3 with ⟨q0, q1, q2⟩ | ⟨q0, q1, q2, q3, q4, q5⟩
      · refine Or.inl ⟨q0, q1, fun j hj => ?_⟩
        have := q2 j hj
        unfold slotO at this ⊢
        rw [e3]
        exact ⟨this.1, okf_new this.2⟩
      · refine Or.inr ⟨q0, q1, q2, q3, q4, fun j hj => ?_⟩
        have := q5 j hj
        unfold slotA at this ⊢
        rw [e3]
        exact ⟨this.1, okf_new this.2⟩
  · rw [hold q (by rw [r2]; omega)]
    exact r7 q hq
  · intro b b1 b2 k hk0
    rw [hz_new] at b2
    by_cases hb : b = hz h + 1
    · rw [ht_new, if_pos hb] at hk0
      unfold kof at hk0
      rw [hk g] at hk0
      simp at hk0
    · have e1 : ht (hnew h t n c) b = ht h b := by rw [ht_new, if_neg hb]
      rw [e1] at hk0 ⊢
      obtain ⟨d1, d2, d3, d4, d5⟩ := r8 g b b1 (by omega) k hk0
      have e3 : hv (hnew h t n c) b k = hv h b k := by rw [hv_new, if_neg hb]
      rw [e3, ht_new, hn_new, hz_new, if_neg (by omega), if_neg (by omega)]
      exact ⟨d1, d2, by omega, d4, d5⟩
