/-! Part 42a: System.arraycopy -/
/-- n values of s, from i on, laid into d, from j on -/
def hcp (h : MH) (s i d j n : Int) : MH := (fun b k => if b = d ∧ j ≤ k ∧ k < j + n then hv h s (k - j + i) else hv h b k, h.2)
theorem hv_cp {h : MH} {s i d j n b k : Int} : hv (hcp h s i d j n) b k = if b = d ∧ j ≤ k ∧ k < j + n then hv h s (k - j + i) else hv h b k := rfl
theorem hn_cp {h : MH} {s i d j n b : Int} : hn (hcp h s i d j n) b = hn h b := rfl
theorem ht_cp {h : MH} {s i d j n b : Int} : ht (hcp h s i d j n) b = ht h b := rfl
theorem hz_cp {h : MH} {s i d j n : Int} : hz (hcp h s i d j n) = hz h := rfl
theorem hs_cp {h : MH} {s i d j n : Int} : hs (hcp h s i d j n) = hs h := rfl
/-- an array's cell is laid anew, the rest is as it was -/
theorem JR_arr {G : JG} {h h' : MH} {H H' : Heap} {t : Nat} {d : Int} {cell cell' : Cell} (hR : JR G h H) (hob : obj h t d) (ht1 : 100 ≤ t) (e2 : h'.2 = h.2) (ev : ∀ b, b ≠ d → ∀ k, hv h' b k = hv h b k) (hc : H[ad G d]? = some cell) (hc' : H'[ad G d]? = some cell') (h1 : cell'.vm = .none) (h2 : cell'.cls = cell.cls) (h3 : cell'.slots.size = cell.slots.size)
    (hsl : ∀ j : Nat, (j : Int) < hn h d → slotA G h' cell' t d j) (hsz : H'.size = H.size) (ho : ∀ q, q ≠ ad G d → H'[q]? = H[q]?) : JR G h' H' := by
  have en : ∀ b, hn h' b = hn h b := fun b => by unfold hn; rw [e2]
  have et : ∀ b, ht h' b = ht h b := fun b => by unfold ht; rw [e2]
  have ez : hz h' = hz h := by unfold hz; rw [e2]
  have es : hs h' = hs h := by unfold hs; rw [e2]
  have eo : ∀ vt z, okf h' vt z = okf h vt z := fun vt z => by unfold okf; rw [ez, et]
  obtain ⟨cell0, c1, c2, c3, c4, c5, c6, c7⟩ := cell_a hR hob ht1
  cases hc.symm.trans c1
  obtain ⟨r1, r2, r3, r4, r5, r6, r7, r8⟩ := hR
  refine ⟨by rw [ez]; exact r1, by rw [hsz, ez]; exact r2, ?_, by rw [ez]; exact r4, by rw [es]; exact r5, fun b b1 b2 => ?_, fun q hq => ?_, fun g => ?_⟩
  · rw [es, ssum_same (H := H) (gB G) hsz ?_]
    · exact r3
    · intro q c c' e1 e2'
      by_cases hq : q = ad G d
      · subst hq
        rw [hc] at e1
        rw [hc'] at e2'
        cases e1
        cases e2'
        exact h3
      · rw [ho q hq, e1] at e2'
        cases e2'
        rfl
  · rw [ez] at b2
    by_cases hb : b = d
    · subst hb
      refine ⟨cell', hc', h1, Or.inr ?_⟩
      rw [et, hob.2.2, en]
      exact ⟨ht1, h2.trans c3, c4, c5, by rw [h3]; exact c6, hsl⟩
    · have hne : ad G b ≠ ad G d := fun q => hb (ad_inj b1 hob.1 q)
      obtain ⟨cb, k1, k2, k3⟩ := r6 b b1 b2
      refine ⟨cb, by rw [ho _ hne]; exact k1, k2, ?_⟩
      rw [et, en]
      rcases k3 with ⟨q0, q1, q2⟩ | ⟨q0, q1, q2, q3, q4, q5⟩
      · refine Or.inl ⟨q0, q1, fun j hj => ?_⟩
        have := q2 j hj
        unfold slotO at this ⊢
        rw [ev b hb, eo]
        exact this
      · refine Or.inr ⟨q0, q1, q2, q3, q4, fun j hj => ?_⟩
        have := q5 j hj
        unfold slotA at this ⊢
        rw [ev b hb, eo]
        exact this
  · rw [ho q (by rw [ad_pos hob.1]; omega)]
    exact r7 q hq
  · intro b b1 b2 k hk0
    rw [et] at hk0 ⊢
    rw [ez] at b2
    have hb : b ≠ d := by
      intro e
      subst e
      rw [hob.2.2] at hk0
      have : kof t k = (-1, 0) := by
        unfold kof kft
        split <;> first | omega | rfl
      rw [this] at hk0
      simp at hk0
    rw [ev b hb, et, en, ez]
    exact r8 g b b1 b2 k hk0
theorem ti32 {z : Int} (h : c32 z) : (Int32.ofInt z).toInt = z := w32_id h
section CP
variable {K : JC} {own : String} {cc : ByteArray} {pc : Nat} {lv st : List LV} {h : MH} {idx t gs gd : Nat} {s i d j n : Int}
theorem j_acp {ty : FieldType} (ko : KO K own cc) (hd : decode cc pc = .ok (.invokestatic idx, 3)) (hl : Cond.methodLink own idx arraycopyName ∈ lw_all) (hF : 1 ≤ (kR K).frames) (hLo : 40 ≤ (kR K).locals) (hwt : wst st ≤ 8) (ht : 100 ≤ t) (hty : jat t = some ty) (hp : ety t < 4) (hgs : 4 ≤ gs) (hgd : 4 ≤ gd)
    (hos : okv h (gs, s) → obj h t s) (hod : okv h (gd, d) → obj h t d) (i0 : 0 ≤ i) (j0 : 0 ≤ j) (n0 : 0 ≤ n) (i1 : i + n ≤ hn h s) (j1 : j + n ≤ hn h d) (kk : JW K (pc + 3) lv st (hcp h s i d j n)) : JW K pc lv ((0, n) :: (0, j) :: (gd, d) :: (0, i) :: (gs, s) :: st) h := by
  intro ls H locs hls hlv hst hR hq T hT X
  have cn := okv_i' (hst (0, n) (by simp))
  have cj := okv_i' (hst (0, j) (by simp))
  have ci := okv_i' (hst (0, i) (by simp))
  have os := hos (hst (gs, s) (by simp))
  have od := hod (hst (gd, d) (by simp))
  have hst' : ∀ x ∈ st, okv h x := fun x hx => hst x (by simp [hx])
  obtain ⟨cs, a1, a2, a3, a4, a5, a6, a7⟩ := cell_a hR os ht
  obtain ⟨cd, b1, b2, b3, b4, b5, b6, b7⟩ := cell_a hR od ht
  obtain ⟨kA, comp, e1, e2, e3, e4, -⟩ := (ko.2.2.2.2.1.2.1 t ty hty).1
  have ki := clamp32 ci i0
  have kj := clamp32 cj j0
  have kn := clamp32 cn n0
  have gv : ∀ k : Nat, k < n.toNat → cs.slots.getD (i.toNat + k) .null = vl (kG K) (ety t, hv h s (i + k)) ∧ okf h (ety t) (hv h s (i + k)) := by
    intro k hk
    obtain ⟨s1, s2⟩ := a7 (i.toNat + k) (by omega)
    rw [show (((i.toNat + k : Nat)) : Int) = i + k by omega] at s1 s2
    rw [Array.getD_eq_getD_getElem?, s1]
    exact ⟨rfl, s2⟩
  obtain ⟨vm', X', step⟩ := X.arraycopy ko.1 ko.2.2.1 (ko.2.2.2.1 _ hl) (ko.2.2.2.1 _ q780) (ko.2.2.2.1 _ q779) (ko.2.2.2.1 _ q207) (src := ad (kG K) s) (dst := ad (kG K) d) (srcPos := Int32.ofInt i) (destPos := Int32.ofInt j) (n := Int32.ofInt n) (cs := cs) (cd := cd) (ks := kA) (kd := kA) (sComp := comp) (dComp := comp) (sType := ty) (dType := ty)
    (by rw [hT]; exact a1) (by rw [hT]; exact b1) (fun k q => by rw [a2] at q; cases q) (fun k q => by rw [b2] at q; cases q) (fun q => by rw [a2] at q; cases q) (fun q => by rw [b2] at q; cases q) (by rw [a3]; exact e1) (by rw [b3]; exact e1) e2 e2 (by simp)
    (fun q => by have := (lt32 ci c32_0).mp q; omega) (fun q => by have := (lt32 cj c32_0).mp q; omega) (fun q => by have := (lt32 cn c32_0).mp q; omega) (by rw [ti32 ci, ti32 cn]; omega) (by rw [ti32 cj, ti32 cn]; omega)
    (by
      intro vm' _ k hk
      rw [kn] at hk
      rw [ki]
      obtain ⟨g1, g2⟩ := gv k hk
      rw [g1]
      refine ⟨(nar_ok (G := kG K) e4 g2).2, ?_⟩
      unfold vl
      split
      · trivial
      · first | trivial | (rw [if_pos hp]; trivial))
    (g := F0 (kM K) pc ls (((0, n) :: (0, j) :: (gd, d) :: (0, i) :: (gs, s) :: st).map (vl (kG K)))) rfl hls.1 (rest := st.map (vl (kG K))) (by
      show vl (kG K) (0, n) :: vl (kG K) (0, j) :: vl (kG K) (gd, d) :: vl (kG K) (0, i) :: vl (kG K) (gs, s) :: st.map (vl (kG K)) = _
      rw [vl_r hgd od.1, vl_r hgs os.1]
      rfl) (by rw [ko.2.1]; exact hd) hF (by
      show 2 * 0 + ((st.map (vl (kG K))).map fun v => v.category).sum + (5 + 2 + 11) ≤ _
      rw [wst_eq]
      omega)
  rw [kj] at X'
  have hce : copied cs cd (Int32.ofInt i) (Int32.ofInt j) (Int32.ofInt n) = cd.storeRun j.toNat (cs.stretch i.toNat n.toNat) := by rw [← ki, ← kj, ← kn]
  obtain ⟨f1, f2, f3, -, -⟩ := cd.storeRun_facts j.toNat (cs.stretch i.toNat n.toNat)
  have f4 : ∀ k : Nat, (cd.storeRun j.toNat (cs.stretch i.toNat n.toNat)).slots[k]? = _ := fun k => cd.storeRun_get j.toNat (cs.stretch i.toNat n.toNat) k (by rw [Cell.stretch_length]; omega)
  rw [hce] at X' step
  generalize cd.storeRun j.toNat (cs.stretch i.toNat n.toNat) = cell' at X' step f1 f2 f3 f4
  have hlta : ad (kG K) d < T.heap.size := by rw [hT]; exact (Array.getElem?_eq_some_iff.mp b1).1
  have hU : ((T.setVm vm').setCell (ad (kG K) d) cell').heap = T.heap.setIfInBounds (ad (kG K) d) cell' := rfl
  have y1 : (T.heap.setIfInBounds (ad (kG K) d) cell')[ad (kG K) d]? = some cell' := by simp [hlta]
  have y2 : (T.heap.setIfInBounds (ad (kG K) d) cell').size = H.size := by rw [← hT]; simp
  have y3 : ∀ q, q ≠ ad (kG K) d → (T.heap.setIfInBounds (ad (kG K) d) cell')[q]? = H[q]? := by
    intro q hq'
    rw [← hT]
    simp [Array.getElem?_setIfInBounds, Ne.symm hq']
  have hR' : JR (kG K) (hcp h s i d j n) (T.heap.setIfInBounds (ad (kG K) d) cell') := by
    refine JR_arr hR od ht rfl (fun b hb k => by rw [hv_cp, if_neg (fun q => hb q.1)]) b1 y1 (f2.trans b2) f1 f3 (fun k hk => ?_) y2 y3
    unfold slotA
    rw [f4 k, Cell.stretch_length]
    by_cases hin : j.toNat ≤ k ∧ k < j.toNat + n.toNat
    · rw [if_pos hin, hv_cp, if_pos ⟨rfl, by omega, by omega⟩]
      obtain ⟨g1, g2⟩ := gv (k - j.toNat) (by omega)
      have g3 : (cs.stretch i.toNat n.toNat)[k - j.toNat]? = some (cs.slots.getD (i.toNat + (k - j.toNat)) .null) := by
        unfold Cell.stretch
        rw [List.getElem?_map, List.getElem?_range (by omega)]
        rfl
      rw [g3, g1, show i + ((k - j.toNat : Nat) : Int) = (k : Int) - j + i by omega]
      rw [show i + ((k - j.toNat : Nat) : Int) = (k : Int) - j + i by omega] at g2
      exact ⟨rfl, g2⟩
    · rw [if_neg hin, hv_cp, if_neg (by omega)]
      exact b7 k hk
  have k0 := kk ls _ (locs ++ (cs.stretch (Int32.ofInt i).toNatClampNeg (Int32.ofInt n).toNatClampNeg).zipIdx.map fun q => ⟨ad (kG K) d, j.toNat + q.2⟩) hls hlv hst' hR' ⟨by
    intro q hq'
    rcases List.mem_append.mp hq' with z | z
    · exact hq.1 q z
    · obtain ⟨w, -, rfl⟩ := List.mem_map.mp z
      show gB (kG K) ≤ ad (kG K) d
      rw [ad_pos od.1]
      exact Nat.le_add_right _ _, hq.2⟩
  obtain ⟨tt, t1, t2⟩ := k0 ((T.setVm vm').setCell (ad (kG K) d) cell') hU (stand_tight X')
  exact ⟨tt, step _ t1, t2⟩
end CP
