/-! J-layer, part 6: stores -/
theorem ssum_same {H H' : Heap} (n : Nat) (hz : H'.size = H.size) (hs : ∀ (q : Nat) (c c' : Cell), H[q]? = some c → H'[q]? = some c' → c'.slots.size = c.slots.size) : ssum H' n = ssum H n := by
  unfold ssum
  congr 1
  apply List.ext_getElem?
  intro i
  simp only [List.getElem?_map, List.getElem?_drop, Array.getElem?_toList]
  cases h1 : H[n + i]? with
  | none =>
    have : H.size ≤ n + i := by simpa using h1
    have h2 : H'[n + i]? = none := by simp; omega
    rw [h2]
  | some c =>
    have hlt : n + i < H'.size := by rw [hz]; exact (Array.getElem?_eq_some_iff.mp h1).1
    have h2 : H'[n + i]? = some H'[n + i] := Array.getElem?_eq_getElem hlt
    rw [h2]
    simp only [Option.map_some]
    rw [hs _ _ _ h1 h2]
theorem set_size (c : Cell) (i : Nat) (v : Value) : (c.setSlot i v).slots.size = c.slots.size := by simp [Cell.setSlot]
theorem set_eq {c : Cell} {i : Nat} {v v0 : Value} (h : c.slots[i]? = some v0) : (c.setSlot i v).slots[i]? = some v := by
  have hlt : i < c.slots.size := (Array.getElem?_eq_some_iff.mp h).1
  simp [Cell.setSlot, hlt]
theorem set_ne {c : Cell} {i j : Nat} {v : Value} (h : i ≠ j) : (c.setSlot i v).slots[j]? = c.slots[j]? := by
  simp [Cell.setSlot, Array.getElem?_setIfInBounds, h]
/-- the frame of a store: the rest of the real heap is as it was -/
theorem JR_set {G : JG} {h : MH} {H H' : Heap} {a k x : Int} {cell cell' : Cell} (hR : JR G h H) (ha : 1 ≤ a) (ha2 : a ≤ hz h) (hc : H[ad G a]? = some cell) (hc' : H'[ad G a]? = some cell') (hsz : H'.size = H.size) (hss : cell'.slots.size = cell.slots.size)
    (ho : ∀ q, q ≠ ad G a → H'[q]? = H[q]?) (hA : cellA G (hset h a k x) H' a) (hk : gO G = true → kF (hset h a k x)) : JR G (hset h a k x) H' := by
  obtain ⟨r1, r2, r3, r4, r5, r6, r7, r8⟩ := hR
  refine ⟨r1, by rw [hsz]; exact r2, ?_, r4, r5, fun b b1 b2 => ?_, fun q hq => ?_, hk⟩
  · rw [ssum_same (H := H) (gB G) hsz ?_]
    · exact r3
    · intro q c c' e1 e2
      by_cases hq : q = ad G a
      · subst hq
        rw [hc] at e1
        rw [hc'] at e2
        cases e1
        cases e2
        exact hss
      · rw [ho q hq, e1] at e2
        cases e2
        rfl
  · by_cases hb : b = a
    · subst hb
      exact hA
    · have hne : ad G b ≠ ad G a := fun q => hb (ad_inj b1 ha q)
      obtain ⟨cb, c1, c2, c3⟩ := r6 b b1 b2
      refine ⟨cb, by rw [ho _ hne]; exact c1, c2, ?_⟩
      have hv' : ∀ j, hv (hset h a k x) b j = hv h b j := fun j => by rw [hv_set, if_neg (fun q => hb q.1)]
      rcases c3 with ⟨q0, q1, q2⟩ | ⟨q0, q1, q2, q3, q4, q5⟩
      · refine Or.inl ⟨q0, q1, fun j hj => ?_⟩
        have := q2 j hj
        unfold slotO at this ⊢
        rw [hv', ht_set, okf_set]
        exact this
      · refine Or.inr ⟨q0, q1, q2, q3, q4, fun j hj => ?_⟩
        have := q5 j hj
        unfold slotA at this ⊢
        rw [hv', ht_set, okf_set]
        exact this
  · rw [ho q (by rw [ad_pos ha]; omega)]
    exact r7 q hq
theorem kF_set {h : MH} {t k : Nat} {a x : Int} (hk : kF h) (ho : ht h a = t) (hn : (kof t k).1 < 0) : kF (hset h a k x) := by
  intro b b1 b2 j hj
  rw [ht_set] at hj ⊢
  have hne : ¬ (b = a ∧ (j : Int) = (k : Int)) := by
    rintro ⟨e1, e2⟩
    subst e1
    have e3 : j = k := by omega
    subst e3
    rw [ho] at hj
    omega
  rw [hv_set, if_neg hne, ht_set, hn_set, hz_set]
  exact hk b b1 b2 j hj
theorem kF_setA {h : MH} {k : Int} {a x : Int} (hk : kF h) (ho : 100 ≤ ht h a) : kF (hset h a k x) := by
  intro b b1 b2 j hj
  rw [ht_set] at hj ⊢
  have hz0 : ∀ t, 100 ≤ t → kof t j = (-1, 0) := by
    intro t ht
    unfold kof kft
    split <;> first | omega | rfl
  have hne : ¬ (b = a ∧ (j : Int) = k) := by
    rintro ⟨e1, e2⟩
    subst e1
    rw [hz0 _ ho] at hj
    simp at hj
  rw [hv_set, if_neg hne, ht_set, hn_set, hz_set]
  exact hk b b1 b2 j hj
theorem JR_setO {G : JG} {h : MH} {H H' : Heap} {t k : Nat} {a x : Int} {cell : Cell} (hR : JR G h H) (hob : obj h t a) (ht : t < 100) (hk : k < (nft t).length) (hap : ∀ i j, i < (nft t).length → j < (nft t).length → i ≠ j → gI G t i ≠ gI G t j)
    (hx : okf h (fty t k) x) (hcell : H[ad G a]? = some cell) (hc' : H'[ad G a]? = some (cell.setSlot (gI G t k) (vl G (fty t k, x)))) (hsz : H'.size = H.size) (ho : ∀ q, q ≠ ad G a → H'[q]? = H[q]?) (hkf : gO G = true → (kof t k).1 < 0) : JR G (hset h a k x) H' := by
  obtain ⟨cell1, c1, c2, c3, c4⟩ := cell_o hR hob ht
  cases hcell.symm.trans c1
  refine JR_set hR hob.1 hob.2.1 hcell hc' hsz (set_size _ _ _) ho ⟨_, hc', c2, Or.inl ?_⟩ (fun g => kF_set (hR.2.2.2.2.2.2.2 g) hob.2.2 (hkf g))
  rw [ht_set, hob.2.2]
  refine ⟨ht, ⟨c3, fun q => by rw [set_size]; exact cell_x hR hob ht hcell q⟩, fun j hj => ?_⟩
  have s0 := c4 j hj
  unfold slotO at s0 ⊢
  by_cases e : j = k
  · subst e
    rw [hv_set, if_pos ⟨rfl, rfl⟩, okf_set]
    exact ⟨set_eq s0.1, hx⟩
  · rw [hv_set, if_neg (fun q => e (by have := q.2; omega)), okf_set, set_ne (hap k j hk hj (fun q => e q.symm))]
    exact s0
theorem JR_setA {G : JG} {h : MH} {H H' : Heap} {t : Nat} {a i x : Int} {cell : Cell} (hR : JR G h H) (hob : obj h t a) (ht : 100 ≤ t) (h0 : 0 ≤ i) (h1 : i < hn h a) (hx : okf h (ety t) x) (hcell : H[ad G a]? = some cell)
    (hc' : H'[ad G a]? = some (cell.setSlot i.toNat (vl G (ety t, x)))) (hsz : H'.size = H.size) (ho : ∀ q, q ≠ ad G a → H'[q]? = H[q]?) : JR G (hset h a i x) H' := by
  obtain ⟨cell1, c1, c2, c3, c4, c5, c6, c7⟩ := cell_a hR hob ht
  cases hcell.symm.trans c1
  refine JR_set hR hob.1 hob.2.1 hcell hc' hsz (set_size _ _ _) ho ⟨_, hc', c2, Or.inr ?_⟩ (fun g => kF_setA (hR.2.2.2.2.2.2.2 g) (by rw [hob.2.2]; exact ht))
  rw [ht_set, hob.2.2, hn_set]
  refine ⟨ht, c3, c4, c5, by rw [set_size]; exact c6, fun j hj => ?_⟩
  have s0 := c7 j hj
  unfold slotA at s0 ⊢
  by_cases e : j = i.toNat
  · subst e
    rw [hv_set, if_pos ⟨rfl, Int.toNat_of_nonneg h0⟩, okf_set]
    exact ⟨set_eq s0.1, hx⟩
  · rw [hv_set, if_neg (fun q => e (by have := q.2; omega)), okf_set, set_ne (fun q => e q.symm)]
    exact s0
section SO
variable {K : JC} {own : String} {cc : ByteArray} {pc : Nat} {lv st : List LV} {h : MH} {idx t k g gx : Nat} {a x : Int}
/-- the distinct slots of a type's fields, and what may be stored there -/
def SLink (own : String) (idx t k : Nat) (fin : Bool) : Prop := FLink own idx t k ∧ ∃ (C : String) (T : u_T) (N : Nat) (ty : FieldType), jcl[t]? = some (C, T, N) ∧ N = (nft t).length ∧ k < N ∧ (∀ w ∈ u_ws C T N, w ∈ lw_all) ∧ Cond.fieldLink own idx (T k).1 (T k).2.1 (T k).2.2.1 ∈ lw_all ∧
  (∀ i, i < N → ∃ ti, parseFieldDescriptor (T i).2.2.1 = some ti) ∧ (∀ i, i < N → ∀ j, j < N → i ≠ j → (T i).2.1 ≠ (T j).2.1) ∧ parseFieldDescriptor (T k).2.2.1 = some ty ∧ ktOf ty (fty t k) = true ∧ (T k).2.2.2 = fin ∧ (fin = true → (T k).1 = own)
theorem gI_apart {G : JG} {s : State} {args : Array Value} {C : String} {T : u_T} {N : Nat} (hts : ∀ w ∈ lw_all, w.before args s = true) (hin : ∀ w ∈ u_ws C T N, w ∈ lw_all) (hty : ∀ i, i < N → ∃ ti, parseFieldDescriptor (T i).2.2.1 = some ti) (hnm : ∀ i, i < N → ∀ j, j < N → i ≠ j → (T i).2.1 ≠ (T j).2.1)
    (hK : u_Kn s C T N (gC G t) (gI G t)) : ∀ i j, i < N → j < N → i ≠ j → gI G t i ≠ gI G t j := by
  intro i j hi hj hne
  obtain ⟨_, _, _, fa, hia, ea⟩ := hK.1 i hi
  obtain ⟨_, _, _, fb, hib, eb⟩ := hK.1 j hj
  obtain ⟨ti, hti⟩ := hty i hi
  obtain ⟨tj, htj⟩ := hty j hj
  rw [← ea, ← eb]
  refine u_apart (u_lays hts hin hi) (u_lays hts hin hj) hia hib ?_
  rw [(State.fieldFound?_type hia hti).1, (State.fieldFound?_type hib htj).1]
  exact hnm i hi j hj hne
theorem nar_ok {G : JG} {h : MH} {ty : FieldType} {vt : Nat} {x : Int} (hk : ktOf ty vt = true) (hx : okf h vt x) : narrow ty (vl G (vt, x)) = vl G (vt, x) ∧ fits ty (vl G (vt, x)) = true := by
  cases ty with
  | int => simp [ktOf] at hk; subst hk; exact ⟨rfl, rfl⟩
  | long => simp [ktOf] at hk; subst hk; exact ⟨rfl, rfl⟩
  | boolean =>
    simp [ktOf] at hk; subst hk
    simp [okf] at hx
    rcases hx with e | e <;> subst e <;> exact ⟨rfl, rfl⟩
  | byte =>
    simp [ktOf] at hk; subst hk
    simp [okf] at hx
    have hc : c32 x := by unfold c32; omega
    constructor
    · show Value.int (Int32.ofInt x).toInt8.toInt32 = _
      rw [i2b_v, w8_id hx]
      rfl
    · show (decide (-128 ≤ Int32.ofInt x) && decide (Int32.ofInt x ≤ 127)) = true
      have h1 : (-128 : Int32) ≤ Int32.ofInt x := (le32 (a := -128) (by unfold c32; omega) hc).mpr hx.1
      have h2 : Int32.ofInt x ≤ (127 : Int32) := (le32 (b := 127) hc (by unfold c32; omega)).mpr hx.2
      simp [h1, h2]
  | object n =>
    simp only [ktOf, Nat.ble_eq] at hk
    unfold vl
    rw [if_neg (by show ¬ vt = 1; omega), if_neg (by show ¬ vt < 4; omega)]
    split <;> exact ⟨rfl, rfl⟩
  | array n =>
    simp only [ktOf, Nat.ble_eq] at hk
    unfold vl
    rw [if_neg (by show ¬ vt = 1; omega), if_neg (by show ¬ vt < 4; omega)]
    split <;> exact ⟨rfl, rfl⟩
  | _ => simp [ktOf] at hk
/-- a field is written -/
theorem j_put {fin : Bool} (ko : KO K own cc) (hd : decode cc pc = .ok (.putfield idx, 3)) (hf : SLink own idx t k fin) (hg : 4 ≤ g) (ho : okv h (g, a) → obj h t a) (hfin : fin = true → (kT K).name = "<init>") (hkf : gO (kG K) = true → (kof t k).1 < 0)
    (hvx : vl (kG K) (gx, x) = vl (kG K) (fty t k, x)) (hx : okv h (gx, x) → okf h (fty t k) x)
    (kk : JW K (pc + 3) lv st (hset h a k x)) : JW K pc lv ((gx, x) :: (g, a) :: st) h := by
  intro ls H locs hl hlv hst hR hq
  obtain ⟨ko1, ko2, ko3, ko4, ko5, -⟩ := ko
  obtain ⟨f00, C, T, N, ty, f2, f3, f4, f5, f6, f7, f8, f9, f10, f11, f12⟩ := hf
  have f0 := f00.1
  have hob := ho (hst _ (List.mem_cons_of_mem _ List.mem_cons_self))
  have hxo := hx (hst _ List.mem_cons_self)
  obtain ⟨cell, c1, c2, c3, c4⟩ := cell_o hR hob f0
  have hKn := ko5.1 t _ f2
  have hap := gI_apart ko4 f5 f7 f8 hKn
  obtain ⟨hS, hfc, kCl, hkC, hkind⟩ := hKn
  obtain ⟨cf, kf, fi, f, hi, hsl⟩ := hS k f4
  obtain ⟨n1, n2⟩ := nar_ok (G := kG K) f10 hxo
  have hst0 := (u_facts hfc hkC (u_lays ko4 f5 f4) hi).1
  obtain ⟨s1, s2⟩ := c4 k (by rw [← f3]; exact f4)
  have hlt : f.slot < cell.slots.size := by rw [hsl]; exact (Array.getElem?_eq_some_iff.mp s1).1
  have key : ∀ H' : Heap, H'[ad (kG K) a]? = some (cell.setSlot f.slot (vl (kG K) (gx, x))) → H'.size = H.size → (∀ q, q ≠ ad (kG K) a → H'[q]? = H[q]?) →
      W (kP K) (kL K) (kE K) (kR K) (kS K) (kM K) (kA K) (kB K) (kT K) (kC K) H' (locs ++ [⟨ad (kG K) a, f.slot⟩]) (H.size - (kS K).heap.size) (ssum H (kS K).heap.size) (JZ K) (F0 (kM K) (pc + 3) ls (st.map (vl (kG K)))) := by
    intro H' e1 e2 e3
    rw [hsl, hvx] at e1
    have hss : ssum H' (kS K).heap.size = ssum H (kS K).heap.size := by
      refine ssum_same _ e2 ?_
      intro q c c' d1 d2
      by_cases hq : q = ad (kG K) a
      · subst hq
        rw [c1] at d1
        rw [e1] at d2
        cases d1
        cases d2
        exact set_size _ _ _
      · rw [e3 q hq, d1] at d2
        cases d2
        rfl
    have k0 := kk ls H' (locs ++ [⟨ad (kG K) a, f.slot⟩]) hl hlv (all_tail (all_tail hst)) (JR_setO hR hob f0 (by rw [← f3]; exact f4) (by rw [← f3]; exact hap) hxo c1 e1 e2 e3 hkf) ⟨by
      intro q hq'
      rcases List.mem_append.mp hq' with z | z
      · exact hq.1 q z
      · rw [List.mem_singleton.mp z]
        show gB (kG K) ≤ ad (kG K) a
        rw [ad_pos hob.1]
        omega, hq.2⟩
    rw [e2, hss] at k0
    exact k0
  show W _ _ _ _ _ _ _ _ _ _ _ _ _ _ _ (F0 (kM K) pc ls (vl (kG K) (gx, x) :: vl (kG K) (g, a) :: st.map (vl (kG K))))
  rw [vl_r hg hob.1]
  have hlay := ko4 _ (f5 _ (u_in_lay f4))
  unfold u_lay at hlay
  cases fin with
  | false =>
    rw [if_neg (by rw [f11]; decide)] at hlay
    have h6 := u_store hfc hkC hkind hlay hi f9 n1 n2
    rw [← hvx] at h6
    exact W.putK ko1 ko2 (f := f) ⟨ko3, ko4 _ f6, ⟨_, _, _, hi⟩, hst0⟩ (by rw [c3]; exact h6) c1 c2 hlt rfl rfl hd key
  | true =>
    rw [if_pos f11] at hlay
    have hcf : (kM K).cls = cf := by
      obtain ⟨_, _, c', _, _, _, -, -, hf', -, -, -, hown2, -⟩ := Cond.laysFinal_spec hlay
      have e1 : c' = cf := by have := hi.symm.trans hf'; simp at this; exact this.1.symm
      rw [f12 rfl] at hown2
      rw [← e1]; exact Option.some.inj (ko3.symm.trans hown2)
    have h6 := u_fits hfc hkC hkind (Or.inr hlay) hi f9 n1 n2
    rw [← hvx] at h6
    exact W.putFinK ko1 ko2 ko3 (ko4 _ f6) hi hst0 hcf (hfin rfl) (by rw [c3]; exact h6) c1 c2 hlt rfl rfl hd key
/-- an element is written -/
theorem j_ast {i : Int} {ty : FieldType} (ko : KO K own cc) (ht : 100 ≤ t) (hty : jat t = some ty) (hg : 4 ≤ g) (ho : okv h (g, a) → obj h t a) (hvx : vl (kG K) (gx, x) = vl (kG K) (ety t, x)) (hx : okv h (gx, x) → okf h (ety t) x)
    (row : okf h (ety t) x → ∀ (H : Heap) (locs : List Loc) (cs ss : Nat) (ls : Array Slot) (rest : List Value) (cell : Cell), JR (kG K) h H → H[ad (kG K) a]? = some cell → cell.vm = .none → cell.cls = gA (kG K) t → (kS K).isArrayOf cell ty → ¬ (Int32.ofInt i < 0 ∨ cell.slots.size ≤ (Int32.ofInt i).toNatClampNeg) →
      (∀ H' : Heap, H'[ad (kG K) a]? = some (cell.setSlot (Int32.ofInt i).toNatClampNeg (vl (kG K) (ety t, x))) → H'.size = H.size → (∀ q, q ≠ ad (kG K) a → H'[q]? = H[q]?) →
        W (kP K) (kL K) (kE K) (kR K) (kS K) (kM K) (kA K) (kB K) (kT K) (kC K) H' (locs ++ [⟨ad (kG K) a, (Int32.ofInt i).toNatClampNeg⟩]) cs ss (JZ K) (F0 (kM K) (pc + 1) ls rest)) →
      W (kP K) (kL K) (kE K) (kR K) (kS K) (kM K) (kA K) (kB K) (kT K) (kC K) H locs cs ss (JZ K) (F0 (kM K) pc ls (vl (kG K) (ety t, x) :: .int (Int32.ofInt i) :: .ref (ad (kG K) a) :: rest)))
    (h0 : 0 ≤ i) (h1 : i < hn h a) (kk : JW K (pc + 1) lv st (hset h a i x)) : JW K pc lv ((gx, x) :: (0, i) :: (g, a) :: st) h := by
  intro ls H locs hl hlv hst hR hq
  have hob := ho (hst _ (List.mem_cons_of_mem _ (List.mem_cons_of_mem _ List.mem_cons_self)))
  have hc := okv_i' (hst _ (List.mem_cons_of_mem _ List.mem_cons_self))
  have hxo := hx (hst _ List.mem_cons_self)
  obtain ⟨cell, c1, c2, c3, c4, c5, c6, c7⟩ := arr_at hR hob ht hc h0 h1
  show W _ _ _ _ _ _ _ _ _ _ _ _ _ _ _ (F0 (kM K) pc ls (vl (kG K) (gx, x) :: .int (Int32.ofInt i) :: vl (kG K) (g, a) :: st.map (vl (kG K))))
  rw [vl_r hg hob.1, hvx]
  refine row hxo H locs _ _ ls _ cell hR c1 c2 c3 (isArr (ko.2.2.2.2.1.2.1 t ty hty).1 c2 c3) c4 ?_
  intro H' e1 e2 e3
  have hss : ssum H' (kS K).heap.size = ssum H (kS K).heap.size := by
    refine ssum_same _ e2 ?_
    intro q c c' d1 d2
    by_cases hq : q = ad (kG K) a
    · subst hq
      rw [c1] at d1
      rw [e1] at d2
      cases d1
      cases d2
      exact set_size _ _ _
    · rw [e3 q hq, d1] at d2
      cases d2
      rfl
  have k0 := kk ls H' (locs ++ [⟨ad (kG K) a, (Int32.ofInt i).toNatClampNeg⟩]) hl hlv (all_tail (all_tail (all_tail hst))) (JR_setA hR hob ht h0 h1 hxo c1 (by rw [← c7]; exact e1) e2 e3) ⟨by
    intro q hq'
    rcases List.mem_append.mp hq' with z | z
    · exact hq.1 q z
    · rw [List.mem_singleton.mp z]
      show gB (kG K) ≤ ad (kG K) a
      rw [ad_pos hob.1]
      omega, hq.2⟩
  rw [e2, hss] at k0
  exact k0
end SO
