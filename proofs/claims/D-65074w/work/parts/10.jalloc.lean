/-! J-layer, part 8: new, newarray, anewarray -/
def NLink (own : String) (idx t n : Nat) : Prop := t < 100 ∧ ∃ (C : String) (T : u_T) (N : Nat), jcl[t]? = some (C, T, N) ∧ N = (nft t).length ∧ (∀ w ∈ u_ws C T N, w ∈ lw_all) ∧ Cond.classLink own idx C ∈ lw_all ∧ Cond.instantiable C n ∈ lw_all ∧ Cond.initialized C ∈ lw_all ∧
  ∀ k, k < N → ∃ ti, parseFieldDescriptor (T k).2.2.1 = some ti ∧ ktOf ti (fty t k) = true
section AL
variable {K : JC} {own : String} {cc : ByteArray} {pc pc' : Nat} {lv st : List LV} {h : MH} {idx t n g : Nat} {a : Int}
/-- the room for one more cell of n slots, at a point where the invocation stands -/
theorem room_new {H : Heap} {T : State} {locs : List Loc} {cs ss : Nat} (ko : KO K own cc) (hR : JR (kG K) h H) (hT : T.heap = H) (X : Stand (kP K) (kL K) (kE K) (kR K) (kS K) (kM K) (kA K) (kB K) (kT K) (kC K) T locs cs ss) (h1 : hz h + 1 ≤ LIMC) (h2 : hs h + n ≤ LIMS) :
    H.size - (kS K).heap.size + 1 ≤ (kR K).cells ∧ ssum H (kS K).heap.size + n ≤ (kR K).slots ∧ (kS K).heap.size ≤ H.size := by
  obtain ⟨-, -, -, -, -, k6, k7, -, k9⟩ := ko
  obtain ⟨r1, r2, r3, -⟩ := hR
  have hle : (kS K).heap.size ≤ H.size := by rw [← hT]; exact X.same.2.1
  have hsp : ssum H (gB (kG K)) = ssum (kS K).heap (gB (kG K)) + ssum H (kS K).heap.size := by
    refine ssum_split k9 hle ?_
    intro q c hc
    obtain ⟨c', e1, -, e3, -⟩ := X.same.2.2.2.2.2 q c hc
    exact ⟨c', by rw [← hT]; exact e1, e3⟩
  have h1' : hz h + 1 ≤ 1200384 := h1
  have h2' : hs h + n ≤ 5490346 := h2
  omega
theorem j_push {cell : Cell} {g t : Nat} {len : Int} (ko : KO K own cc) (hg : 4 ≤ g) (hgo : ∀ h' : MH, obj h' t (hz h + 1) → hn h' (hz h + 1) = len → okv h' (g, hz h + 1)) (h1 : hz h + 1 ≤ LIMC) (h2 : hs h + n ≤ LIMS) (hsz : cell.slots.size = n) (hvm : cell.vm = .none) (hkf : gO (kG K) = true → kft t = [])
    (hcell : ∀ H : Heap, JR (kG K) h H → (ht (hnew h t len n) (hz h + 1) < 100 ∧ (cell.cls = gC (kG K) t ∧ xC t cell) ∧ ∀ k : Nat, k < (nft t).length → slotO (kG K) (hnew h t len n) cell t (hz h + 1) k) ∨
      (100 ≤ t ∧ cell.cls = gA (kG K) t ∧ 0 ≤ len ∧ len ≤ 2147483647 ∧ (cell.slots.size : Int) = len ∧ ∀ j : Nat, (j : Int) < len → slotA (kG K) (hnew h t len n) cell t (hz h + 1) j))
    (kk : JW K pc' lv ((g, hz h + 1) :: st) (hnew h t len n)) {ls : Array Slot} {H : Heap} {locs : List Loc} (hl : lhas (kG K) ls (kC K).maxLocals lv) (hlv : ∀ x ∈ lv, okv h x) (hst : ∀ x ∈ st, okv h x) (hR : JR (kG K) h H) (hq : (∀ q ∈ locs, gB (kG K) ≤ q.base) ∧ ext (kH K) h) (hle : (kS K).heap.size ≤ H.size) :
    W (kP K) (kL K) (kE K) (kR K) (kS K) (kM K) (kA K) (kB K) (kT K) (kC K) (H.push cell) locs (H.size - (kS K).heap.size + 1) (ssum H (kS K).heap.size + n) (JZ K) (F0 (kM K) pc' ls (.ref H.size :: st.map (vl (kG K)))) := by
  have had : ad (kG K) (hz h + 1) = H.size := by
    rw [ad_pos (by have := hR.1; omega), hR.2.1]
    have := hR.1
    omega
  have hA : cellA (kG K) (hnew h t len n) (H.push cell) (hz h + 1) := by
    refine ⟨cell, by rw [had]; simp, hvm, ?_⟩
    rw [ht_new, if_pos rfl, hn_new, if_pos rfl]
    rcases hcell H hR with ⟨c1, c2, c3⟩ | ⟨c1, c2, c3⟩
    · rw [ht_new, if_pos rfl] at c1
      exact Or.inl ⟨c1, c2, c3⟩
    · exact Or.inr ⟨c1, c2, c3⟩
  have hR' := JR_push (t := t) (n := len) (c := (n : Int)) hR h1 h2 (by rw [hsz]) hA hkf
  have ho : okv (hnew h t len n) (g, hz h + 1) := hgo _ ⟨by have := hR.1; omega, by rw [hz_new]; omega, by rw [ht_new, if_pos rfl]⟩ (by rw [hn_new, if_pos rfl])
  have k0 := kk ls (H.push cell) locs hl (fun x hx => okv_new (hlv x hx)) (all_cons ho (fun x hx => okv_new (hst x hx))) hR' ⟨hq.1, ext_new hq.2⟩
  rw [Array.size_push, ssum_push hle, hsz, show H.size + 1 - (kS K).heap.size = H.size - (kS K).heap.size + 1 by omega] at k0
  have e : vl (kG K) (g, hz h + 1) = .ref H.size := by
    rw [vl_r hg (by have := hR.1; omega), had]
  rw [← e]
  exact k0
theorem okv_nn {h : MH} {t : Nat} {a : Int} (ht : t < 1000) (ho : obj h t a) : okv h (2000 + t, a) := by
  unfold okv
  simp only [show ¬ 2000 + t < 800 by omega, show ¬ 2000 + t = 800 by omega, show ¬ 2000 + t = 900 by omega, show ¬ 2000 + t = 5000 by omega, if_false]
  exact ⟨ho.1, ho.2.1, by rw [ho.2.2]; omega, fun q => by omega⟩
theorem xsz {s : State} {args : Array Value} {C : String} {Tt : u_T} {N : Nat} {c : ClassId} {k : Class} (hw : ∀ w ∈ lw_all, w.before args s = true) (q : t = 13 ∨ t = 17 ∨ 20 ≤ t) (f0 : t < 100) (f1 : jcl[t]? = some (C, Tt, N)) (e1 : s.vm.findClass C = some c) (e2 : s.vm.classes[c]? = some k) : 6 ≤ k.instanceTypes.size := by
  have key : ∀ n, 6 ≤ n → Cond.instantiable C n ∈ lw_all → 6 ≤ k.instanceTypes.size := by
    intro n hn hm
    obtain ⟨c', k', d1, d2, -, -, -, d3⟩ := Cond.instantiable_spec (hw _ hm)
    cases d1.symm.trans e1
    cases d2.symm.trans e2
    omega
  rcases q with q | q | q
  · subst q
    cases f1
    exact key 7 (by omega) q815
  · subst q
    cases f1
    exact key 7 (by omega) q2465
  · have h23 : t < 23 := by
      have := (List.getElem?_eq_some_iff.mp f1).1
      exact this
    have : t = 20 ∨ t = 21 ∨ t = 22 := by omega
    rcases this with e | e | e
    · subst e
      cases f1
      exact key 6 (by omega) q1190
    · subst e
      cases f1
      exact key 6 (by omega) q1214
    · subst e
      cases f1
      exact key 6 (by omega) q1275
/-- new -/
theorem j_new (ko : KO K own cc) (hd : decode cc pc = .ok (.new idx, 3)) (hf : NLink own idx t n) (hkf : gO (kG K) = true → kft t = []) (h1 : hz h + 1 ≤ LIMC) (h2 : hs h + n ≤ LIMS) (kk : JW K (pc + 3) lv ((2000 + t, hz h + 1) :: st) (hnew h t 0 n)) : JW K pc lv st h := by
  intro ls H locs hl hlv hst hR hq T hT X
  obtain ⟨m1, m2, m3⟩ := room_new ko hR hT X h1 h2
  obtain ⟨f0, C, Tt, N, f1, f2, f3, f4, f5, f6, f7⟩ := hf
  refine (show WK K H locs pc ls (st.map (vl (kG K))) from ?_) T hT X
  refine W.newc ko.1 ko.2.1 ko.2.2.1 (ko.2.2.2.1 _ f4) (ko.2.2.2.1 _ f5) (ko.2.2.2.1 _ f6) rfl hd m1 m2 (fun cC kCl e1 e2 e3 e4 => ?_)
  have hKn := ko.2.2.2.2.1.1 t _ f1
  have hcC : cC = gC (kG K) t := Option.some.inj (e1.symm.trans hKn.2.1)
  subst hcC
  refine j_push (t := t) (g := 2000 + t) (len := 0) ko (by omega) (fun h' ho _ => okv_nn (by omega) ho) h1 h2 (by simp [e4]) rfl hkf (fun H0 hR0 => Or.inl ⟨by rw [ht_new, if_pos rfl]; exact f0, ⟨rfl, fun q => ⟨by
    rw [show ({ cls := gC (kG K) t, slots := kCl.instanceTypes.map defaultValue, vm := .none } : Cell).slots.size = kCl.instanceTypes.size by simp]
    exact xsz ko.2.2.2.1 q f0 f1 hKn.2.1 e2, rfl, rfl⟩⟩, fun k hk => ?_⟩) kk hl hlv hst hR hq m3
  obtain ⟨ti, g1, g2⟩ := f7 k (by rw [f2]; exact hk)
  obtain ⟨cf, kf, fi, fd, hi, he⟩ := hKn.1 k (by rw [f2]; exact hk)
  have h3 := (u_facts hKn.2.1 e2 (u_lays ko.2.2.2.1 f3 (by rw [f2]; exact hk)) hi).2.2
  rw [(State.fieldFound?_type hi g1).2] at h3
  have h4 := k2_blank (cC := gC (kG K) t) h3
  rw [he] at h4
  have h5 : ({ cls := gC (kG K) t, slots := kCl.instanceTypes.map defaultValue, vm := .none } : Cell).slots[gI (kG K) t k]? = some (defaultValue ti) := h4
  refine ⟨?_, ?_⟩
  · rw [h5, hv_new, if_pos rfl]
    exact congrArg some (vl_zero g2)
  · rw [hv_new, if_pos rfl]
    exact okf_zero _ _
theorem rep_get {N : Nat} {v : Value} {j : Nat} (hj : j < N) : (Array.replicate N v)[j]? = some v := by simp [hj]
/-- newarray -/
theorem j_newa {at' : ArrayType} {z : Int} (ko : KO K own cc) (hd : decode cc pc = .ok (.newarray at', 2)) (hat : jat t = some (newarray.typeOf at')) (hcw : (Cond.arrayClass (newarray.typeOf at')) ∈ lw_all) (h100 : 100 ≤ t) (ht8 : t < 796) (hby : componentBytes (newarray.typeOf at') ≤ 8) (h0 : 0 ≤ z) (h1 : hz h + 1 ≤ LIMC) (h2 : hs h + z ≤ LIMS)
    (kk : JW K (pc + 2) lv ((2000 + t, hz h + 1) :: st) (hnew h t z z)) : JW K pc lv ((0, z) :: st) h := by
  intro ls H locs hl hlv hst hR hq T hT X
  have hc := okv_i' (hst _ List.mem_cons_self)
  have hcl : (Int32.ofInt z).toNatClampNeg = z.toNat := clamp32 hc h0
  have hzn : ((z.toNat : Nat) : Int) = z := Int.toNat_of_nonneg h0
  have hs0 : 0 ≤ hs h := by rw [← hR.2.2.1]; omega
  obtain ⟨m1, m2, m3⟩ := room_new (n := z.toNat) ko hR hT X h1 (by rw [hzn]; exact h2)
  obtain ⟨kA0, comp0, a1, a2, a3, a4, -⟩ := (ko.2.2.2.2.1.2.1 t _ hat).1
  have h2' : hs h + z ≤ 5490346 := h2
  refine (show WK K H locs pc ls (.int (Int32.ofInt z) :: st.map (vl (kG K))) from ?_) T hT X
  refine W.newa ko.1 ko.2.1 (ko.2.2.2.1 _ hcw) rfl hd rfl (fun q => by have := (lt32 hc c32_0).mp q; omega) (by
    rw [hcl]
    calc z.toNat * componentBytes (newarray.typeOf at') ≤ z.toNat * 8 := Nat.mul_le_mul_left _ hby
      _ ≤ _ := by omega) m1 (by rw [hcl]; exact m2) (fun cA kA comp e1 e2 e3 => ?_)
  have hcA : cA = gA (kG K) t := Option.some.inj (e1.symm.trans a3)
  subst hcA
  have kk' : JW K (pc + 2) lv ((2000 + t, hz h + 1) :: st) (hnew h t z (z.toNat : Nat)) := by rw [hzn]; exact kk
  rw [hcl]
  refine j_push (t := t) (g := 2000 + t) (len := z) (n := z.toNat) ko (by omega) (fun h' ho _ => okv_nn (by omega) ho) h1 (by rw [hzn]; exact h2) (by simp) rfl (fun g => by
    unfold kft
    split <;> first | omega | rfl) (fun H0 hR0 => Or.inr ⟨h100, rfl, h0, hc.2, by simp; omega, fun j hj => ⟨?_, ?_⟩⟩) kk' hl hlv (all_tail hst) hR hq m3
  · rw [hv_new, if_pos rfl, ← vl_zero (G := kG K) a4]
    exact rep_get (by omega)
  · rw [hv_new, if_pos rfl]
    exact okf_zero _ _
/-- anewarray -/
def ALink (own : String) (idx t : Nat) : Prop := 100 ≤ t ∧ t < 796 ∧ ((∃ C : String, jat t = some (.object C) ∧ Cond.classLink own idx C ∈ lw_all) ∨ (∃ ty : FieldType, jat t = some (.array ty) ∧ Cond.classLink own idx (FieldType.array ty).toString ∈ lw_all))
theorem j_anew {z : Int} (ko : KO K own cc) (hd : decode cc pc = .ok (.anewarray idx, 3)) (hf : ALink own idx t) (h0 : 0 ≤ z) (h1 : hz h + 1 ≤ LIMC) (h2 : hs h + z ≤ LIMS)
    (kk : JW K (pc + 3) lv ((2000 + t, hz h + 1) :: st) (hnew h t z z)) : JW K pc lv ((0, z) :: st) h := by
  intro ls H locs hl hlv hst hR hq T hT X
  obtain ⟨h100, ht8, hor⟩ := hf
  have hc := okv_i' (hst _ List.mem_cons_self)
  have hcl : (Int32.ofInt z).toNatClampNeg = z.toNat := clamp32 hc h0
  have hzn : ((z.toNat : Nat) : Int) = z := Int.toNat_of_nonneg h0
  have hs0 : 0 ≤ hs h := by rw [← hR.2.2.1]; omega
  obtain ⟨m1, m2, m3⟩ := room_new (n := z.toNat) ko hR hT X h1 (by rw [hzn]; exact h2)
  have h2' : hs h + z ≤ 5490346 := h2
  have kk' : JW K (pc + 3) lv ((2000 + t, hz h + 1) :: st) (hnew h t z (z.toNat : Nat)) := by rw [hzn]; exact kk
  have key : ∀ ty : FieldType, jat t = some ty → ty.isReference = true → W (kP K) (kL K) (kE K) (kR K) (kS K) (kM K) (kA K) (kB K) (kT K) (kC K) (H.push { cls := gA (kG K) t, slots := Array.replicate z.toNat .null, vm := .none }) locs (H.size - (kS K).heap.size + 1) (ssum H (kS K).heap.size + z.toNat) (JZ K) (F0 (kM K) (pc + 3) ls (.ref H.size :: st.map (vl (kG K)))) := by
    intro ty hty hr
    obtain ⟨kA0, comp0, a1, a2, a3, a4, -⟩ := (ko.2.2.2.2.1.2.1 t _ hty).1
    refine j_push (t := t) (g := 2000 + t) (len := z) (n := z.toNat) ko (by omega) (fun h' ho _ => okv_nn (by omega) ho) h1 (by rw [hzn]; exact h2) (by simp) rfl (fun g => by
      unfold kft
      split <;> first | omega | rfl) (fun H0 hR0 => Or.inr ⟨h100, rfl, h0, hc.2, by simp; omega, fun j hj => ⟨?_, ?_⟩⟩) kk' hl hlv (all_tail hst) hR hq m3
    · rw [hv_new, if_pos rfl, ← vl_zero (G := kG K) a4, show defaultValue ty = Value.null by cases ty <;> first | rfl | (simp [FieldType.isReference] at hr)]
      exact rep_get (by omega)
    · rw [hv_new, if_pos rfl]
      exact okf_zero _ _
  refine (show WK K H locs pc ls (.int (Int32.ofInt z) :: st.map (vl (kG K))) from ?_) T hT X
  rcases hor with ⟨C, hj, hcl'⟩ | ⟨ty, hj, hcl'⟩
  · have hao := (ko.2.2.2.2.1.2.1 t _ hj).2 rfl
    obtain ⟨kA0, comp0, a1, a2, a3, -⟩ := (ko.2.2.2.2.1.2.1 t _ hj).1
    refine W.anew ko.1 ko.2.1 ko.2.2.1 (ko.2.2.2.1 _ hcl') hao rfl hd rfl (fun q => by have := (lt32 hc c32_0).mp q; omega) (by rw [hcl]; omega) m1 (by rw [hcl]; exact m2) (fun cA kA comp e1 e2 e3 e4 => ?_)
    have hcA : cA = gA (kG K) t := Option.some.inj (e1.symm.trans a3)
    subst hcA
    rw [hcl]
    exact key _ hj rfl
  · have hao := (ko.2.2.2.2.1.2.1 t _ hj).2 rfl
    obtain ⟨kA0, comp0, a1, a2, a3, -⟩ := (ko.2.2.2.2.1.2.1 t _ hj).1
    refine W.anewA ko.1 ko.2.1 ko.2.2.1 (ko.2.2.2.1 _ hcl') hao rfl hd rfl (fun q => by have := (lt32 hc c32_0).mp q; omega) (by rw [hcl]; omega) m1 (by rw [hcl]; exact m2) (fun cA kA comp e1 e2 e3 e4 => ?_)
    have hcA : cA = gA (kG K) t := Option.some.inj (e1.symm.trans a3)
    subst hcA
    rw [hcl]
    exact key _ hj rfl
end AL
