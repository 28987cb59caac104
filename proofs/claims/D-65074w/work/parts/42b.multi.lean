/-! Part 42b: arrays of arrays -/
theorem x_nar {E : CtlPost} {e : Env} {d : Bool} {acts : List Action} {s : State} {c comp : ClassId} {k : Class} {ty : FieldType} {len : Nat} {v : Value} {Q : Addr → Pre} (hk : s.vm.classes[c]? = some k) (hkind : k.kind = .array comp ty) (h1 : ¬ len > e.platform.arrayLengthLimit) (h2 : ¬ len * componentBytes ty > e.platform.maxHeapBytes)
    (hf : fits ty v = true) (hv : v.isDefault = true) (h3 : s.heap.size < e.platform.maxCells) (h4 : s.slotsUsed + len ≤ e.platform.maxSlots) (hq : Q s.heap.size d acts (s.pushCell { cls := c, slots := Array.replicate len v, vm := .none })) : wp (Jvm.newArray c len v) Q E e d acts s := by
  have e1 : allocActs (Array.replicate len v) s.heap.size acts = acts := by
    unfold allocActs
    rw [if_pos (by rw [Array.all_replicate]; split <;> simp [hv])]
  have e2 : ∀ i w, (Array.replicate len v)[i]? = some w → s.fitsSlot c .none i w = true := by
    intro i w hw
    simp only [Array.getElem?_replicate] at hw
    split at hw
    · cases hw
      simp [State.fitsSlot, State.slotType?, hk, hkind, hf]
    · cases hw
  simp only [Jvm.newArray, Jvm.arrayFits, wp_bind', W.ask, W.ite, h1, if_false, wp_pure', W.theClass, hk, hkind, h2, W.alloc, W.stop, Option.some.injEq, exists_eq_left', Array.size_replicate, e1]
  rw [if_neg (by omega)]
  exact ⟨h3, h4, e2, hq⟩
/-- the outer array when i rows hang in it -/
def oC (c : ClassId) (N b : Nat) : Nat → Cell
  | 0 => { cls := c, slots := Array.replicate N .null, vm := .none }
  | i + 1 => (oC c N b i).setSlot i (.ref (b + 1 + i))
def iC (c : ClassId) (M : Nat) (v : Value) : Cell := { cls := c, slots := Array.replicate M v, vm := .none }
/-- the state when i rows are made -/
def mSt (s : State) (c c' : ClassId) (N M : Nat) (v : Value) : Nat → State
  | 0 => s.pushCell (oC c N s.heap.size 0)
  | i + 1 => ((mSt s c c' N M v i).pushCell (iC c' M v)).setCell s.heap.size (oC c N s.heap.size (i + 1))
theorem oC_f {c : ClassId} {N b : Nat} : ∀ i, (oC c N b i).cls = c ∧ (oC c N b i).vm = .none ∧ (oC c N b i).slots.size = N
  | 0 => ⟨rfl, rfl, by simp [oC]⟩
  | i + 1 => by
    obtain ⟨h1, h2, h3⟩ := oC_f (c := c) (N := N) (b := b) i
    exact ⟨h1, h2, by show ((oC c N b i).setSlot i _).slots.size = N; rw [set_size]; exact h3⟩
theorem mSt_f {s : State} {c c' : ClassId} {N M : Nat} {v : Value} : ∀ i, (mSt s c c' N M v i).heap.size = s.heap.size + 1 + i ∧ (mSt s c c' N M v i).heap[s.heap.size]? = some (oC c N s.heap.size i) ∧ (mSt s c c' N M v i).vm = s.vm ∧ (mSt s c c' N M v i).slotsUsed = s.slotsUsed + N + i * M
  | 0 => ⟨by simp [mSt], by simp [mSt], rfl, by simp [mSt, oC]⟩
  | i + 1 => by
    obtain ⟨h1, h2, h3, h4⟩ := mSt_f (s := s) (c := c) (c' := c') (N := N) (M := M) (v := v) i
    have hlt : s.heap.size < (mSt s c c' N M v i).heap.size := by omega
    have hb : ((mSt s c c' N M v i).pushCell (iC c' M v)).heap[s.heap.size]? = some (oC c N s.heap.size i) := by rw [State.heap_pushCell_of_lt (h := hlt)]; exact h2
    refine ⟨?_, State.heap_setCell_self hb, by simp [mSt, h3], ?_⟩
    · simp [mSt, State.setCell, h1]; omega
    · simp [mSt, h4, iC, Nat.succ_mul]; omega
theorem mSt_top {s : State} {f : JFrame} {c c' : ClassId} {N M : Nat} {v : Value} : ∀ i, mSt (s.setTop f) c c' N M v i = (mSt s c c' N M v i).setTop f
  | 0 => rfl
  | i + 1 => by simp only [mSt, mSt_top (s := s) (f := f) i, State.heap_setTop, State.pushCell_setTop, State.setCell_setTop]
theorem x_mk1 {E : CtlPost} {e : Env} {d : Bool} {acts : List Action} {s : State} {c comp : ClassId} {k : Class} {ty : FieldType} {m : Int32} {Q : Addr → Pre} (hk : s.vm.classes[c]? = some k) (hkind : k.kind = .array comp ty) (hm : ¬ m < 0) (h1 : ¬ m.toNatClampNeg > e.platform.arrayLengthLimit)
    (h2 : ¬ m.toNatClampNeg * componentBytes ty > e.platform.maxHeapBytes) (hf : fits ty (defaultValue ty) = true) (hv : (defaultValue ty).isDefault = true) (h3 : s.heap.size < e.platform.maxCells) (h4 : s.slotsUsed + m.toNatClampNeg ≤ e.platform.maxSlots)
    (hq : Q s.heap.size d acts (s.pushCell (iC c m.toNatClampNeg (defaultValue ty)))) : wp (Op.multianewarray.make c [m]) Q E e d acts s := by
  rw [Op.multianewarray.make]
  simp only [wp_bind', W.ite, hm, if_false, wp_pure', W.theClass, hk, hkind, Option.some.injEq, exists_eq_left']
  exact x_nar hk hkind h1 h2 hf hv h3 h4 hq
theorem x_mk2 {E : CtlPost} {e : Env} {d : Bool} {acts : List Action} {s : State} {c c' comp : ClassId} {k k' : Class} {ty : FieldType} {n m : Int32} {Q : Addr → Pre} (hk : s.vm.classes[c]? = some k) (hkind : k.kind = .array c' (.array ty)) (hk' : s.vm.classes[c']? = some k') (hkind' : k'.kind = .array comp ty) (hn : ¬ n < 0) (hm : ¬ m < 0)
    (h0 : ¬ n.toNatClampNeg > e.platform.arrayLengthLimit) (h00 : ¬ n.toNatClampNeg * componentBytes (.array ty) > e.platform.maxHeapBytes) (h1 : ¬ m.toNatClampNeg > e.platform.arrayLengthLimit) (h2 : ¬ m.toNatClampNeg * componentBytes ty > e.platform.maxHeapBytes)
    (hf : fits ty (defaultValue ty) = true) (hv : (defaultValue ty).isDefault = true) (h3 : s.heap.size + 1 + n.toNatClampNeg ≤ e.platform.maxCells) (h4 : s.slotsUsed + n.toNatClampNeg + n.toNatClampNeg * m.toNatClampNeg ≤ e.platform.maxSlots)
    (hq : ∀ d' acts', Q s.heap.size d' acts' (mSt s c c' n.toNatClampNeg m.toNatClampNeg (defaultValue ty) n.toNatClampNeg)) : wp (Op.multianewarray.make c [n, m]) Q E e d acts s := by
  have hfind : ([m].find? (· < 0)) = none := by simp [hm]
  rw [Op.multianewarray.make]
  simp only [wp_bind', W.ite, hn, if_false, wp_pure', W.theClass, hk, hkind, Option.some.injEq, exists_eq_left']
  refine x_nar hk hkind h0 h00 rfl rfl (by omega) (by have := Nat.zero_le (n.toNatClampNeg * m.toNatClampNeg); omega) ?_
  simp only [hfind]
  rw [ite_self, wp_bind', Std.Legacy.Range.forIn_eq_forIn_range', show ([:n.toNatClampNeg] : Std.Legacy.Range).size = n.toNatClampNeg by simp [Std.Legacy.Range.size]]
  show wp (forIn (List.range' 0 n.toNatClampNeg 1) PUnit.unit _) _ E e d acts _
  refine wp_forIn_inv (fun r s' => ∃ i, i ≤ n.toNatClampNeg ∧ r = List.range' i (n.toNatClampNeg - i) ∧ s' = mSt s c c' n.toNatClampNeg m.toNatClampNeg (defaultValue ty) i) _ _ ⟨0, Nat.zero_le _, rfl, rfl⟩ ?_ ?_
  · rintro x r s' d' acts' Q' ⟨i, hi, hl, rfl⟩ hnext
    have hlt : i < n.toNatClampNeg := by
      rcases Nat.lt_or_ge i n.toNatClampNeg with q | q
      · exact q
      · rw [show n.toNatClampNeg - i = 0 by omega] at hl
        simp at hl
    rw [show n.toNatClampNeg - i = (n.toNatClampNeg - (i + 1)) + 1 by omega, List.range'_succ] at hl
    obtain ⟨rfl, hr⟩ := List.cons.inj hl
    obtain ⟨f1, f2, f3, f4⟩ := mSt_f (s := s) (c := c) (c' := c') (N := n.toNatClampNeg) (M := m.toNatClampNeg) (v := defaultValue ty) x
    obtain ⟨o1, o2, o3⟩ := oC_f (c := c) (N := n.toNatClampNeg) (b := s.heap.size) x
    have hmul : (x + 1) * m.toNatClampNeg ≤ n.toNatClampNeg * m.toNatClampNeg := Nat.mul_le_mul_right _ hlt
    rw [Nat.succ_mul] at hmul
    simp only [wp_bind']
    refine x_mk1 (by rw [f3]; exact hk') hkind' hm h1 h2 hf hv (by rw [f1]; omega) (by rw [f4]; omega) ?_
    have hlt0 : s.heap.size < (mSt s c c' n.toNatClampNeg m.toNatClampNeg (defaultValue ty) x).heap.size := by rw [f1]; omega
    simp only [wp_bind', W.writeLoc, wp_pure']
    refine ⟨oC c n.toNatClampNeg s.heap.size x, by rw [State.heap_pushCell_of_lt (h := hlt0)]; exact f2, by rw [o2]; simp, by rw [o3]; exact hlt, ?_, hnext _ _ _ ⟨x + 1, hlt, hr, ?_⟩⟩
    · rw [o1, o2]
      simp [State.fitsSlot, State.slotType?, f3, hk, hkind, fits]
    · rw [f1]; rfl
  · rintro s' d' acts' ⟨i, hi, hl, rfl⟩
    have hiN : i = n.toNatClampNeg := by
      rcases Nat.lt_or_ge i n.toNatClampNeg with q | q
      · rw [show n.toNatClampNeg - i = (n.toNatClampNeg - (i + 1)) + 1 by omega, List.range'_succ] at hl
        cases hl
      · omega
    subst hiN
    simp only [wp_pure']
    exact hq _ _
/-- the mini heap when i rows are made -/
def hmn (h : MH) (t u : Nat) (n m : Int) : Nat → MH
  | 0 => hnew h t n n
  | i + 1 => hset (hnew (hmn h t u n m i) u m m) (hz h + 1) i (hz h + 2 + i)
theorem hmn_f {h : MH} {t u : Nat} {n m : Int} : ∀ i : Nat, hz (hmn h t u n m i) = hz h + 1 + i ∧ hs (hmn h t u n m i) = hs h + n + i * m ∧ ht (hmn h t u n m i) (hz h + 1) = t ∧ hn (hmn h t u n m i) (hz h + 1) = n
  | 0 => ⟨by show hz h + 1 = _; omega, by show hs h + n = _; simp, by show (if hz h + 1 = hz h + 1 then t else _) = t; rw [if_pos rfl], by show (if hz h + 1 = hz h + 1 then n else _) = n; rw [if_pos rfl]⟩
  | i + 1 => by
    obtain ⟨h1, h2, h3, h4⟩ := hmn_f (h := h) (t := t) (u := u) (n := n) (m := m) i
    have hne : ¬ hz h + 1 = hz (hmn h t u n m i) + 1 := by omega
    refine ⟨?_, ?_, ?_, ?_⟩
    · show hz (hmn h t u n m i) + 1 = _
      omega
    · show hs (hmn h t u n m i) + m = _
      rw [h2, show (((i + 1 : Nat)) : Int) * m = i * m + m by rw [Int.natCast_add, Int.add_mul]; simp]
      omega
    · show (if hz h + 1 = hz (hmn h t u n m i) + 1 then u else ht (hmn h t u n m i) (hz h + 1)) = t
      rw [if_neg hne]; exact h3
    · show (if hz h + 1 = hz (hmn h t u n m i) + 1 then m else hn (hmn h t u n m i) (hz h + 1)) = n
      rw [if_neg hne]; exact h4
section MN
variable {K : JC} {own : String} {cc : ByteArray} {pc : Nat} {lv st : List LV} {h : MH} {idx t u : Nat} {n m : Int} {ty : FieldType}
theorem kft_arr {t : Nat} (ht : 100 ≤ t) : kft t = [] := by
  unfold kft
  split <;> first | omega | rfl
theorem slot_new {G : JG} {h' : MH} {c : ClassId} {a : Int} {N : Nat} {ty' : FieldType} {t' : Nat} (hk : ktOf ty' (ety t') = true) (hz0 : ∀ j, hv h' a j = 0) : ∀ j : Nat, j < N → slotA G h' (iC c N (defaultValue ty')) t' a j := by
  intro j hj
  refine ⟨?_, ?_⟩
  · rw [hz0, ← vl_zero (G := G) hk]
    exact rep_get hj
  · rw [hz0]
    exact okf_zero _ _
theorem mSt_ok (ko : KO K own cc) (hty : jat t = some (.array ty)) (huy : jat u = some ty) (het : ety t = u + 4) (ht : 100 ≤ t) (hu : 100 ≤ u) (n0 : 0 ≤ n) (m0 : 0 ≤ m) (nB : n ≤ 2147483647) (mB : m ≤ 2147483647) (hcl : hz h + 1 + n ≤ LIMC) (hsl : hs h + n + n * m ≤ LIMS)
    {T : State} {locs : List Loc} {cs ss : Nat} (X : Stand (kP K) (kL K) (kE K) (kR K) (kS K) (kM K) (kA K) (kB K) (kT K) (kC K) T locs cs ss) (hR : JR (kG K) h T.heap) (hlo : ∀ q ∈ locs, gB (kG K) ≤ q.base) : ∀ i : Nat, (i : Int) ≤ n →
      (∃ (locs' : List Loc) (cs' ss' : Nat), Stand (kP K) (kL K) (kE K) (kR K) (kS K) (kM K) (kA K) (kB K) (kT K) (kC K) (mSt T (gA (kG K) t) (gA (kG K) u) n.toNat m.toNat (defaultValue ty) i) locs' cs' ss' ∧ ∀ q ∈ locs', gB (kG K) ≤ q.base) ∧
      JR (kG K) (hmn h t u n m i) (mSt T (gA (kG K) t) (gA (kG K) u) n.toNat m.toNat (defaultValue ty) i).heap := by
  obtain ⟨kA, comp, e1, e2, e3, e4, e5⟩ := (ko.2.2.2.2.1.2.1 t _ hty).1
  obtain ⟨kU, comU, u1, u2, u3, u4, u5⟩ := (ko.2.2.2.2.1.2.1 u _ huy).1
  have hz0 : 0 ≤ hz h := hR.1
  have had : ad (kG K) (hz h + 1) = T.heap.size := by
    rw [ad_pos (by omega), hR.2.1]
    omega
  have hnz : ((n.toNat : Nat) : Int) = n := Int.toNat_of_nonneg n0
  have hmz : ((m.toNat : Nat) : Int) = m := Int.toNat_of_nonneg m0
  have hle : gB (kG K) ≤ T.heap.size := by rw [show T.heap.size = _ from hR.2.1]; omega
  intro i
  induction i with
  | zero =>
    intro _
    have hnm : 0 ≤ n * m := Int.mul_nonneg n0 m0
    refine ⟨⟨locs, _, _, X.pushed _, hlo⟩, ?_⟩
    show JR (kG K) (hnew h t n n) (T.heap.push (oC (gA (kG K) t) n.toNat T.heap.size 0))
    refine JR_push hR (by omega) (by have h9 : hs h + n + n * m ≤ 5490346 := hsl; show hs h + n ≤ 5490346; omega) (by rw [(oC_f 0).2.2]; exact hnz) ?_ (fun _ => kft_arr ht)
    refine ⟨oC (gA (kG K) t) n.toNat T.heap.size 0, by rw [had]; simp, rfl, Or.inr ?_⟩
    rw [ht_new, if_pos rfl, hn_new, if_pos rfl]
    refine ⟨ht, rfl, n0, nB, by rw [(oC_f 0).2.2]; exact hnz, fun j hj => ?_⟩
    exact slot_new (c := gA (kG K) t) (N := n.toNat) (ty' := .array ty) e4 (fun k => by rw [hv_new, if_pos rfl]) j (by omega)
  | succ i ih =>
    intro hi
    obtain ⟨⟨locs', cs', ss', X', hlo'⟩, hR'⟩ := ih (by omega)
    obtain ⟨f1, f2, f3, f4⟩ := mSt_f (s := T) (c := gA (kG K) t) (c' := gA (kG K) u) (N := n.toNat) (M := m.toNat) (v := defaultValue ty) i
    obtain ⟨g1, g2, g3, g4⟩ := hmn_f (h := h) (t := t) (u := u) (n := n) (m := m) i
    have hmul : ((i + 1 : Nat) : Int) * m ≤ n * m := Int.mul_le_mul_of_nonneg_right hi m0
    rw [show (((i + 1 : Nat)) : Int) * m = i * m + m by rw [Int.natCast_add, Int.add_mul]; simp] at hmul
    have h9 : hs h + n + n * m ≤ 5490346 := hsl
    have h8 : hz h + 1 + n ≤ 1200384 := hcl
    have hlt : T.heap.size < (mSt T (gA (kG K) t) (gA (kG K) u) n.toNat m.toNat (defaultValue ty) i).heap.size := by omega
    have hb : ((mSt T (gA (kG K) t) (gA (kG K) u) n.toNat m.toNat (defaultValue ty) i).pushCell (iC (gA (kG K) u) m.toNat (defaultValue ty))).heap[T.heap.size]? = some (oC (gA (kG K) t) n.toNat T.heap.size i) := by rw [State.heap_pushCell_of_lt (h := hlt)]; exact f2
    refine ⟨⟨_, _, _, (X'.pushed _).stored hb i (.ref (T.heap.size + 1 + i)), fun q hq => ?_⟩, ?_⟩
    · rcases List.mem_append.mp hq with z | z
      · exact hlo' q z
      · rw [List.mem_singleton.mp z]
        exact hle
    · have hR1 : JR (kG K) (hnew (hmn h t u n m i) u m m) ((mSt T (gA (kG K) t) (gA (kG K) u) n.toNat m.toNat (defaultValue ty) i).heap.push (iC (gA (kG K) u) m.toNat (defaultValue ty))) := by
        refine JR_push hR' (by rw [g1]; show _ ≤ (1200384 : Int); omega) (by rw [g2]; show _ ≤ (5490346 : Int); omega) (by simp [iC]; omega) ?_ (fun _ => kft_arr hu)
        refine ⟨iC (gA (kG K) u) m.toNat (defaultValue ty), ?_, rfl, Or.inr ?_⟩
        · rw [ad_pos (by rw [g1]; omega), show gB (kG K) + ((hz (hmn h t u n m i) + 1).toNat - 1) = (mSt T (gA (kG K) t) (gA (kG K) u) n.toNat m.toNat (defaultValue ty) i).heap.size by rw [f1, g1, show T.heap.size = _ from hR.2.1]; omega]
          simp
        · rw [ht_new, if_pos rfl, hn_new, if_pos rfl]
          refine ⟨hu, rfl, m0, mB, by simp [iC]; omega, fun j hj => ?_⟩
          exact slot_new u4 (fun k => by rw [hv_new, if_pos rfl]) j (by omega)
      have hne : ¬ hz h + 1 = hz (hmn h t u n m i) + 1 := by omega
      have hob : obj (hnew (hmn h t u n m i) u m m) t (hz h + 1) := ⟨by omega, by rw [hz_new]; omega, by rw [ht_new, if_neg hne]; exact g3⟩
      have hx : vl (kG K) (ety t, hz h + 2 + i) = .ref (T.heap.size + 1 + i) := by
        rw [vl_r (by omega) (by omega), ad_pos (by omega), show T.heap.size = _ from hR.2.1, show gB (kG K) + ((hz h + 2 + (i : Int)).toNat - 1) = gB (kG K) + (hz h).toNat + 1 + i by omega]
      refine JR_setA (cell := oC (gA (kG K) t) n.toNat T.heap.size i) hR1 hob ht (by omega) (by rw [hn_new, if_neg hne, g4]; omega) ?_ (by rw [had]; exact hb) ?_ ?_ ?_
      · rw [het]
        unfold okf
        rw [if_neg (by omega), if_neg (by omega), if_neg (by omega), if_neg (by omega)]
        refine Or.inr ⟨by omega, by rw [hz_new]; omega, ?_⟩
        rw [ht_new, if_pos (by omega)]
        omega
      · rw [had, hx, show ((i : Int)).toNat = i by omega]
        exact State.heap_setCell_self (s := (mSt T (gA (kG K) t) (gA (kG K) u) n.toNat m.toNat (defaultValue ty) i).pushCell (iC (gA (kG K) u) m.toNat (defaultValue ty))) hb
      · show (Array.setIfInBounds _ _ _).size = _
        simp
      · intro q hq
        rw [had] at hq
        show (Array.setIfInBounds _ _ _)[q]? = _
        simp [Array.getElem?_setIfInBounds, Ne.symm hq]
/-- an array of arrays is made -/
theorem j_mna (ko : KO K own cc) (hd : decode cc pc = .ok (.multianewarray idx 2, 4)) (hcw : Cond.classLink own idx ("[" ++ (FieldType.array ty).toString) ∈ lw_all) (hty : jat t = some (.array ty)) (huy : jat u = some ty) (het : ety t = u + 4) (ht : 100 ≤ t) (ht8 : t < 796) (hu : 100 ≤ u) (n0 : 0 ≤ n) (m0 : 0 ≤ m) (nB : n ≤ 60000000) (mB : m ≤ 60000000)
    (hcb : componentBytes ty ≤ 8) (hf : fits ty (defaultValue ty) = true) (hv : (defaultValue ty).isDefault = true) (hcl : hz h + 1 + n ≤ LIMC) (hsl : hs h + n + n * m ≤ LIMS) (kk : JW K (pc + 4) lv ((2000 + t, hz h + 1) :: st) (hmn h t u n m n.toNat)) : JW K pc lv ((0, m) :: (0, n) :: st) h := by
  intro ls H locs hls hlv hst hR hq T hT X
  subst hT
  have cm := okv_i' (hst (0, m) (by simp))
  have cn := okv_i' (hst (0, n) (by simp))
  have hst' : ∀ x ∈ st, okv h x := fun x hx => hst x (by simp [hx])
  have hnz : ((n.toNat : Nat) : Int) = n := Int.toNat_of_nonneg n0
  have kn := clamp32 cn n0
  have km := clamp32 cm m0
  obtain ⟨kA, comp, e1, e2, e3, e4, e5⟩ := (ko.2.2.2.2.1.2.1 t _ hty).1
  obtain ⟨kU, comU, u1, u2, u3, u4, u5⟩ := (ko.2.2.2.2.1.2.1 u _ huy).1
  obtain ⟨e6, -, -⟩ := e5 (by omega)
  have e7 : comp = gA (kG K) u := by
    rw [e6, het]
    unfold gcls
    rw [if_neg (by omega)]
    congr 1
  subst e7
  have hpl : (kE K).platform.magicAccessors = ({} : Platform).magicAccessors := by rw [X.admits.platform]
  obtain ⟨c0, hfc0, hcl0⟩ := Cond.classLink_spec ko.2.2.1 (ko.2.2.2.1 _ hcw) (kE K).platform hpl
  cases e3.symm.trans hfc0
  obtain ⟨hg₁, hwarm₁, hready₁⟩ := State.classEntry (e := kE K) X.warmed hcl0
  generalize T.vm.noted (kM K).cls idx (.cls (gA (kG K) t)) = vm₁ at hg₁ hwarm₁ hready₁
  have hal : (kS K).vm.Alike vm₁ := hwarm₁.alike
  obtain ⟨kA₁, hkA₁, heA⟩ := hal.2.2 _ _ e1
  obtain ⟨kU₁, hkU₁, heU⟩ := hal.2.2 _ _ u1
  have X₁ := X.noted hwarm₁
  obtain ⟨⟨locs', cs', ss', X₂, hlo'⟩, hR'⟩ := mSt_ok (T := T.setVm vm₁) ko hty huy het ht hu n0 m0 (by omega) (by omega) hcl hsl X₁ hR hq.1 n.toNat (by omega)
  have hs0 : (ssum T.heap (gB (kG K)) : Int) = hs h := hR.2.2.1
  have hz0 : T.heap.size = gB (kG K) + (hz h).toNat := hR.2.1
  have hz1 : 0 ≤ hz h := hR.1
  have hnm : (((n.toNat * m.toNat : Nat)) : Int) = n * m := by rw [Int.natCast_mul, hnz, Int.toNat_of_nonneg m0]
  have hle : (kS K).heap.size ≤ T.heap.size := X.same.2.1
  have hsp : ssum T.heap (gB (kG K)) = ssum (kS K).heap (gB (kG K)) + ssum T.heap (kS K).heap.size := by
    refine ssum_split ko.2.2.2.2.2.2.2.2 hle ?_
    intro q c hc
    obtain ⟨c', d1, -, d3, -⟩ := X.same.2.2.2.2.2 q c hc
    exact ⟨c', d1, d3⟩
  have h9 : hs h + n + n * m ≤ 5490346 := hsl
  have h8 : hz h + 1 + n ≤ 1200384 := hcl
  have hcells : T.heap.size - (kS K).heap.size + (1 + n.toNat) ≤ (kR K).cells := by have := ko.2.2.2.2.2.1; omega
  have hslots : ssum T.heap (kS K).heap.size + (n.toNat + n.toNat * m.toNat) ≤ (kR K).slots := by have := ko.2.2.2.2.2.2.1; omega
  obtain ⟨hr1, hr2⟩ := X.roomAbove hcells hslots
  have hext : ∀ i, ext h (hmn h t u n m i) := by
    intro i
    induction i with
    | zero => exact ext_new (ext_rfl h)
    | succ i ih => exact ext_set (ext_new ih)
  obtain ⟨g1, -, g3, -⟩ := hmn_f (h := h) (t := t) (u := u) (n := n) (m := m) n.toNat
  have hob : obj (hmn h t u n m n.toNat) t (hz h + 1) := ⟨by omega, by rw [g1]; omega, g3⟩
  have w := kk ls _ locs' hls (fun x hx => okv_ext (hext _) (hlv x hx)) (all_cons (okv_nn (by omega) hob) (fun x hx => okv_ext (hext _) (hst' x hx))) hR' ⟨hlo', ext_trans hq.2 (hext _)⟩
  obtain ⟨tt, t1, t2⟩ := w _ rfl (stand_tight X₂)
  refine ⟨tt, ?_, t2⟩
  have hvr : vl (kG K) (2000 + t, hz h + 1) = .ref T.heap.size := by
    rw [vl_r (by omega) (by omega), ad_pos (by omega), hz0, show gB (kG K) + ((hz h + 1).toNat - 1) = gB (kG K) + (hz h).toNat by omega]
  have t1' : Steps (kP K).tables (kE K) (kB K) ((mSt (T.setVm vm₁) (gA (kG K) t) (gA (kG K) u) n.toNat m.toNat (defaultValue ty) n.toNat).setTop (F0 (kM K) (pc + 4) ls (.ref T.heap.size :: st.map (vl (kG K))))) tt := by
    rw [← hvr]
    exact t1
  have hexec := ko.1
  have hdg : decode (kC K).code pc = .ok (.multianewarray idx 2, 4) := by rw [ko.2.1]; exact hd
  have hl1 : ¬ (Int32.ofInt n).toNatClampNeg > (kE K).platform.arrayLengthLimit := by rw [Launch.admits_arrayLengthLimit X.admits, kn]; omega
  have hl2 : ¬ (Int32.ofInt m).toNatClampNeg > (kE K).platform.arrayLengthLimit := by rw [Launch.admits_arrayLengthLimit X.admits, km]; omega
  have hh1 : ¬ (Int32.ofInt n).toNatClampNeg * componentBytes (.array ty) > (kE K).platform.maxHeapBytes := by
    rw [Launch.admits_maxHeapBytes X.admits, kn]
    show ¬ n.toNat * 4 > 536870912
    omega
  have hh2 : ¬ (Int32.ofInt m).toNatClampNeg * componentBytes ty > (kE K).platform.maxHeapBytes := by
    rw [Launch.admits_maxHeapBytes X.admits, km]
    have := Nat.mul_le_mul_left m.toNat hcb
    omega
  show Steps (kP K).tables (kE K) (kB K) (T.setTop (F0 (kM K) pc ls (.int (Int32.ofInt m) :: .int (Int32.ofInt n) :: st.map (vl (kG K))))) tt
  generalize hgf : F0 (kM K) pc ls (.int (Int32.ofInt m) :: .int (Int32.ofInt n) :: st.map (vl (kG K))) = g
  have hgm : g.method = kM K := by rw [← hgf]
  have hgp : g.pc = pc := by rw [← hgf]
  have hgs : g.stack = .int (Int32.ofInt m) :: .int (Int32.ofInt n) :: st.map (vl (kG K)) := by rw [← hgf]
  have hgn : { g with pc := g.pc + 4, stack := .ref T.heap.size :: st.map (vl (kG K)) } = F0 (kM K) (pc + 4) ls (.ref T.heap.size :: st.map (vl (kG K))) := by rw [← hgf]
  rw [← hgn] at t1'
  rw [← hgp] at hdg
  rw [← hgm] at hg₁
  have hAt : At T g.method (kC K) (kB K) := by rw [hgm]; exact X.here
  jvm_step hAt [hexec, hdg]
  simp only [Op.multianewarray.sem, wp_bind', W.resolveClassAt_links (State.method?_setTop g hAt.top) hg₁]
  rw [W.popN, if_neg (by decide)]
  refine ⟨g, State.topJava?_setTop' (s := T.setVm vm₁) g hAt.top, [.int (Int32.ofInt n), .int (Int32.ofInt m)], st.map (vl (kG K)), rfl, hgs, ?_⟩
  simp only [List.mapM_cons, List.mapM_nil, wp_bind', wp_pure']
  refine x_mk2 (k := kA₁) (k' := kU₁) (c' := gA (kG K) u) (comp := comU) (ty := ty) hkA₁ (by rw [heA]; exact e2) hkU₁ (by rw [heU]; exact u2) (fun q => by have := (lt32 cn c32_0).mp q; omega) (fun q => by have := (lt32 cm c32_0).mp q; omega) hl1 hh1 hl2 hh2 hf hv
    (by rw [kn]; show T.heap.size + 1 + _ ≤ _; omega) (by rw [kn, km]; show T.slotsUsed + _ + _ ≤ _; omega) (fun d' acts' => ?_)
  rw [kn, km]
  have eS : ((T.setTop g).setVm vm₁).setTop { g with stack := st.map (vl (kG K)) } = (T.setVm vm₁).setTop { g with stack := st.map (vl (kG K)) } := by
    show ((T.setVm vm₁).setTop g).setTop _ = _
    rw [State.setTop_setTop]
  rw [eS, mSt_top]
  simp only [wp_bind', W.mark, W.pushRef, State.topJava?_setTop' _ X₂.here.top, Option.some.injEq, exists_eq_left', State.setTop_setTop, State.heap_setTop]
  intro acts
  simp [jvm, X₂.here.top]
  exact t1'
end MN
