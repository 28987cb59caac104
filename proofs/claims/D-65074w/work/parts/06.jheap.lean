/-! J-layer, part 4: the classes' tables, the heap's steps -/
/-- the own views of the exceptions: their one field -/
def TW13 : u_T := fun _ => ("FactHouse$Wrong", "place", "I", true)
def TW17 : u_T := fun _ => ("FactHouseModel$Fault", "place", "I", true)
def T0_ : u_T := fun _ => ("", "", "", false)
def TBk : u_T := fun _ => ("java/lang/Throwable", "backtrace", "Ljava/lang/Object;", false)
abbrev jcl : List vw_C := [(RX0, T0_, 0), (RX1, TX1, 9), (RX2, TX2, 29), (RX3, TX3, 4), (RX4, TX4, 5), (RX5, TX5, 9), (RX6, TX6, 2), (RX7, TX7, 17), (RX8, TX8, 32), (RX9, TX9, 106), (RX10, TX10, 33), (RX11, TX11, 6), (RX12, TX12, 15), (RX13, TW13, 1), (RX14, TX14, 19), (RX15, TX15, 4), (RX16, TX16, 5), (RX17, TW17, 1), (RX0, T0_, 0), (RX0, T0_, 0), (RJ3, TBk, 1), (RJ4, TBk, 1), (RJ5, TBk, 1)]
def jat (t : Nat) : Option FieldType := match t with
  | 100 => some .int
  | 101 => some .long
  | 102 => some .boolean
  | 103 => some .byte
  | 113 => some (.object "FactHouse$State")
  | 114 => some (.object "FactHouse$Fact")
  | 115 => some (.object "FactHouse$Outcome")
  | 116 => some (.object "FactHouse$Cell")
  | 124 => some (.object "FactHouse$Method")
  | 125 => some (.object "FactHouse$Handler")
  | 130 => some (.array .int)
  | 131 => some (.array .boolean)
  | 132 => some (.array (.object "FactHouse$Cell"))
  | 133 => some (.array (.object "FactHouse$Method"))
  | _ => none
/-- the kind of a field or an element, as the tables have it -/
def ktOf (ty : FieldType) (vt : Nat) : Bool := match ty with
  | .int => vt == 0
  | .long => vt == 1
  | .boolean => vt == 2
  | .byte => vt == 3
  | .object _ => Nat.ble 4 vt
  | .array _ => Nat.ble 4 vt
  | _ => false
def gcls (G : JG) (t : Nat) : ClassId := if t < 100 then gC G t else gA G t
def jArr (G : JG) (s : State) (t : Nat) (ty : FieldType) : Prop := ∃ (kA : Class) (comp : ClassId), s.vm.classes[gA G t]? = some kA ∧ kA.kind = .array comp ty ∧ s.vm.findClass ("[" ++ ty.toString) = some (gA G t) ∧ ktOf ty (ety t) = true ∧
  (4 ≤ ety t → comp = gcls G (ety t - 4) ∧ s.vm.assignable comp comp = true ∧ ∃ kc : Class, s.vm.classes[comp]? = some kc)
/-- links between nest mates: these words don't ride in lw_all -/
def nestM : List (String × Nat × MethodName × String) := [("FactHouse", 31, ⟨"FactHouse$Follow", "<init>", "()V"⟩, "FactHouse"), ("FactHouse", 38, ⟨"FactHouse$Machine", "<init>", "()V"⟩, "FactHouse"), ("FactHouse$Facts", 78, ⟨"FactHouse$Fact", "<init>", "()V"⟩, "FactHouse"), ("FactHouse$Facts", 98, ⟨"FactHouse$Outcome", "<init>", "()V"⟩, "FactHouse"), ("FactHouse$Facts", 99, ⟨"FactHouse$Cell", "<init>", "()V"⟩, "FactHouse"), ("FactHouse$State", 17, ⟨"FactHouse$Fact", "<init>", "()V"⟩, "FactHouse"), ("FactHouse$Outcome", 11, ⟨"FactHouse$Fact", "<init>", "()V"⟩, "FactHouse"), ("FactHouse$Cell", 11, ⟨"FactHouse$Fact", "<init>", "()V"⟩, "FactHouse"), ("FactHouse$Machine", 212, ⟨"FactHouse$Facts", "may", "(IIIII)Z"⟩, "FactHouse"), ("FactHouse$Machine", 254, ⟨"FactHouse", "isIn", "(JJJ)Z"⟩, "FactHouse"), ("FactHouseModel", 15, ⟨"FactHouseModel$Load", "<init>", "()V"⟩, "FactHouseModel"), ("FactHouse$Reader", 11, ⟨"FactHouse$Program", "<init>", "()V"⟩, "FactHouse"), ("FactHouse$Reader", 44, ⟨"FactHouse", "isIn", "(JJJ)Z"⟩, "FactHouse"), ("FactHouse$Reader", 193, ⟨"FactHouse$Handler", "<init>", "()V"⟩, "FactHouse")]
def nestF : List (String × Nat × String × String × String × String) := [("FactHouse", 337, "FactHouse$Machine", "sinks", "[I", "FactHouse"), ("FactHouse", 339, "FactHouse$Machine", "numbers", "[I", "FactHouse"), ("FactHouse", 329, "FactHouse$Machine", "outputs", "I", "FactHouse"), ("FactHouse", 124, "FactHouse$Machine", "inputCount", "I", "FactHouse")]
/-- what was said at the law's start, of the state it began in; what lay in the heap then lies there still -/
def XT (G : JG) (s : State) : Prop := (∀ q : Nat, q < gB G → s.heap[q]? = (gH G)[q]?) ∧ ∃ s0 : State, s0.heap = gH G ∧ s0.WarmedH s.vm ∧ (∀ w ∈ tables_1, w.before #[.ref (gX G)] s0 = true) ∧ narrow_1.before #[.ref (gX G)] s0 = true
/-- the tables know the run's classes -/
def JT (G : JG) (s : State) : Prop := (∀ (t : Nat) (q : vw_C), jcl[t]? = some q → u_Kn s q.1 q.2.1 q.2.2 (gC G t) (gI G t)) ∧ (∀ (t : Nat) (ty : FieldType), jat t = some ty → jArr G s t ty ∧ (ty.isReference = true → (Cond.arrayOver ty).before #[] s = true)) ∧
  (∀ q ∈ nestM, va_Nw (.methodLinkNest q.1 q.2.1 q.2.2.1 q.2.2.2) s) ∧ (∀ q ∈ nestF, va_Nw (.fieldLinkNest q.1 q.2.1 q.2.2.1 q.2.2.2.1 q.2.2.2.2.1 q.2.2.2.2.2) s) ∧ XT G s
/-- the context is as it should be -/
def KO (K : JC) (own : String) (cc : ByteArray) : Prop :=
  (kP K).tables.exec = Jvm.exec ∧ (kC K).code = cc ∧ (kS K).vm.findClass own = some (kM K).cls ∧ (∀ w ∈ lw_all, w.before (kA K) (kS K) = true) ∧ JT (kG K) (kS K) ∧
  (kS K).heap.size + (kR K).cells = gB (kG K) + 1200384 ∧ ssum (kS K).heap (gB (kG K)) + (kR K).slots = 5490346 ∧ (kT K).locks = false ∧ gB (kG K) ≤ (kS K).heap.size
section HV
variable {h : MH} {a b k j x n c : Int} {t : Nat}
theorem hv_set : hv (hset h a k x) b j = if b = a ∧ j = k then x else hv h b j := rfl
theorem hn_set : hn (hset h a k x) b = hn h b := rfl
theorem ht_set : ht (hset h a k x) b = ht h b := rfl
theorem hz_set : hz (hset h a k x) = hz h := rfl
theorem hs_set : hs (hset h a k x) = hs h := rfl
theorem hv_new : hv (hnew h t n c) b j = if b = hz h + 1 then 0 else hv h b j := rfl
theorem hn_new : hn (hnew h t n c) b = if b = hz h + 1 then n else hn h b := rfl
theorem ht_new : ht (hnew h t n c) b = if b = hz h + 1 then t else ht h b := rfl
theorem hz_new : hz (hnew h t n c) = hz h + 1 := rfl
theorem hs_new : hs (hnew h t n c) = hs h + c := rfl
end HV
theorem okf_set {h : MH} {a k x z : Int} {vt : Nat} : okf (hset h a k x) vt z = okf h vt z := rfl
theorem okv_set {h : MH} {a k x : Int} {y : LV} : okv (hset h a k x) y = okv h y := rfl
theorem okf_new {h : MH} {t : Nat} {n c z : Int} {vt : Nat} (h0 : okf h vt z) : okf (hnew h t n c) vt z := by
  unfold okf at *
  rw [hz_new]
  split
  · rename_i e; simpa [e] using h0
  · split
    · rename_i e1 e2; simpa [e1, e2] using h0
    · split
      · rename_i e1 e2 e3; simpa [e1, e2, e3] using h0
      · split
        · rename_i e1 e2 e3 e4; simpa [e1, e2, e3, e4] using h0
        · rename_i e1 e2 e3 e4
          simp only [e1, e2, e3, e4, if_false] at h0
          rcases h0 with h0 | ⟨h1, h2, h3⟩
          · exact Or.inl h0
          · refine Or.inr ⟨h1, by omega, ?_⟩
            rw [ht_new, if_neg (by omega)]
            exact h3
theorem okv_new {h : MH} {t : Nat} {n c : Int} {y : LV} (h0 : okv h y) : okv (hnew h t n c) y := by
  unfold okv at *
  split
  · rename_i e
    simp only [e, if_true] at h0
    exact okf_new h0
  · rename_i e
    simp only [e, if_false] at h0
    split
    · rename_i e1; simpa [e1] using h0
    · rename_i e1
      simp only [e1, if_false] at h0
      split
      · rename_i e2; simpa [e2] using h0
      · rename_i e2
        simp only [e2, if_false] at h0
        split
        · trivial
        · rename_i e3
          simp only [e3, if_false] at h0
          obtain ⟨h1, h2, h3, h4⟩ := h0
          rw [hz_new]
          refine ⟨h1, by omega, ?_, fun q => ?_⟩
          · rw [ht_new, if_neg (by omega)]; exact h3
          · rw [hn_new, if_neg (by omega)]; exact h4 q
theorem ad_pos {G : JG} {a : Int} (h : 1 ≤ a) : ad G a = gB G + (a.toNat - 1) := by
  unfold ad
  rw [if_neg (by omega)]
theorem ad_inj {G : JG} {a b : Int} (ha : 1 ≤ a) (hb : 1 ≤ b) (h : ad G a = ad G b) : a = b := by
  rw [ad_pos ha, ad_pos hb] at h
  omega
theorem vl_r {G : JG} {t : Nat} {a : Int} (h4 : 4 ≤ t) (ha : 1 ≤ a) : vl G (t, a) = .ref (ad G a) := by
  unfold vl
  rw [if_neg (by show ¬ t = 1; omega), if_neg (by show ¬ t < 4; omega), if_neg (by show ¬ a = 0; omega)]
/-- an object's address out of its tag: not null, of type t -/
def obj (h : MH) (t : Nat) (a : Int) : Prop := 1 ≤ a ∧ a ≤ hz h ∧ ht h a = t
theorem obj_of_nn {h : MH} {g : Nat} {a : Int} (h1 : 2000 ≤ g) (h2 : g ≠ 5000) (ho : okv h (g, a)) : obj h (g % 1000) a := by
  unfold okv at ho
  simp only [show ¬ g < 800 by omega, show ¬ g = 800 by omega, show ¬ g = 900 by omega, h2, if_false] at ho
  exact ⟨ho.1, ho.2.1, ho.2.2.1⟩
theorem obj_of_tag {h : MH} {t : Nat} {a : Int} (ht : t < 796) (ha : a ≠ 0) (ho : okv h (4 + t, a)) : obj h t a := by
  unfold okv okf at ho
  simp only [show 4 + t < 800 by omega, show ¬ 4 + t = 0 by omega, show ¬ 4 + t = 1 by omega, show ¬ 4 + t = 2 by omega, show ¬ 4 + t = 3 by omega, if_true, if_false] at ho
  rcases ho with h0 | ⟨h1, h2, h3⟩
  · exact absurd h0 ha
  · exact ⟨h1, h2, by rw [h3]; omega⟩
theorem cell_o {G : JG} {h : MH} {H : Heap} {t : Nat} {a : Int} (hR : JR G h H) (ho : obj h t a) (h1 : t < 100) :
    ∃ cell : Cell, H[ad G a]? = some cell ∧ cell.vm = .none ∧ cell.cls = gC G t ∧ ∀ k : Nat, k < (nft t).length → slotO G h cell t a k := by
  obtain ⟨p1, p2, p3⟩ := ho
  obtain ⟨cell, c1, c2, c3⟩ := hR.2.2.2.2.2.1 a p1 p2
  rw [p3] at c3
  rcases c3 with ⟨-, q1, q2⟩ | ⟨q0, -⟩
  · exact ⟨cell, c1, c2, q1.1, q2⟩
  · omega
theorem cell_x {G : JG} {h : MH} {H : Heap} {t : Nat} {a : Int} {cell : Cell} (hR : JR G h H) (ho : obj h t a) (h1 : t < 100) (hc : H[ad G a]? = some cell) : xC t cell := by
  obtain ⟨p1, p2, p3⟩ := ho
  obtain ⟨cell', c1, c2, c3⟩ := hR.2.2.2.2.2.1 a p1 p2
  rw [p3] at c3
  cases hc.symm.trans c1
  rcases c3 with ⟨-, q1, q2⟩ | ⟨q0, -⟩
  · exact q1.2
  · omega
theorem cell_a {G : JG} {h : MH} {H : Heap} {t : Nat} {a : Int} (hR : JR G h H) (ho : obj h t a) (h1 : 100 ≤ t) :
    ∃ cell : Cell, H[ad G a]? = some cell ∧ cell.vm = .none ∧ cell.cls = gA G t ∧ 0 ≤ hn h a ∧ hn h a ≤ 2147483647 ∧ (cell.slots.size : Int) = hn h a ∧ ∀ j : Nat, (j : Int) < hn h a → slotA G h cell t a j := by
  obtain ⟨p1, p2, p3⟩ := ho
  obtain ⟨cell, c1, c2, c3⟩ := hR.2.2.2.2.2.1 a p1 p2
  rw [p3] at c3
  rcases c3 with ⟨q0, -⟩ | ⟨-, q1, q2⟩
  · omega
  · exact ⟨cell, c1, c2, q1, q2⟩
