/-! J-layer, part 3: the judgement JW over the kit's W, and its pure steps -/
/-- the context of an invocation -/
abbrev JC : Type := Program × Launch × Env × Room × State × MethodId × Array Value × List Frame × Method × Code × JG × Nat × (Int → MH → Prop) × (Nat → Int → MH → Prop) × MH
abbrev kP (K : JC) : Program := K.1
abbrev kL (K : JC) : Launch := K.2.1
abbrev kE (K : JC) : Env := K.2.2.1
abbrev kR (K : JC) : Room := K.2.2.2.1
abbrev kS (K : JC) : State := K.2.2.2.2.1
abbrev kM (K : JC) : MethodId := K.2.2.2.2.2.1
abbrev kA (K : JC) : Array Value := K.2.2.2.2.2.2.1
abbrev kB (K : JC) : List Frame := K.2.2.2.2.2.2.2.1
abbrev kT (K : JC) : Method := K.2.2.2.2.2.2.2.2.1
abbrev kC (K : JC) : Code := K.2.2.2.2.2.2.2.2.2.1
abbrev kG (K : JC) : JG := K.2.2.2.2.2.2.2.2.2.2.1
abbrev kV (K : JC) : Nat := K.2.2.2.2.2.2.2.2.2.2.2.1
abbrev kQ (K : JC) : Int → MH → Prop := K.2.2.2.2.2.2.2.2.2.2.2.2.1
abbrev kX (K : JC) : Nat → Int → MH → Prop := K.2.2.2.2.2.2.2.2.2.2.2.2.2.1
abbrev kH (K : JC) : MH := K.2.2.2.2.2.2.2.2.2.2.2.2.2.2
/-- the heap has grown, no cell has another type or length -/
def ext (h h' : MH) : Prop := hz h ≤ hz h' ∧ ∀ a : Int, 1 ≤ a → a ≤ hz h → ht h' a = ht h a ∧ hn h' a = hn h a
theorem ext_rfl (h : MH) : ext h h := ⟨Int.le_refl _, fun _ _ _ => ⟨rfl, rfl⟩⟩
theorem ext_trans {h1 h2 h3 : MH} (a : ext h1 h2) (b : ext h2 h3) : ext h1 h3 := by
  refine ⟨Int.le_trans a.1 b.1, fun x x1 x2 => ?_⟩
  obtain ⟨p1, p2⟩ := a.2 x x1 x2
  obtain ⟨q1, q2⟩ := b.2 x x1 (Int.le_trans x2 a.1)
  exact ⟨q1.trans p1, q2.trans p2⟩
theorem ext_set {h0 h : MH} {a k x : Int} (e : ext h0 h) : ext h0 (hset h a k x) := e
theorem ext_new {h0 h : MH} {t : Nat} {n c : Int} (e : ext h0 h) : ext h0 (hnew h t n c) := by
  refine ⟨Int.le_trans e.1 (by show hz h ≤ hz h + 1; omega), fun x x1 x2 => ?_⟩
  have h1 : ¬ x = hz h + 1 := by have := e.1; omega
  obtain ⟨p1, p2⟩ := e.2 x x1 x2
  refine ⟨?_, ?_⟩
  · show (if x = hz h + 1 then t else ht h x) = _
    rw [if_neg h1]; exact p1
  · show (if x = hz h + 1 then n else hn h x) = _
    rw [if_neg h1]; exact p2
/-- a returned value; 700: none -/
def rv (G : JG) (rt : Nat) (z : Int) : Option Value := if rt = 700 then none else some (vl G (rt, z))
def okr (h : MH) (rt : Nat) (z : Int) : Prop := if rt = 700 then z = 0 else okf h rt z
/-- how an invocation ends -/
def JEnd (G : JG) (h0 : MH) (rt : Nat) (Q : Int → MH → Prop) (E : Nat → Int → MH → Prop) (s : State) (o : Outcome) (t : State) : Prop :=
  s.WarmedH t.vm ∧ (∃ L k n, s.sameButNew ({ t with vm := s.vm } : State) L k n ∧ ∀ q ∈ L, gB G ≤ q.base) ∧
    ∃ h', JR G h' t.heap ∧ ext h0 h' ∧ ((∃ z, o = .returned (rv G rt z) ∧ okr h' rt z ∧ Q z h') ∨ (∃ c a, o = .threw (ad G a) ∧ c < 100 ∧ okv h' (2000 + c, a) ∧ E c a h'))
def JZ (K : JC) : State → Prop := fun t => ∃ o, t.status = .running ∧ Ended t (kB K) o ∧ JEnd (kG K) (kH K) (kV K) (kQ K) (kX K) (kS K) o t
/-- the known locals stand -/
def lhas (G : JG) (ls : Array Slot) (n : Nat) (lv : List LV) : Prop := ls.size = n ∧ lv_wf ls ∧ lv.length = n ∧ ∀ (k : Nat) (x : LV), lv[k]? = some x → x.1 ≠ 5000 → ls[k]? = some (.val (vl G x))
/-- THE JUDGEMENT: from pc, with these locals, this stack, this mini heap, the invocation comes to an end that its context's Q (or X) has -/
def JW (K : JC) (pc : Nat) (lv st : List LV) (h : MH) : Prop :=
  ∀ (ls : Array Slot) (H : Heap) (locs : List Loc), lhas (kG K) ls (kC K).maxLocals lv → (∀ x ∈ lv, okv h x) → (∀ x ∈ st, okv h x) → JR (kG K) h H → (∀ q ∈ locs, gB (kG K) ≤ q.base) ∧ ext (kH K) h →
    W (kP K) (kL K) (kE K) (kR K) (kS K) (kM K) (kA K) (kB K) (kT K) (kC K) H locs (H.size - (kS K).heap.size) (ssum H (kS K).heap.size) (JZ K) (F0 (kM K) pc ls (st.map (vl (kG K))))
theorem okv_i (h : MH) {z : Int} (hc : c32 z) : okv h (0, z) := by
  unfold okv okf
  simp [hc]
theorem okv_l (h : MH) {z : Int} (hc : c64 z) : okv h (1, z) := by
  unfold okv okf
  simp [hc]
theorem okv_i' {h : MH} {z : Int} (hc : okv h (0, z)) : c32 z := by
  unfold okv okf at hc
  simpa using hc
theorem okv_l' {h : MH} {z : Int} (hc : okv h (1, z)) : c64 z := by
  unfold okv okf at hc
  simpa using hc
theorem vl_i (G : JG) (z : Int) : vl G (0, z) = .int (Int32.ofInt z) := rfl
theorem vl_l (G : JG) (z : Int) : vl G (1, z) = .long (Int64.ofInt z) := rfl
theorem vl_cat (G : JG) (x : LV) : (vl G x).category = if x.1 = 1 then 2 else 1 := by
  unfold vl
  split
  · simp [Value.category]
  · split
    · simp [Value.category]
    · split <;> simp [Value.category]
theorem all_cons {h : MH} {x : LV} {st : List LV} (h1 : okv h x) (h2 : ∀ y ∈ st, okv h y) : ∀ y ∈ x :: st, okv h y := by
  intro y hy
  rcases List.mem_cons.mp hy with e | e
  · rw [e]; exact h1
  · exact h2 y e
theorem all_tail {h : MH} {x : LV} {st : List LV} (h2 : ∀ y ∈ x :: st, okv h y) : ∀ y ∈ st, okv h y := fun y hy => h2 y (List.mem_cons_of_mem _ hy)
section PU
variable {K : JC} {pc pc' : Nat} {lv lv' st : List LV} {h : MH}
abbrev WK (K : JC) (H : Heap) (locs : List Loc) (pc : Nat) (ls : Array Slot) (st : List Value) : Prop :=
  W (kP K) (kL K) (kE K) (kR K) (kS K) (kM K) (kA K) (kB K) (kT K) (kC K) H locs (H.size - (kS K).heap.size) (ssum H (kS K).heap.size) (JZ K) (F0 (kM K) pc ls st)
/-- one int out of two -/
theorem j_i2 {a b r : Int} (hr : c32 r) (row : c32 a → c32 b → ∀ (H : Heap) (locs : List Loc) (ls : Array Slot) (rest : List Value), WK K H locs pc' ls (.int (Int32.ofInt r) :: rest) → WK K H locs pc ls (.int (Int32.ofInt b) :: .int (Int32.ofInt a) :: rest))
    (k : JW K pc' lv ((0, r) :: st) h) : JW K pc lv ((0, b) :: (0, a) :: st) h := by
  intro ls H locs hl hlv hst hR hq
  exact row (okv_i' (hst _ (List.mem_cons_of_mem _ List.mem_cons_self))) (okv_i' (hst _ List.mem_cons_self)) H locs ls _ (k ls H locs hl hlv (all_cons (okv_i h hr) (all_tail (all_tail hst))) hR hq)
theorem j_i1 {a r : Int} (hr : c32 r) (row : c32 a → ∀ (H : Heap) (locs : List Loc) (ls : Array Slot) (rest : List Value), WK K H locs pc' ls (.int (Int32.ofInt r) :: rest) → WK K H locs pc ls (.int (Int32.ofInt a) :: rest))
    (k : JW K pc' lv ((0, r) :: st) h) : JW K pc lv ((0, a) :: st) h := by
  intro ls H locs hl hlv hst hR hq
  exact row (okv_i' (hst _ List.mem_cons_self)) H locs ls _ (k ls H locs hl hlv (all_cons (okv_i h hr) (all_tail hst)) hR hq)
theorem j_i0 {r : Int} (hr : c32 r) (row : ∀ (H : Heap) (locs : List Loc) (ls : Array Slot) (rest : List Value), WK K H locs pc' ls (.int (Int32.ofInt r) :: rest) → WK K H locs pc ls rest)
    (k : JW K pc' lv ((0, r) :: st) h) : JW K pc lv st h := by
  intro ls H locs hl hlv hst hR hq
  exact row H locs ls _ (k ls H locs hl hlv (all_cons (okv_i h hr) hst) hR hq)
theorem j_l0 {r : Int} (hr : c64 r) (row : ∀ (H : Heap) (locs : List Loc) (ls : Array Slot) (rest : List Value), WK K H locs pc' ls (.long (Int64.ofInt r) :: rest) → WK K H locs pc ls rest)
    (k : JW K pc' lv ((1, r) :: st) h) : JW K pc lv st h := by
  intro ls H locs hl hlv hst hR hq
  exact row H locs ls _ (k ls H locs hl hlv (all_cons (okv_l h hr) hst) hR hq)
theorem j_l2 {a b r : Int} (hr : c64 r) (row : c64 a → c64 b → ∀ (H : Heap) (locs : List Loc) (ls : Array Slot) (rest : List Value), WK K H locs pc' ls (.long (Int64.ofInt r) :: rest) → WK K H locs pc ls (.long (Int64.ofInt b) :: .long (Int64.ofInt a) :: rest))
    (k : JW K pc' lv ((1, r) :: st) h) : JW K pc lv ((1, b) :: (1, a) :: st) h := by
  intro ls H locs hl hlv hst hR hq
  exact row (okv_l' (hst _ (List.mem_cons_of_mem _ List.mem_cons_self))) (okv_l' (hst _ List.mem_cons_self)) H locs ls _ (k ls H locs hl hlv (all_cons (okv_l h hr) (all_tail (all_tail hst))) hR hq)
theorem j_l1 {a r : Int} (hr : c64 r) (row : c64 a → ∀ (H : Heap) (locs : List Loc) (ls : Array Slot) (rest : List Value), WK K H locs pc' ls (.long (Int64.ofInt r) :: rest) → WK K H locs pc ls (.long (Int64.ofInt a) :: rest))
    (k : JW K pc' lv ((1, r) :: st) h) : JW K pc lv ((1, a) :: st) h := by
  intro ls H locs hl hlv hst hR hq
  exact row (okv_l' (hst _ List.mem_cons_self)) H locs ls _ (k ls H locs hl hlv (all_cons (okv_l h hr) (all_tail hst)) hR hq)
/-- a long shifted by an int -/
theorem j_ls {a b r : Int} (hr : c64 r) (row : c64 a → c32 b → ∀ (H : Heap) (locs : List Loc) (ls : Array Slot) (rest : List Value), WK K H locs pc' ls (.long (Int64.ofInt r) :: rest) → WK K H locs pc ls (.int (Int32.ofInt b) :: .long (Int64.ofInt a) :: rest))
    (k : JW K pc' lv ((1, r) :: st) h) : JW K pc lv ((0, b) :: (1, a) :: st) h := by
  intro ls H locs hl hlv hst hR hq
  exact row (okv_l' (hst _ (List.mem_cons_of_mem _ List.mem_cons_self))) (okv_i' (hst _ List.mem_cons_self)) H locs ls _ (k ls H locs hl hlv (all_cons (okv_l h hr) (all_tail (all_tail hst))) hR hq)
theorem j_il {a r : Int} (hr : c64 r) (row : c32 a → ∀ (H : Heap) (locs : List Loc) (ls : Array Slot) (rest : List Value), WK K H locs pc' ls (.long (Int64.ofInt r) :: rest) → WK K H locs pc ls (.int (Int32.ofInt a) :: rest))
    (k : JW K pc' lv ((1, r) :: st) h) : JW K pc lv ((0, a) :: st) h := by
  intro ls H locs hl hlv hst hR hq
  exact row (okv_i' (hst _ List.mem_cons_self)) H locs ls _ (k ls H locs hl hlv (all_cons (okv_l h hr) (all_tail hst)) hR hq)
theorem j_li {a r : Int} (hr : c32 r) (row : c64 a → ∀ (H : Heap) (locs : List Loc) (ls : Array Slot) (rest : List Value), WK K H locs pc' ls (.int (Int32.ofInt r) :: rest) → WK K H locs pc ls (.long (Int64.ofInt a) :: rest))
    (k : JW K pc' lv ((0, r) :: st) h) : JW K pc lv ((1, a) :: st) h := by
  intro ls H locs hl hlv hst hR hq
  exact row (okv_l' (hst _ List.mem_cons_self)) H locs ls _ (k ls H locs hl hlv (all_cons (okv_i h hr) (all_tail hst)) hR hq)
theorem j_ll {a b r : Int} (hr : c32 r) (row : c64 a → c64 b → ∀ (H : Heap) (locs : List Loc) (ls : Array Slot) (rest : List Value), WK K H locs pc' ls (.int (Int32.ofInt r) :: rest) → WK K H locs pc ls (.long (Int64.ofInt b) :: .long (Int64.ofInt a) :: rest))
    (k : JW K pc' lv ((0, r) :: st) h) : JW K pc lv ((1, b) :: (1, a) :: st) h := by
  intro ls H locs hl hlv hst hR hq
  exact row (okv_l' (hst _ (List.mem_cons_of_mem _ List.mem_cons_self))) (okv_l' (hst _ List.mem_cons_self)) H locs ls _ (k ls H locs hl hlv (all_cons (okv_i h hr) (all_tail (all_tail hst))) hR hq)
end PU
