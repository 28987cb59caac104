/-! J-layer, part 18: the executor's tables are right; values and conditions by branches -/
/-- a call's entry is right, from the class own, at the context K -/
def CEok (K : JC) (own : String) (idx : Nat) (e : CE) : Prop :=
  (e.1 = 0 ∧ ∃ (y : MethodName) (ws : List Cond) (F Lo nLy : Nat), e.2.2.2 = Sem (kL K) (kG K) y ws F Lo e.2.2.1 ∧ YLk y ws nLy e.2.1.length ∧ SLk own idx y ∧ e.2.2.1 < 800 ∧ F + 1 ≤ (kR K).frames ∧ 8 + (nLy + 11) + Lo ≤ (kR K).locals) ∨
  (e.1 = 1 ∧ ∃ (y : MethodName) (ws : List Cond) (F Lo nLy t : Nat), e.2.2.2 = Sem (kL K) (kG K) y ws F Lo e.2.2.1 ∧ YLk y ws nLy e.2.1.dropLast.length ∧ VLk own idx y t ∧ e.2.1.getLast? = some (2000 + t) ∧ e.2.2.1 < 800 ∧ F + 1 ≤ (kR K).frames ∧ 8 + (nLy + 11) + Lo ≤ (kR K).locals) ∨
  (e.1 = 2 ∧ ∃ (y : MethodName) (ws : List Cond) (F Lo nLy : Nat), e.2.2.2 = Sem (kL K) (kG K) y ws F Lo e.2.2.1 ∧ YLk y ws nLy e.2.1.dropLast.length ∧ ILk own idx y ∧ e.2.2.1 < 800 ∧ F + 1 ≤ (kR K).frames ∧ 8 + (nLy + 11) + Lo ≤ (kR K).locals) ∨
  (e.1 = 3 ∧ Cond.methodLink own idx Lib.objectInit ∈ lw_all ∧ 1 ≤ (kR K).frames ∧ 20 ≤ (kR K).locals)
/-- a pure function's entry is right -/
def PFok (K : JC) (own : String) (idx : Nat) (e : PE) : Prop := ∃ (y : MethodName) (ws : List Cond) (F Lo nLy : Nat), (∀ (as : List LV) (h : MH) (Q : Int → MH → Prop) (E : Nat → Int → MH → Prop), (∀ x ∈ as, okv h x) → as.map (fun x => x.1) = e.1.reverse → Q (e.2.2 (as.map (fun x => x.2))) h → Sem (kL K) (kG K) y ws F Lo e.2.1 as h Q E) ∧
  YLk y ws nLy e.1.length ∧ SLk own idx y ∧ e.2.1 < 800 ∧ F + 1 ≤ (kR K).frames ∧ 8 + (nLy + 11) + Lo ≤ (kR K).locals
/-- a field's entry: number, type, place, tag, how far (0: not laid for good) -/
def RFok (own : String) (on : Bool) (q : Nat × Nat × Nat × Nat × Nat) : Prop := FLink own q.1 q.2.1 q.2.2.1 ∧ (q.2.2.2.2 = 0 → q.2.2.2.1 = ft (fty q.2.1 q.2.2.1)) ∧ (q.2.2.2.2 ≠ 0 → on = true ∧ (kof q.2.1 q.2.2.1).1 = Int.ofNat q.2.2.2.2 ∧ 4 ≤ fty q.2.1 q.2.2.1 ∧ q.2.2.2.1 = ktag (fty q.2.1 q.2.2.1) (kof q.2.1 q.2.2.1).2)
/-- a store's entry: number, type, place, kind -/
def RPok (own : String) (on ini : Bool) (q : Nat × Nat × Nat × Nat) : Prop := ∃ fin : Bool, SLink own q.1 q.2.1 q.2.2.1 fin ∧ (fin = true → ini = true) ∧ ((kof q.2.1 q.2.2.1).1 < 0 ∨ on = false) ∧ q.2.2.2 = fty q.2.1 q.2.2.1
/-- the tables are right -/
def POKx (K : JC) (own : String) (P : JP) (hp : Prop) : Prop :=
  (pOn P = true → gO (kG K) = true) ∧ (∀ q ∈ pRf P, RFok own (pOn P) q) ∧ (∀ q ∈ pRc P, c32 q.2 ∧ Cond.constant own q.1 (Int32.ofInt q.2) ∈ lw_all) ∧ (∀ q ∈ pRl P, c64 q.2 ∧ Cond.constantLong own q.1 (Int64.ofInt q.2) ∈ lw_all) ∧
  (∀ q ∈ pRp P, RPok own (pOn P) (pIn P) q) ∧ (∀ q ∈ pRn P, NLink own q.1 q.2.1 q.2.2) ∧ (∀ q ∈ pRa P, ALink own q.1 q.2) ∧ (∀ q ∈ pCa P, CEok K own q.1 q.2) ∧ (pIn P = true → (kT K).name = "<init>") ∧ kV K = pRt P ∧
  hp ∧ (pOn P = false → gO (kG K) = false) ∧
  ((pRt P = 0 ∧ (kT K).sig.returnType = some .int) ∨ (pRt P = 1 ∧ (kT K).sig.returnType = some .long) ∨ (pRt P = 2 ∧ (kT K).sig.returnType = some .boolean) ∨ (pRt P = 700 ∧ (kT K).sig.returnType = none) ∨ (4 ≤ pRt P ∧ pRt P < 700 ∧ ∃ ty, (kT K).sig.returnType = some ty ∧ ((∃ n, ty = .object n) ∨ ∃ t, ty = .array t))) ∧ ∀ q ∈ pPf P, PFok K own q.1 q.2
abbrev POK (K : JC) (own : String) (P : JP) : Prop := POKx K own P (∀ pc, AR K (kX K) pc)
def isSw (i : Instr) : Bool := match i with
  | .tableswitch _ _ _ _ => true
  | _ => false
def lkc : List (Nat × List (Nat × Instr)) → Nat → Option Instr
  | [], _ => none
  | (b, ch) :: r, i => cond (Nat.blt i b) (lk ch i) (lkc r i)
theorem lkc_mem : ∀ {l : List (Nat × List (Nat × Instr))} {i : Nat} {x : Instr}, lkc l i = some x → ∃ q ∈ l, (i, x) ∈ q.2
  | [], _, _, h => by simp [lkc] at h
  | (b, ch) :: r, i, x, h => by
    unfold lkc at h
    cases hb : Nat.blt i b with
    | true =>
      rw [hb] at h
      exact ⟨(b, ch), List.mem_cons_self, lk_mem h⟩
    | false =>
      rw [hb] at h
      obtain ⟨q, h1, h2⟩ := lkc_mem h
      exact ⟨q, List.mem_cons_of_mem _ h1, h2⟩
def CodeOK (cc : ByteArray) (code : List (Nat × List (Nat × Instr))) : Prop := ∀ p ∈ code, ∀ q ∈ p.2, ∃ len, decode cc q.1 = .ok (q.2, len) ∧ (isSw q.2 = true ∨ len = iln q.2)
/-- what a list of locals or of stack is, looked at wholly -/
def frc : List LV → (List LV → Prop) → Prop
  | [], k => k []
  | (g, z) :: r, k => frc r (fun r' => k ((g, z) :: r'))
theorem frc_eq : ∀ (l : List LV) (k : List LV → Prop), frc l k = k l
  | [], _ => rfl
  | (g, z) :: r, k => by show frc r (fun r' => k ((g, z) :: r')) = _; rw [frc_eq r]
