/-! Part 41d: what a judged instruction has (plain; the cases by gen/gen41d.py) -/
set_option maxRecDepth 100000
/-- the kind at a height -/
def kat : List Int → Int → Int
  | [], _ => 0
  | x :: r, i => if i = r.length then x else kat r i
theorem kat_out : ∀ (r : List Int) (i : Int), (r.length : Int) ≤ i → kat r i = 0
  | [], _, _ => rfl
  | x :: r, i, h => by
    have e : (((x :: r).length : Nat) : Int) = r.length + 1 := by simp
    show (if i = (r.length : Int) then x else kat r i) = 0
    rw [if_neg (by omega)]
    exact kat_out r i (by omega)
theorem kat_app : ∀ (a r : List Int) (i : Int), 0 ≤ i → kat (a ++ r) i = if i < r.length then kat r i else kat a (i - r.length)
  | [], r, i, i0 => by
    rw [List.nil_append]
    split
    · rfl
    · rename_i h
      show kat r i = 0
      exact kat_out r i (by omega)
  | x :: a, r, i, i0 => by
    show (if i = ((a ++ r).length : Int) then x else kat (a ++ r) i) = _
    rw [kat_app a r i i0]
    have e : ((a ++ r).length : Int) = a.length + r.length := by simp
    rw [e]
    by_cases c : i < r.length
    · rw [if_pos c, if_pos c, if_neg (by omega)]
    · rw [if_neg c, if_neg c]
      show _ = (if i - (r.length : Int) = (a.length : Int) then x else kat a (i - r.length))
      by_cases d : i = (a.length : Int) + r.length
      · rw [if_pos d, if_pos (by omega)]
      · rw [if_neg d, if_neg (by omega)]
theorem ks_bit : ∀ (st : List Int), k01 st → st.length ≤ 8 → ∀ i : Int, 0 ≤ i → i < 32 → (bi (ksO st) i = true ↔ kat st i = 1)
  | [], _, _, i, i0, i1 => by
    show bi 0 i = true ↔ (0 : Int) = 1
    rw [bi_zero]; simp
  | x :: r, h, l8, i, i0, i1 => by
    have hx := h x List.mem_cons_self
    have hl : r.length < 8 := by have h' : r.length + 1 ≤ 8 := l8; omega
    have ih := ks_bit r (fun y hy => h y (List.mem_cons_of_mem _ hy)) (by omega) i i0 i1
    have lt := kN_lt r
    unfold ksO at ih ⊢
    rw [bi_nat i1] at ih ⊢
    show (kN r + (if x = 1 then 2 ^ r.length else 0)).testBit i.toNat = true ↔ (if i = (r.length : Int) then x else kat r i) = 1
    have out : (r.length : Int) ≤ i → (kN r).testBit i.toNat = false := fun q => Nat.testBit_lt_two_pow (Nat.lt_of_lt_of_le lt (Nat.pow_le_pow_right (by decide) (by omega)))
    rcases hx with q | q
    · rw [if_neg (by omega), Nat.add_zero]
      by_cases c : i = (r.length : Int)
      · rw [if_pos c, out (by omega), q]; simp
      · rw [if_neg c]; exact ih
    · rw [if_pos q]
      have e : kN r + 2 ^ r.length = 2 ^ r.length ||| kN r := by
        have := Nat.shiftLeft_add_eq_or_of_lt lt 1
        rw [Nat.one_shiftLeft] at this
        rw [← this, Nat.add_comm]
      rw [e, Nat.testBit_or, Nat.testBit_two_pow]
      by_cases c : i = (r.length : Int)
      · rw [if_pos c, q]
        have : r.length = i.toNat := by omega
        simp [this]
      · rw [if_neg c]
        have : ¬ r.length = i.toNat := by omega
        simp only [this, decide_false, Bool.false_or]
        exact ih
theorem kat_01 : ∀ (st : List Int), k01 st → ∀ i : Int, kat st i = 0 ∨ kat st i = 1
  | [], _, _ => Or.inl rfl
  | x :: r, h, i => by
    show (if i = (r.length : Int) then x else kat r i) = 0 ∨ (if i = (r.length : Int) then x else kat r i) = 1
    split
    · exact h x List.mem_cons_self
    · exact kat_01 r (fun y hy => h y (List.mem_cons_of_mem _ hy)) i
/-- kinds of arguments, top first -/
def argl (L : PG) (c : Int) : Nat → List Int
  | 0 => []
  | n + 1 => L 10 (8 * c + n) :: argl L c n
theorem argl_len (L : PG) (c : Int) : ∀ n : Nat, (argl L c n).length = n
  | 0 => rfl
  | n + 1 => by show (argl L c n).length + 1 = n + 1; rw [argl_len L c n]
theorem argl_kat (L : PG) (c : Int) : ∀ (n : Nat) (j : Int), 0 ≤ j → j < n → kat (argl L c n) j = L 10 (8 * c + j)
  | 0, j, a, b => by omega
  | n + 1, j, a, b => by
    show (if j = ((argl L c n).length : Int) then L 10 (8 * c + n) else kat (argl L c n) j) = _
    rw [argl_len]
    by_cases e : j = n
    · rw [if_pos e, e]
    · rw [if_neg e]; exact argl_kat L c n j a (by omega)
theorem plA_ok {L : PG} {e c : Int} {k : List Int → JdR} {s2 : List Int} : ∀ (n : Nat) (st : List Int), plA L e c n st k = .ok s2 → ∃ r, st = argl L c n ++ r ∧ k r = .ok s2
  | 0, st, h => ⟨st, rfl, h⟩
  | n + 1, [], h => by cases h
  | n + 1, x :: st, h => by
    have h' : (if x = L 10 (8 * c + n) then plA L e c n st k else .error e) = .ok s2 := h
    by_cases q : x = L 10 (8 * c + n)
    · rw [if_pos q] at h'
      obtain ⟨r, e1, e2⟩ := plA_ok n st h'
      exact ⟨r, by rw [e1, q]; rfl, e2⟩
    · rw [if_neg q] at h'; cases h'
theorem pl_ok {e kind : Int} {st s2 : List Int} {k : List Int → JdR} (h : pl e kind st k = .ok s2) : ∃ r, st = kind :: r ∧ k r = .ok s2 := by
  match st, h with
  | [], h => cases h
  | x :: r, h =>
    have h' : (if x = kind then k r else .error e) = .ok s2 := h
    by_cases q : x = kind
    · rw [if_pos q] at h'; exact ⟨r, by rw [q], h'⟩
    · rw [if_neg q] at h'; cases h'
theorem pla_ok {e : Int} {st s2 : List Int} {k : Int → List Int → JdR} (h : pla e st k = .ok s2) : ∃ x r, st = x :: r ∧ k x r = .ok s2 := by
  match st, h with
  | [], h => cases h
  | x :: r, h => exact ⟨x, r, rfl, h⟩
theorem ly_ok {e mx kind : Int} {st s2 : List Int} {k : List Int → JdR} (h : ly e mx kind st k = .ok s2) : ¬ (st.length : Int) = mx ∧ k (kind :: st) = .ok s2 := by
  unfold ly at h
  by_cases q : (st.length : Int) = mx
  · rw [if_pos q] at h; cases h
  · rw [if_neg q] at h; exact ⟨q, h⟩
theorem nl_ok {e : Int} {st s2 : List Int} (h : nl0 e st = .ok s2) : st = [] ∧ s2 = [] := by
  unfold nl0 at h
  by_cases q : st = []
  · rw [if_pos q] at h; cases h; exact ⟨q, q⟩
  · rw [if_neg q] at h; cases h
/-- what stands below an instruction's values, and its values -/
def SHP (L : PG) (m k : Int) (a b r : List Int) : Prop :=
  (pOp L k = 0 ∨ pOp L k = 13 → a = [] ∧ b = [0]) ∧
  (pOp L k = 1 ∨ pOp L k = 20 → a = [] ∧ b = [1]) ∧
  (pOp L k = 2 → a = [] ∧ b = [pLk L m (pX L k)]) ∧
  (pOp L k = 3 → a = [pLk L m (pX L k)] ∧ b = []) ∧
  (pOp L k = 4 → ∃ x, a = [x] ∧ b = []) ∧
  (pOp L k = 5 → ∃ x, a = [x] ∧ b = [x, x]) ∧
  (pOp L k = 6 → ∃ x y, a = [x, y] ∧ b = [y, x]) ∧
  (7 ≤ pOp L k ∧ pOp L k ≤ 11 → a = [0, 0] ∧ b = [0]) ∧
  (pOp L k = 12 → a = [0] ∧ b = [0]) ∧
  (pOp L k = 14 → a = [0] ∧ b = []) ∧
  (pOp L k = 15 → a = [] ∧ b = [] ∧ r = []) ∧
  (pOp L k = 16 → a = [0, 0] ∧ b = [] ∧ r = []) ∧
  (pOp L k = 17 → a = [] ∧ b = [] ∧ r = [] ∧ pLk L m (pX L k % 8) = 0) ∧
  (pOp L k = 18 ∨ pOp L k = 19 → a = [] ∧ b = [] ∧ r = [] ∧ pLk L m (pX L k) = 1) ∧
  (pOp L k = 21 → a = [0] ∧ b = [1]) ∧
  (pOp L k = 22 → a = [1] ∧ b = [0]) ∧
  (pOp L k = 23 → a = [0, 1] ∧ b = [pX L k]) ∧
  (pOp L k = 24 → a = [pX L k, 0, 1] ∧ b = []) ∧
  (pOp L k = 25 → a = [1] ∧ b = [pFk L (pX L k) (pY L k)]) ∧
  (pOp L k = 26 → a = [pFk L (pX L k) (pY L k), 1] ∧ b = []) ∧
  (pOp L k = 27 → a = [] ∧ b = [pSk L (pX L k)]) ∧
  (pOp L k = 28 → a = [pSk L (pX L k)] ∧ b = []) ∧
  (pOp L k = 29 ∨ pOp L k = 30 → a = argl L (lik L k) (pAr L (lik L k)).toNat ∧ b = (if 0 < pGi L (lik L k) then [pGi L (lik L k) - 1] else []) ∧ (pOp L k = 29 → pOw L (pY L k) = 255) ∧ (pOp L k = 30 → 0 ≤ wnm L (pX L k))) ∧
  (pOp L k = 31 → a = (if 0 < pGi L m then [pGi L m - 1] else []) ∧ b = [] ∧ r = []) ∧
  (pOp L k = 32 → a = [1] ∧ b = []) ∧
  (pOp L k = 33 → a = [1] ∧ b = [1]) ∧
  (pOp L k = 34 ∨ pOp L k = 35 → a = [] ∧ b = []) ∧
  (pOp L k = 36 → a = [1] ∧ b = [] ∧ 0 ≤ wnm L (pX L k) ∧ pAr L (wnm L (pX L k)) = 1 ∧ pGi L (wnm L (pX L k)) = 0)
theorem jI_sh {L : PG} {m k : Int} {st s2 : List Int} (op0 : 0 ≤ pOp L k) (op1 : pOp L k ≤ 36) (h : jI L m k st = .ok s2) : ∃ a b r, st = a ++ r ∧ s2 = b ++ r ∧ SHP L m k a b r ∧ ((st.length : Int) ≤ L 11 m → (s2.length : Int) ≤ L 11 m) := by
  have e19 : pOp L k = L 19 k := rfl
  unfold jI at h
  by_cases c0 : L 19 k = 0 ∨ L 19 k = 13
  · rw [if_pos c0] at h
    obtain ⟨ny, g1⟩ := ly_ok h
    cases g1
    exact ⟨[], [0], _, rfl, rfl, ⟨fun _ => ⟨rfl, rfl⟩, fun z => by omega, fun z => by omega, fun z => by omega, fun z => by omega, fun z => by omega, fun z => by omega, fun z => by omega, fun z => by omega, fun z => by omega, fun z => by omega, fun z => by omega, fun z => by omega, fun z => by omega, fun z => by omega, fun z => by omega, fun z => by omega, fun z => by omega, fun z => by omega, fun z => by omega, fun z => by omega, fun z => by omega, fun z => by omega, fun z => by omega, fun z => by omega, fun z => by omega, fun z => by omega, fun z => by omega⟩, fun le => by simp only [List.length_append, List.length_cons, List.length_nil] at *; omega⟩
  rw [if_neg c0] at h
  by_cases c1 : L 19 k = 1 ∨ L 19 k = 20
  · rw [if_pos c1] at h
    obtain ⟨ny, g1⟩ := ly_ok h
    cases g1
    exact ⟨[], [1], _, rfl, rfl, ⟨fun z => by omega, fun _ => ⟨rfl, rfl⟩, fun z => by omega, fun z => by omega, fun z => by omega, fun z => by omega, fun z => by omega, fun z => by omega, fun z => by omega, fun z => by omega, fun z => by omega, fun z => by omega, fun z => by omega, fun z => by omega, fun z => by omega, fun z => by omega, fun z => by omega, fun z => by omega, fun z => by omega, fun z => by omega, fun z => by omega, fun z => by omega, fun z => by omega, fun z => by omega, fun z => by omega, fun z => by omega, fun z => by omega, fun z => by omega⟩, fun le => by simp only [List.length_append, List.length_cons, List.length_nil] at *; omega⟩
  rw [if_neg c1] at h
  by_cases c2 : L 19 k = 2
  · rw [if_pos c2] at h
    obtain ⟨ny, g1⟩ := ly_ok h
    cases g1
    exact ⟨[], [pLk L m (pX L k)], _, rfl, rfl, ⟨fun z => by omega, fun z => by omega, fun _ => ⟨rfl, rfl⟩, fun z => by omega, fun z => by omega, fun z => by omega, fun z => by omega, fun z => by omega, fun z => by omega, fun z => by omega, fun z => by omega, fun z => by omega, fun z => by omega, fun z => by omega, fun z => by omega, fun z => by omega, fun z => by omega, fun z => by omega, fun z => by omega, fun z => by omega, fun z => by omega, fun z => by omega, fun z => by omega, fun z => by omega, fun z => by omega, fun z => by omega, fun z => by omega, fun z => by omega⟩, fun le => by simp only [List.length_append, List.length_cons, List.length_nil] at *; omega⟩
  rw [if_neg c2] at h
  by_cases c3 : L 19 k = 3
  · rw [if_pos c3] at h
    obtain ⟨r, rfl, g1⟩ := pl_ok h
    cases g1
    exact ⟨[pLk L m (pX L k)], [], _, rfl, rfl, ⟨fun z => by omega, fun z => by omega, fun z => by omega, fun _ => ⟨rfl, rfl⟩, fun z => by omega, fun z => by omega, fun z => by omega, fun z => by omega, fun z => by omega, fun z => by omega, fun z => by omega, fun z => by omega, fun z => by omega, fun z => by omega, fun z => by omega, fun z => by omega, fun z => by omega, fun z => by omega, fun z => by omega, fun z => by omega, fun z => by omega, fun z => by omega, fun z => by omega, fun z => by omega, fun z => by omega, fun z => by omega, fun z => by omega, fun z => by omega⟩, fun le => by simp only [List.length_append, List.length_cons, List.length_nil] at *; omega⟩
  rw [if_neg c3] at h
  by_cases c4 : L 19 k = 4
  · rw [if_pos c4] at h
    obtain ⟨x, r, rfl, g1⟩ := pla_ok h
    cases g1
    exact ⟨[x], [], _, rfl, rfl, ⟨fun z => by omega, fun z => by omega, fun z => by omega, fun z => by omega, fun _ => ⟨x, rfl, rfl⟩, fun z => by omega, fun z => by omega, fun z => by omega, fun z => by omega, fun z => by omega, fun z => by omega, fun z => by omega, fun z => by omega, fun z => by omega, fun z => by omega, fun z => by omega, fun z => by omega, fun z => by omega, fun z => by omega, fun z => by omega, fun z => by omega, fun z => by omega, fun z => by omega, fun z => by omega, fun z => by omega, fun z => by omega, fun z => by omega, fun z => by omega⟩, fun le => by simp only [List.length_append, List.length_cons, List.length_nil] at *; omega⟩
  rw [if_neg c4] at h
  by_cases c5 : L 19 k = 5
  · rw [if_pos c5] at h
    obtain ⟨x, r, rfl, g1⟩ := pla_ok h
    obtain ⟨ny, g2⟩ := ly_ok g1
    obtain ⟨ny, g3⟩ := ly_ok g2
    cases g3
    exact ⟨[x], [x, x], _, rfl, rfl, ⟨fun z => by omega, fun z => by omega, fun z => by omega, fun z => by omega, fun z => by omega, fun _ => ⟨x, rfl, rfl⟩, fun z => by omega, fun z => by omega, fun z => by omega, fun z => by omega, fun z => by omega, fun z => by omega, fun z => by omega, fun z => by omega, fun z => by omega, fun z => by omega, fun z => by omega, fun z => by omega, fun z => by omega, fun z => by omega, fun z => by omega, fun z => by omega, fun z => by omega, fun z => by omega, fun z => by omega, fun z => by omega, fun z => by omega, fun z => by omega⟩, fun le => by simp only [List.length_append, List.length_cons, List.length_nil] at *; omega⟩
  rw [if_neg c5] at h
  by_cases c6 : L 19 k = 6
  · rw [if_pos c6] at h
    obtain ⟨x, r1, rfl, g1⟩ := pla_ok h
    obtain ⟨y, r, rfl, g2⟩ := pla_ok g1
    obtain ⟨ny, g3⟩ := ly_ok g2
    obtain ⟨ny, g4⟩ := ly_ok g3
    cases g4
    exact ⟨[x, y], [y, x], _, rfl, rfl, ⟨fun z => by omega, fun z => by omega, fun z => by omega, fun z => by omega, fun z => by omega, fun z => by omega, fun _ => ⟨x, y, rfl, rfl⟩, fun z => by omega, fun z => by omega, fun z => by omega, fun z => by omega, fun z => by omega, fun z => by omega, fun z => by omega, fun z => by omega, fun z => by omega, fun z => by omega, fun z => by omega, fun z => by omega, fun z => by omega, fun z => by omega, fun z => by omega, fun z => by omega, fun z => by omega, fun z => by omega, fun z => by omega, fun z => by omega, fun z => by omega⟩, fun le => by simp only [List.length_append, List.length_cons, List.length_nil] at *; omega⟩
  rw [if_neg c6] at h
  by_cases c7 : 7 ≤ L 19 k ∧ L 19 k ≤ 11
  · rw [if_pos c7] at h
    obtain ⟨r1, rfl, g1⟩ := pl_ok h
    obtain ⟨r, rfl, g2⟩ := pl_ok g1
    obtain ⟨ny, g3⟩ := ly_ok g2
    cases g3
    exact ⟨[0, 0], [0], _, rfl, rfl, ⟨fun z => by omega, fun z => by omega, fun z => by omega, fun z => by omega, fun z => by omega, fun z => by omega, fun z => by omega, fun _ => ⟨rfl, rfl⟩, fun z => by omega, fun z => by omega, fun z => by omega, fun z => by omega, fun z => by omega, fun z => by omega, fun z => by omega, fun z => by omega, fun z => by omega, fun z => by omega, fun z => by omega, fun z => by omega, fun z => by omega, fun z => by omega, fun z => by omega, fun z => by omega, fun z => by omega, fun z => by omega, fun z => by omega, fun z => by omega⟩, fun le => by simp only [List.length_append, List.length_cons, List.length_nil] at *; omega⟩
  rw [if_neg c7] at h
  by_cases c8 : L 19 k = 12
  · rw [if_pos c8] at h
    obtain ⟨r, rfl, g1⟩ := pl_ok h
    obtain ⟨ny, g2⟩ := ly_ok g1
    cases g2
    exact ⟨[0], [0], _, rfl, rfl, ⟨fun z => by omega, fun z => by omega, fun z => by omega, fun z => by omega, fun z => by omega, fun z => by omega, fun z => by omega, fun z => by omega, fun _ => ⟨rfl, rfl⟩, fun z => by omega, fun z => by omega, fun z => by omega, fun z => by omega, fun z => by omega, fun z => by omega, fun z => by omega, fun z => by omega, fun z => by omega, fun z => by omega, fun z => by omega, fun z => by omega, fun z => by omega, fun z => by omega, fun z => by omega, fun z => by omega, fun z => by omega, fun z => by omega, fun z => by omega⟩, fun le => by simp only [List.length_append, List.length_cons, List.length_nil] at *; omega⟩
  rw [if_neg c8] at h
  by_cases c9 : L 19 k = 14
  · rw [if_pos c9] at h
    obtain ⟨r, rfl, g1⟩ := pl_ok h
    cases g1
    exact ⟨[0], [], _, rfl, rfl, ⟨fun z => by omega, fun z => by omega, fun z => by omega, fun z => by omega, fun z => by omega, fun z => by omega, fun z => by omega, fun z => by omega, fun z => by omega, fun _ => ⟨rfl, rfl⟩, fun z => by omega, fun z => by omega, fun z => by omega, fun z => by omega, fun z => by omega, fun z => by omega, fun z => by omega, fun z => by omega, fun z => by omega, fun z => by omega, fun z => by omega, fun z => by omega, fun z => by omega, fun z => by omega, fun z => by omega, fun z => by omega, fun z => by omega, fun z => by omega⟩, fun le => by simp only [List.length_append, List.length_cons, List.length_nil] at *; omega⟩
  rw [if_neg c9] at h
  by_cases c10 : L 19 k = 15
  · rw [if_pos c10] at h
    obtain ⟨rfl, rfl⟩ := nl_ok h
    exact ⟨[], [], [], rfl, rfl, ⟨fun z => by omega, fun z => by omega, fun z => by omega, fun z => by omega, fun z => by omega, fun z => by omega, fun z => by omega, fun z => by omega, fun z => by omega, fun z => by omega, fun _ => ⟨rfl, rfl, rfl⟩, fun z => by omega, fun z => by omega, fun z => by omega, fun z => by omega, fun z => by omega, fun z => by omega, fun z => by omega, fun z => by omega, fun z => by omega, fun z => by omega, fun z => by omega, fun z => by omega, fun z => by omega, fun z => by omega, fun z => by omega, fun z => by omega, fun z => by omega⟩, fun le => by simp only [List.length_append, List.length_cons, List.length_nil] at *; omega⟩
  rw [if_neg c10] at h
  by_cases c11 : L 19 k = 16
  · rw [if_pos c11] at h
    obtain ⟨r1, rfl, g1⟩ := pl_ok h
    obtain ⟨r, rfl, g2⟩ := pl_ok g1
    obtain ⟨rfl, rfl⟩ := nl_ok g2
    exact ⟨[0, 0], [], [], rfl, rfl, ⟨fun z => by omega, fun z => by omega, fun z => by omega, fun z => by omega, fun z => by omega, fun z => by omega, fun z => by omega, fun z => by omega, fun z => by omega, fun z => by omega, fun z => by omega, fun _ => ⟨rfl, rfl, rfl⟩, fun z => by omega, fun z => by omega, fun z => by omega, fun z => by omega, fun z => by omega, fun z => by omega, fun z => by omega, fun z => by omega, fun z => by omega, fun z => by omega, fun z => by omega, fun z => by omega, fun z => by omega, fun z => by omega, fun z => by omega, fun z => by omega⟩, fun le => by simp only [List.length_append, List.length_cons, List.length_nil] at *; omega⟩
  rw [if_neg c11] at h
  by_cases c12 : L 19 k = 17
  · rw [if_pos c12] at h
    by_cases q : L 10 (8 * m + L 20 k % 8) = 0
    case neg => rw [if_neg q] at h; cases h
    rw [if_pos q] at h
    obtain ⟨rfl, rfl⟩ := nl_ok h
    exact ⟨[], [], [], rfl, rfl, ⟨fun z => by omega, fun z => by omega, fun z => by omega, fun z => by omega, fun z => by omega, fun z => by omega, fun z => by omega, fun z => by omega, fun z => by omega, fun z => by omega, fun z => by omega, fun z => by omega, fun _ => ⟨rfl, rfl, rfl, q⟩, fun z => by omega, fun z => by omega, fun z => by omega, fun z => by omega, fun z => by omega, fun z => by omega, fun z => by omega, fun z => by omega, fun z => by omega, fun z => by omega, fun z => by omega, fun z => by omega, fun z => by omega, fun z => by omega, fun z => by omega⟩, fun le => by simp only [List.length_append, List.length_cons, List.length_nil] at *; omega⟩
  rw [if_neg c12] at h
  by_cases c13 : L 19 k = 18 ∨ L 19 k = 19
  · rw [if_pos c13] at h
    by_cases q : L 10 (8 * m + L 20 k) = 1
    case neg => rw [if_neg q] at h; cases h
    rw [if_pos q] at h
    obtain ⟨rfl, rfl⟩ := nl_ok h
    exact ⟨[], [], [], rfl, rfl, ⟨fun z => by omega, fun z => by omega, fun z => by omega, fun z => by omega, fun z => by omega, fun z => by omega, fun z => by omega, fun z => by omega, fun z => by omega, fun z => by omega, fun z => by omega, fun z => by omega, fun z => by omega, fun _ => ⟨rfl, rfl, rfl, q⟩, fun z => by omega, fun z => by omega, fun z => by omega, fun z => by omega, fun z => by omega, fun z => by omega, fun z => by omega, fun z => by omega, fun z => by omega, fun z => by omega, fun z => by omega, fun z => by omega, fun z => by omega, fun z => by omega⟩, fun le => by simp only [List.length_append, List.length_cons, List.length_nil] at *; omega⟩
  rw [if_neg c13] at h
  by_cases c14 : L 19 k = 21
  · rw [if_pos c14] at h
    obtain ⟨r, rfl, g1⟩ := pl_ok h
    obtain ⟨ny, g2⟩ := ly_ok g1
    cases g2
    exact ⟨[0], [1], _, rfl, rfl, ⟨fun z => by omega, fun z => by omega, fun z => by omega, fun z => by omega, fun z => by omega, fun z => by omega, fun z => by omega, fun z => by omega, fun z => by omega, fun z => by omega, fun z => by omega, fun z => by omega, fun z => by omega, fun z => by omega, fun _ => ⟨rfl, rfl⟩, fun z => by omega, fun z => by omega, fun z => by omega, fun z => by omega, fun z => by omega, fun z => by omega, fun z => by omega, fun z => by omega, fun z => by omega, fun z => by omega, fun z => by omega, fun z => by omega, fun z => by omega⟩, fun le => by simp only [List.length_append, List.length_cons, List.length_nil] at *; omega⟩
  rw [if_neg c14] at h
  by_cases c15 : L 19 k = 22
  · rw [if_pos c15] at h
    obtain ⟨r, rfl, g1⟩ := pl_ok h
    obtain ⟨ny, g2⟩ := ly_ok g1
    cases g2
    exact ⟨[1], [0], _, rfl, rfl, ⟨fun z => by omega, fun z => by omega, fun z => by omega, fun z => by omega, fun z => by omega, fun z => by omega, fun z => by omega, fun z => by omega, fun z => by omega, fun z => by omega, fun z => by omega, fun z => by omega, fun z => by omega, fun z => by omega, fun z => by omega, fun _ => ⟨rfl, rfl⟩, fun z => by omega, fun z => by omega, fun z => by omega, fun z => by omega, fun z => by omega, fun z => by omega, fun z => by omega, fun z => by omega, fun z => by omega, fun z => by omega, fun z => by omega, fun z => by omega⟩, fun le => by simp only [List.length_append, List.length_cons, List.length_nil] at *; omega⟩
  rw [if_neg c15] at h
  by_cases c16 : L 19 k = 23
  · rw [if_pos c16] at h
    obtain ⟨r1, rfl, g1⟩ := pl_ok h
    obtain ⟨r, rfl, g2⟩ := pl_ok g1
    obtain ⟨ny, g3⟩ := ly_ok g2
    cases g3
    exact ⟨[0, 1], [pX L k], _, rfl, rfl, ⟨fun z => by omega, fun z => by omega, fun z => by omega, fun z => by omega, fun z => by omega, fun z => by omega, fun z => by omega, fun z => by omega, fun z => by omega, fun z => by omega, fun z => by omega, fun z => by omega, fun z => by omega, fun z => by omega, fun z => by omega, fun z => by omega, fun _ => ⟨rfl, rfl⟩, fun z => by omega, fun z => by omega, fun z => by omega, fun z => by omega, fun z => by omega, fun z => by omega, fun z => by omega, fun z => by omega, fun z => by omega, fun z => by omega, fun z => by omega⟩, fun le => by simp only [List.length_append, List.length_cons, List.length_nil] at *; omega⟩
  rw [if_neg c16] at h
  by_cases c17 : L 19 k = 24
  · rw [if_pos c17] at h
    obtain ⟨r1, rfl, g1⟩ := pl_ok h
    obtain ⟨r2, rfl, g2⟩ := pl_ok g1
    obtain ⟨r, rfl, g3⟩ := pl_ok g2
    cases g3
    exact ⟨[pX L k, 0, 1], [], _, rfl, rfl, ⟨fun z => by omega, fun z => by omega, fun z => by omega, fun z => by omega, fun z => by omega, fun z => by omega, fun z => by omega, fun z => by omega, fun z => by omega, fun z => by omega, fun z => by omega, fun z => by omega, fun z => by omega, fun z => by omega, fun z => by omega, fun z => by omega, fun z => by omega, fun _ => ⟨rfl, rfl⟩, fun z => by omega, fun z => by omega, fun z => by omega, fun z => by omega, fun z => by omega, fun z => by omega, fun z => by omega, fun z => by omega, fun z => by omega, fun z => by omega⟩, fun le => by simp only [List.length_append, List.length_cons, List.length_nil] at *; omega⟩
  rw [if_neg c17] at h
  by_cases c18 : L 19 k = 25
  · rw [if_pos c18] at h
    obtain ⟨r, rfl, g1⟩ := pl_ok h
    obtain ⟨ny, g2⟩ := ly_ok g1
    cases g2
    exact ⟨[1], [pFk L (pX L k) (pY L k)], _, rfl, rfl, ⟨fun z => by omega, fun z => by omega, fun z => by omega, fun z => by omega, fun z => by omega, fun z => by omega, fun z => by omega, fun z => by omega, fun z => by omega, fun z => by omega, fun z => by omega, fun z => by omega, fun z => by omega, fun z => by omega, fun z => by omega, fun z => by omega, fun z => by omega, fun z => by omega, fun _ => ⟨rfl, rfl⟩, fun z => by omega, fun z => by omega, fun z => by omega, fun z => by omega, fun z => by omega, fun z => by omega, fun z => by omega, fun z => by omega, fun z => by omega⟩, fun le => by simp only [List.length_append, List.length_cons, List.length_nil] at *; omega⟩
  rw [if_neg c18] at h
  by_cases c19 : L 19 k = 26
  · rw [if_pos c19] at h
    obtain ⟨r1, rfl, g1⟩ := pl_ok h
    obtain ⟨r, rfl, g2⟩ := pl_ok g1
    cases g2
    exact ⟨[pFk L (pX L k) (pY L k), 1], [], _, rfl, rfl, ⟨fun z => by omega, fun z => by omega, fun z => by omega, fun z => by omega, fun z => by omega, fun z => by omega, fun z => by omega, fun z => by omega, fun z => by omega, fun z => by omega, fun z => by omega, fun z => by omega, fun z => by omega, fun z => by omega, fun z => by omega, fun z => by omega, fun z => by omega, fun z => by omega, fun z => by omega, fun _ => ⟨rfl, rfl⟩, fun z => by omega, fun z => by omega, fun z => by omega, fun z => by omega, fun z => by omega, fun z => by omega, fun z => by omega, fun z => by omega⟩, fun le => by simp only [List.length_append, List.length_cons, List.length_nil] at *; omega⟩
  rw [if_neg c19] at h
  by_cases c20 : L 19 k = 27
  · rw [if_pos c20] at h
    obtain ⟨ny, g1⟩ := ly_ok h
    cases g1
    exact ⟨[], [pSk L (pX L k)], _, rfl, rfl, ⟨fun z => by omega, fun z => by omega, fun z => by omega, fun z => by omega, fun z => by omega, fun z => by omega, fun z => by omega, fun z => by omega, fun z => by omega, fun z => by omega, fun z => by omega, fun z => by omega, fun z => by omega, fun z => by omega, fun z => by omega, fun z => by omega, fun z => by omega, fun z => by omega, fun z => by omega, fun z => by omega, fun _ => ⟨rfl, rfl⟩, fun z => by omega, fun z => by omega, fun z => by omega, fun z => by omega, fun z => by omega, fun z => by omega, fun z => by omega⟩, fun le => by simp only [List.length_append, List.length_cons, List.length_nil] at *; omega⟩
  rw [if_neg c20] at h
  by_cases c21 : L 19 k = 28
  · rw [if_pos c21] at h
    obtain ⟨r, rfl, g1⟩ := pl_ok h
    cases g1
    exact ⟨[pSk L (pX L k)], [], _, rfl, rfl, ⟨fun z => by omega, fun z => by omega, fun z => by omega, fun z => by omega, fun z => by omega, fun z => by omega, fun z => by omega, fun z => by omega, fun z => by omega, fun z => by omega, fun z => by omega, fun z => by omega, fun z => by omega, fun z => by omega, fun z => by omega, fun z => by omega, fun z => by omega, fun z => by omega, fun z => by omega, fun z => by omega, fun z => by omega, fun _ => ⟨rfl, rfl⟩, fun z => by omega, fun z => by omega, fun z => by omega, fun z => by omega, fun z => by omega, fun z => by omega⟩, fun le => by simp only [List.length_append, List.length_cons, List.length_nil] at *; omega⟩
  rw [if_neg c21] at h
  by_cases c22 : L 19 k = 29 ∨ L 19 k = 30
  · rw [if_pos c22] at h
    by_cases q : (L 19 k = 29 ∧ L 5 (L 21 k) ≠ 255) ∨ (L 19 k = 30 ∧ wnm L (L 20 k) < 0)
    · rw [if_pos q] at h; cases h
    rw [if_neg q] at h
    have el : (if L 19 k = 29 then L 21 k else wnm L (L 20 k)) = lik L k := rfl
    rw [el] at h
    obtain ⟨r, rfl, h'⟩ := plA_ok _ _ h
    clear h
    have q1 : pOp L k = 29 → pOw L (pY L k) = 255 := fun z => Classical.byContradiction fun y => q (Or.inl ⟨z, y⟩)
    have q2 : pOp L k = 30 → 0 ≤ wnm L (pX L k) := fun z => Classical.byContradiction fun y => q (Or.inr ⟨z, by have : wnm L (L 20 k) = wnm L (pX L k) := rfl; omega⟩)
    by_cases g : 0 < L 8 (lik L k)
    · rw [if_pos g] at h'
      obtain ⟨ny, g1⟩ := ly_ok h'
      cases g1
      exact ⟨_, [pGi L (lik L k) - 1], r, rfl, rfl, ⟨fun z => by omega, fun z => by omega, fun z => by omega, fun z => by omega, fun z => by omega, fun z => by omega, fun z => by omega, fun z => by omega, fun z => by omega, fun z => by omega, fun z => by omega, fun z => by omega, fun z => by omega, fun z => by omega, fun z => by omega, fun z => by omega, fun z => by omega, fun z => by omega, fun z => by omega, fun z => by omega, fun z => by omega, fun z => by omega, fun _ => ⟨rfl, (if_pos g).symm, q1, q2⟩, fun z => by omega, fun z => by omega, fun z => by omega, fun z => by omega, fun z => by omega⟩, fun le => by simp only [List.length_append, List.length_cons, List.length_nil] at *; omega⟩
    · rw [if_neg g] at h'
      cases h'
      exact ⟨_, [], _, rfl, rfl, ⟨fun z => by omega, fun z => by omega, fun z => by omega, fun z => by omega, fun z => by omega, fun z => by omega, fun z => by omega, fun z => by omega, fun z => by omega, fun z => by omega, fun z => by omega, fun z => by omega, fun z => by omega, fun z => by omega, fun z => by omega, fun z => by omega, fun z => by omega, fun z => by omega, fun z => by omega, fun z => by omega, fun z => by omega, fun z => by omega, fun _ => ⟨rfl, (if_neg g).symm, q1, q2⟩, fun z => by omega, fun z => by omega, fun z => by omega, fun z => by omega, fun z => by omega⟩, fun le => by simp only [List.length_append, List.length_cons, List.length_nil] at *; omega⟩
  rw [if_neg c22] at h
  by_cases c23 : L 19 k = 31
  · rw [if_pos c23] at h
    by_cases g : 0 < L 8 m
    · rw [if_pos g] at h
      obtain ⟨r, rfl, g1⟩ := pl_ok h
      obtain ⟨rfl, rfl⟩ := nl_ok g1
      exact ⟨[pGi L m - 1], [], [], rfl, rfl, ⟨fun z => by omega, fun z => by omega, fun z => by omega, fun z => by omega, fun z => by omega, fun z => by omega, fun z => by omega, fun z => by omega, fun z => by omega, fun z => by omega, fun z => by omega, fun z => by omega, fun z => by omega, fun z => by omega, fun z => by omega, fun z => by omega, fun z => by omega, fun z => by omega, fun z => by omega, fun z => by omega, fun z => by omega, fun z => by omega, fun z => by omega, fun _ => ⟨(if_pos g).symm, rfl, rfl⟩, fun z => by omega, fun z => by omega, fun z => by omega, fun z => by omega⟩, fun le => by simp only [List.length_append, List.length_cons, List.length_nil] at *; omega⟩
    · rw [if_neg g] at h
      obtain ⟨rfl, rfl⟩ := nl_ok h
      exact ⟨[], [], [], rfl, rfl, ⟨fun z => by omega, fun z => by omega, fun z => by omega, fun z => by omega, fun z => by omega, fun z => by omega, fun z => by omega, fun z => by omega, fun z => by omega, fun z => by omega, fun z => by omega, fun z => by omega, fun z => by omega, fun z => by omega, fun z => by omega, fun z => by omega, fun z => by omega, fun z => by omega, fun z => by omega, fun z => by omega, fun z => by omega, fun z => by omega, fun z => by omega, fun _ => ⟨(if_neg g).symm, rfl, rfl⟩, fun z => by omega, fun z => by omega, fun z => by omega, fun z => by omega⟩, fun le => le⟩
  rw [if_neg c23] at h
  by_cases c24 : L 19 k = 32
  · rw [if_pos c24] at h
    obtain ⟨r, rfl, g1⟩ := pl_ok h
    cases g1
    exact ⟨[1], [], _, rfl, rfl, ⟨fun z => by omega, fun z => by omega, fun z => by omega, fun z => by omega, fun z => by omega, fun z => by omega, fun z => by omega, fun z => by omega, fun z => by omega, fun z => by omega, fun z => by omega, fun z => by omega, fun z => by omega, fun z => by omega, fun z => by omega, fun z => by omega, fun z => by omega, fun z => by omega, fun z => by omega, fun z => by omega, fun z => by omega, fun z => by omega, fun z => by omega, fun z => by omega, fun _ => ⟨rfl, rfl⟩, fun z => by omega, fun z => by omega, fun z => by omega⟩, fun le => by simp only [List.length_append, List.length_cons, List.length_nil] at *; omega⟩
  rw [if_neg c24] at h
  by_cases c25 : L 19 k = 33
  · rw [if_pos c25] at h
    obtain ⟨r, rfl, g1⟩ := pl_ok h
    obtain ⟨ny, g2⟩ := ly_ok g1
    cases g2
    exact ⟨[1], [1], _, rfl, rfl, ⟨fun z => by omega, fun z => by omega, fun z => by omega, fun z => by omega, fun z => by omega, fun z => by omega, fun z => by omega, fun z => by omega, fun z => by omega, fun z => by omega, fun z => by omega, fun z => by omega, fun z => by omega, fun z => by omega, fun z => by omega, fun z => by omega, fun z => by omega, fun z => by omega, fun z => by omega, fun z => by omega, fun z => by omega, fun z => by omega, fun z => by omega, fun z => by omega, fun z => by omega, fun _ => ⟨rfl, rfl⟩, fun z => by omega, fun z => by omega⟩, fun le => by simp only [List.length_append, List.length_cons, List.length_nil] at *; omega⟩
  rw [if_neg c25] at h
  by_cases c26 : L 19 k = 36
  · rw [if_pos c26] at h
    by_cases q : wnm L (L 20 k) < 0 ∨ L 7 (wnm L (L 20 k)) ≠ 1 ∨ L 8 (wnm L (L 20 k)) ≠ 0
    case pos => rw [if_pos q] at h; cases h
    rw [if_neg q] at h
    obtain ⟨r, rfl, g1⟩ := pl_ok h
    cases g1
    have q1 : ¬ wnm L (L 20 k) < 0 := fun z => q (Or.inl z)
    have q2 : L 7 (wnm L (L 20 k)) = 1 := Classical.byContradiction fun z => q (Or.inr (Or.inl z))
    have q3 : L 8 (wnm L (L 20 k)) = 0 := Classical.byContradiction fun z => q (Or.inr (Or.inr z))
    exact ⟨[1], [], _, rfl, rfl, ⟨fun z => by omega, fun z => by omega, fun z => by omega, fun z => by omega, fun z => by omega, fun z => by omega, fun z => by omega, fun z => by omega, fun z => by omega, fun z => by omega, fun z => by omega, fun z => by omega, fun z => by omega, fun z => by omega, fun z => by omega, fun z => by omega, fun z => by omega, fun z => by omega, fun z => by omega, fun z => by omega, fun z => by omega, fun z => by omega, fun z => by omega, fun z => by omega, fun z => by omega, fun z => by omega, fun z => by omega, fun _ => ⟨rfl, rfl, Int.not_lt.mp q1, q2, q3⟩⟩, fun le => by simp only [List.length_append, List.length_cons, List.length_nil] at *; omega⟩
  rw [if_neg c26] at h
  cases h
  exact ⟨[], [], _, rfl, rfl, ⟨fun z => by omega, fun z => by omega, fun z => by omega, fun z => by omega, fun z => by omega, fun z => by omega, fun z => by omega, fun z => by omega, fun z => by omega, fun z => by omega, fun z => by omega, fun z => by omega, fun z => by omega, fun z => by omega, fun z => by omega, fun z => by omega, fun z => by omega, fun z => by omega, fun z => by omega, fun z => by omega, fun z => by omega, fun z => by omega, fun z => by omega, fun z => by omega, fun z => by omega, fun z => by omega, fun _ => ⟨rfl, rfl⟩, fun z => by omega⟩, fun le => by simp only [List.length_append, List.length_cons, List.length_nil] at *; omega⟩
theorem sh_len {L : PG} {m k : Int} {a b r : List Int} (op0 : 0 ≤ pOp L k) (op1 : pOp L k ≤ 36) (hm : pMo L k = m) (ar : pOp L k = 29 ∨ pOp L k = 30 → 0 ≤ pAr L (lik L k)) (h : SHP L m k a b r) : (a.length : Int) = ppo L k ∧ (b.length : Int) = ppu L k := by
  obtain ⟨s0, s1, s2, s3, s4, s5, s6, s7, s8, s9, s10, s11, s12, s13, s14, s15, s16, s17, s18, s19, s20, s21, s22, s23, s24, s25, s26, s27⟩ := h
  unfold ppo ppu
  rw [hm]
  by_cases c0 : pOp L k = 0 ∨ pOp L k = 13
  · have q := s0 c0
    rw [if_neg (by omega), if_neg (by omega), if_neg (by omega), if_neg (by omega), if_neg (by omega), if_pos (by omega), q.1, q.2]
    exact ⟨rfl, rfl⟩
  by_cases c1 : pOp L k = 1 ∨ pOp L k = 20
  · have q := s1 c1
    rw [if_neg (by omega), if_neg (by omega), if_neg (by omega), if_neg (by omega), if_neg (by omega), if_pos (by omega), q.1, q.2]
    exact ⟨rfl, rfl⟩
  by_cases c2 : pOp L k = 2
  · have q := s2 c2
    rw [if_neg (by omega), if_neg (by omega), if_neg (by omega), if_neg (by omega), if_neg (by omega), if_pos (by omega), q.1, q.2]
    exact ⟨rfl, rfl⟩
  by_cases c3 : pOp L k = 3
  · have q := s3 c3
    rw [if_pos (by omega), if_neg (by omega), if_neg (by omega), if_neg (by omega), q.1, q.2]
    exact ⟨rfl, rfl⟩
  by_cases c4 : pOp L k = 4
  · obtain ⟨x, q⟩ := s4 c4
    rw [if_pos (by omega), if_neg (by omega), if_neg (by omega), if_neg (by omega), q.1, q.2]
    exact ⟨rfl, rfl⟩
  by_cases c5 : pOp L k = 5
  · obtain ⟨x, q⟩ := s5 c5
    rw [if_pos (by omega), if_neg (by omega), if_pos (by omega), q.1, q.2]
    exact ⟨rfl, rfl⟩
  by_cases c6 : pOp L k = 6
  · obtain ⟨x, y, q⟩ := s6 c6
    rw [if_neg (by omega), if_pos (by omega), if_neg (by omega), if_pos (by omega), q.1, q.2]
    exact ⟨rfl, rfl⟩
  by_cases c7 : 7 ≤ pOp L k ∧ pOp L k ≤ 11
  · have q := s7 c7
    rw [if_neg (by omega), if_pos (by omega), if_pos (by omega), q.1, q.2]
    exact ⟨rfl, rfl⟩
  by_cases c8 : pOp L k = 12
  · have q := s8 c8
    rw [if_pos (by omega), if_pos (by omega), q.1, q.2]
    exact ⟨rfl, rfl⟩
  by_cases c9 : pOp L k = 14
  · have q := s9 c9
    rw [if_pos (by omega), if_neg (by omega), if_neg (by omega), if_neg (by omega), q.1, q.2]
    exact ⟨rfl, rfl⟩
  by_cases c10 : pOp L k = 15
  · have q := s10 c10
    rw [if_neg (by omega), if_neg (by omega), if_neg (by omega), if_neg (by omega), if_neg (by omega), if_neg (by omega), if_neg (by omega), if_neg (by omega), q.1, q.2.1]
    exact ⟨rfl, rfl⟩
  by_cases c11 : pOp L k = 16
  · have q := s11 c11
    rw [if_neg (by omega), if_pos (by omega), if_neg (by omega), if_neg (by omega), if_neg (by omega), q.1, q.2.1]
    exact ⟨rfl, rfl⟩
  by_cases c12 : pOp L k = 17
  · have q := s12 c12
    rw [if_neg (by omega), if_neg (by omega), if_neg (by omega), if_neg (by omega), if_neg (by omega), if_neg (by omega), if_neg (by omega), if_neg (by omega), q.1, q.2.1]
    exact ⟨rfl, rfl⟩
  by_cases c13 : pOp L k = 18 ∨ pOp L k = 19
  · have q := s13 c13
    rw [if_neg (by omega), if_neg (by omega), if_neg (by omega), if_neg (by omega), if_neg (by omega), if_neg (by omega), if_neg (by omega), if_neg (by omega), q.1, q.2.1]
    exact ⟨rfl, rfl⟩
  by_cases c14 : pOp L k = 21
  · have q := s14 c14
    rw [if_pos (by omega), if_pos (by omega), q.1, q.2]
    exact ⟨rfl, rfl⟩
  by_cases c15 : pOp L k = 22
  · have q := s15 c15
    rw [if_pos (by omega), if_pos (by omega), q.1, q.2]
    exact ⟨rfl, rfl⟩
  by_cases c16 : pOp L k = 23
  · have q := s16 c16
    rw [if_neg (by omega), if_pos (by omega), if_pos (by omega), q.1, q.2]
    exact ⟨rfl, rfl⟩
  by_cases c17 : pOp L k = 24
  · have q := s17 c17
    rw [if_neg (by omega), if_neg (by omega), if_pos (by omega), if_neg (by omega), if_neg (by omega), if_neg (by omega), q.1, q.2]
    exact ⟨rfl, rfl⟩
  by_cases c18 : pOp L k = 25
  · have q := s18 c18
    rw [if_pos (by omega), if_pos (by omega), q.1, q.2]
    exact ⟨rfl, rfl⟩
  by_cases c19 : pOp L k = 26
  · have q := s19 c19
    rw [if_neg (by omega), if_pos (by omega), if_neg (by omega), if_neg (by omega), if_neg (by omega), q.1, q.2]
    exact ⟨rfl, rfl⟩
  by_cases c20 : pOp L k = 27
  · have q := s20 c20
    rw [if_neg (by omega), if_neg (by omega), if_neg (by omega), if_neg (by omega), if_neg (by omega), if_pos (by omega), q.1, q.2]
    exact ⟨rfl, rfl⟩
  by_cases c21 : pOp L k = 28
  · have q := s21 c21
    rw [if_pos (by omega), if_neg (by omega), if_neg (by omega), if_neg (by omega), q.1, q.2]
    exact ⟨rfl, rfl⟩
  by_cases c22 : pOp L k = 29 ∨ pOp L k = 30
  · have q := s22 c22
    have ar' := ar c22
    rw [if_neg (by omega), if_neg (by omega), if_neg (by omega), if_pos c22, if_neg (by omega), if_neg (by omega), if_pos c22, q.1, q.2.1, argl_len]
    refine ⟨by omega, ?_⟩
    split <;> rfl
  by_cases c23 : pOp L k = 31
  · have q := s23 c23
    refine ⟨?_, ?_⟩
    · rw [if_neg (by omega), if_neg (by omega), if_neg (by omega), if_neg (by omega), if_pos c23, q.1]
      split <;> rfl
    · rw [if_neg (by omega), if_neg (by omega), if_neg (by omega), q.2.1]
      rfl
  by_cases c24 : pOp L k = 32
  · have q := s24 c24
    rw [if_pos (by omega), if_neg (by omega), if_neg (by omega), if_neg (by omega), q.1, q.2]
    exact ⟨rfl, rfl⟩
  by_cases c25 : pOp L k = 33
  · have q := s25 c25
    rw [if_pos (by omega), if_pos (by omega), q.1, q.2]
    exact ⟨rfl, rfl⟩
  by_cases c26 : pOp L k = 34 ∨ pOp L k = 35
  · have q := s26 c26
    rw [if_neg (by omega), if_neg (by omega), if_neg (by omega), if_neg (by omega), if_neg (by omega), if_neg (by omega), if_neg (by omega), if_neg (by omega), q.1, q.2]
    exact ⟨rfl, rfl⟩
  by_cases c27 : pOp L k = 36
  · have q := s27 c27
    rw [if_pos (by omega), if_neg (by omega), if_neg (by omega), if_neg (by omega), q.1, q.2.1]
    exact ⟨rfl, rfl⟩
  omega
/-- kinds of an instruction's values -/
theorem WT_of {L : PG} {m k : Int} {a b r : List Int} (op0 : 0 ≤ pOp L k) (op1 : pOp L k ≤ 36) (hm : pMo L k = m) (ar : pOp L k = 29 ∨ pOp L k = 30 → 0 ≤ pAr L (lik L k)) (h : SHP L m k a b r) (d : pDp L k = ((a ++ r).length : Int)) (h1 : ∀ i, 0 ≤ i → i < pDp L k → skd L k i = kat (a ++ r) i)
    (h2 : pOp L k ≠ 15 → pOp L k ≠ 31 → pOp L k ≠ 32 → ∀ i, 0 ≤ i → i < ((b ++ r).length : Int) → skd L (k + 1) i = kat (b ++ r) i) : WTk L k := by
  have sl := sh_len op0 op1 hm ar h
  have e1 : ((a ++ r).length : Int) = a.length + r.length := by simp
  have e2 : ((b ++ r).length : Int) = b.length + r.length := by simp
  have hA : ∀ j, 0 ≤ j → j < (a.length : Int) → skd L k (pDp L k - a.length + j) = kat a j := by
    intro j j0 j1
    rw [h1 _ (by omega) (by omega), kat_app _ _ _ (by omega), if_neg (by omega), show pDp L k - a.length + j - r.length = j by omega]
  have hB : pOp L k ≠ 15 → pOp L k ≠ 31 → pOp L k ≠ 32 → ∀ j, 0 ≤ j → j < (b.length : Int) → skd L (k + 1) (pDp L k - a.length + j) = kat b j := by
    intro x y z j j0 j1
    rw [h2 x y z _ (by omega) (by omega), kat_app _ _ _ (by omega), if_neg (by omega), show pDp L k - a.length + j - r.length = j by omega]
  obtain ⟨s0, s1, s2, s3, s4, s5, s6, s7, s8, s9, s10, s11, s12, s13, s14, s15, s16, s17, s18, s19, s20, s21, s22, s23, s24, s25, s26, s27⟩ := h
  unfold WTk
  rw [hm]
  refine ⟨?_, ?_, ?_, ?_, ?_, ?_, ?_, ?_, ?_, ?_, ?_, ?_, ?_, ?_, ?_, ?_, ?_, ?_, ?_, ?_, ?_⟩
  · intro x y z i i0 i1
    rw [← sl.1] at i1
    rw [h2 x y z i i0 (by omega), h1 i i0 (by omega), kat_app _ _ _ i0, kat_app _ _ _ i0, if_pos (by omega), if_pos (by omega)]
  · intro c
    have q := s3 c
    exact by
      have := hA 0 (by decide) (by rw [q.1]; simp)
      rw [q.1] at this
      rw [show pDp L k - 1 = pDp L k - (1 : Int) + 0 by omega]
      exact this
  · intro c
    have q : a = [0, 0] := by
      by_cases z : 7 ≤ pOp L k ∧ pOp L k ≤ 11
      · exact (s7 z).1
      · exact (s11 (by omega)).1
    exact ⟨by
      have := hA 1 (by decide) (by rw [q]; simp)
      rw [q] at this
      rw [show pDp L k - 1 = pDp L k - (2 : Int) + 1 by omega]
      exact this, by
      have := hA 0 (by decide) (by rw [q]; simp)
      rw [q] at this
      rw [show pDp L k - 2 = pDp L k - (2 : Int) + 0 by omega]
      exact this⟩
  · intro c
    have q : a = [0] := by
      by_cases z : pOp L k = 12
      · exact (s8 z).1
      · by_cases y : pOp L k = 14
        · exact (s9 y).1
        · exact (s14 (by omega)).1
    exact by
      have := hA 0 (by decide) (by rw [q]; simp)
      rw [q] at this
      rw [show pDp L k - 1 = pDp L k - (1 : Int) + 0 by omega]
      exact this
  · intro c
    exact (s12 c).2.2.2
  · intro c
    exact (s13 c).2.2.2
  · intro c
    have q : a = [1] := by
      by_cases z : pOp L k = 22
      · exact (s15 z).1
      · by_cases y : pOp L k = 25
        · exact (s18 y).1
        · by_cases x : pOp L k = 32
          · exact (s24 x).1
          · by_cases w : pOp L k = 33
            · exact (s25 w).1
            · exact (s27 (by omega)).1
    exact by
      have := hA 0 (by decide) (by rw [q]; simp)
      rw [q] at this
      rw [show pDp L k - 1 = pDp L k - (1 : Int) + 0 by omega]
      exact this
  · intro c
    have q := s16 c
    exact ⟨by
      have := hA 1 (by decide) (by rw [q.1]; simp)
      rw [q.1] at this
      rw [show pDp L k - 1 = pDp L k - (2 : Int) + 1 by omega]
      exact this, by
      have := hA 0 (by decide) (by rw [q.1]; simp)
      rw [q.1] at this
      rw [show pDp L k - 2 = pDp L k - (2 : Int) + 0 by omega]
      exact this, by
      have := hB (by omega) (by omega) (by omega) 0 (by decide) (by rw [q.2]; simp)
      rw [q.1, q.2] at this
      rw [show pDp L k - 2 = pDp L k - (2 : Int) + 0 by omega]
      exact this⟩
  · intro c
    have q := s17 c
    exact ⟨by
      have := hA 2 (by decide) (by rw [q.1]; simp)
      rw [q.1] at this
      rw [show pDp L k - 1 = pDp L k - (3 : Int) + 2 by omega]
      exact this, by
      have := hA 1 (by decide) (by rw [q.1]; simp)
      rw [q.1] at this
      rw [show pDp L k - 2 = pDp L k - (3 : Int) + 1 by omega]
      exact this, by
      have := hA 0 (by decide) (by rw [q.1]; simp)
      rw [q.1] at this
      rw [show pDp L k - 3 = pDp L k - (3 : Int) + 0 by omega]
      exact this⟩
  · intro c
    have q := s19 c
    exact ⟨by
      have := hA 1 (by decide) (by rw [q.1]; simp)
      rw [q.1] at this
      rw [show pDp L k - 1 = pDp L k - (2 : Int) + 1 by omega]
      exact this, by
      have := hA 0 (by decide) (by rw [q.1]; simp)
      rw [q.1] at this
      rw [show pDp L k - 2 = pDp L k - (2 : Int) + 0 by omega]
      exact this⟩
  · intro c
    have q := s21 c
    exact by
      have := hA 0 (by decide) (by rw [q.1]; simp)
      rw [q.1] at this
      rw [show pDp L k - 1 = pDp L k - (1 : Int) + 0 by omega]
      exact this
  · intro c j j0 j1
    have q := s22 c
    have ar' := ar c
    have al : (a.length : Int) = pAr L (lik L k) := by rw [q.1, argl_len]; omega
    have := hA j j0 (by omega)
    rw [al, q.1, argl_kat _ _ _ _ j0 (by omega)] at this
    exact this
  · intro c g
    have q := s23 c
    rw [if_pos g] at q
    exact by
      have := hA 0 (by decide) (by rw [q.1]; simp)
      rw [q.1] at this
      rw [show pDp L k - 1 = pDp L k - (1 : Int) + 0 by omega]
      exact this
  · intro c
    rw [← sl.1]
    have q : b = [0] := by
      by_cases z : pOp L k = 0 ∨ pOp L k = 13
      · exact (s0 z).2
      · by_cases y : 7 ≤ pOp L k ∧ pOp L k ≤ 11
        · exact (s7 y).2
        · by_cases x : pOp L k = 12
          · exact (s8 x).2
          · exact (s15 (by omega)).2
    have := hB (by omega) (by omega) (by omega) 0 (by decide) (by rw [q]; simp)
    rw [q, Int.add_zero] at this
    exact this
  · intro c
    rw [← sl.1]
    have q : b = [1] := by
      by_cases z : pOp L k = 1 ∨ pOp L k = 20
      · exact (s1 z).2
      · by_cases y : pOp L k = 21
        · exact (s14 y).2
        · exact (s25 (by omega)).2
    have := hB (by omega) (by omega) (by omega) 0 (by decide) (by rw [q]; simp)
    rw [q, Int.add_zero] at this
    exact this
  · intro c
    have q := s2 c
    exact by
      have := hB (by omega) (by omega) (by omega) 0 (by decide) (by rw [q.2]; simp)
      rw [q.1, q.2] at this
      rw [show pDp L k = pDp L k - (0 : Int) + 0 by omega]
      exact this
  · intro c
    obtain ⟨x, q⟩ := s5 c
    have ea : skd L k (pDp L k - 1) = x := by
      have := hA 0 (by decide) (by rw [q.1]; simp)
      rw [q.1] at this
      rw [show pDp L k - 1 = pDp L k - (1 : Int) + 0 by omega]
      exact this
    rw [ea]
    exact ⟨by
      have := hB (by omega) (by omega) (by omega) 0 (by decide) (by rw [q.2]; simp)
      rw [q.1, q.2] at this
      rw [show pDp L k - 1 = pDp L k - (1 : Int) + 0 by omega]
      exact this, by
      have := hB (by omega) (by omega) (by omega) 1 (by decide) (by rw [q.2]; simp)
      rw [q.1, q.2] at this
      rw [show pDp L k = pDp L k - (1 : Int) + 1 by omega]
      exact this⟩
  · intro c
    obtain ⟨x, y, q⟩ := s6 c
    have ea : skd L k (pDp L k - 1) = x := by
      have := hA 1 (by decide) (by rw [q.1]; simp)
      rw [q.1] at this
      rw [show pDp L k - 1 = pDp L k - (2 : Int) + 1 by omega]
      exact this
    have eb : skd L k (pDp L k - 2) = y := by
      have := hA 0 (by decide) (by rw [q.1]; simp)
      rw [q.1] at this
      rw [show pDp L k - 2 = pDp L k - (2 : Int) + 0 by omega]
      exact this
    rw [ea, eb]
    exact ⟨by
      have := hB (by omega) (by omega) (by omega) 0 (by decide) (by rw [q.2]; simp)
      rw [q.1, q.2] at this
      rw [show pDp L k - 2 = pDp L k - (2 : Int) + 0 by omega]
      exact this, by
      have := hB (by omega) (by omega) (by omega) 1 (by decide) (by rw [q.2]; simp)
      rw [q.1, q.2] at this
      rw [show pDp L k - 1 = pDp L k - (2 : Int) + 1 by omega]
      exact this⟩
  · intro c
    have q := s18 c
    exact by
      have := hB (by omega) (by omega) (by omega) 0 (by decide) (by rw [q.2]; simp)
      rw [q.1, q.2] at this
      rw [show pDp L k - 1 = pDp L k - (1 : Int) + 0 by omega]
      exact this
  · intro c
    have q := s20 c
    exact by
      have := hB (by omega) (by omega) (by omega) 0 (by decide) (by rw [q.2]; simp)
      rw [q.1, q.2] at this
      rw [show pDp L k = pDp L k - (0 : Int) + 0 by omega]
      exact this
  · intro c g
    have q := s22 c
    have ar' := ar c
    have al : (a.length : Int) = pAr L (lik L k) := by rw [q.1, argl_len]; omega
    have qb : b = [pGi L (lik L k) - 1] := by rw [q.2.1, if_pos g]
    have := hB (by omega) (by omega) (by omega) 0 (by decide) (by rw [qb]; simp)
    rw [qb, Int.add_zero, al] at this
    exact this
