/-! Part 40f: code is judged (plain) -/
theorem i_and_nat {x y : Nat} (hx : x < 2147483648) : i_and (x : Int) (y : Int) = ((x &&& y : Nat) : Int) := by
  have hl : x &&& y ≤ x := Nat.and_le_left
  apply bi_ext (c32_i_and _ _) (by unfold c32; omega)
  intro i i0 i1
  rw [bi_and, bi_nat i1, bi_nat i1, bi_nat i1, Nat.testBit_and]
theorem i_or_nat {x y : Nat} (hx : x < 1073741824) (hy : y < 1073741824) : i_or (x : Int) (y : Int) = ((x ||| y : Nat) : Int) := by
  have hl : x ||| y < 2 ^ 30 := Nat.or_lt_two_pow (by omega) (by omega)
  apply bi_ext (c32_i_or _ _) (by unfold c32; omega)
  intro i i0 i1
  rw [bi_or, bi_nat i1, bi_nat i1, bi_nat i1, Nat.testBit_or]
theorem i_shl_nat {x d : Nat} (hd : d < 32) (hb : x <<< d < 2147483648) : i_shl (x : Int) (d : Int) = ((x <<< d : Nat) : Int) := by
  have g0 := Int.natCast_nonneg (x <<< d)
  have g1 := Int.ofNat_lt.mpr hb
  apply bi_ext (c32_i_shl _ _) ⟨by omega, by omega⟩
  intro i i0 i1
  rw [bi_nat i1, Nat.testBit_shiftLeft, i_shl_v (by omega) (by omega)]
  unfold bi
  rw [BitVec.ofInt_toInt, BitVec.getLsbD_shiftLeft, BitVec.ofInt_natCast, BitVec.getLsbD_ofNat]
  have h1 : i.toNat < 32 := by omega
  have h3 : ((d : Int)).toNat = d := by omega
  rw [h3]
  have h2 : i.toNat - d < 32 := by omega
  by_cases c : d ≤ i.toNat
  · simp [h1, h2, c]
  · simp [h1, h2, c]
/-- kinds on the stack, top first; as bits -/
def kN : List Int → Nat
  | [] => 0
  | x :: r => kN r + (if x = 1 then 2 ^ r.length else 0)
def ksO (st : List Int) : Int := (kN st : Int)
def k01 (st : List Int) : Prop := ∀ x ∈ st, x = 0 ∨ x = 1
theorem kN_lt : ∀ st : List Int, kN st < 2 ^ st.length
  | [] => by decide
  | x :: r => by
    have := kN_lt r
    show kN r + (if x = 1 then 2 ^ r.length else 0) < 2 ^ (r.length + 1)
    rw [Nat.pow_succ]
    split <;> omega
theorem p8 {n : Nat} (h : n ≤ 8) : 2 ^ n ≤ 256 := by
  have : 2 ^ n ≤ 2 ^ 8 := Nat.pow_le_pow_right (by decide) h
  exact this
theorem kN_8 {st : List Int} (h : st.length ≤ 8) : kN st < 256 := Nat.lt_of_lt_of_le (kN_lt st) (p8 h)
/-- the kind on top -/
theorem ks_top {x : Int} {r : List Int} (hx : x = 0 ∨ x = 1) (h : (x :: r).length ≤ 8) : i_and (i_shr (ksO (x :: r)) (r.length : Int)) 1 = x := by
  have h8 := kN_8 h
  have hl : r.length < 8 := by have h' : r.length + 1 ≤ 8 := h; omega
  have lt := kN_lt r
  rw [i_shr_d (by unfold c32 ksO; omega) (by omega) (by omega)]
  have e : ksO (x :: r) / 2 ^ ((r.length : Int)).toNat = x := by
    have e0 : (2 : Int) ^ ((r.length : Int)).toNat = ((2 ^ r.length : Nat) : Int) := by
      rw [show ((r.length : Int)).toNat = r.length by omega]; push_cast; rfl
    rw [e0]
    show ((kN r + (if x = 1 then 2 ^ r.length else 0) : Nat) : Int) / ((2 ^ r.length : Nat) : Int) = x
    rw [← Int.natCast_ediv]
    have pos : 0 < 2 ^ r.length := Nat.pow_pos (by decide)
    rcases hx with q | q
    · rw [if_neg (by omega), Nat.add_zero, Nat.div_eq_of_lt lt, q]; rfl
    · rw [if_pos q, Nat.add_div_right _ pos, Nat.div_eq_of_lt lt, q]; rfl
  rw [e]
  rcases hx with q | q
  · rw [q]; decide
  · rw [q]; decide
/-- the kinds below the top -/
theorem ks_pull {x : Int} {r : List Int} (h : (x :: r).length ≤ 8) : i_and (ksO (x :: r)) (w32 (i_shl 1 (r.length : Int) - 1)) = ksO r := by
  have h8 := kN_8 h
  have hl : r.length < 8 := by have h' : r.length + 1 ≤ 8 := h; omega
  have lt := kN_lt r
  have p := p8 (Nat.le_of_lt hl)
  have pos : 0 < 2 ^ r.length := Nat.pow_pos (by decide)
  have e1 : i_shl 1 (r.length : Int) = ((2 ^ r.length : Nat) : Int) := by
    have := i_shl_nat (x := 1) (d := r.length) (by omega) (by rw [Nat.one_shiftLeft]; omega)
    rw [Nat.one_shiftLeft] at this
    exact this
  rw [e1, w32_i (by omega) (by omega), show ((2 ^ r.length : Nat) : Int) - 1 = ((2 ^ r.length - 1 : Nat) : Int) by omega]
  show i_and ((kN (x :: r) : Nat) : Int) _ = _
  rw [i_and_nat (by omega), Nat.and_two_pow_sub_one_eq_mod]
  show (((kN r + (if x = 1 then 2 ^ r.length else 0)) % 2 ^ r.length : Nat) : Int) = ((kN r : Nat) : Int)
  congr 1
  split
  · rw [Nat.add_mod_right, Nat.mod_eq_of_lt lt]
  · rw [Nat.add_zero, Nat.mod_eq_of_lt lt]
theorem ks_lay {x : Int} {r : List Int} (hx : x = 0 ∨ x = 1) (h : r.length < 8) : i_or (ksO r) (i_shl x (r.length : Int)) = ksO (x :: r) := by
  have lt := kN_lt r
  have p := p8 (Nat.le_of_lt h)
  have h8 := kN_8 (Nat.le_of_lt h)
  show i_or ((kN r : Nat) : Int) _ = ((kN r + (if x = 1 then 2 ^ r.length else 0) : Nat) : Int)
  rcases hx with q | q
  · subst q
    have e1 : i_shl 0 (r.length : Int) = ((0 : Nat) : Int) := by
      have := i_shl_nat (x := 0) (d := r.length) (by omega) (by rw [Nat.zero_shiftLeft]; omega)
      rw [Nat.zero_shiftLeft] at this
      exact this
    rw [e1, i_or_nat (by omega) (by omega), Nat.or_zero]
    simp
  · subst q
    have e1 : i_shl 1 (r.length : Int) = ((2 ^ r.length : Nat) : Int) := by
      have := i_shl_nat (x := 1) (d := r.length) (by omega) (by rw [Nat.one_shiftLeft]; omega)
      rw [Nat.one_shiftLeft] at this
      exact this
    rw [e1, i_or_nat (by omega) (by omega), if_pos rfl]
    have := Nat.shiftLeft_add_eq_or_of_lt lt 1
    rw [Nat.one_shiftLeft] at this
    rw [Nat.or_comm, ← this, Nat.add_comm]
abbrev JdR : Type := Except Int (List Int)
def prj {α : Type} (r : Except Int α) (K : α → Prop) (X : Int → Prop) : Prop := match r with
  | .ok a => K a
  | .error e => X e
def bnj {α β : Type} (r : Except Int α) (k : α → Except Int β) : Except Int β := match r with
  | .ok a => k a
  | .error e => .error e
theorem prj_bnj {α β : Type} (r : Except Int α) (k : α → Except Int β) (K : β → Prop) (X : Int → Prop) : prj (bnj r k) K X = prj r (fun a => prj (k a) K X) X := by
  cases r <;> rfl
theorem prj_mono {α : Type} {r : Except Int α} {K K' : α → Prop} {X X' : Int → Prop} (h : prj r K X) (hK : ∀ a, r = .ok a → K a → K' a) (hX : ∀ e, X e → X' e) : prj r K' X' := by
  cases r with
  | ok a => exact hK a rfl h
  | error e => exact hX e h
theorem prj_if {α : Type} {P : Prop} [Decidable P] {a b : Except Int α} {K : α → Prop} {X : Int → Prop} (h : prj (if P then a else b) K X) : (P → prj a K X) ∧ (¬ P → prj b K X) := by
  by_cases c : P
  · rw [if_pos c] at h; exact ⟨fun _ => h, fun d => absurd c d⟩
  · rw [if_neg c] at h; exact ⟨fun d => absurd d c, fun _ => h⟩
theorem prj_cif {α : Type} {P : Prop} {a b : Except Int α} {K : α → Prop} {X : Int → Prop} (h : prj (cif P a b) K X) : (P → prj a K X) ∧ (¬ P → prj b K X) := by
  by_cases c : P
  · rw [cif_p c] at h; exact ⟨fun _ => h, fun d => absurd c d⟩
  · rw [cif_n c] at h; exact ⟨fun d => absurd d c, fun _ => h⟩
/-- a kind is taken; any one; one is laid; nothing is left -/
def pl (e kind : Int) (st : List Int) (k : List Int → JdR) : JdR := match st with
  | [] => .error e
  | x :: r => if x = kind then k r else .error e
def pla (e : Int) (st : List Int) (k : Int → List Int → JdR) : JdR := match st with
  | [] => .error e
  | x :: r => k x r
def ly (e mx kind : Int) (st : List Int) (k : List Int → JdR) : JdR := if (st.length : Int) = mx then .error e else k (kind :: st)
def nl0 (e : Int) (st : List Int) : JdR := if st = [] then .ok st else .error e
def plA (L : PG) (e c : Int) : Nat → List Int → (List Int → JdR) → JdR
  | 0, st, k => k st
  | n + 1, st, k => pl e (L 10 (8 * c + n)) st (fun r => plA L e c n r k)
/-- an instruction is judged -/
noncomputable def jI (L : PG) (m k : Int) (st : List Int) : JdR :=
  if L 19 k = 0 ∨ L 19 k = 13 then ly (L 23 k) (L 11 m) 0 st .ok
  else if L 19 k = 1 ∨ L 19 k = 20 then ly (L 23 k) (L 11 m) 1 st .ok
  else if L 19 k = 2 then ly (L 23 k) (L 11 m) (L 10 (8 * m + L 20 k)) st .ok
  else if L 19 k = 3 then pl (L 23 k) (L 10 (8 * m + L 20 k)) st .ok
  else if L 19 k = 4 then pla (L 23 k) st fun _ r => .ok r
  else if L 19 k = 5 then pla (L 23 k) st fun a r => ly (L 23 k) (L 11 m) a r fun r => ly (L 23 k) (L 11 m) a r .ok
  else if L 19 k = 6 then pla (L 23 k) st fun a r => pla (L 23 k) r fun b r => ly (L 23 k) (L 11 m) a r fun r => ly (L 23 k) (L 11 m) b r .ok
  else if 7 ≤ L 19 k ∧ L 19 k ≤ 11 then pl (L 23 k) 0 st fun r => pl (L 23 k) 0 r fun r => ly (L 23 k) (L 11 m) 0 r .ok
  else if L 19 k = 12 then pl (L 23 k) 0 st fun r => ly (L 23 k) (L 11 m) 0 r .ok
  else if L 19 k = 14 then pl (L 23 k) 0 st .ok
  else if L 19 k = 15 then nl0 (L 23 k) st
  else if L 19 k = 16 then pl (L 23 k) 0 st fun r => pl (L 23 k) 0 r fun r => nl0 (L 23 k) r
  else if L 19 k = 17 then (if L 10 (8 * m + L 20 k % 8) = 0 then nl0 (L 23 k) st else .error (L 23 k))
  else if L 19 k = 18 ∨ L 19 k = 19 then (if L 10 (8 * m + L 20 k) = 1 then nl0 (L 23 k) st else .error (L 23 k))
  else if L 19 k = 21 then pl (L 23 k) 0 st fun r => ly (L 23 k) (L 11 m) 1 r .ok
  else if L 19 k = 22 then pl (L 23 k) 1 st fun r => ly (L 23 k) (L 11 m) 0 r .ok
  else if L 19 k = 23 then pl (L 23 k) 0 st fun r => pl (L 23 k) 1 r fun r => ly (L 23 k) (L 11 m) (L 20 k) r .ok
  else if L 19 k = 24 then pl (L 23 k) (L 20 k) st fun r => pl (L 23 k) 0 r fun r => pl (L 23 k) 1 r .ok
  else if L 19 k = 25 then pl (L 23 k) 1 st fun r => ly (L 23 k) (L 11 m) (L 4 (8 * L 20 k + L 21 k)) r .ok
  else if L 19 k = 26 then pl (L 23 k) (L 4 (8 * L 20 k + L 21 k)) st fun r => pl (L 23 k) 1 r .ok
  else if L 19 k = 27 then ly (L 23 k) (L 11 m) (L 1 (L 20 k)) st .ok
  else if L 19 k = 28 then pl (L 23 k) (L 1 (L 20 k)) st .ok
  else if L 19 k = 29 ∨ L 19 k = 30 then
    (if (L 19 k = 29 ∧ L 5 (L 21 k) ≠ 255) ∨ (L 19 k = 30 ∧ wnm L (L 20 k) < 0) then .error (L 23 k) else
      plA L (L 23 k) (if L 19 k = 29 then L 21 k else wnm L (L 20 k)) (L 7 (if L 19 k = 29 then L 21 k else wnm L (L 20 k))).toNat st fun r =>
        if 0 < L 8 (if L 19 k = 29 then L 21 k else wnm L (L 20 k)) then ly (L 23 k) (L 11 m) (L 8 (if L 19 k = 29 then L 21 k else wnm L (L 20 k)) - 1) r .ok else .ok r)
  else if L 19 k = 31 then (if 0 < L 8 m then pl (L 23 k) (L 8 m - 1) st fun r => nl0 (L 23 k) r else nl0 (L 23 k) st)
  else if L 19 k = 32 then pl (L 23 k) 1 st .ok
  else if L 19 k = 33 then pl (L 23 k) 1 st fun r => ly (L 23 k) (L 11 m) 1 r .ok
  else if L 19 k = 36 then (if wnm L (L 20 k) < 0 ∨ L 7 (wnm L (L 20 k)) ≠ 1 ∨ L 8 (wnm L (L 20 k)) ≠ 0 then .error (L 23 k) else pl (L 23 k) 1 st .ok)
  else .ok st
/-- a place is jumped to; a handler is there -/
def jmpT (L : PG) (m i : Int) : Prop := ∃ k, L 15 m ≤ k ∧ k < L 15 m + L 14 m ∧ 15 ≤ L 19 k ∧ L 19 k ≤ 19 ∧ L 22 k = i
def hdlT (L : PG) (m i : Int) : Prop := ∃ j, 0 ≤ j ∧ j < L 12 m ∧ L 13 (16 * m + 4 * j + 2) = i
/-- what stands at a place is noted -/
def dpL (L : PG) (k : Int) (st : List Int) : PG := mset (mset L 27 k st.length) 28 k (ksO st)
def eds (op : Int) : Prop := op = 15 ∨ op = 31 ∨ op = 32
/-- a method's code from instruction i on; falls: whether the one before goes on to it -/
noncomputable def jL (m : Int) : Nat → Int → Prop → List Int → PG → Except Int PG
  | 0, _, _, _, L => .ok L
  | n + 1, i, falls, st, L =>
    cif ((hdlT L m i ∧ (falls ∨ jmpT L m i)) ∨ (jmpT L m i ∧ cif falls st [] ≠ [])) (.error (L 23 (L 15 m + i)))
      (bnj (cif (hdlT L m i) (ly (L 23 (L 15 m + i)) (L 11 m) 1 (cif falls st []) .ok) (.ok (cif falls st []))) fun st1 =>
        bnj (jI (dpL L (L 15 m + i) st1) m (L 15 m + i) st1) fun st2 =>
          cif (¬ eds (L 19 (L 15 m + i)) ∧ i = L 14 m - 1) (.error (L 23 (L 15 m + i))) (jL m n (i + 1) (¬ eds (L 19 (L 15 m + i))) st2 (dpL L (L 15 m + i) st1)))
noncomputable def jM (L : PG) (m : Int) : Except Int PG := jL m (L 14 m).toNat 0 True [] L
noncomputable def jA : Nat → Int → PG → Except Int PG
  | 0, _, L => .ok L
  | n + 1, m, L => bnj (jM L m) fun L' => jA n (m + 1) L'
/-- A FILE IS READ -/
noncomputable def rdF (B : Int → Int) (n : Int) (L : PG) : Except Int PG := match (tkC B n 70 70 0 fun _ => bnd (rdCs B n 1 L) fun p L => tkC B n 1 40 p fun nm =>
    bnd (rep (rdM B n) nm.toNat 0 (p + 1) (mset (mset (mset L 0 6 nm) 0 21 0) 0 30 7)) fun p L => if p < n then .error p else .ok (p, L)) with
  | .error e => .error e
  | .ok (_, L) => jA (L 0 6).toNat 0 L
