/-! Part 38: bits of Java's longs and ints -/
def bl (x s : Int) : Bool := (BitVec.ofInt 64 x).getLsbD s.toNat
def bi (x s : Int) : Bool := (BitVec.ofInt 32 x).getLsbD s.toNat
theorem bl_or (a b s : Int) : bl (l_or a b) s = (bl a s || bl b s) := by
  show (BitVec.ofInt 64 ((BitVec.ofInt 64 a ||| BitVec.ofInt 64 b).toInt)).getLsbD _ = _
  rw [BitVec.ofInt_toInt, BitVec.getLsbD_or]; rfl
theorem bl_and (a b s : Int) : bl (l_and a b) s = (bl a s && bl b s) := by
  show (BitVec.ofInt 64 ((BitVec.ofInt 64 a &&& BitVec.ofInt 64 b).toInt)).getLsbD _ = _
  rw [BitVec.ofInt_toInt, BitVec.getLsbD_and]; rfl
theorem bl_xor (a b s : Int) : bl (l_xor a b) s = (bl a s ^^ bl b s) := by
  show (BitVec.ofInt 64 ((BitVec.ofInt 64 a ^^^ BitVec.ofInt 64 b).toInt)).getLsbD _ = _
  rw [BitVec.ofInt_toInt, BitVec.getLsbD_xor]; rfl
theorem bi_or (a b s : Int) : bi (i_or a b) s = (bi a s || bi b s) := by
  show (BitVec.ofInt 32 ((BitVec.ofInt 32 a ||| BitVec.ofInt 32 b).toInt)).getLsbD _ = _
  rw [BitVec.ofInt_toInt, BitVec.getLsbD_or]; rfl
theorem bi_and (a b s : Int) : bi (i_and a b) s = (bi a s && bi b s) := by
  show (BitVec.ofInt 32 ((BitVec.ofInt 32 a &&& BitVec.ofInt 32 b).toInt)).getLsbD _ = _
  rw [BitVec.ofInt_toInt, BitVec.getLsbD_and]; rfl
theorem bi_xor (a b s : Int) : bi (i_xor a b) s = (bi a s ^^ bi b s) := by
  show (BitVec.ofInt 32 ((BitVec.ofInt 32 a ^^^ BitVec.ofInt 32 b).toInt)).getLsbD _ = _
  rw [BitVec.ofInt_toInt, BitVec.getLsbD_xor]; rfl
theorem bl_hi {x s : Int} (h : 64 ≤ s) : bl x s = false := by
  unfold bl; exact BitVec.getLsbD_of_ge _ _ (by omega)
theorem bi_hi {x s : Int} (h : 32 ≤ s) : bi x s = false := by
  unfold bi; exact BitVec.getLsbD_of_ge _ _ (by omega)
theorem bl_m1 {s : Int} (h : s < 64) : bl (-1) s = true := by
  unfold bl
  rw [show BitVec.ofInt 64 (-1) = BitVec.allOnes 64 by decide, BitVec.getLsbD_allOnes]
  simp; omega
theorem bi_m1 {s : Int} (h : s < 32) : bi (-1) s = true := by
  unfold bi
  rw [show BitVec.ofInt 32 (-1) = BitVec.allOnes 32 by decide, BitVec.getLsbD_allOnes]
  simp; omega
theorem bl_zero (s : Int) : bl 0 s = false := by
  unfold bl; rw [show BitVec.ofInt 64 0 = 0#64 by decide]; simp
theorem bi_zero (s : Int) : bi 0 s = false := by
  unfold bi; rw [show BitVec.ofInt 32 0 = 0#32 by decide]; simp
theorem bl_not {a s : Int} (h : s < 64) : bl (l_xor a (-1)) s = !bl a s := by
  rw [bl_xor, bl_m1 h]; simp
theorem bi_not {a s : Int} (h : s < 32) : bi (i_xor a (-1)) s = !bi a s := by
  rw [bi_xor, bi_m1 h]; simp
theorem bl_one {s : Int} (h : 0 ≤ s) : bl 1 s = decide (s = 0) := by
  unfold bl
  rw [show BitVec.ofInt 64 1 = 1#64 by decide, BitVec.getLsbD_one]
  by_cases e : s = 0
  · subst e; decide
  · simp [e]; omega
theorem bi_one {s : Int} (h : 0 ≤ s) : bi 1 s = decide (s = 0) := by
  unfold bi
  rw [show BitVec.ofInt 32 1 = 1#32 by decide, BitVec.getLsbD_one]
  by_cases e : s = 0
  · subst e; decide
  · simp [e]; omega
theorem bl_m2 {s : Int} (h0 : 0 ≤ s) (h : s < 64) : bl (-2) s = decide (s ≠ 0) := by
  rw [show (-2 : Int) = l_xor 1 (-1) by decide, bl_not h, bl_one h0]; simp
theorem c64_l_or (a b : Int) : c64 (l_or a b) := c64_of _
theorem c64_l_and (a b : Int) : c64 (l_and a b) := c64_of _
theorem c64_l_xor (a b : Int) : c64 (l_xor a b) := c64_of _
theorem c64_l_shl (a b : Int) : c64 (l_shl a b) := c64_of _
theorem c64_l_shr (a b : Int) : c64 (l_shr a b) := c64_of _
theorem c32_i_or (a b : Int) : c32 (i_or a b) := c32_of _
theorem c32_i_and (a b : Int) : c32 (i_and a b) := c32_of _
theorem c32_i_xor (a b : Int) : c32 (i_xor a b) := c32_of _
theorem c32_i_shl (a b : Int) : c32 (i_shl a b) := c32_of _
theorem c32_i_shr (a b : Int) : c32 (i_shr a b) := c32_of _
theorem bl_ext {a b : Int} (ha : c64 a) (hb : c64 b) (h : ∀ s : Int, 0 ≤ s → s < 64 → bl a s = bl b s) : a = b := by
  rw [← w64_id ha, ← w64_id hb]
  show (BitVec.ofInt 64 a).toInt = (BitVec.ofInt 64 b).toInt
  congr 1
  apply BitVec.eq_of_getLsbD_eq
  intro i hi
  exact h (i : Int) (by omega) (by omega)
theorem bi_ext {a b : Int} (ha : c32 a) (hb : c32 b) (h : ∀ s : Int, 0 ≤ s → s < 32 → bi a s = bi b s) : a = b := by
  rw [← w32_id ha, ← w32_id hb]
  show (BitVec.ofInt 32 a).toInt = (BitVec.ofInt 32 b).toInt
  congr 1
  apply BitVec.eq_of_getLsbD_eq
  intro i hi
  exact h (i : Int) (by omega) (by omega)
theorem bl_eq0 {a : Int} (ha : c64 a) : a = 0 ↔ ∀ s : Int, 0 ≤ s → s < 64 → bl a s = false := by
  constructor
  · intro e s _ _; rw [e]; exact bl_zero s
  · intro e; exact bl_ext ha (by unfold c64; omega) (fun s h0 h1 => by rw [e s h0 h1, bl_zero])
theorem bi_eq0 {a : Int} (ha : c32 a) : a = 0 ↔ ∀ s : Int, 0 ≤ s → s < 32 → bi a s = false := by
  constructor
  · intro e s _ _; rw [e]; exact bi_zero s
  · intro e; exact bi_ext ha (by unfold c32; omega) (fun s h0 h1 => by rw [e s h0 h1, bi_zero])
theorem sh64 : ∀ n : Fin 64, (((Int32.ofInt (n.val : Int)).toInt64 &&& 63).toBitVec.smod 64) = BitVec.ofNat 64 n.val := by decide +kernel
theorem sh32 : ∀ n : Fin 32, ((Int32.ofInt (n.val : Int) &&& 31).toBitVec.smod 32) = BitVec.ofNat 32 n.val := by decide +kernel
theorem l_shl_v {a s : Int} (h0 : 0 ≤ s) (h1 : s < 64) : l_shl a s = (BitVec.ofInt 64 a <<< s.toNat).toInt := by
  have e := sh64 ⟨s.toNat, by omega⟩
  have e2 : ((s.toNat : Nat) : Int) = s := by omega
  simp only [e2] at e
  show (BitVec.ofInt 64 a <<< (((Int32.ofInt s).toInt64 &&& 63).toBitVec.smod 64)).toInt = _
  rw [e, BitVec.shiftLeft_eq', BitVec.toNat_ofNat, Nat.mod_eq_of_lt (by omega)]
theorem l_shr_v {a s : Int} (h0 : 0 ≤ s) (h1 : s < 64) : l_shr a s = ((BitVec.ofInt 64 a).sshiftRight s.toNat).toInt := by
  have e := sh64 ⟨s.toNat, by omega⟩
  have e2 : ((s.toNat : Nat) : Int) = s := by omega
  simp only [e2] at e
  show ((BitVec.ofInt 64 a).sshiftRight' (((Int32.ofInt s).toInt64 &&& 63).toBitVec.smod 64)).toInt = _
  rw [e, BitVec.sshiftRight_eq', BitVec.toNat_ofNat, Nat.mod_eq_of_lt (by omega)]
theorem i_shl_v {a s : Int} (h0 : 0 ≤ s) (h1 : s < 32) : i_shl a s = (BitVec.ofInt 32 a <<< s.toNat).toInt := by
  have e := sh32 ⟨s.toNat, by omega⟩
  have e2 : ((s.toNat : Nat) : Int) = s := by omega
  simp only [e2] at e
  show (BitVec.ofInt 32 a <<< ((Int32.ofInt s &&& 31).toBitVec.smod 32)).toInt = _
  rw [e, BitVec.shiftLeft_eq', BitVec.toNat_ofNat, Nat.mod_eq_of_lt (by omega)]
theorem i_shr_v {a s : Int} (h0 : 0 ≤ s) (h1 : s < 32) : i_shr a s = ((BitVec.ofInt 32 a).sshiftRight s.toNat).toInt := by
  have e := sh32 ⟨s.toNat, by omega⟩
  have e2 : ((s.toNat : Nat) : Int) = s := by omega
  simp only [e2] at e
  show ((BitVec.ofInt 32 a).sshiftRight' ((Int32.ofInt s &&& 31).toBitVec.smod 32)).toInt = _
  rw [e, BitVec.sshiftRight_eq', BitVec.toNat_ofNat, Nat.mod_eq_of_lt (by omega)]
theorem bl_shl {s i : Int} (h0 : 0 ≤ s) (h1 : s < 64) (hi : 0 ≤ i) : bl (l_shl 1 s) i = decide (i = s) := by
  rw [l_shl_v h0 h1]
  unfold bl
  rw [BitVec.ofInt_toInt, show BitVec.ofInt 64 1 = 1#64 by decide, BitVec.getLsbD_shiftLeft, BitVec.getLsbD_one]
  by_cases e : i = s
  · subst e; simp; omega
  · simp [e]; omega
theorem bi_shl {s i : Int} (h0 : 0 ≤ s) (h1 : s < 32) (hi : 0 ≤ i) : bi (i_shl 1 s) i = decide (i = s) := by
  rw [i_shl_v h0 h1]
  unfold bi
  rw [BitVec.ofInt_toInt, show BitVec.ofInt 32 1 = 1#32 by decide, BitVec.getLsbD_shiftLeft, BitVec.getLsbD_one]
  by_cases e : i = s
  · subst e; simp; omega
  · simp [e]; omega
theorem l_bit {a s : Int} (h0 : 0 ≤ s) (h1 : s < 64) : l_and (l_shr a s) 1 = if bl a s = true then 1 else 0 := by
  apply bl_ext (c64_l_and _ _) (by split <;> (unfold c64; omega))
  intro i hi0 hi1
  rw [bl_and, bl_one hi0]
  by_cases e : i = 0
  · subst e
    have : bl (l_shr a s) 0 = bl a s := by
      rw [l_shr_v h0 h1]
      unfold bl
      rw [BitVec.ofInt_toInt, BitVec.getLsbD_sshiftRight]
      simp
      omega
    rw [this]
    by_cases q : bl a s = true
    · simp [q, bl_one]
    · simp [q, bl_zero]
  · simp [e]
    split
    · rw [bl_one hi0]; simp [e]
    · exact bl_zero i
theorem i_bit {a s : Int} (h0 : 0 ≤ s) (h1 : s < 32) : i_and (i_shr a s) 1 = if bi a s = true then 1 else 0 := by
  apply bi_ext (c32_i_and _ _) (by split <;> (unfold c32; omega))
  intro i hi0 hi1
  rw [bi_and, bi_one hi0]
  by_cases e : i = 0
  · subst e
    have : bi (i_shr a s) 0 = bi a s := by
      rw [i_shr_v h0 h1]
      unfold bi
      rw [BitVec.ofInt_toInt, BitVec.getLsbD_sshiftRight]
      simp
      omega
    rw [this]
    by_cases q : bi a s = true
    · simp [q, bi_one]
    · simp [q, bi_zero]
  · simp [e]
    split
    · rw [bi_one hi0]; simp [e]
    · exact bi_zero i
theorem l_or_0 {a : Int} (ha : c64 a) : l_or 0 a = a :=
  bl_ext (c64_l_or _ _) ha (fun s _ _ => by rw [bl_or, bl_zero]; simp)
theorem l_or_self {a : Int} (ha : c64 a) : l_or a a = a :=
  bl_ext (c64_l_or _ _) ha (fun s _ _ => by rw [bl_or]; simp)
theorem i_or_self {a : Int} (ha : c32 a) : i_or a a = a :=
  bi_ext (c32_i_or _ _) ha (fun s _ _ => by rw [bi_or]; simp)
theorem l_and_ne {a b : Int} : l_and a b ≠ 0 ↔ ∃ s : Int, 0 ≤ s ∧ s < 64 ∧ bl a s = true ∧ bl b s = true := by
  constructor
  · intro h
    apply Classical.byContradiction
    intro q
    apply h
    rw [bl_eq0 (c64_l_and _ _)]
    intro s h0 h1
    rw [bl_and]
    cases ea : bl a s <;> cases eb : bl b s <;> simp
    exact q ⟨s, h0, h1, ea, eb⟩
  · rintro ⟨s, h0, h1, ea, eb⟩ e
    have := (bl_eq0 (c64_l_and a b)).mp e s h0 h1
    rw [bl_and, ea, eb] at this
    cases this
theorem i_and_ne {a b : Int} : i_and a b ≠ 0 ↔ ∃ s : Int, 0 ≤ s ∧ s < 32 ∧ bi a s = true ∧ bi b s = true := by
  constructor
  · intro h
    apply Classical.byContradiction
    intro q
    apply h
    rw [bi_eq0 (c32_i_and _ _)]
    intro s h0 h1
    rw [bi_and]
    cases ea : bi a s <;> cases eb : bi b s <;> simp
    exact q ⟨s, h0, h1, ea, eb⟩
  · rintro ⟨s, h0, h1, ea, eb⟩ e
    have := (bi_eq0 (c32_i_and a b)).mp e s h0 h1
    rw [bi_and, ea, eb] at this
    cases this
