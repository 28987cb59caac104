/-! Part 50e: numberOfTrailingZeros -/
def nz1 (x n : Int) : Int := if x ≤ 4 then w32 (n + i_ushr x 1) else w32 (w32 (n + 2) + i_ushr (i_ushr x 2) 1)
def nz2 (x n : Int) : Int := if x ≤ 16 then nz1 x n else nz1 (i_ushr x 4) (w32 (n + 4))
def nz3 (x n : Int) : Int := if x ≤ 256 then nz2 x n else nz2 (i_ushr x 8) (w32 (n + 8))
def nz4 (x n : Int) : Int := if x ≤ 65536 then nz3 x n else nz3 (i_ushr x 16) (w32 (n + 16))
def ntI (v : Int) : Int := if 0 < i_and (i_xor v (-1)) (w32 (v - 1)) then nz4 (i_and (i_xor v (-1)) (w32 (v - 1))) 1 else i_and (i_and (i_xor v (-1)) (w32 (v - 1))) 32
section NZ
variable {P : Int → Prop} {x n : Int}
theorem nz1_f (q : P (nz1 x n)) : (x ≤ 4 → P (w32 (n + i_ushr x 1))) ∧ (4 < x → ∀ n' : Int, n' = w32 (n + 2) → ∀ x' : Int, x' = i_ushr x 2 → P (w32 (n' + i_ushr x' 1))) := by
  unfold nz1 at q
  refine ⟨fun e => ?_, fun e n' en x' ex => ?_⟩
  · rwa [if_pos e] at q
  · rw [if_neg (by omega)] at q
    subst en ex
    exact q
theorem nz2_f (q : P (nz2 x n)) : (x ≤ 16 → P (nz1 x n)) ∧ (16 < x → ∀ n' : Int, n' = w32 (n + 4) → ∀ x' : Int, x' = i_ushr x 4 → P (nz1 x' n')) := by
  unfold nz2 at q
  refine ⟨fun e => ?_, fun e n' en x' ex => ?_⟩
  · rwa [if_pos e] at q
  · rw [if_neg (by omega)] at q
    subst en ex
    exact q
theorem nz3_f (q : P (nz3 x n)) : (x ≤ 256 → P (nz2 x n)) ∧ (256 < x → ∀ n' : Int, n' = w32 (n + 8) → ∀ x' : Int, x' = i_ushr x 8 → P (nz2 x' n')) := by
  unfold nz3 at q
  refine ⟨fun e => ?_, fun e n' en x' ex => ?_⟩
  · rwa [if_pos e] at q
  · rw [if_neg (by omega)] at q
    subst en ex
    exact q
theorem nz4_f (q : P (nz4 x n)) : (x ≤ 65536 → P (nz3 x n)) ∧ (65536 < x → ∀ n' : Int, n' = w32 (n + 16) → ∀ x' : Int, x' = i_ushr x 16 → P (nz3 x' n')) := by
  unfold nz4 at q
  refine ⟨fun e => ?_, fun e n' en x' ex => ?_⟩
  · rwa [if_pos e] at q
  · rw [if_neg (by omega)] at q
    subst en ex
    exact q
theorem nz2_g (q : P (nz2 x n)) : (x ≤ 16 → (x ≤ 4 → P (w32 (n + i_ushr x 1))) ∧ (4 < x → ∀ n' : Int, n' = w32 (n + 2) → ∀ x' : Int, x' = i_ushr x 2 → P (w32 (n' + i_ushr x' 1)))) ∧
    (16 < x → ∀ n' : Int, n' = w32 (n + 4) → ∀ x' : Int, x' = i_ushr x 4 → (x' ≤ 4 → P (w32 (n' + i_ushr x' 1))) ∧ (4 < x' → ∀ n2 : Int, n2 = w32 (n' + 2) → ∀ x2 : Int, x2 = i_ushr x' 2 → P (w32 (n2 + i_ushr x2 1)))) :=
  ⟨fun e => nz1_f ((nz2_f q).1 e), fun e n' en x' ex => nz1_f ((nz2_f q).2 e n' en x' ex)⟩
end NZ
theorem c_ntI {l : Launch} {G : JG} {h : MH} {v : Int} {Q : Int → MH → Prop} {E : Nat → Int → MH → Prop} (hG : gO G = true) (hQ : Q (ntI v) h) : S_J10_numberOfTrailingZeros l G [(0, v)] h Q E := by
  refine s_J10_numberOfTrailingZeros rfl fun K ki => r_J10_numberOfTrailingZeros_0 ki hG fun x ex => ?_
  unfold ntI at hQ
  rw [← ex] at hQ
  refine ⟨fun e n en => ?_, fun e => ?_⟩
  · rw [if_pos e] at hQ
    subst en
    have q4 := nz4_f (P := fun z => Q z h) hQ
    refine ⟨fun e1 => ?_, fun e1 n' en x' ex' => ?_⟩
    · have q3 := nz3_f (P := fun z => Q z h) (q4.1 e1)
      exact ⟨fun e2 => nz2_g (P := fun z => Q z h) (q3.1 e2), fun e2 n2 en2 x2 ex2 => nz2_g (P := fun z => Q z h) (q3.2 e2 n2 en2 x2 ex2)⟩
    · have q3 := nz3_f (P := fun z => Q z h) (q4.2 e1 n' en x' ex')
      exact ⟨fun e2 => nz2_g (P := fun z => Q z h) (q3.1 e2), fun e2 n2 en2 x2 ex2 => nz2_g (P := fun z => Q z h) (q3.2 e2 n2 en2 x2 ex2)⟩
  · rwa [if_neg (by omega)] at hQ
theorem nz4_t : ∀ z : Fin 32, (if (0 : Int) < (2 ^ z.val - 1 : Nat) then nz4 ((2 ^ z.val - 1 : Nat) : Int) 1 else i_and ((2 ^ z.val - 1 : Nat) : Int) 32) = (z.val : Int) := by decide +kernel
/-- the lowest bit of a number below 2^w -/
theorem low_bit {x : Nat} (hx : x ≠ 0) : ∃ z m : Nat, x = 2 ^ z * (2 * m + 1) := by
  induction x using Nat.strongRecOn with
  | _ x ih =>
    by_cases e : x % 2 = 1
    · exact ⟨0, x / 2, by omega⟩
    · obtain ⟨z, m, q⟩ := ih (x / 2) (by omega) (by omega)
      refine ⟨z + 1, m, ?_⟩
      rw [Nat.pow_succ, Nat.mul_right_comm, ← q]
      omega
theorem tb_odd {z m j : Nat} : Nat.testBit (2 ^ z * (2 * m + 1)) j = if j < z then false else if j = z then true else Nat.testBit m (j - z - 1) := by
  have := Nat.testBit_two_pow_mul_add (2 * m + 1) (i := z) (b := 0) (Nat.two_pow_pos z) j
  rw [Nat.add_zero] at this
  rw [this]
  by_cases e : j < z
  · rw [if_pos e, if_pos e]
    simp
  · rw [if_neg e, if_neg e]
    by_cases e2 : j = z
    · rw [if_pos e2, e2, Nat.sub_self]
      simp [Nat.testBit_zero]
    · rw [if_neg e2, show j - z = (j - z - 1) + 1 by omega, Nat.testBit_succ]
      congr 1
      omega
theorem tb_pre {z m j : Nat} : Nat.testBit (2 ^ z * (2 * m + 1) - 1) j = if j < z then true else if j = z then false else Nat.testBit m (j - z - 1) := by
  have hp := Nat.two_pow_pos z
  have e0 : 2 ^ z * (2 * m + 1) - 1 = 2 ^ z * (2 * m) + (2 ^ z - 1) := by
    rw [Nat.mul_add]
    omega
  rw [e0, Nat.testBit_two_pow_mul_add (2 * m) (by omega) j]
  by_cases e : j < z
  · rw [if_pos e, if_pos e, Nat.testBit_two_pow_sub_one]
    simp [e]
  · rw [if_neg e, if_neg e]
    by_cases e2 : j = z
    · rw [if_pos e2, e2, Nat.sub_self]
      simp [Nat.testBit_zero]
    · rw [if_neg e2, show j - z = (j - z - 1) + 1 by omega, Nat.testBit_succ]
      congr 1
      omega
theorem bl_nat {v s : Int} : bl v s = Nat.testBit (v % 18446744073709551616).toNat s.toNat := by
  unfold bl
  rw [BitVec.getLsbD, BitVec.toNat_ofInt]
  rfl
theorem bi_nat2 {v s : Int} : bi v s = Nat.testBit (v % 4294967296).toNat s.toNat := by
  unfold bi
  rw [BitVec.getLsbD, BitVec.toNat_ofInt]
  rfl
/-- the lowest bit of a long, and of the number below it -/
theorem low_l {v : Int} (hv0 : v % 18446744073709551616 ≠ 0) : ∃ z : Int, 0 ≤ z ∧ z < 64 ∧ bl v z = true ∧ (∀ s, 0 ≤ s → s < z → bl v s = false ∧ bl (v - 1) s = true) ∧ bl (v - 1) z = false ∧ ∀ s, z < s → bl (v - 1) s = bl v s := by
  obtain ⟨z, m, e⟩ := low_bit (x := (v % 18446744073709551616).toNat) (by omega)
  have e2 : ((v - 1) % 18446744073709551616).toNat = 2 ^ z * (2 * m + 1) - 1 := by rw [← e]; omega
  have hz : z < 64 := by
    refine Nat.lt_of_not_le fun q => ?_
    have h1 : 2 ^ 64 ≤ 2 ^ z := Nat.pow_le_pow_right (by decide) q
    have h2 : 2 ^ z * 1 ≤ 2 ^ z * (2 * m + 1) := Nat.mul_le_mul_left _ (by omega)
    have h3 : (2 : Nat) ^ 64 = 18446744073709551616 := by decide
    omega
  refine ⟨z, by omega, by omega, ?_, fun s s0 s1 => ⟨?_, ?_⟩, ?_, fun s s1 => ?_⟩
  · rw [bl_nat, e, tb_odd, if_neg (by omega), if_pos (by omega)]
  · rw [bl_nat, e, tb_odd, if_pos (by omega)]
  · rw [bl_nat, e2, tb_pre, if_pos (by omega)]
  · rw [bl_nat, e2, tb_pre, if_neg (by omega), if_pos (by omega)]
  · rw [bl_nat, bl_nat, e, e2, tb_odd, tb_pre, if_neg (by omega), if_neg (by omega), if_neg (by omega), if_neg (by omega)]
theorem low_i {v : Int} (hv0 : v % 4294967296 ≠ 0) : ∃ z : Int, 0 ≤ z ∧ z < 32 ∧ bi v z = true ∧ (∀ s, 0 ≤ s → s < z → bi v s = false ∧ bi (v - 1) s = true) ∧ bi (v - 1) z = false ∧ ∀ s, z < s → bi (v - 1) s = bi v s := by
  obtain ⟨z, m, e⟩ := low_bit (x := (v % 4294967296).toNat) (by omega)
  have e2 : ((v - 1) % 4294967296).toNat = 2 ^ z * (2 * m + 1) - 1 := by rw [← e]; omega
  have hz : z < 32 := by
    refine Nat.lt_of_not_le fun q => ?_
    have h1 : 2 ^ 32 ≤ 2 ^ z := Nat.pow_le_pow_right (by decide) q
    have h2 : 2 ^ z * 1 ≤ 2 ^ z * (2 * m + 1) := Nat.mul_le_mul_left _ (by omega)
    have h3 : (2 : Nat) ^ 32 = 4294967296 := by decide
    omega
  refine ⟨z, by omega, by omega, ?_, fun s s0 s1 => ⟨?_, ?_⟩, ?_, fun s s1 => ?_⟩
  · rw [bi_nat2, e, tb_odd, if_neg (by omega), if_pos (by omega)]
  · rw [bi_nat2, e, tb_odd, if_pos (by omega)]
  · rw [bi_nat2, e2, tb_pre, if_pos (by omega)]
  · rw [bi_nat2, e2, tb_pre, if_neg (by omega), if_pos (by omega)]
  · rw [bi_nat2, bi_nat2, e, e2, tb_odd, tb_pre, if_neg (by omega), if_neg (by omega), if_neg (by omega), if_neg (by omega)]
theorem bi_w32 (x s : Int) : bi (w32 x) s = bi x s := by
  unfold bi w32
  rw [Int32.toInt, Int32.ofInt, BitVec.ofInt_toInt]
  rfl
theorem bl_w64 (x s : Int) : bl (w64 x) s = bl x s := by
  unfold bl w64
  rw [Int64.toInt, Int64.ofInt, BitVec.ofInt_toInt]
  rfl
theorem ntI_v {v z : Int} (z0 : 0 ≤ z) (z1 : z < 32) (h1 : bi v z = true) (h2 : ∀ s, 0 ≤ s → s < z → bi v s = false ∧ bi (v - 1) s = true) (h3 : bi (v - 1) z = false) (h4 : ∀ s, z < s → bi (v - 1) s = bi v s) : ntI v = z := by
  have e : i_and (i_xor v (-1)) (w32 (v - 1)) = ((2 ^ z.toNat - 1 : Nat) : Int) := by
    have hp : 2 ^ z.toNat ≤ 2 ^ 31 := Nat.pow_le_pow_right (by decide) (by omega)
    have h31 : (2 : Nat) ^ 31 = 2147483648 := by decide
    refine bi_ext (c32_i_and _ _) (by unfold c32; omega) (fun s s0 s1 => ?_)
    rw [bi_and, bi_not s1, bi_w32]
    have r : bi ((2 ^ z.toNat - 1 : Nat) : Int) s = decide (s < z) := by
      rw [bi_nat2, show (((2 ^ z.toNat - 1 : Nat) : Int) % 4294967296).toNat = 2 ^ z.toNat - 1 by omega, Nat.testBit_two_pow_sub_one]
      congr 1
      exact propext ⟨fun q => by omega, fun q => by omega⟩
    rw [r]
    by_cases q : s < z
    · rw [(h2 s s0 q).1, (h2 s s0 q).2]
      simp [q]
    · by_cases q2 : s = z
      · rw [q2, h1, h3]
        simp
      · rw [h4 s (by omega)]
        cases bi v s <;> simp [q]
  unfold ntI
  rw [e]
  have := nz4_t ⟨z.toNat, by omega⟩
  dsimp only at this
  rw [this]
  omega
theorem bl_lo {v s : Int} (s0 : 0 ≤ s) (s1 : s < 32) : bi v s = bl v s := by
  rw [bi_nat2, bl_nat]
  have e : (v % 4294967296).toNat = (v % 18446744073709551616).toNat % 2 ^ 32 := by
    have h : (2 : Nat) ^ 32 = 4294967296 := by decide
    rw [h]
    omega
  rw [e, Nat.testBit_mod_two_pow]
  simp
  omega
theorem w32_mod (x : Int) : w32 x % 4294967296 = x % 4294967296 := by
  have h : w32 x = (BitVec.ofInt 32 x).toInt := rfl
  rw [h, BitVec.toInt_ofInt]
  exact Int.bmod_emod
theorem ushr32_v {v : Int} : (w32 (l_ushr v 32)) % 4294967296 = (v % 18446744073709551616) / 4294967296 := by
  have h1 : l_ushr v 32 = ((BitVec.ofInt 64 v) >>> 32).toInt := by
    show ((Int64.ofInt v).toUInt64 >>> ((Int32.ofInt 32).toInt64.toUInt64 &&& Int64.toUInt64 63)).toInt64.toInt = _
    have e : ((Int32.ofInt 32).toInt64.toUInt64 &&& Int64.toUInt64 63) = (32 : UInt64) := by decide
    rw [e]
    rfl
  have h2 : ((BitVec.ofInt 64 v) >>> 32).toInt = (v % 18446744073709551616) / 4294967296 := by
    rw [BitVec.toInt_eq_toNat_of_lt ?_]
    · rw [BitVec.toNat_ushiftRight, BitVec.toNat_ofInt, Nat.shiftRight_eq_div_pow]
      have h : (2 : Nat) ^ 32 = 4294967296 := by decide
      rw [h]
      have h' : ((2 ^ 64 : Nat) : Int) = 18446744073709551616 := by decide
      rw [h']
      omega
    · rw [BitVec.toNat_ushiftRight, BitVec.toNat_ofInt, Nat.shiftRight_eq_div_pow]
      have h : (2 : Nat) ^ 32 = 4294967296 := by decide
      have h' : ((2 ^ 64 : Nat) : Int) = 18446744073709551616 := by decide
      rw [h, h']
      have h6 : (2 : Nat) ^ 64 = 18446744073709551616 := by decide
      omega
  rw [h1, h2]
  have h3 := w32_mod ((v % 18446744073709551616) / 4294967296)
  rw [h3]
  omega
theorem c_ntL {l : Launch} {G : JG} {h : MH} {v z : Int} {Q : Int → MH → Prop} {E : Nat → Int → MH → Prop} (hG : gO G = true) (z0 : 0 ≤ z) (z1 : z < 64) (h1 : bl v z = true) (h2 : ∀ s, 0 ≤ s → s < z → bl v s = false ∧ bl (v - 1) s = true) (h3 : bl (v - 1) z = false) (h4 : ∀ s, z < s → bl (v - 1) s = bl v s) (hQ : Q z h) :
    S_J9_numberOfTrailingZeros l G [(1, v)] h Q E := by
  refine s_J9_numberOfTrailingZeros rfl fun K ki => r_J9_numberOfTrailingZeros_0 ki hG fun x ex => ⟨fun e => ?_, fun e => ?_⟩
  · have hm := w32_mod v
    rw [← ex] at hm
    have hz : z < 32 := by
      refine Int.lt_of_not_ge fun q => e ?_
      have hx : c32 x := by rw [ex]; exact w32_c v
      rw [bi_eq0 hx]
      intro s s0 s1
      rw [ex, bi_w32, bl_lo s0 s1]
      exact (h2 s s0 (by omega)).1
    refine c_ntI hG ?_
    have b1 : ∀ s, 0 ≤ s → s < 32 → bi x s = bl v s := fun s s0 s1 => by rw [ex, bi_w32, bl_lo s0 s1]
    have b2 : ∀ s, 0 ≤ s → s < 32 → bi (x - 1) s = bl (v - 1) s := fun s s0 s1 => by
      rw [← bl_lo s0 s1, bi_nat2, bi_nat2]
      congr 2
      omega
    have hn : ntI x = z := by
      refine ntI_v z0 hz (by rw [b1 z z0 hz]; exact h1) (fun s s0 s1 => ?_) (by rw [b2 z z0 hz]; exact h3) (fun s s1 => ?_)
      · rw [b1 s s0 (by omega), b2 s s0 (by omega)]
        exact h2 s s0 s1
      · by_cases q : s < 32
        · rw [b1 s (by omega) q, b2 s (by omega) q]
          exact h4 s s1
        · rw [bi_hi (by omega), bi_hi (by omega)]
    rw [hn]
    exact hQ
  · have hz : 32 ≤ z := by
      refine Int.not_lt.mp fun q => ?_
      have := bl_lo (v := v) z0 q
      rw [h1, ← bi_w32, ← ex, e, bi_zero] at this
      cases this
    refine c_ntI hG ?_
    have hu := ushr32_v (v := v)
    generalize w32 (l_ushr v 32) = y at hu
    have hv0 : v % 4294967296 = 0 := by
      have := w32_mod v
      rw [← ex, e] at this
      omega
    have b1 : ∀ s, 0 ≤ s → s < 32 → bi y s = bl v (s + 32) := fun s s0 s1 => by
      rw [bi_nat2, bl_nat, hu, show ((v % 18446744073709551616) / 4294967296).toNat = (v % 18446744073709551616).toNat / 2 ^ 32 by
        have h : (2 : Nat) ^ 32 = 4294967296 := by decide
        rw [h]
        omega, Nat.testBit_div_two_pow]
      congr 1
      omega
    have b2 : ∀ s, 0 ≤ s → s < 32 → bi (y - 1) s = bl (v - 1) (s + 32) := fun s s0 s1 => by
      rw [bi_nat2, bl_nat]
      have e1 : ((v - 1) % 18446744073709551616).toNat / 2 ^ 32 = ((y - 1) % 4294967296).toNat := by
        have h : (2 : Nat) ^ 32 = 4294967296 := by decide
        rw [h]
        omega
      rw [← e1, Nat.testBit_div_two_pow]
      congr 1
      omega
    have hn : ntI y = z - 32 := by
      refine ntI_v (by omega) (by omega) (by rw [b1 _ (by omega) (by omega), show z - 32 + 32 = z by omega]; exact h1) (fun s s0 s1 => ?_) (by rw [b2 _ (by omega) (by omega), show z - 32 + 32 = z by omega]; exact h3) (fun s s1 => ?_)
      · rw [b1 s s0 (by omega), b2 s s0 (by omega)]
        exact h2 (s + 32) (by omega) (by omega)
      · by_cases q : s < 32
        · rw [b1 s (by omega) q, b2 s (by omega) q]
          exact h4 (s + 32) (by omega)
        · rw [bi_hi (by omega), bi_hi (by omega)]
    rw [hn, w32_i (by omega) (by omega), show 32 + (z - 32) = z by omega]
    exact hQ
