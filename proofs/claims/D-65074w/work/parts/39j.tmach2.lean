/-! Part 39j: numbers of the machine's code -/
set_option maxRecDepth 100000
theorem bm32 {z : Int} (h : c32 z) : z.bmod (2 ^ 32) = z := by
  unfold c32 at h
  rw [Int.bmod_eq_of_le]
  · omega
  · omega
theorem i_div_v {a b : Int} (ha : c32 a) (hb : c32 b) : i_div a b = w32 (a.tdiv b) := by
  unfold i_div w32
  rw [Int32.toInt_div, Int32.toInt_ofInt, Int32.toInt_ofInt, Int32.toInt_ofInt, bm32 ha, bm32 hb]
theorem i_rem_v {a b : Int} (ha : c32 a) (hb : c32 b) : i_rem a b = w32 (a.tmod b) := by
  unfold i_rem w32
  rw [Int32.toInt_sub, Int32.toInt_mul, Int32.toInt_div, Int32.toInt_ofInt, Int32.toInt_ofInt, Int32.toInt_ofInt, bm32 ha, bm32 hb]
  rw [Int.bmod_mul_bmod, Int.sub_bmod_bmod]
  congr 1
  have := Int.tmod_add_mul_tdiv a b
  have e : a.tdiv b * b = b * a.tdiv b := Int.mul_comm _ _
  omega
theorem bm64 {z : Int} (h : c64 z) : z.bmod (2 ^ 64) = z := by
  unfold c64 at h
  rw [Int.bmod_eq_of_le]
  · omega
  · omega
theorem l_rem_v {a b : Int} (ha : c64 a) (hb : c64 b) : l_rem a b = w64 (a.tmod b) := by
  unfold l_rem w64
  rw [Int64.toInt_sub, Int64.toInt_mul, Int64.toInt_div, Int64.toInt_ofInt, Int64.toInt_ofInt, Int64.toInt_ofInt, bm64 ha, bm64 hb]
  rw [Int.bmod_mul_bmod, Int.sub_bmod_bmod]
  congr 1
  have := Int.tmod_add_mul_tdiv a b
  have e : a.tdiv b * b = b * a.tdiv b := Int.mul_comm _ _
  omega
/-- the highest bit is the sign -/
theorem bl_63 {x : Int} (h : c64 x) : bl x 63 = true ↔ x < 0 := by
  unfold bl
  rw [show (63 : Int).toNat = 63 by decide]
  have e : (BitVec.ofInt 64 x).getLsbD 63 = (BitVec.ofInt 64 x).msb := (BitVec.msb_eq_getLsbD_last _).symm
  rw [e, BitVec.msb_eq_toInt, BitVec.toInt_ofInt, bm64 h]
  simp
theorem xor_neg {a b : Int} (ha : c64 a) (hb : c64 b) (b0 : 0 < b) : l_xor a b < 0 ↔ a < 0 := by
  rw [← bl_63 (c64_l_xor a b), bl_xor, ← bl_63 ha]
  have nb : bl b 63 = false := by
    cases r : bl b 63
    · rfl
    · have := (bl_63 hb).mp r; omega
  rw [nb]; simp
theorem lc_lt0 {x : Int} : lc x 0 < 0 ↔ x < 0 := by
  unfold lc
  by_cases c : x < 0
  · simp [c]
  · by_cases d : x = 0
    · simp [d]
    · simp [c, d]
theorem t_floorMod {l : Launch} {G : JG} (hG : gO G = true) {h : MH} {a b : Int} (b0 : 0 < b) (b1' : b < 1000000000000) (a0 : -1000000000000 < a) (a1 : a < 1000000000000) {Q : Int → MH → Prop} {E : Nat → Int → MH → Prop} (hQ : Q (a % b) h) : S_J8_floorMod l G [(1, a), (1, b)] h Q E := by
  have ca : c64 a := by unfold c64; omega
  have cb : c64 b := by unfold c64; omega
  refine s_J8_floorMod rfl fun K ki => r_J8_floorMod_0 ki hG ⟨by omega, ?_⟩
  have m1 := Int.tmod_lt_of_pos a b0
  have m0 : -b < a.tmod b := by
    have := Int.tmod_lt_of_pos (-a) b0
    rw [Int.neg_tmod] at this
    omega
  rw [l_rem_v ca cb, w64_i (by omega) (by omega)]
  intro x ex
  subst ex
  have cx : lc (l_xor a b) 0 < 0 ↔ a < 0 := by rw [lc_lt0, xor_neg ca cb b0]
  have em : a % b = if a < 0 ∧ a.tmod b ≠ 0 then a.tmod b + b else a.tmod b := by
    have n1 := Int.emod_nonneg a (show b ≠ 0 by omega)
    have n2 := Int.emod_lt_of_pos a b0
    by_cases c : a < 0
    · have e : a.tmod b = -((-a).tmod b) := by rw [Int.neg_tmod]; omega
      have e2 : (-a).tmod b = (-a) % b := Int.tmod_eq_emod_of_nonneg (by omega)
      have n3 := Int.emod_nonneg (-a) (show b ≠ 0 by omega)
      have n4 := Int.emod_lt_of_pos (-a) b0
      have d1 := Int.emod_add_mul_ediv a b
      have d2 := Int.emod_add_mul_ediv (-a) b
      -- both differ by a multiple of b
      have key : ∃ q : Int, a % b + (-a) % b = b * q := ⟨-(a / b) - (-a) / b, by
        have : b * (-(a / b) - (-a) / b) = -(b * (a / b)) - b * ((-a) / b) := by rw [Int.mul_sub, Int.mul_neg]
        omega⟩
      obtain ⟨q, hq⟩ := key
      have q2 : q = 0 ∨ q = 1 := by
        have h1 : 0 ≤ b * q := by omega
        have h2 : b * q < b * 2 := by omega
        have q0 : 0 ≤ q := by
          apply Classical.byContradiction
          intro z
          have : b * q ≤ b * (-1) := Int.mul_le_mul_of_nonneg_left (by omega) (by omega)
          omega
        have q1 : q < 2 := by
          apply Classical.byContradiction
          intro z
          have : b * 2 ≤ b * q := Int.mul_le_mul_of_nonneg_left (by omega) (by omega)
          omega
        omega
      rcases q2 with q2 | q2
      · rw [q2, Int.mul_zero] at hq
        rw [if_neg (by intro y; apply y.2; rw [e, e2]; omega), e, e2]
        omega
      · rw [q2, Int.mul_one] at hq
        by_cases z : a.tmod b = 0
        · exfalso
          rw [e, e2] at z
          omega
        · rw [if_pos ⟨c, z⟩, e, e2]
          omega
    · rw [if_neg (fun y => c y.1), Int.tmod_eq_emod_of_nonneg (by omega)]
  rw [em] at hQ
  refine ⟨fun y => ?_, fun y => ?_⟩
  · have y' : a < 0 ∧ a.tmod b ≠ 0 := ⟨cx.mp y.1, fun z => y.2 (by rw [lc_eq]; exact z)⟩
    rw [if_pos y'] at hQ
    rw [w64_i (by omega) (by omega)]
    exact hQ
  · have y' : ¬ (a < 0 ∧ a.tmod b ≠ 0) := fun z => y ⟨cx.mpr z.1, fun z2 => z.2 ((lc_eq _ _).mp z2)⟩
    rw [if_neg y'] at hQ
    exact hQ
