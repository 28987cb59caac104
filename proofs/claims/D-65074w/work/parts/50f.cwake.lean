/-! Part 50f: places that rest on something are woken -/
theorem lc_z {a : Int} : lc a 0 = 0 ↔ a = 0 := by
  unfold lc
  split
  · constructor <;> intro q <;> omega
  · split <;> constructor <;> intro q <;> omega
/-- the places of a set of bits -/
def ubt (h : MH) (a p : Int) : Bool := bl (hv h a (p / 64)) (p % 64)
/-- who is awake now was awake, or was noted -/
def mor (h : MH) (a : Int) (g : MH) : Prop := (∀ j, hv h 79 j ≠ 0 → hv g 79 j ≠ 0) ∧ ∀ j, hv g 79 j ≠ 0 → hv h 79 j ≠ 0 ∨ (0 ≤ j ∧ j < 1536 ∧ ubt h a j = true)
theorem mor_of {h g g' : MH} {a : Int} (e : ∀ j, hv g 79 j = hv h 79 j) (eu : ∀ p, ubt g a p = ubt h a p) (m : mor g a g') : mor h a g' :=
  ⟨fun j hj => m.1 j (by rw [e]; exact hj), fun j hj => by have := m.2 j hj; rw [e, eu] at this; exact this⟩
section WA
variable {l : Launch} {G : JG} {h : MH} {n a : Int} {Q : Int → MH → Prop} {E : Nat → Int → MH → Prop}
theorem c_wakeAll (hG : gO G = true) (q : QI h n) (ha : a ≠ 0) (ha1 : a ≠ 78 ∧ a ≠ 79 ∧ a ≠ 3) (h24 : hn h a = 24) (hb : ∀ p, 0 ≤ p → p < 1536 → ubt h a p = true → p < n) (hQ : ∀ h', onq h h' → QI h' n → mor h a h' → (∀ p, 0 ≤ p → p < 1536 → ubt h a p = true → hv h' 79 p ≠ 0) → Q 0 h') :
    S_X2_wakeAll l G [(2002, 3), (105, a)] h Q E := by
  refine Sem_hyp fun H ok => ?_
  have oa : obj h 101 a := tag_obj (g := 105) rfl (fun _ => ha) (ok (105, a) (by simp))
  have ca : ∀ w, 0 ≤ w → w < 24 → c64 (hv h a w) := fun w w0 w1 => okf_l (hok_arr H oa.1 oa.2.1 oa.2.2 (by decide) w0 (by rw [h24]; exact w1))
  refine s_X2_wakeAll rfl fun K ki => ?_
  have outer : ∀ M : Nat, ∀ (w : Int) (g : MH), M = (24 - w).toNat → 0 ≤ w → w ≤ 24 → onq h g → QI g n → mor h a g → (∀ p, 0 ≤ p → p < 64 * w → ubt h a p = true → hv g 79 p ≠ 0) → JW K 2 [(2002, 3), (105, a), (0, w), (5000, 0), (5000, 0)] [] g := by
    intro M
    induction M with
    | zero =>
      intro w g eM w0 w1 o qg mo aw
      refine r_X2_wakeAll_2 ki hG ⟨ha, fun _ => hQ g o qg mo (fun p p0 p1 pb => aw p p0 (by omega) pb), fun q => ?_⟩
      rw [h2_hn o.1, h24] at q
      omega
    | succ M ihM =>
      intro w g eM w0 w1 o qg mo aw
      have hva : ∀ g' : MH, onq h g' → ∀ j, hv g' a j = hv h a j := fun g' o' j => o'.2 a j ha1.1 ha1.2.1 (fun q => ha1.2.2 q.1)
      have inner : ∀ N : Nat, ∀ (v c : Int) (g : MH), (64 - c).toNat ≤ N → 0 ≤ c → c ≤ 64 → c64 v → (∀ b, 0 ≤ b → b < c → bl v b = false) → (∀ b, 0 ≤ b → b < 64 → bl v b = true → bl (hv h a w) b = true) → onq h g → QI g n → mor h a g → (∀ p, 0 ≤ p → p < 64 * w → ubt h a p = true → hv g 79 p ≠ 0) →
          (∀ b, 0 ≤ b → b < 64 → bl (hv h a w) b = true → bl v b = true ∨ hv g 79 (64 * w + b) ≠ 0) → JW K 12 [(2002, 3), (105, a), (0, w), (1, v), (5000, 0)] [] g := by
        intro N
        induction N with
        | zero =>
          intro v c g eN c0 c1 cv lo su o qg mo aw ab
          have vz : v = 0 := (bl_eq0 cv).mpr (fun b b0 b1 => lo b b0 (by omega))
          refine r_X2_wakeAll_12 ki hG ⟨fun _ x ex => ?_, fun q => absurd (lc_z.mpr vz) q⟩
          rw [w32_i (by omega) (by omega)] at ex
          subst ex
          refine ihM (w + 1) g (by omega) (by omega) (by omega) o qg mo (fun p p0 p1 pb => ?_)
          by_cases e : p < 64 * w
          · exact aw p p0 e pb
          · unfold ubt at pb
            rw [show p / 64 = w by omega] at pb
            rcases ab (p % 64) (by omega) (by omega) pb with q | q
            · rw [vz, bl_zero] at q
              cases q
            · rwa [show 64 * w + p % 64 = p by omega] at q
        | succ N ih =>
          intro v c g eN c0 c1 cv lo su o qg mo aw ab
          refine r_X2_wakeAll_12 ki hG ⟨fun e0 x ex => ?_, fun e0 => ?_⟩
          · have vz := lc_z.mp e0
            rw [w32_i (by omega) (by omega)] at ex
            subst ex
            refine ihM (w + 1) g (by omega) (by omega) (by omega) o qg mo (fun p p0 p1 pb => ?_)
            by_cases e : p < 64 * w
            · exact aw p p0 e pb
            · unfold ubt at pb
              rw [show p / 64 = w by omega] at pb
              rcases ab (p % 64) (by omega) (by omega) pb with q | q
              · rw [vz, bl_zero] at q
                cases q
              · rwa [show 64 * w + p % 64 = p by omega] at q
          · have vn : v ≠ 0 := fun e => e0 (lc_z.mpr e)
            obtain ⟨z, z0, z1, k1, k2, k3, k4⟩ := low_l (v := v) (by unfold c64 at cv; omega)
            have zc : c ≤ z := by
              refine Int.not_lt.mp fun q => ?_
              rw [lo z z0 q] at k1
              cases k1
            have zn : 64 * w + z < n := by
              refine hb (64 * w + z) (by omega) (by omega) ?_
              unfold ubt
              rw [show (64 * w + z) / 64 = w by omega, show (64 * w + z) % 64 = z by omega]
              exact su z z0 z1 k1
            refine c_ntL hG z0 z1 k1 k2 k3 k4 ?_
            rw [w32_i (z := 64 * w) (by omega) (by omega), w32_i (by omega) (by omega)]
            refine c_wake hG qg (by omega) zn fun g' o' q' aw' ot x ex => ?_
            have mo' : ∀ j, hv g 79 j ≠ 0 → hv g' 79 j ≠ 0 := by
              intro j hj
              by_cases e : j = 64 * w + z
              · rw [e]; exact aw'
              · rw [ot j e]; exact hj
            have mz : ∀ j, hv g' 79 j ≠ 0 → hv h 79 j ≠ 0 ∨ (0 ≤ j ∧ j < 1536 ∧ ubt h a j = true) := by
              intro j hj
              by_cases e : j = 64 * w + z
              · right
                refine ⟨by omega, by omega, ?_⟩
                rw [e]
                unfold ubt
                rw [show (64 * w + z) / 64 = w by omega, show (64 * w + z) % 64 = z by omega]
                exact su z z0 z1 k1
              · rw [ot j e] at hj
                exact mo.2 j hj
            have xb : ∀ b, 0 ≤ b → b < 64 → bl x b = (decide (z < b) && bl v b) := by
              intro b b0 b1
              rw [ex, bl_and, bl_w64]
              by_cases e1 : b < z
              · rw [(k2 b b0 e1).1]
                simp
              · by_cases e2 : b = z
                · rw [e2, k3]
                  simp
                · rw [k4 b (by omega)]
                  simp [show z < b by omega]
            refine ih x (z + 1) g' (by omega) (by omega) (by omega) (by rw [ex]; exact c64_l_and _ _) (fun b b0 b1 => ?_) (fun b b0 b1 hb' => ?_) (onq_tr o o') q' ⟨fun j hj => mo' j (mo.1 j hj), fun j hj => mz j hj⟩ (fun p p0 p1 pb => mo' p (aw p p0 p1 pb)) (fun b b0 b1 hb' => ?_)
            · rw [xb b b0 (by omega)]
              simp
              intro q
              omega
            · rw [xb b b0 b1] at hb'
              simp at hb'
              exact su b b0 b1 hb'.2
            · rcases ab b b0 b1 hb' with q | q
              · by_cases e : b = z
                · right
                  rw [e]
                  exact aw'
                · left
                  rw [xb b b0 b1, q]
                  have : z < b := by
                    refine Int.not_le.mp fun q2 => ?_
                    have := (k2 b b0 (by omega)).1
                    rw [q] at this
                    cases this
                  simp [this]
              · right
                exact mo' _ q
      refine r_X2_wakeAll_2 ki hG ⟨ha, fun q => ?_, fun q => ⟨ha, w0, by rw [h2_hn o.1, h24]; omega, fun x ex => ?_⟩⟩
      · rw [h2_hn o.1, h24] at q
        omega
      · rw [hva g o] at ex
        refine inner 64 x 0 g (by decide) (by decide) (by decide) (by rw [ex]; exact ca w w0 (by omega)) (fun b b0 b1 => by omega) (fun b _ _ q => by rw [← ex]; exact q) o qg mo aw (fun b b0 b1 q => Or.inl (by rw [ex]; exact q))
  refine r_X2_wakeAll_0 ki hG fun x ex => ?_
  subst ex
  exact outer 24 0 h (by decide) (by decide) (by decide) (onq_rfl h) q ⟨fun _ q => q, fun _ q => Or.inl q⟩ (fun p p0 p1 _ => by omega)
end WA
