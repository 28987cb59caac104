/-! Part 50s: what escapes from a method -/
section ES
variable {l : Launch} {G : JG} {h : MH} {L : PG} {m M x su pe n : Int} {Q : Int → MH → Prop} {E : Nat → Int → MH → Prop}
/-- the content of the outcome after sites x escape with these locks -/
def esc (h : MH) (o x su pe : Int) : MH := hset (hset (hset h o 4 (l_or (hv h o 4) x)) o 5 (if hv h o 4 = 0 then su else i_and (hv h o 5) su)) o 6 (if hv h o 4 = 0 then pe else i_or (hv h o 6) pe)
theorem c_escape (hG : gO G = true) (q : QI h n) (k0 : 0 ≤ m) (k1 : m < 40) (hM : hv h 3 16 = M) (m5 : 523 ≤ M) (m6 : hv h M 0 = m) (oo : ouO h m) (csu : c32 su) (cpe : c32 pe) (hb : ∀ p, 0 ≤ p → p < 1536 → ubt h (146 + 3 * m) p = true → p < n)
    (hQ : ∀ h', ((h' = esc h (144 + 3 * m) x su pe ∧ (∀ s : Int, bl x s = true → bl (hv h (144 + 3 * m) 4) s = true) ∧ (hv h (144 + 3 * m) 4 ≠ 0 → (∀ s : Int, bi (hv h (144 + 3 * m) 5) s = true → bi su s = true) ∧ ∀ s : Int, bi pe s = true → bi (hv h (144 + 3 * m) 6) s = true)) ∨ ((hv h (144 + 3 * m) 4 = 0 ∨ ¬ ((∀ s : Int, bl x s = true → bl (hv h (144 + 3 * m) 4) s = true) ∧ (∀ s : Int, bi (hv h (144 + 3 * m) 5) s = true → bi su s = true) ∧ ∀ s : Int, bi pe s = true → bi (hv h (144 + 3 * m) 6) s = true)) ∧ onq (esc h (144 + 3 * m) x su pe) h' ∧ mor h (146 + 3 * m) h' ∧ ∀ p, 0 ≤ p → p < 1536 → ubt h (146 + 3 * m) p = true → hv h' 79 p ≠ 0)) → QI h' n → Q 0 h') :
    S_X2_escape l G [(2002, 3), (1, x), (0, su), (0, pe)] h Q E := by
  obtain ⟨o1, o2, o3, o4, o5, o6, o7⟩ := oo
  refine s_X2_escape rfl fun K ki => r_X2_escape_0 ki hG ?_
  rw [hM, m6]
  refine ⟨by omega, k0, k1, fun o eo => ?_⟩
  rw [o1] at eo
  subst eo
  have on : (144 + 3 * m : Int) ≠ 0 := by omega
  have mx : ∀ y : Int, y = (if lc (l_and x (l_xor (hv h (144 + 3 * m) 4) (-1))) 0 = 0 then 0 else 1 : Int) → (y = 0 ∨ y = 1) ∧ (y = 0 ↔ ∀ s : Int, bl x s = true → bl (hv h (144 + 3 * m) 4) s = true) := by
    intro y ey
    rw [← land_not, ey, lc_if]
    split
    · rename_i r
      exact ⟨Or.inl rfl, fun _ => r, fun _ => rfl⟩
    · rename_i r
      exact ⟨Or.inr rfl, fun w => by omega, fun w => absurd w r⟩
  have fin : ∀ (g : MH) (z : Int), g = esc h (144 + 3 * m) x su pe → (z = 0 → (∀ s : Int, bl x s = true → bl (hv h (144 + 3 * m) 4) s = true) ∧ (hv h (144 + 3 * m) 4 ≠ 0 → (∀ s : Int, bi (hv h (144 + 3 * m) 5) s = true → bi su s = true) ∧ ∀ s : Int, bi pe s = true → bi (hv h (144 + 3 * m) 6) s = true)) → (¬ z = 0 → (hv h (144 + 3 * m) 4 = 0 ∨ ¬ ((∀ s : Int, bl x s = true → bl (hv h (144 + 3 * m) 4) s = true) ∧ (∀ s : Int, bi (hv h (144 + 3 * m) 5) s = true → bi su s = true) ∧ ∀ s : Int, bi pe s = true → bi (hv h (144 + 3 * m) 6) s = true))) →
      (z = 0 → Q 0 g) ∧ (¬ z = 0 → (144 + 3 * m : Int) ≠ 0 ∧ S_X2_wakeAll l G [(2002, 3), (105, hv g (144 + 3 * m) 8)] g (fun _ h8 => Q 0 h8) E) := by
    intro g z eg hz0 hz1
    have f : ∀ b j : Int, b ≠ 144 + 3 * m → hv g b j = hv h b j := fun b j hb' => by rw [eg]; unfold esc; rw [ne_a hb', ne_a hb', ne_a hb']
    have q1 : QI g n := QI_of q (f 3 14 (by omega)) (f 3 15 (by omega)) (fun j => f 78 j (by omega)) (fun j => f 79 j (by omega))
    refine ⟨fun e => hQ g (Or.inl ⟨eg, hz0 e⟩) q1, fun e => ⟨on, ?_⟩⟩
    rw [show hv g (144 + 3 * m) 8 = 146 + 3 * m by rw [eg]; unfold esc; rw [ne_k (by decide), ne_k (by decide), ne_k (by decide)]; exact o5]
    have eu : ∀ p, ubt g (146 + 3 * m) p = ubt h (146 + 3 * m) p := fun p => ubt_ne (fun j => f _ j (by omega))
    refine c_wakeAll hG q1 (by omega) ⟨by omega, by omega, by omega⟩ (by rw [eg]; exact o7) (fun p p0 p1 pb => hb p p0 p1 (by rw [← eu]; exact pb)) fun h' o q' mo aw => ?_
    rw [eg] at o
    exact hQ h' (Or.inr ⟨hz1 e, o, mor_of (fun j => f 79 j (by omega)) eu mo, fun p p0 p1 pb => aw p p0 p1 (by rw [eu]; exact pb)⟩) q'
  refine ⟨on, fun y ey => ⟨on, fun e => ?_, fun e => ?_⟩⟩
  · obtain ⟨y1, y2⟩ := mx y ey
    rw [lc_z] at e
    refine ⟨on, fun _ => on, fun z ez => ⟨on, on, fun h4 e4 => ⟨on, on, fun h5 e5 => ⟨on, on, fun h6 e6 => ?_⟩⟩⟩⟩
    refine fin h6 z ?_ (fun z0 => ?_) (fun z0 => Or.inr (fun F => z0 ?_))
    · subst e4
      rw [ne_k (by decide)] at e5
      subst e5
      rw [ne_k (by decide), ne_k (by decide)] at e6
      rw [e6]
      unfold esc
      rw [if_neg e, if_neg e]
    · rw [ez] at z0
      have w2 : ∀ c d : Int, ((if i_and c (i_xor su (-1)) = 0 then (if i_and pe (i_xor d (-1)) = 0 then 0 else 1 : Int) else 1 : Int) = 0 ∨ (if i_and c (i_xor su (-1)) = 0 then (if i_and pe (i_xor d (-1)) = 0 then 0 else 1 : Int) else 1 : Int) = 1) ∧ ((if i_and c (i_xor su (-1)) = 0 then (if i_and pe (i_xor d (-1)) = 0 then 0 else 1 : Int) else 1 : Int) = 0 → i_and c (i_xor su (-1)) = 0 ∧ i_and pe (i_xor d (-1)) = 0) := by
        intro c d
        split
        · rename_i r1
          split
          · rename_i r2
            exact ⟨Or.inl rfl, fun _ => ⟨r1, r2⟩⟩
          · exact ⟨Or.inr rfl, fun w => by omega⟩
        · exact ⟨Or.inr rfl, fun w => by omega⟩
      obtain ⟨v1, v2⟩ := w2 (hv h (144 + 3 * m) 5) (hv h (144 + 3 * m) 6)
      obtain ⟨-, oz⟩ := i_or01 y1 v1
      obtain ⟨z1, z2⟩ := oz.mp z0
      obtain ⟨z3, z4⟩ := v2 z2
      exact ⟨y2.mp z1, fun _ => ⟨and_not.mp z3, and_not.mp z4⟩⟩
    · rw [ez, y2.mpr F.1, if_pos (and_not.mpr F.2.1), if_pos (and_not.mpr F.2.2)]
      decide
  · obtain ⟨y1, y2⟩ := mx y ey
    rw [lc_z] at e
    refine ⟨on, fun h9 e9 => ⟨on, fun h10 e10 => ⟨on, fun _ => on, fun z ez => ⟨on, on, fun h12 e12 => ⟨on, on, fun h13 e13 => ⟨on, on, fun h14 e14 => ?_⟩⟩⟩⟩⟩⟩
    subst e9 e10
    refine fin h14 z ?_ (fun z0 => ?_) (fun _ => Or.inl e)
    · have r4 : hv (hset (hset h (144 + 3 * m) 5 su) (144 + 3 * m) 6 pe) (144 + 3 * m) 4 = hv h (144 + 3 * m) 4 := by rw [ne_k (by decide), ne_k (by decide)]
      have r5 : hv (hset (hset h (144 + 3 * m) 5 su) (144 + 3 * m) 6 pe) (144 + 3 * m) 5 = su := by rw [ne_k (by decide), eq_a]
      rw [r4] at e12
      have s5 : hv h12 (144 + 3 * m) 5 = su := by rw [e12, ne_k (by decide), r5]
      have s6 : hv h12 (144 + 3 * m) 6 = pe := by rw [e12, ne_k (by decide), eq_a]
      rw [s5, i_and_self csu] at e13
      have t6 : hv h13 (144 + 3 * m) 6 = pe := by rw [e13, ne_k (by decide), s6]
      rw [t6, i_or_self cpe] at e14
      rw [e14, e13, e12]
      unfold esc
      rw [if_pos e, if_pos e]
      refine mh_ext rfl (fun b j => ?_)
      simp only [hv_set]
      by_cases eb : b = 144 + 3 * m
      · by_cases j6 : j = 6
        · simp [eb, j6]
        · by_cases j5 : j = 5
          · simp [eb, j5]
          · by_cases j4 : j = 4
            · simp [eb, j4]
            · simp [j4, j5, j6]
      · simp [eb]
    · refine ⟨?_, fun r => absurd e r⟩
      rw [ez] at z0
      have w1 : ∀ w : Int, i_or y w = 0 → (w = 0 ∨ w = 1) → y = 0 := fun w r1 r2 => ((i_or01 y1 r2).2.mp r1).1
      refine y2.mp (w1 _ z0 ?_)
      split
      · split
        · exact Or.inl rfl
        · exact Or.inr rfl
      · exact Or.inr rfl
end ES
