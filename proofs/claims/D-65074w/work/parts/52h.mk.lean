/-! Part 52h: the room is made ready for a program -/
def mkw (h : MH) (b j : Int) : Prop := (b = 3 ∧ j = 0) ∨ b = 4 ∨ (7 ≤ b ∧ b ≤ 70) ∨ wlo b j ∨ whi h b j
/-- what making room leaves as it was -/
def MKf (h g : MH) : Prop := hz h ≤ hz g ∧ ∀ b, b ≤ hz h → (ht g b = ht h b ∧ hn g b = hn h b) ∧ ∀ j, ¬ mkw h b j → hv g b j = hv h b j
theorem MKf_rfl (h : MH) : MKf h h := ⟨Int.le_refl _, fun _ _ => ⟨⟨rfl, rfl⟩, fun _ _ => rfl⟩⟩
theorem MKf_tr {h g k : MH} (p : MKf h g) (q : MKf g k) : MKf h k := by
  refine ⟨Int.le_trans p.1 q.1, fun b hb => ?_⟩
  have p2 := p.2 b hb
  have q2 := q.2 b (Int.le_trans hb p.1)
  refine ⟨⟨q2.1.1.trans p2.1.1, q2.1.2.trans p2.1.2⟩, fun j n => ?_⟩
  rw [q2.2 j (fun z => n (by unfold mkw whi at z ⊢; rw [p2.1.1] at z; exact z)), p2.2 j n]
theorem MKf_C {h g : MH} (f : frC h g) : MKf h g := ⟨by rw [h2_hz f.1]; exact Int.le_refl _, fun b _ => ⟨⟨h2_ht f.1 b, h2_hn f.1 b⟩, fun j n => f.2 b j (fun z => n (by unfold mkw; exact Or.inr (Or.inr (Or.inr (Or.inl z))))) (fun z => n (by unfold mkw; exact Or.inr (Or.inr (Or.inr (Or.inr z)))))⟩⟩
theorem MKf_o {h g : MH} (o : old h g) (z : hz h ≤ hz g) : MKf h g := ⟨z, fun b hb => ⟨(o b hb).2, fun j _ => (o b hb).1 j⟩⟩
theorem MKf_s {h : MH} {b j x : Int} (hb : (b = 3 ∧ j = 0) ∨ b = 4 ∨ (7 ≤ b ∧ b ≤ 70)) : MKf h (hset h b j x) := ⟨Int.le_refl _, fun c _ => ⟨⟨rfl, rfl⟩, fun i n => by
  rw [hv_set, if_neg]
  rintro ⟨rfl, rfl⟩
  exact n (by unfold mkw; omega)⟩⟩
theorem MKf_X {h g : MH} (f : MKf h g) : frX h g := by
  refine ⟨⟨f.1, fun b _ hb => (f.2 b hb).1⟩, fun b b1 b2 ty j => (f.2 b b2).2 j (fun z => ?_)⟩
  unfold mkw wlo whi at z
  rcases ty with t | t | t | t | t | t | t <;> rw [t] at z <;> omega
def plz (g : MH) (k : Int) : Prop := hv g 4 k ≠ 0 ∧ hv g (hv g 4 k) 0 = 0 ∧ (∀ j, 0 ≤ j → j < 16 → fo g (hv g 4 k + 2 + j) = fz) ∧ hv g 73 k = 0 ∧ hv g 74 k = 0 ∧ hv g 75 k = 0 ∧ hv g 76 k = 0 ∧ hv g 77 k = 0 ∧ hv g 79 k = 0
def cez (g : MH) (q : Int) : Prop := cel g q ≠ 0 ∧ fo g (cel g q + 1) = fz ∧ ∀ j, 0 ≤ j → j < 24 → hv g (cel g q + 2) j = 0
def ouz (g : MH) (m : Int) : Prop := hv g (144 + 3 * m) 0 = 0 ∧ hv g (144 + 3 * m) 4 = 0 ∧ hv g (144 + 3 * m) 7 = 0 ∧ fo g (145 + 3 * m) = fz ∧ ∀ j, 0 ≤ j → j < 24 → hv g (146 + 3 * m) j = 0
def saz (g : MH) (L : PG) (i : Int) : Prop := fo g (265 + 3 * i) = f1st (pSk L i) ∧ ∀ j, 0 ≤ j → j < 24 → hv g (266 + 3 * i) j = 0
theorem plz_k {g g' : MH} {k : Int} (s5 : 523 ≤ hv g 4 k) (h : plz g k) (e4 : hv g' 4 k = hv g 4 k) (e7 : ∀ b, b = 73 ∨ b = 74 ∨ b = 75 ∨ b = 76 ∨ b = 77 ∨ b = 79 → hv g' b k = hv g b k) (e0 : hv g' (hv g 4 k) 0 = hv g (hv g 4 k) 0) (e : ∀ b j, hv g 4 k + 2 ≤ b → b < hv g 4 k + 18 → hv g' b j = hv g b j) : plz g' k := by
  obtain ⟨h1, h2, h3, h4, h5, h6, h7, h8, h9⟩ := h
  unfold plz
  rw [e4]
  refine ⟨h1, by rw [e0]; exact h2, fun j j0 j1 => ?_, by rw [e7 73 (by omega)]; exact h4, by rw [e7 74 (by omega)]; exact h5, by rw [e7 75 (by omega)]; exact h6, by rw [e7 76 (by omega)]; exact h7, by rw [e7 77 (by omega)]; exact h8, by rw [e7 79 (by omega)]; exact h9⟩
  rw [← h3 j j0 j1]
  exact fo_eq (fun i => e _ i (by omega) (by omega))
theorem cez_k {g g' : MH} {q : Int} (h : cez g q) (e : cel g' q = cel g q) (e2 : ∀ b j, b = cel g q + 1 ∨ b = cel g q + 2 → hv g' b j = hv g b j) : cez g' q := by
  obtain ⟨h1, h2, h3⟩ := h
  unfold cez
  rw [e]
  exact ⟨h1, by rw [← h2]; exact fo_eq (fun i => e2 _ i (Or.inl rfl)), fun j j0 j1 => by rw [e2 _ j (Or.inr rfl)]; exact h3 j j0 j1⟩
/-- how making room stands -/
def MIx (h : MH) (L : PG) (P B C : Int) (g : MH) : Prop := RMx g ∧ CP g L P ∧ hv g 3 0 = P ∧ bdg g B C ∧ MKf h g
section MK1
variable {l : Launch} {G : JG} {h g g' : MH} {L : PG} {P B C : Int} {Q : Int → MH → Prop} {E : Nat → Int → MH → Prop}
theorem MI_C (m : MIx h L P B C g) (f : frC g g') : MIx h L P B C g' := by
  obtain ⟨m1, m2, m3, m4, m5⟩ := m
  have eS : nSx g' = nSx g := nSx_eq (fun k => frC_4 f k)
  have eC : nCx g' = nCx g := nCx_eq (fun q q0 q1 => cel_eq (fun b j hb => frC_lo f (by omega) (fun z => by unfold wlo at z; omega)) q0 q1)
  refine ⟨RM_frC m1 f, frX_CP (frC_X f) m2, by rw [frC_lo f (by decide) (fun z => by unfold wlo at z; omega)]; exact m3, ?_, MKf_tr m5 (MKf_C f)⟩
  unfold bdg
  rw [eS, eC, h2_hz f.1, h2_hs f.1]
  exact m4
/-- a new state -/
theorem MI_S {n : Int} {g1 : MH} (m : MIx h L P B C g) (n0 : 0 ≤ n) (n1 : n < 1500) (z : hv g 4 n = 0) (z1 : hz g1 = hz g + 18) (s1 : hs g1 = hs g + 100) (so : stO g1 (hz g + 1)) (o : old g g1) : MIx h L P B C (hset g1 4 n (hz g + 1)) := by
  obtain ⟨m1, m2, m3, m4, m5⟩ := m
  have zz := m1.1
  have rm1 := RM_old m1 o (by omega)
  have e4 : ∀ k, hv g1 4 k = hv g 4 k := fun k => (o 4 (by omega)).1 k
  have fr : ∀ k, 0 ≤ k → k < 1500 → hv g1 4 k ≠ hz g + 1 := by
    intro k k0 k1 e
    rw [e4] at e
    rcases m1.2.1 k k0 k1 with q | q
    · omega
    · have := q.1.2.1; omega
  have f1 : MKf g (hset g1 4 n (hz g + 1)) := MKf_tr (MKf_o o (by omega)) (MKf_s (by omega))
  have eS : nSx g1 = nSx g := nSx_eq e4
  have eC1 : nCx g1 = nCx g := nCx_eq (fun q q0 q1 => cel_eq (fun b j hb => (o b (by omega)).1 j) q0 q1)
  have eC2 : nCx (hset g1 4 n (hz g + 1)) = nCx g1 := nCx_eq (fun q q0 q1 => cel_eq (fun b j hb => ne_a (by omega)) q0 q1)
  have eS2 := nSx_set (h := g1) (a := hz g + 1) n0 n1 (by rw [e4]; exact z) (by omega)
  refine ⟨RM_setS rm1 so (by omega) fr n0 n1, frX_CP (MKf_X f1) m2, by rw [ne_a (by decide), (o 3 (by omega)).1]; exact m3, ?_, MKf_tr m5 f1⟩
  unfold bdg at m4 ⊢
  rw [hz_set, hs_set, eC2, eC1, z1, s1]
  omega
theorem MI_Sb {n : Int} (m : MIx h L P B C g) (hB : B ≤ LIMC) (hC : C ≤ LIMS) (n0 : 0 ≤ n) (n1 : n < 1500) (z : hv g 4 n = 0) : hz g + 18 ≤ LIMC ∧ hs g + 100 ≤ LIMS := by
  have eS := nSx_set (h := g) (a := 1) n0 n1 z (by decide)
  have m4 := m.2.2.2.1
  unfold bdg at m4
  omega
/-- a new cell -/
theorem MI_Cl {n b j : Int} {g1 : MH} (m : MIx h L P B C g) (n0 : 0 ≤ n) (n1 : n < 567) (z : cel g n = 0) (hb : (n < 63 ∧ b = 70 ∧ j = n) ∨ (63 ≤ n ∧ b = 7 + (n - 63) / 8 ∧ j = (n - 63) % 8)) (z1 : hz g1 = hz g + 3) (s1 : hs g1 = hs g + 31) (co : clO g1 (hz g + 1)) (o : old g g1) : MIx h L P B C (hset g1 b j (hz g + 1)) ∧ cel (hset g1 b j (hz g + 1)) n = hz g + 1 ∧ ∀ q, 0 ≤ q → q < 567 → q ≠ n → cel (hset g1 b j (hz g + 1)) q = cel g q := by
  obtain ⟨m1, m2, m3, m4, m5⟩ := m
  have zz := m1.1
  have bb : b = 70 ∨ (7 ≤ b ∧ b < 70) := by omega
  have rm1 := RM_old m1 o (by omega)
  have ce : ∀ q, 0 ≤ q → q < 567 → cel g1 q = cel g q := fun q q0 q1 => cel_eq (fun b j hb => (o b (by omega)).1 j) q0 q1
  have fr : ∀ q, 0 ≤ q → q < 567 → cel g1 q ≠ hz g + 1 := by
    intro q q0 q1 e
    rw [ce q q0 q1] at e
    rcases m1.2.2.2.1 q q0 q1 with y | y
    · omega
    · have := y.1.2.1; omega
  have f1 : MKf g (hset g1 b j (hz g + 1)) := MKf_tr (MKf_o o (by omega)) (MKf_s (by omega))
  have eS1 : nSx g1 = nSx g := nSx_eq (fun k => (o 4 (by omega)).1 k)
  have eS2 : nSx (hset g1 b j (hz g + 1)) = nSx g1 := nSx_eq (fun k => ne_a (by omega))
  have eC1 : nCx g1 = nCx g := nCx_eq ce
  have eC2 := nCx_set (h := g1) (a := hz g + 1) n0 n1 (by rw [ce n n0 n1]; exact z) (by omega) hb
  refine ⟨⟨RM_setC rm1 co (by omega) fr n0 n1 hb, frX_CP (MKf_X f1) m2, by rw [ne_a (by omega), (o 3 (by omega)).1]; exact m3, ?_, MKf_tr m5 f1⟩, ?_, fun q q0 q1 qn => ?_⟩
  · unfold bdg at m4 ⊢
    rw [hz_set, hs_set, eS2, eS1, z1, s1]
    omega
  · unfold cel
    rcases hb with ⟨h1, h2, h3⟩ | ⟨h1, h2, h3⟩
    · rw [if_pos h1, h2, h3, eq_a]
    · rw [if_neg (by omega), h2, h3, eq_a]
  · rw [← ce q q0 q1]
    unfold cel
    by_cases y : q < 63
    · rw [if_pos y, if_pos y, hv_set, if_neg (by omega)]
    · rw [if_neg y, if_neg y, hv_set, if_neg (by omega)]
theorem MI_Cb {n : Int} (m : MIx h L P B C g) (hB : B ≤ LIMC) (hC : C ≤ LIMS) (n0 : 0 ≤ n) (n1 : n < 567) (z : cel g n = 0) : hz g + 3 ≤ LIMC ∧ hs g + 31 ≤ LIMS := by
  have eS : ∃ b j, (n < 63 ∧ b = 70 ∧ j = n) ∨ (63 ≤ n ∧ b = 7 + (n - 63) / 8 ∧ j = (n - 63) % 8) := by
    by_cases y : n < 63
    · exact ⟨70, n, Or.inl ⟨y, rfl, rfl⟩⟩
    · exact ⟨_, _, Or.inr ⟨by omega, rfl, rfl⟩⟩
  obtain ⟨b, j, hb⟩ := eS
  have eC := nCx_set (h := g) (a := 1) n0 n1 z (by decide) hb
  have m4 := m.2.2.2.1
  unfold bdg at m4
  omega
end MK1
