/-! Part 52j: the loops of make -/
def six_ (h : MH) (n : Int) : MH := hset (hset (hset (hset (hset (hset h 73 n 0) 74 n 0) 75 n 0) 76 n 0) 77 n 0) 79 n 0
theorem six_v (h : MH) (n b j : Int) : hv (six_ h n) b j = if (b = 73 ∨ b = 74 ∨ b = 75 ∨ b = 76 ∨ b = 77 ∨ b = 79) ∧ j = n then 0 else hv h b j := by
  unfold six_
  by_cases z : (b = 73 ∨ b = 74 ∨ b = 75 ∨ b = 76 ∨ b = 77 ∨ b = 79) ∧ j = n
  · rw [if_pos z]
    obtain ⟨zb, zj⟩ := z
    subst zj
    rcases zb with e | e | e | e | e | e <;> subst e <;> simp [hv_set]
  · rw [if_neg z]
    rw [hv_set, if_neg (by omega), hv_set, if_neg (by omega), hv_set, if_neg (by omega), hv_set, if_neg (by omega), hv_set, if_neg (by omega), hv_set, if_neg (by omega)]
/-- cells that are emptied: before site s; up to field f of site s -/
def dB (L : PG) (s q : Int) : Prop := (q < 63 ∧ 7 ≤ q ∧ q < s) ∨ (63 ≤ q ∧ 7 ≤ (q - 63) / 8 ∧ (q - 63) / 8 < s ∧ (q - 63) % 8 < nfs L ((q - 63) / 8))
def dA (L : PG) (s f q : Int) : Prop := (q < 63 ∧ 7 ≤ q ∧ q ≤ s) ∨ (63 ≤ q ∧ 7 ≤ (q - 63) / 8 ∧ (((q - 63) / 8 < s ∧ (q - 63) % 8 < nfs L ((q - 63) / 8)) ∨ ((q - 63) / 8 = s ∧ (q - 63) % 8 < f)))
theorem nfs_8 {L : PG} (w : WF L) {s : Int} (hs : inS L s) : 0 ≤ nfs L s ∧ nfs L s ≤ 8 := by
  unfold inS at hs
  unfold nfs
  by_cases z : pSc L s < 0
  · rw [if_pos z]; decide
  · rw [if_neg z]
    have sc := w.sc (s := s) (by omega) hs.2
    exact w.c.2.2.1 (pSc L s) (by omega) (by omega)
section MK3
variable {l : Launch} {G : JG} {h g : MH} {L : PG} {P B C n : Int} {D : Int → Prop} {Q : Int → MH → Prop} {E : Nat → Int → MH → Prop}
theorem MI_np (m : MIx h L P B C g) : hv g 3 0 ≠ 0 ∧ hv g (hv g 3 0) 7 = pNp L ∧ hv g (hv g 3 0) 8 = pNt L - 7 := by
  obtain ⟨-, cp, e, -⟩ := m
  rw [e]
  exact ⟨by have := cp.1.1; omega, cp.2.1.2.1, cp.2.1.2.2⟩
/-- the places -/
theorem w_mk7 (hG : gO G = true) (w : WF L) (hB : B ≤ LIMC) (hC : C ≤ LIMS) {h0 : MH} {K : JC} (ki : KI K l G yX2_make cX2_make 4 none [] 7 211 700 Q E h0) {v1 : Int} (fin : ∀ g, DNx h L P B C (pNp L) D g → JW K 100 [(2002, 3), (16, v1), (0, 7), (5000, 0)] [] g) :
    ∀ N : Nat, ∀ (n : Int) (g : MH), (pNp L - n).toNat ≤ N → 0 ≤ n → n ≤ pNp L → DNx h L P B C n D g → JW K 7 [(2002, 3), (16, v1), (0, n), (5000, 0)] [] g := by
  have nn := w.n
  unfold WFn at nn
  have last : ∀ g, DNx h L P B C (pNp L) D g → JW K 7 [(2002, 3), (16, v1), (0, pNp L), (5000, 0)] [] g := by
    intro g d
    obtain ⟨p1, p2, p3⟩ := MI_np d.1
    refine r_X2_make_7 ki hG ⟨p1, fun _ x ex => ?_, fun y => by omega⟩
    subst ex
    exact fin g d
  intro N
  induction N with
  | zero =>
    intro n g a1 a2 a3 d
    have en : n = pNp L := by omega
    subst en
    exact last g d
  | succ N ih =>
    intro n g a1 a2 a3 d
    by_cases en : n = pNp L
    · subst en
      exact last g d
    have n1 : n < 1500 := by omega
    have tail : ∀ g2 g3 : MH, DNx h L P B C n D g2 → hv g2 4 n ≠ 0 → ons (hv g2 4 n) g2 g3 → hv g3 (hv g2 4 n) 0 = 0 → (∀ k, 0 ≤ k → k < 16 → fo g3 (hv g2 4 n + 2 + k) = fz) → JW K 7 [(2002, 3), (16, v1), (0, w32 (n + 1)), (5000, 0)] [] (six_ g3 n) := by
      intro g2 g3 d2 nz on z0 z1
      rw [w32_i (by omega) (by omega)]
      exact ih (n + 1) _ (by omega) (by omega) (by omega) (DN_p d2 a2 n1 nz on z0 z1 rfl (fun b j z => by rw [six_v, if_neg z]) (fun b hb => by rw [six_v, if_pos ⟨hb, rfl⟩]))
    obtain ⟨p1, p2, p3⟩ := MI_np d.1
    refine r_X2_make_7 ki hG ⟨p1, fun y => by omega, fun _ => ⟨a2, n1, fun nz => ⟨a2, n1, nz, ?_⟩, fun z => ?_⟩⟩
    · refine c_Snone hG (MI_so d.1 a2 n1 nz).1 fun h3 o3 q0 q2 q3 q4 => ⟨a2, n1, fun h4 e4 => ⟨a2, n1, fun h5 e5 => ⟨a2, n1, Or.inl rfl, fun h6 e6 => ⟨a2, n1, Or.inl rfl, fun h7 e7 => ⟨a2, n1, fun h8 e8 => ⟨a2, n1, Or.inl rfl, fun h9 e9 x ex => ?_⟩⟩⟩⟩⟩⟩
      subst e4 e5 e6 e7 e8 e9 ex
      exact tail g h3 d nz o3 q0 q4
    · obtain ⟨b1', b2⟩ := MI_Sb d.1 hB hC a2 n1 z
      have zz := d.1.1.1
      refine ⟨by omega, by omega, fun h11 e11 => ?_⟩
      subst e11
      refine c_newS hG (by omega) b1' b2 fun h13 z13 s13 so o => ⟨a2, n1, fun h14 e14 => ?_⟩
      have m14 := MI_S d.1 a2 n1 z z13 s13 so o
      have d14 := DN_o d (by omega) o m14 (Or.inl ⟨rfl, Int.le_refl _⟩) (fun q q0 q1 _ => by
        refine cel_eq (fun b j hb => ?_) q0 q1
        rw [ne_a (by omega)]
        exact (o b (by omega)).1 j)
      rw [← e14] at m14 d14
      have v14 : hv h14 4 n = hz g + 1 := by rw [e14, eq_a]
      have nz : hv h14 4 n ≠ 0 := by omega
      refine ⟨a2, n1, nz, c_Snone hG (MI_so m14 a2 n1 nz).1 fun h3 o3 q0 q2 q3 q4 => ⟨a2, n1, fun h4 e4 => ⟨a2, n1, fun h5 e5 => ⟨a2, n1, Or.inl rfl, fun h6 e6 => ⟨a2, n1, Or.inl rfl, fun h7 e7 => ⟨a2, n1, fun h8 e8 => ⟨a2, n1, Or.inl rfl, fun h9 e9 x ex => ?_⟩⟩⟩⟩⟩⟩⟩
      subst e4 e5 e6 e7 e8 e9 ex
      exact tail h14 h3 d14 nz o3 q0 q4
/-- the fields of a site -/
theorem w_mk147 (hG : gO G = true) (w : WF L) (hB : B ≤ LIMC) (hC : C ≤ LIMS) {h0 : MH} {K : JC} (ki : KI K l G yX2_make cX2_make 4 none [] 7 211 700 Q E h0) {v1 s : Int} (hs : inS L s) (fin : ∀ g, DNx h L P B C (pNp L) (dB L (s + 1)) g → JW K 100 [(2002, 3), (16, v1), (0, s + 1), (5000, 0)] [] g) :
    ∀ N : Nat, ∀ (f : Int) (g : MH), (nfs L s - f).toNat ≤ N → 0 ≤ f → f ≤ nfs L s → DNx h L P B C (pNp L) (dA L s f) g → JW K 147 [(2002, 3), (16, v1), (0, s), (0, f)] [] g := by
  have nn := w.n
  unfold WFn at nn
  have n8 := nfs_8 w hs
  have hs' := hs
  unfold inS at hs'
  have last : ∀ g, DNx h L P B C (pNp L) (dA L s (nfs L s)) g → JW K 147 [(2002, 3), (16, v1), (0, s), (0, nfs L s)] [] g := by
    intro g d
    have cp := d.1.2.1
    rw [← d.1.2.2.1] at cp
    refine r_X2_make_147 ki hG (c_fieldsOf hG w cp (by omega) (by omega) ⟨fun _ x ex => ?_, fun y => by omega⟩)
    rw [w32_i (by omega) (by omega)] at ex
    subst ex
    refine fin g ⟨d.1, d.2.1, fun q q0 q1 dq => d.2.2 q q0 q1 ?_⟩
    unfold dB at dq
    unfold dA
    rcases dq with ⟨y1, y2, y3⟩ | ⟨y1, y2, y3, y4⟩
    · exact Or.inl ⟨y1, y2, by omega⟩
    · refine Or.inr ⟨y1, y2, ?_⟩
      by_cases e : (q - 63) / 8 = s
      · rw [e] at y4
        exact Or.inr ⟨e, y4⟩
      · exact Or.inl ⟨by omega, y4⟩
  intro N
  induction N with
  | zero =>
    intro n g a1 a2 a3 d
    have en : n = nfs L s := by omega
    subst en
    exact last g d
  | succ N ih =>
    intro n g a1 a2 a3 d
    by_cases en : n = nfs L s
    · subst en
      exact last g d
    have hq : ∃ q : Int, q = 63 + 8 * s + n := ⟨_, rfl⟩
    obtain ⟨q, eq⟩ := hq
    have q0 : 63 ≤ q := by omega
    have q1 : q < 567 := by omega
    have qd : (q - 63) / 8 = s := by omega
    have qm : (q - 63) % 8 = n := by omega
    have ceq : ∀ g2 : MH, cel g2 q = hv g2 (7 + s) n := by
      intro g2
      unfold cel
      rw [if_neg (by omega), qd, qm]
    have dd : ∀ x, 0 ≤ x → x < 567 → dA L s (n + 1) x → dA L s n x ∨ x = q := by
      intro x x0 x1 dx
      unfold dA at dx ⊢
      rcases dx with y | ⟨y1, y2, y3 | ⟨y3, y4⟩⟩
      · exact Or.inl (Or.inl y)
      · exact Or.inl (Or.inr ⟨y1, y2, Or.inl y3⟩)
      · by_cases z : (x - 63) % 8 = n
        · right; omega
        · exact Or.inl (Or.inr ⟨y1, y2, Or.inr ⟨y3, by omega⟩⟩)
    have cp := d.1.2.1
    rw [← d.1.2.2.1] at cp
    have r6 := d.1.1.2.2.2.2.2.2.2.2.1 s (by omega) (by omega)
    refine r_X2_make_147 ki hG (c_fieldsOf hG w cp (by omega) (by omega) ⟨fun y => by omega, fun _ => ?_⟩)
    rw [r6.1, r6.2, ← ceq g]
    refine ⟨by omega, by omega, by omega, a2, by omega, fun nz => ⟨by omega, by omega, by omega, a2, by omega, nz, ?_⟩, fun z => ⟨by omega, by omega, ?_⟩⟩
    · refine c_Cnone hG (MI_co d.1 (by omega) q1 nz).1 fun h5 e5 ev z1 z2 x ex => ?_
      rw [w32_i (by omega) (by omega)] at ex
      subst ex
      exact ih (n + 1) h5 (by omega) (by omega) (by omega) (DN_c d (by omega) (by omega) q1 nz e5 ev z1 z2 dd)
    · obtain ⟨b1', b2⟩ := MI_Cb d.1 hB hC (by omega) q1 z
      have zz := d.1.1.1
      refine ⟨by omega, by omega, fun h7 e7 => ?_⟩
      subst e7
      refine c_newC hG (by omega) b1' b2 fun h9 z9 s9 co o => ⟨by omega, a2, by rw [(o _ (by omega)).2.2, r6.2]; omega, fun h10 e10 => ?_⟩
      obtain ⟨m10, c10, ce⟩ := MI_Cl (b := 7 + s) (j := n) d.1 (show 0 ≤ q by omega) q1 z (Or.inr ⟨q0, by omega, by omega⟩) z9 s9 co o
      have d10 := DN_o d (by omega) o m10 (Or.inr (by omega)) (fun x x0 x1 nx => ce x x0 x1 (fun e => nx (by rw [e]; exact z)))
      rw [← e10] at m10 c10 d10
      have nz : cel h10 q ≠ 0 := by rw [c10]; omega
      have r6' := m10.1.2.2.2.2.2.2.2.2.1 s (by omega) (by omega)
      rw [r6'.1, r6'.2, ← ceq h10]
      refine ⟨by omega, by omega, by omega, a2, by omega, nz, ?_⟩
      refine c_Cnone hG (MI_co m10 (by omega) q1 nz).1 fun h5 e5 ev z1 z2 x ex => ?_
      rw [w32_i (by omega) (by omega)] at ex
      subst ex
      exact ih (n + 1) h5 (by omega) (by omega) (by omega) (DN_c d10 (by omega) (by omega) q1 nz e5 ev z1 z2 dd)
/-- the sites -/
theorem w_mk100 (hG : gO G = true) (w : WF L) (hB : B ≤ LIMC) (hC : C ≤ LIMS) {h0 : MH} {K : JC} (ki : KI K l G yX2_make cX2_make 4 none [] 7 211 700 Q E h0) {v1 : Int} (fin : ∀ g, DNx h L P B C (pNp L) (dB L (pNt L)) g → JW K 207 [(2002, 3), (16, v1), (0, 0), (5000, 0)] [] g) :
    ∀ N : Nat, ∀ (s : Int) (g : MH), (pNt L - s).toNat ≤ N → 7 ≤ s → s ≤ pNt L → DNx h L P B C (pNp L) (dB L s) g → JW K 100 [(2002, 3), (16, v1), (0, s), (5000, 0)] [] g := by
  have nn := w.n
  unfold WFn at nn
  have last : ∀ g, DNx h L P B C (pNp L) (dB L (pNt L)) g → JW K 100 [(2002, 3), (16, v1), (0, pNt L), (5000, 0)] [] g := by
    intro g d
    obtain ⟨p1, p2, p3⟩ := MI_np d.1
    refine r_X2_make_100 ki hG ?_
    rw [p3, w32_i (by omega) (by omega)]
    refine ⟨p1, fun _ x ex => ?_, fun y => by omega⟩
    subst ex
    exact fin g d
  intro N
  induction N with
  | zero =>
    intro n g a1 a2 a3 d
    have en : n = pNt L := by omega
    subst en
    exact last g d
  | succ N ih =>
    intro n g a1 a2 a3 d
    by_cases en : n = pNt L
    · subst en
      exact last g d
    have hs : inS L n := ⟨a2, by omega⟩
    have n8 := nfs_8 w hs
    have ceq : ∀ g2 : MH, cel g2 n = hv g2 70 n := by
      intro g2
      unfold cel
      rw [if_pos (by omega)]
    have dd : ∀ x, 0 ≤ x → x < 567 → dA L n 0 x → dB L n x ∨ x = n := by
      intro x x0 x1 dx
      unfold dA at dx
      unfold dB
      rcases dx with ⟨y1, y2, y3⟩ | ⟨y1, y2, y3 | ⟨y3, y4⟩⟩
      · by_cases z : x = n
        · exact Or.inr z
        · exact Or.inl (Or.inl ⟨y1, y2, by omega⟩)
      · exact Or.inl (Or.inr ⟨y1, y2, y3.1, y3.2⟩)
      · omega
    obtain ⟨p1, p2, p3⟩ := MI_np d.1
    have go := w_mk147 (h := h) (P := P) (B := B) (C := C) hG w hB hC ki hs (v1 := v1) (fun g2 d2 => ih (n + 1) g2 (by omega) (by omega) (by omega) d2) (nfs L n - 0).toNat 0
    refine r_X2_make_100 ki hG ?_
    rw [p3, w32_i (by omega) (by omega), ← ceq g]
    refine ⟨p1, fun y => by omega, fun _ => ⟨by omega, by omega, fun nz => ⟨by omega, by omega, nz, ?_⟩, fun z => ?_⟩⟩
    · refine c_Cnone hG (MI_co d.1 (by omega) (by omega) nz).1 fun h5 e5 ev z1 z2 x ex => ?_
      subst ex
      exact go h5 (Nat.le_refl _) (by decide) n8.1 (DN_c d (by omega) (by omega) (by omega) nz e5 ev z1 z2 dd)
    · obtain ⟨b1', b2⟩ := MI_Cb d.1 hB hC (by omega) (by omega) z
      have zz := d.1.1.1
      refine ⟨by omega, by omega, fun h7 e7 => ?_⟩
      subst e7
      refine c_newC hG (by omega) b1' b2 fun h9 z9 s9 co o => ⟨by omega, by omega, fun h10 e10 => ?_⟩
      obtain ⟨m10, c10, ce⟩ := MI_Cl (b := 70) (j := n) d.1 (show 0 ≤ n by omega) (by omega) z (Or.inl ⟨by omega, rfl, rfl⟩) z9 s9 co o
      have d10 := DN_o d (by omega) o m10 (Or.inr (by omega)) (fun x x0 x1 nx => ce x x0 x1 (fun e => nx (by rw [e]; exact z)))
      rw [← e10] at m10 c10 d10
      have nz : cel h10 n ≠ 0 := by rw [c10]; omega
      rw [← ceq h10]
      refine ⟨by omega, by omega, nz, ?_⟩
      refine c_Cnone hG (MI_co m10 (by omega) (by omega) nz).1 fun h5 e5 ev z1 z2 x ex => ?_
      subst ex
      exact go h5 (Nat.le_refl _) (by decide) n8.1 (DN_c d10 (by omega) (by omega) (by omega) nz e5 ev z1 z2 dd)
end MK3
