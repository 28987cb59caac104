/-! Part 52k: the room is made ready -/
/-- outcomes, sinks and statics are emptied so far -/
def MOx (h : MH) (L : PG) (P B C a b c : Int) (g : MH) : Prop := DNx h L P B C (pNp L) (dB L (pNt L)) g ∧ (∀ m, 0 ≤ m → m < a → ouz g m) ∧ (∀ i, 0 ≤ i → i < b → fo g (288 + i) = fz) ∧ ∀ i, 0 ≤ i → i < c → saz g L i
section MK4
variable {l : Launch} {G : JG} {h g g' : MH} {L : PG} {P B C a b c : Int} {Q : Int → MH → Prop} {E : Nat → Int → MH → Prop}
theorem MO_s (w : WF L) (m : MOx h L P B C a b c g) {x y : Int} (f : frC g g') (xy : 144 ≤ x ∧ y ≤ 296) (ev : ∀ b j, ¬ (x ≤ b ∧ b < y) → hv g' b j = hv g b j) {a' b' c' : Int} (ha : ∀ m, 0 ≤ m → m < a' → ¬ (144 + 3 * m + 2 < x ∨ y ≤ 144 + 3 * m) ∨ a ≤ m → ouz g' m) (hb : ∀ i, 0 ≤ i → i < b' → (x ≤ 288 + i ∧ 288 + i < y) ∨ b ≤ i → fo g' (288 + i) = fz) (hc : ∀ i, 0 ≤ i → i < c' → ¬ (264 + 3 * i + 2 < x ∨ y ≤ 264 + 3 * i) ∨ c ≤ i → saz g' L i) : MOx h L P B C a' b' c' g' := by
  have nn := w.n
  unfold WFn at nn
  obtain ⟨d, m1, m2, m3⟩ := m
  refine ⟨DN_lo d (by omega) f (fun b j hb => ev b j (by omega)) (fun b j hb hb2 => ev b j (by omega)), fun m m0 mx => ?_, fun i i0 ix => ?_, fun i i0 ix => ?_⟩
  · by_cases z : ¬ (144 + 3 * m + 2 < x ∨ y ≤ 144 + 3 * m) ∨ a ≤ m
    · exact ha m m0 mx z
    · obtain ⟨o1, o2, o3, o4, o5⟩ := m1 m m0 (by omega)
      exact ⟨by rw [ev _ _ (by omega)]; exact o1, by rw [ev _ _ (by omega)]; exact o2, by rw [ev _ _ (by omega)]; exact o3, by rw [← o4]; exact fo_eq (fun j => ev _ _ (by omega)), fun j j0 j1 => by rw [ev _ _ (by omega)]; exact o5 j j0 j1⟩
  · by_cases z : (x ≤ 288 + i ∧ 288 + i < y) ∨ b ≤ i
    · exact hb i i0 ix z
    · rw [← m2 i i0 (by omega)]
      exact fo_eq (fun j => ev _ _ (by omega))
  · by_cases z : ¬ (264 + 3 * i + 2 < x ∨ y ≤ 264 + 3 * i) ∨ c ≤ i
    · exact hc i i0 ix z
    · obtain ⟨o1, o2⟩ := m3 i i0 (by omega)
      exact ⟨by rw [← o1]; exact fo_eq (fun j => ev _ _ (by omega)), fun j j0 j1 => by rw [ev _ _ (by omega)]; exact o2 j j0 j1⟩
/-- the outcomes -/
theorem w_mk207 (hG : gO G = true) (w : WF L) {h0 : MH} {K : JC} (ki : KI K l G yX2_make cX2_make 4 none [] 7 211 700 Q E h0) {v1 : Int} (fin : ∀ g, MOx h L P B C 40 0 0 g → JW K 230 [(2002, 3), (16, v1), (0, 0), (5000, 0)] [] g) :
    ∀ N : Nat, ∀ (n : Int) (g : MH), (40 - n).toNat ≤ N → 0 ≤ n → n ≤ 40 → MOx h L P B C n 0 0 g → JW K 207 [(2002, 3), (16, v1), (0, n), (5000, 0)] [] g := by
  intro N
  induction N with
  | zero =>
    intro n g a1 a2 a3 d
    have en : n = 40 := by omega
    subst en
    exact r_X2_make_207 ki hG ⟨fun _ x ex => by subst ex; exact fin g d, fun y => by omega⟩
  | succ N ih =>
    intro n g a1 a2 a3 d
    by_cases en : n = 40
    · exact ih n g (by omega) a2 a3 d
    have oo := d.1.1.1.2.2.2.2.2.2.2.1 n a2 (by omega)
    have v5 := oo.1
    have o1 := oo.2.2.1
    have o8 := oo.2.2.2.2.1
    refine r_X2_make_207 ki hG ⟨fun y => by omega, fun _ => ⟨a2, by omega, ?_⟩⟩
    rw [v5]
    refine ⟨by omega, c_Onone hG a2 oo fun h3 e3 ev q1 q8 z0 z4 z7 zf zu x ex => ?_⟩
    rw [w32_i (by omega) (by omega)] at ex
    subst ex
    have f : frC g h3 := ⟨e3, fun b j x1 x2 => by
      by_cases z : 144 + 3 * n ≤ b ∧ b ≤ 146 + 3 * n
      · by_cases b3 : b = 144 + 3 * n
        · by_cases j1 : j = 1
          · rw [b3, j1, q1, o1]
          · by_cases j8 : j = 8
            · rw [b3, j8, q8, o8]
            · exact absurd (by unfold wlo; omega) x1
        · exact absurd (by unfold wlo; omega) x1
      · exact ev b j z⟩
    refine ih (n + 1) h3 (by omega) (by omega) (by omega) (MO_s w d (x := 144 + 3 * n) (y := 147 + 3 * n) f (by omega) (fun b j z => ev b j (by omega)) (fun m m0 m1 z => ?_) (fun i i0 i1 _ => by omega) (fun i i0 i1 _ => by omega))
    have em : m = n := by omega
    subst em
    exact ⟨z0, z4, z7, zf, zu⟩
/-- the sinks -/
theorem w_mk230 (hG : gO G = true) (w : WF L) {h0 : MH} {K : JC} (ki : KI K l G yX2_make cX2_make 4 none [] 7 211 700 Q E h0) {v1 : Int} (fin : ∀ g, MOx h L P B C 40 8 0 g → JW K 253 [(2002, 3), (16, v1), (0, 0), (5000, 0)] [] g) :
    ∀ N : Nat, ∀ (n : Int) (g : MH), (8 - n).toNat ≤ N → 0 ≤ n → n ≤ 8 → MOx h L P B C 40 n 0 g → JW K 230 [(2002, 3), (16, v1), (0, n), (5000, 0)] [] g := by
  intro N
  induction N with
  | zero =>
    intro n g a1 a2 a3 d
    have en : n = 8 := by omega
    subst en
    exact r_X2_make_230 ki hG ⟨fun _ x ex => by subst ex; exact fin g d, fun y => by omega⟩
  | succ N ih =>
    intro n g a1 a2 a3 d
    by_cases en : n = 8
    · exact ih n g (by omega) a2 a3 d
    have v7 := (d.1.1.1.2.2.2.2.2.2.2.2.2.1 n a2 (by omega)).2
    refine r_X2_make_230 ki hG ⟨fun y => by omega, fun _ => ⟨a2, by omega, ?_⟩⟩
    rw [v7]
    refine ⟨by omega, c_none hG ?_⟩
    intro x ex
    rw [w32_i (by omega) (by omega)] at ex
    subst ex
    refine ih (n + 1) (fw g (288 + n) fz) (by omega) (by omega) (by omega) (MO_s w d (x := 288 + n) (y := 289 + n) (a' := 40) (b' := n + 1) (c' := 0) (g' := fw g (288 + n) fz) ⟨rfl, fun b j x1 x2 => fw_ne (fun z => x1 (by unfold wlo; omega))⟩ (by omega) (fun b j z => fw_ne (by omega)) (fun m m0 m1 z => by omega) (fun i i0 i1 z => ?_) (fun i i0 i1 _ => by omega))
    have em : i = n := by omega
    subst em
    exact fo_fw0 rfl
/-- the statics -/
theorem w_mk253 (hG : gO G = true) (w : WF L) {h0 : MH} {K : JC} (ki : KI K l G yX2_make cX2_make 4 none [] 7 211 700 Q E h0) {v1 : Int} (fin : ∀ g, MOx h L P B C 40 8 (pNs L) g → Q 0 (hset (hset g 3 14 0) 3 15 0)) :
    ∀ N : Nat, ∀ (n : Int) (g : MH), (pNs L - n).toNat ≤ N → 0 ≤ n → n ≤ pNs L → MOx h L P B C 40 8 n g → JW K 253 [(2002, 3), (16, v1), (0, n), (5000, 0)] [] g := by
  have nn := w.n
  unfold WFn at nn
  have st : ∀ g, MIx h L P B C g → hv g 3 0 ≠ 0 ∧ hv g (hv g 3 0) 5 ≠ 0 ∧ hn g (hv g (hv g 3 0) 5) = pNs L ∧ ∀ i, 0 ≤ i → i < pNs L → hv g (hv g (hv g 3 0) 5) i = pSk L i := by
    rintro g ⟨-, cp, e, -⟩
    rw [e]
    obtain ⟨c1, -, -, -, ⟨c5, c6, c7⟩, -⟩ := cp
    exact ⟨by have := c1.1; omega, by have := c5.1; omega, c6, c7⟩
  intro N
  induction N with
  | zero =>
    intro n g a1 a2 a3 d
    have en : n = pNs L := by omega
    subst en
    obtain ⟨s1, s2, s3, s4⟩ := st g d.1.1
    exact r_X2_make_253 ki hG ⟨s1, s2, fun _ h1 e1 h2 e2 => by subst e1 e2; exact fin g d, fun y => by omega⟩
  | succ N ih =>
    intro n g a1 a2 a3 d
    by_cases en : n = pNs L
    · exact ih n g (by omega) a2 a3 d
    obtain ⟨s1, s2, s3, s4⟩ := st g d.1.1
    have v7 := (d.1.1.1.2.2.2.2.2.2.2.2.2.1 n a2 (by omega)).1
    have co := d.1.1.1.2.2.2.2.2.2.1 n a2 (by omega)
    refine r_X2_make_253 ki hG ⟨s1, s2, fun y => by omega, fun _ => ⟨a2, by omega, ?_⟩⟩
    rw [v7]
    refine ⟨by omega, c_Cnone hG co fun h4 e4 ev zf zu => ?_⟩
    have f : frC g h4 := ⟨e4, fun b j x1 x2 => ev b j (fun z => x1 (by unfold wlo; omega)) (fun z => x1 (by unfold wlo; omega))⟩
    have m4 := MI_C d.1.1 f
    obtain ⟨u1, u2, u3, u4⟩ := st h4 m4
    have v7' := (m4.1.2.2.2.2.2.2.2.2.2.1 n a2 (by omega)).1
    have co' := m4.1.2.2.2.2.2.2.1 n a2 (by omega)
    rw [v7', co'.2.2.2.1, u3, u4 n a2 (by omega)]
    refine ⟨a2, by omega, by omega, u1, u2, a2, by omega, by omega, c_first hG ?_⟩
    rw [kfst_f (w.c.2.2.2.2.2.2 n a2 (by omega))]
    intro x ex
    rw [w32_i (by omega) (by omega)] at ex
    subst ex
    refine ih (n + 1) (fw h4 (264 + 3 * n + 1) (f1st (pSk L n))) (by omega) (by omega) (by omega) (MO_s w d (x := 264 + 3 * n) (y := 267 + 3 * n) (a' := 40) (b' := 8) (c' := n + 1) (g' := fw h4 (264 + 3 * n + 1) (f1st (pSk L n))) (frC_tr f ⟨rfl, fun b j x1 x2 => fw_ne (fun z => x1 (by unfold wlo; omega))⟩) (by omega) (fun b j z => by rw [fw_ne (by omega)]; exact ev b j (by omega) (by omega)) (fun m m0 m1 z => by omega) (fun i i0 i1 z => by omega) (fun i i0 i1 z => ?_))
    have em : i = n := by omega
    subst em
    refine ⟨?_, fun j j0 j1 => ?_⟩
    · rw [show (265 : Int) + 3 * i = 264 + 3 * i + 1 by omega, fo_fw0 (asu_f1 _)]
    · rw [fw_ne (by omega), show (266 : Int) + 3 * i = 264 + 3 * i + 2 by omega]
      exact zu j j0 j1
/-- ROOM IS MADE for a program -/
theorem w_make (hG : gO G = true) (w : WF L) (hB : B ≤ LIMC) (hC : C ≤ LIMS) (rm : RMx h) (cp : CP h L P) (bd : bdg h B C) (hQ : ∀ g, MOx h L P B C 40 8 (pNs L) g → hv g 3 14 = 0 → hv g 3 15 = 0 → Q 0 g) : S_X2_make l G [(2002, 3), (16, P)] h Q E := by
  have nn := w.n
  unfold WFn at nn
  refine s_X2_make rfl fun K ki => r_X2_make_0 ki hG fun h1 e1 x ex => ?_
  subst ex
  have f1 : MKf h h1 := by rw [e1]; exact MKf_s (by omega)
  have ne : ∀ b j, b ≠ 3 → hv h1 b j = hv h b j := fun b j hb => by rw [e1]; exact ne_a hb
  have m1 : MIx h L P B C h1 := by
    refine ⟨?_, frX_CP (MKf_X f1) cp, by rw [e1, eq_a], ?_, f1⟩
    · obtain ⟨r0, r1, r2, r3, r4, ⟨r5, r6, r7⟩, r8, r9, r10, r11, r12⟩ := rm
      have ce : ∀ q, 0 ≤ q → q < 567 → cel h1 q = cel h q := fun q q0 q1 => cel_eq (fun b j hb => ne b j (by omega)) q0 q1
      have st : ∀ s, stO h s → s ≠ 3 → s + 1 ≠ 3 → stO h1 s := fun s so x y => by rw [e1]; exact stO_set so (by omega) (by omega)
      have cl : ∀ c, clO h c → 3 ≠ c → clO h1 c := fun c co x => by rw [e1]; exact cl_set co x
      refine ⟨by rw [e1]; exact r0, fun k k0 k1 => ?_, fun k k' k0 k1 k0' k1' nz e => ?_, fun q q0 q1 => ?_, fun q q' q0 q1 q0' q1' nz e => ?_, ⟨st _ r5 (by omega) (by omega), st _ r6 (by omega) (by omega), st _ r7 (by omega) (by omega)⟩, fun i i0 i1 => cl _ (r8 i i0 i1) (by omega), fun m m0 m1 => ?_, fun s s0 s1 => ?_, fun i i0 i1 => ?_, fun i i0 i1 => ?_⟩
      · rw [ne _ _ (by omega)]
        exact (r1 k k0 k1).imp id (fun q => ⟨st _ q.1 (by omega) (by omega), q.2⟩)
      · rw [ne _ _ (by omega)] at nz
        rw [ne _ _ (by omega), ne _ _ (by omega)] at e
        exact r2 k k' k0 k1 k0' k1' nz e
      · rw [ce q q0 q1]
        exact (r3 q q0 q1).imp id (fun y => ⟨cl _ y.1 (by omega), y.2⟩)
      · rw [ce q q0 q1] at nz
        rw [ce q q0 q1, ce q' q0' q1'] at e
        exact r4 q q' q0 q1 q0' q1' nz e
      · obtain ⟨o1, o2, o3, o4, o5, o6, o7⟩ := r9 m m0 m1
        exact ⟨by rw [ne _ _ (by omega)]; exact o1, by rw [e1]; exact o2, by rw [ne _ _ (by omega)]; exact o3, by rw [e1]; exact o4, by rw [ne _ _ (by omega)]; exact o5, by rw [e1]; exact o6, by rw [e1]; exact o7⟩
      · rw [ne _ _ (by omega), e1, hn_set]; exact r10 s s0 s1
      · rw [ne _ _ (by omega), ne _ _ (by omega)]; exact r11 i i0 i1
      · rw [ne _ _ (by omega)]; exact r12 i i0 i1
    · unfold bdg at bd ⊢
      rw [nSx_eq (fun k => ne 4 k (by omega)), nCx_eq (fun q q0 q1 => cel_eq (fun b j hb => ne b j (by omega)) q0 q1), e1, hz_set, hs_set]
      exact bd
  have p5 : ∀ g, MOx h L P B C 40 8 (pNs L) g → Q 0 (hset (hset g 3 14 0) 3 15 0) := by
    intro g d
    have f : frC g (hset (hset g 3 14 0) 3 15 0) := frC_tr (frC_set (by unfold wlo; omega)) (frC_set (by unfold wlo; omega))
    have ev : ∀ b j, b ≠ 3 → hv (hset (hset g 3 14 0) 3 15 0) b j = hv g b j := fun b j hb => by rw [ne_a hb, ne_a hb]
    refine hQ _ ?_ (by rw [ne_k (by decide), eq_a]) eq_a
    obtain ⟨d0, d1, d2, d3⟩ := d
    refine ⟨DN_lo d0 (by omega) f (fun b j hb => ev b j (by omega)) (fun b j hb hb2 => ev b j (by omega)), fun m m0 m1 => ?_, fun i i0 i1 => ?_, fun i i0 i1 => ?_⟩
    · obtain ⟨o1, o2, o3, o4, o5⟩ := d1 m m0 m1
      exact ⟨by rw [ev _ _ (by omega)]; exact o1, by rw [ev _ _ (by omega)]; exact o2, by rw [ev _ _ (by omega)]; exact o3, by rw [← o4]; exact fo_eq (fun j => ev _ _ (by omega)), fun j j0 j1 => by rw [ev _ _ (by omega)]; exact o5 j j0 j1⟩
    · rw [← d2 i i0 i1]
      exact fo_eq (fun j => ev _ _ (by omega))
    · obtain ⟨o1, o2⟩ := d3 i i0 i1
      exact ⟨by rw [← o1]; exact fo_eq (fun j => ev _ _ (by omega)), fun j j0 j1 => by rw [ev _ _ (by omega)]; exact o2 j j0 j1⟩
  have p4 : ∀ g, MOx h L P B C 40 8 0 g → JW K 253 [(2002, 3), (16, P), (0, 0), (5000, 0)] [] g := fun g d => w_mk253 hG w ki p5 _ 0 g (Nat.le_refl _) (by decide) (by omega) d
  have p3 : ∀ g, MOx h L P B C 40 0 0 g → JW K 230 [(2002, 3), (16, P), (0, 0), (5000, 0)] [] g := fun g d => w_mk230 hG w ki p4 _ 0 g (Nat.le_refl _) (by decide) (by omega) d
  have p2 : ∀ g, DNx h L P B C (pNp L) (dB L (pNt L)) g → JW K 207 [(2002, 3), (16, P), (0, 0), (5000, 0)] [] g := fun g d => w_mk207 hG w ki p3 _ 0 g (Nat.le_refl _) (by decide) (by omega) ⟨d, fun m m0 m1 => by omega, fun m m0 m1 => by omega, fun m m0 m1 => by omega⟩
  have p1 : ∀ g, DNx h L P B C (pNp L) (dB L 7) g → JW K 100 [(2002, 3), (16, P), (0, 7), (5000, 0)] [] g := fun g d => w_mk100 hG w hB hC ki p2 _ 7 g (Nat.le_refl _) (by decide) (by omega) d
  exact w_mk7 hG w hB hC ki p1 _ 0 h1 (Nat.le_refl _) (by decide) (by omega) ⟨m1, fun k k0 k1 => by omega, fun q q0 q1 dq => by unfold dB at dq; omega⟩
end MK4
