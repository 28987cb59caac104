/-! Part 52i: the room is emptied for a program (make) -/
/-- how far the room is emptied: places below np, cells of D -/
def DNx (h : MH) (L : PG) (P B C : Int) (np : Int) (D : Int → Prop) (g : MH) : Prop := MIx h L P B C g ∧ (∀ k, 0 ≤ k → k < np → plz g k) ∧ ∀ q, 0 ≤ q → q < 567 → D q → cez g q
section MK2
variable {l : Launch} {G : JG} {h g g' g1 : MH} {L : PG} {P B C np n q : Int} {D : Int → Prop} {Q : Int → MH → Prop} {E : Nat → Int → MH → Prop}
theorem MI_so (m : MIx h L P B C g) {k : Int} (k0 : 0 ≤ k) (k1 : k < 1500) (nz : hv g 4 k ≠ 0) : stO g (hv g 4 k) ∧ 523 ≤ hv g 4 k := (m.1.2.1 k k0 k1).resolve_left nz
theorem MI_co (m : MIx h L P B C g) (q0 : 0 ≤ q) (q1 : q < 567) (nz : cel g q ≠ 0) : clO g (cel g q) ∧ 523 ≤ cel g q := (m.1.2.2.2.1 q q0 q1).resolve_left nz
/-- an object is made and laid -/
theorem DN_o (d : DNx h L P B C np D g) (np1 : np ≤ 1500) (o : old g g1) {b j x : Int} (m2 : MIx h L P B C (hset g1 b j x)) (hb : (b = 4 ∧ np ≤ j) ∨ (7 ≤ b ∧ b ≤ 70)) (ce : ∀ q, 0 ≤ q → q < 567 → cel g q ≠ 0 → cel (hset g1 b j x) q = cel g q) : DNx h L P B C np D (hset g1 b j x) := by
  obtain ⟨m, d1, d2⟩ := d
  have zz := m.1.1
  refine ⟨m2, fun k k0 k1 => ?_, fun q q0 q1 dq => ?_⟩
  · obtain ⟨so, s5⟩ := MI_so m k0 (by omega) (d1 k k0 k1).1
    have top := so.2.1
    refine plz_k s5 (d1 k k0 k1) ?_ (fun b' hb' => ?_) ?_ (fun b' j' h1 h2 => ?_)
    · rw [hv_set, if_neg (by omega)]; exact (o 4 (by omega)).1 k
    · rw [hv_set, if_neg (by omega)]; exact (o b' (by omega)).1 k
    · rw [hv_set, if_neg (by omega)]; exact (o _ (by omega)).1 0
    · rw [hv_set, if_neg (by omega)]; exact (o _ (by omega)).1 j'
  · obtain ⟨co, c5⟩ := MI_co m q0 q1 (d2 q q0 q1 dq).1
    have top := co.2.1
    refine cez_k (d2 q q0 q1 dq) (ce q q0 q1 (d2 q q0 q1 dq).1) (fun b' j' hb' => ?_)
    rw [hv_set, if_neg (by omega)]; exact (o _ (by omega)).1 j'
/-- only low addresses have another content -/
theorem DN_lo (d : DNx h L P B C np D g) (np1 : np ≤ 1500) (f : frC g g') (hi : ∀ b j, 523 ≤ b → hv g' b j = hv g b j) (e7 : ∀ b j, 73 ≤ b → b ≤ 79 → hv g' b j = hv g b j) : DNx h L P B C np D g' := by
  obtain ⟨m, d1, d2⟩ := d
  refine ⟨MI_C m f, fun k k0 k1 => ?_, fun q q0 q1 dq => ?_⟩
  · obtain ⟨so, s5⟩ := MI_so m k0 (by omega) (d1 k k0 k1).1
    exact plz_k s5 (d1 k k0 k1) (frC_4 f k) (fun b' hb' => e7 b' k (by omega) (by omega)) (hi _ _ s5) (fun b' j' h1 h2 => hi _ _ (by omega))
  · obtain ⟨co, c5⟩ := MI_co m q0 q1 (d2 q q0 q1 dq).1
    exact cez_k (d2 q q0 q1 dq) (cel_eq (fun b j hb => frC_lo f (by omega) (fun z => by unfold wlo at z; omega)) q0 q1) (fun b' j' hb' => hi _ _ (by omega))
/-- a cell is emptied -/
theorem DN_c {D' : Int → Prop} (d : DNx h L P B C np D g) (np1 : np ≤ 1500) (q0 : 0 ≤ q) (q1 : q < 567) (nz : cel g q ≠ 0) (e2 : g'.2 = g.2) (ev : ∀ b j, b ≠ cel g q + 1 → b ≠ cel g q + 2 → hv g' b j = hv g b j) (z1 : fo g' (cel g q + 1) = fz) (z2 : ∀ j, 0 ≤ j → j < 24 → hv g' (cel g q + 2) j = 0) (dd : ∀ x, 0 ≤ x → x < 567 → D' x → D x ∨ x = q) : DNx h L P B C np D' g' := by
  obtain ⟨m, d1, d2⟩ := d
  obtain ⟨co, c5⟩ := MI_co m q0 q1 nz
  have co' := co
  obtain ⟨-, -, -, -, t1, -, t2, -⟩ := co'
  have f : frC g g' := ⟨e2, fun b j a1 a2 => ev b j (fun z => a2 ⟨by omega, Or.inl (by rw [z]; exact t1)⟩) (fun z => a2 ⟨by omega, Or.inr (Or.inl (by rw [z]; exact t2))⟩)⟩
  have ce : ∀ x, 0 ≤ x → x < 567 → cel g' x = cel g x := fun x x0 x1 => cel_eq (fun b j hb => frC_lo f (by omega) (fun z => by unfold wlo at z; omega)) x0 x1
  refine ⟨MI_C m f, fun k k0 k1 => ?_, fun x x0 x1 dx => ?_⟩
  · obtain ⟨so, s5⟩ := MI_so m k0 (by omega) (d1 k k0 k1).1
    obtain ⟨y1, y2, y3, y4⟩ := dSC so co
    exact plz_k s5 (d1 k k0 k1) (frC_4 f k) (fun b' hb' => ev _ _ (by omega) (by omega)) (ev _ _ (by omega) (by omega)) (fun b' j' h1 h2 => ev _ _ (by omega) (by omega))
  · by_cases xq : x = q
    · unfold cez
      rw [ce x x0 x1, xq]
      exact ⟨nz, z1, z2⟩
    · have dx' := (dd x x0 x1 dx).resolve_right xq
      have nx := (d2 x x0 x1 dx').1
      obtain ⟨cx, cx5⟩ := MI_co m x0 x1 nx
      have ne : cel g x ≠ cel g q := fun e => xq (m.1.2.2.2.2.1 x q x0 x1 q0 q1 nx e)
      obtain ⟨-, -, -, -, u1, -, u2, -⟩ := cx
      refine cez_k (d2 x x0 x1 dx') (ce x x0 x1) (fun b' j' hb' => ?_)
      rcases hb' with e | e
      · rw [e]
        exact ev _ _ (by omega) (fun z => by rw [z, t2] at u1; cases u1)
      · rw [e]
        exact ev _ _ (fun z => by rw [z, t1] at u2; cases u2) (by omega)
/-- a place is emptied -/
theorem DN_p {g3 : MH} (d : DNx h L P B C n D g) (n0 : 0 ≤ n) (n1 : n < 1500) (nz : hv g 4 n ≠ 0) (on : ons (hv g 4 n) g g3) (z0 : hv g3 (hv g 4 n) 0 = 0) (z1 : ∀ k, 0 ≤ k → k < 16 → fo g3 (hv g 4 n + 2 + k) = fz) (e2 : g'.2 = g3.2) (ev : ∀ b j, ¬ ((b = 73 ∨ b = 74 ∨ b = 75 ∨ b = 76 ∨ b = 77 ∨ b = 79) ∧ j = n) → hv g' b j = hv g3 b j) (ez : ∀ b, (b = 73 ∨ b = 74 ∨ b = 75 ∨ b = 76 ∨ b = 77 ∨ b = 79) → hv g' b n = 0) : DNx h L P B C (n + 1) D g' := by
  obtain ⟨m, d1, d2⟩ := d
  obtain ⟨so, s5⟩ := MI_so m n0 n1 nz
  have so' := so
  obtain ⟨-, -, ts, -, -, -, tf⟩ := so'
  have f3 : frC g g3 := ⟨on.1, fun b j a1 a2 => on.2 b j (fun z => a2 ⟨by omega, Or.inr (Or.inr ⟨by rw [z.1]; exact ts, z.2⟩)⟩) (fun z => a2 ⟨by omega, Or.inl (by
    have := (tf (b - hv g 4 n - 2) (by omega) (by omega)).2
    rw [show hv g 4 n + 2 + (b - hv g 4 n - 2) = b by omega] at this
    exact this)⟩)⟩
  have f4 : frC g3 g' := ⟨e2, fun b j a1 a2 => ev b j (fun z => a1 (by unfold wlo; omega))⟩
  have f := frC_tr f3 f4
  have ev' : ∀ b j, ¬ ((b = 73 ∨ b = 74 ∨ b = 75 ∨ b = 76 ∨ b = 77 ∨ b = 79) ∧ j = n) → ¬ (b = hv g 4 n ∧ (j = 0 ∨ j = 2 ∨ j = 3)) → ¬ (hv g 4 n + 2 ≤ b ∧ b < hv g 4 n + 18) → hv g' b j = hv g b j := fun b j x y z => (ev b j x).trans (on.2 b j y z)
  refine ⟨MI_C m f, fun k k0 k1 => ?_, fun x x0 x1 dx => ?_⟩
  · by_cases kn : k = n
    · subst kn
      unfold plz
      rw [frC_4 f]
      refine ⟨nz, by rw [ev _ _ (by omega)]; exact z0, fun j j0 j1 => ?_, ez _ (by omega), ez _ (by omega), ez _ (by omega), ez _ (by omega), ez _ (by omega), ez _ (by omega)⟩
      rw [← z1 j j0 j1]
      exact fo_eq (fun i => ev _ _ (by omega))
    · have k1' : k < n := by omega
      obtain ⟨sk, sk5⟩ := MI_so m k0 (by omega) (d1 k k0 k1').1
      have ne : hv g 4 n ≠ hv g 4 k := fun e => kn (m.1.2.2.1 n k n0 n1 k0 (by omega) nz e).symm
      have dis := st_dis so sk ne
      refine plz_k sk5 (d1 k k0 k1') (frC_4 f k) (fun b' hb' => ev' _ _ (by omega) (by omega) (by omega)) (ev' _ _ (by omega) (by omega) (fun z => ?_)) (fun b' j' h1 h2 => ?_)
      · have := (tf (hv g 4 k - hv g 4 n - 2) (by omega) (by omega)).2
        rw [show hv g 4 n + 2 + (hv g 4 k - hv g 4 n - 2) = hv g 4 k by omega, sk.2.2.1] at this
        cases this
      · obtain ⟨y1, y2⟩ := dis (b' - hv g 4 k - 2) (by omega) (by omega)
        rw [show hv g 4 k + 2 + (b' - hv g 4 k - 2) = b' by omega] at y1 y2
        exact ev' _ _ (by omega) (by omega) y1
  · obtain ⟨cx, cx5⟩ := MI_co m x0 x1 (d2 x x0 x1 dx).1
    obtain ⟨y1, y2, y3, y4⟩ := dSC so cx
    refine cez_k (d2 x x0 x1 dx) (cel_eq (fun b j hb => frC_lo f (by omega) (fun z => by unfold wlo at z; omega)) x0 x1) (fun b' j' hb' => ?_)
    rcases hb' with e | e
    · rw [e]; exact ev' _ _ (by omega) (by omega) y1
    · rw [e]; exact ev' _ _ (by omega) (by omega) y3
end MK2
