/-! Part 52g: the room for facts, whatever the program -/
/-- where the cells lie: lengths, then fields and elements -/
def cel (h : MH) (q : Int) : Int := if q < 63 then hv h 70 q else hv h (7 + (q - 63) / 8) ((q - 63) % 8)
def RMx (h : MH) : Prop := 522 ≤ hz h ∧ (∀ k, 0 ≤ k → k < 1500 → hv h 4 k = 0 ∨ (stO h (hv h 4 k) ∧ 523 ≤ hv h 4 k)) ∧ (∀ k k', 0 ≤ k → k < 1500 → 0 ≤ k' → k' < 1500 → hv h 4 k ≠ 0 → hv h 4 k = hv h 4 k' → k = k') ∧
  (∀ q, 0 ≤ q → q < 567 → cel h q = 0 ∨ (clO h (cel h q) ∧ 523 ≤ cel h q)) ∧ (∀ q q', 0 ≤ q → q < 567 → 0 ≤ q' → q' < 567 → cel h q ≠ 0 → cel h q = cel h q' → q = q') ∧
  (stO h 80 ∧ stO h 98 ∧ stO h 116) ∧ (∀ i, 0 ≤ i → i < 8 → clO h (264 + 3 * i)) ∧ (∀ m, 0 ≤ m → m < 40 → ouO h m) ∧ (∀ s, 0 ≤ s → s < 63 → hv h 6 s = 7 + s ∧ hn h (7 + s) = 8) ∧ (∀ i, 0 ≤ i → i < 8 → hv h 71 i = 264 + 3 * i ∧ hv h 72 i = 288 + i) ∧ (∀ i, 0 ≤ i → i < 4 → hv h 138 i = 139 + i)
section RMS
variable {h g : MH} {L : PG}
theorem cel_eq (e : ∀ b j, b = 70 ∨ (7 ≤ b ∧ b < 70) → hv g b j = hv h b j) {q : Int} (q0 : 0 ≤ q) (q1 : q < 567) : cel g q = cel h q := by
  unfold cel
  by_cases z : q < 63
  · rw [if_pos z, if_pos z]; exact e _ _ (Or.inl rfl)
  · rw [if_neg z, if_neg z]; exact e _ _ (Or.inr (by omega))
theorem RM_frC (r : RMx h) (f : frC h g) : RMx g := by
  obtain ⟨r0, r1, r2, r3, r4, ⟨r5, r6, r7⟩, r8, r9, r10, r11, r12⟩ := r
  have ce : ∀ q, 0 ≤ q → q < 567 → cel g q = cel h q := fun q q0 q1 => cel_eq (fun b j hb => frC_lo f (by omega) (fun z => by unfold wlo at z; omega)) q0 q1
  refine ⟨by rw [h2_hz f.1]; exact r0, fun k k0 k1 => ?_, fun k k' k0 k1 k0' k1' nz e => ?_, fun q q0 q1 => ?_, fun q q' q0 q1 q0' q1' nz e => ?_, ⟨frC_st f (by omega) r5, frC_st f (by omega) r6, frC_st f (by omega) r7⟩, fun i i0 i1 => frC_cl f (by omega) (r8 i i0 i1), fun m m0 m1 => frC_ou f m0 m1 (r9 m m0 m1), fun s s0 s1 => ?_, fun i i0 i1 => ?_, fun i i0 i1 => ?_⟩
  · rw [frC_4 f]
    exact (r1 k k0 k1).imp id (fun q => ⟨frC_st f (Or.inl q.2) q.1, q.2⟩)
  · rw [frC_4 f] at nz
    rw [frC_4 f, frC_4 f] at e
    exact r2 k k' k0 k1 k0' k1' nz e
  · rw [ce q q0 q1]
    exact (r3 q q0 q1).imp id (fun z => ⟨frC_cl f (Or.inl z.2) z.1, z.2⟩)
  · rw [ce q q0 q1] at nz
    rw [ce q q0 q1, ce q' q0' q1'] at e
    exact r4 q q' q0 q1 q0' q1' nz e
  · rw [frC_lo f (by decide) (fun z => by unfold wlo at z; omega), h2_hn f.1]; exact r10 s s0 s1
  · rw [frC_lo f (by decide) (fun z => by unfold wlo at z; omega), frC_lo f (by decide) (fun z => by unfold wlo at z; omega)]; exact r11 i i0 i1
  · rw [frC_lo f (by decide) (fun z => by unfold wlo at z; omega)]; exact r12 i i0 i1
theorem old_st (o : old h g) (z : hz h ≤ hz g) {s : Int} (so : stO h s) : stO g s := by
  obtain ⟨s1, s2, s3, s4, s5, s6, s7⟩ := so
  exact ⟨s1, by omega, by rw [(o s (by omega)).2.1]; exact s3, by rw [(o s (by omega)).1]; exact s4, by rw [(o _ (by omega)).2.1]; exact s5, by rw [(o _ (by omega)).2.2]; exact s6, fun k k0 k1 => ⟨by rw [(o _ (by omega)).1]; exact (s7 k k0 k1).1, by rw [(o _ (by omega)).2.1]; exact (s7 k k0 k1).2⟩⟩
theorem old_cl (o : old h g) (z : hz h ≤ hz g) {c : Int} (co : clO h c) : clO g c := by
  obtain ⟨c1, c2, c3, c4, c5, c6, c7, c8⟩ := co
  exact ⟨c1, by omega, by rw [(o _ (by omega)).2.1]; exact c3, by rw [(o _ (by omega)).1]; exact c4, by rw [(o _ (by omega)).2.1]; exact c5, by rw [(o _ (by omega)).1]; exact c6, by rw [(o _ (by omega)).2.1]; exact c7, by rw [(o _ (by omega)).2.2]; exact c8⟩
theorem RM_old (r : RMx h) (o : old h g) (z : hz h ≤ hz g) : RMx g := by
  obtain ⟨r0, r1, r2, r3, r4, ⟨r5, r6, r7⟩, r8, r9, r10, r11, r12⟩ := r
  have ce : ∀ q, 0 ≤ q → q < 567 → cel g q = cel h q := fun q q0 q1 => cel_eq (fun b j hb => (o b (by omega)).1 j) q0 q1
  have e4 : ∀ k, hv g 4 k = hv h 4 k := fun k => (o 4 (by omega)).1 k
  refine ⟨by omega, fun k k0 k1 => ?_, fun k k' k0 k1 k0' k1' nz e => ?_, fun q q0 q1 => ?_, fun q q' q0 q1 q0' q1' nz e => ?_, ⟨old_st o z r5, old_st o z r6, old_st o z r7⟩, fun i i0 i1 => old_cl o z (r8 i i0 i1), fun m m0 m1 => ?_, fun s s0 s1 => ?_, fun i i0 i1 => ?_, fun i i0 i1 => ?_⟩
  · rw [e4]
    exact (r1 k k0 k1).imp id (fun q => ⟨old_st o z q.1, q.2⟩)
  · rw [e4] at nz
    rw [e4, e4] at e
    exact r2 k k' k0 k1 k0' k1' nz e
  · rw [ce q q0 q1]
    exact (r3 q q0 q1).imp id (fun y => ⟨old_cl o z y.1, y.2⟩)
  · rw [ce q q0 q1] at nz
    rw [ce q q0 q1, ce q' q0' q1'] at e
    exact r4 q q' q0 q1 q0' q1' nz e
  · obtain ⟨o1, o2, o3, o4, o5, o6, o7⟩ := r9 m m0 m1
    exact ⟨by rw [(o _ (by omega)).1]; exact o1, by rw [(o _ (by omega)).2.1]; exact o2, by rw [(o _ (by omega)).1]; exact o3, by rw [(o _ (by omega)).2.1]; exact o4, by rw [(o _ (by omega)).1]; exact o5, by rw [(o _ (by omega)).2.1]; exact o6, by rw [(o _ (by omega)).2.2]; exact o7⟩
  · rw [(o _ (by omega)).1, (o _ (by omega)).2.2]; exact r10 s s0 s1
  · rw [(o _ (by omega)).1, (o _ (by omega)).1]; exact r11 i i0 i1
  · rw [(o _ (by omega)).1]; exact r12 i i0 i1
theorem cl_set {c a k x : Int} (co : clO h c) (e : a ≠ c) : clO (hset h a k x) c := by
  obtain ⟨c1, c2, c3, c4, c5, c6, c7, c8⟩ := co
  exact ⟨c1, c2, c3, by rw [ne_a (Ne.symm e)]; exact c4, c5, by rw [ne_a (Ne.symm e)]; exact c6, c7, c8⟩
/-- a new state has its place -/
theorem RM_setS (r : RMx h) {n a : Int} (so : stO h a) (a5 : 523 ≤ a) (fr : ∀ k, 0 ≤ k → k < 1500 → hv h 4 k ≠ a) (n0 : 0 ≤ n) (n1 : n < 1500) : RMx (hset h 4 n a) := by
  obtain ⟨r0, r1, r2, r3, r4, ⟨r5, r6, r7⟩, r8, r9, r10, r11, r12⟩ := r
  have ne : ∀ b j, b ≠ 4 → hv (hset h 4 n a) b j = hv h b j := fun b j hb => ne_a hb
  have ce : ∀ q, 0 ≤ q → q < 567 → cel (hset h 4 n a) q = cel h q := fun q q0 q1 => cel_eq (fun b j hb => ne b j (by omega)) q0 q1
  refine ⟨r0, fun k k0 k1 => ?_, fun k k' k0 k1 k0' k1' nz e => ?_, fun q q0 q1 => ?_, fun q q' q0 q1 q0' q1' nz e => ?_, ⟨stO_set r5 (by omega) (by omega), stO_set r6 (by omega) (by omega), stO_set r7 (by omega) (by omega)⟩, fun i i0 i1 => cl_set (r8 i i0 i1) (by omega), fun m m0 m1 => ?_, fun s s0 s1 => ?_, fun i i0 i1 => ?_, fun i i0 i1 => ?_⟩
  · by_cases z : k = n
    · rw [z, eq_a]
      exact Or.inr ⟨stO_set so (by omega) (by omega), a5⟩
    · rw [ne_k z]
      exact (r1 k k0 k1).imp id (fun q => ⟨stO_set q.1 (by omega) (by omega), q.2⟩)
  · by_cases z : k = n
    · by_cases z' : k' = n
      · omega
      · exfalso
        rw [z, eq_a, ne_k z'] at e
        exact fr k' k0' k1' e.symm
    · by_cases z' : k' = n
      · exfalso
        rw [z', eq_a, ne_k z] at e
        exact fr k k0 k1 e
      · rw [ne_k z] at nz
        rw [ne_k z, ne_k z'] at e
        exact r2 k k' k0 k1 k0' k1' nz e
  · rw [ce q q0 q1]
    exact (r3 q q0 q1).imp id (fun y => ⟨cl_set y.1 (by omega), y.2⟩)
  · rw [ce q q0 q1] at nz
    rw [ce q q0 q1, ce q' q0' q1'] at e
    exact r4 q q' q0 q1 q0' q1' nz e
  · obtain ⟨o1, o2, o3, o4, o5, o6, o7⟩ := r9 m m0 m1
    exact ⟨by rw [ne _ _ (by omega)]; exact o1, o2, by rw [ne _ _ (by omega)]; exact o3, o4, by rw [ne _ _ (by omega)]; exact o5, o6, o7⟩
  · rw [ne _ _ (by omega)]; exact r10 s s0 s1
  · rw [ne _ _ (by omega), ne _ _ (by omega)]; exact r11 i i0 i1
  · rw [ne _ _ (by omega)]; exact r12 i i0 i1
/-- a new cell has its place -/
theorem RM_setC (r : RMx h) {n a b j : Int} (co : clO h a) (a5 : 523 ≤ a) (fr : ∀ q, 0 ≤ q → q < 567 → cel h q ≠ a) (n0 : 0 ≤ n) (n1 : n < 567) (hb : (n < 63 ∧ b = 70 ∧ j = n) ∨ (63 ≤ n ∧ b = 7 + (n - 63) / 8 ∧ j = (n - 63) % 8)) : RMx (hset h b j a) := by
  obtain ⟨r0, r1, r2, r3, r4, ⟨r5, r6, r7⟩, r8, r9, r10, r11, r12⟩ := r
  have bb : b = 70 ∨ (7 ≤ b ∧ b < 70) := by omega
  have ne : ∀ x y, x ≠ b → hv (hset h b j a) x y = hv h x y := fun x y hx => ne_a hx
  have cn : cel (hset h b j a) n = a := by
    unfold cel
    rcases hb with ⟨h1, h2, h3⟩ | ⟨h1, h2, h3⟩
    · rw [if_pos h1, h2, h3, eq_a]
    · rw [if_neg (by omega), h2, h3, eq_a]
  have ce : ∀ q, 0 ≤ q → q < 567 → q ≠ n → cel (hset h b j a) q = cel h q := by
    intro q q0 q1 qn
    unfold cel
    by_cases z : q < 63
    · rw [if_pos z, if_pos z, hv_set, if_neg (by omega)]
    · rw [if_neg z, if_neg z, hv_set, if_neg (by omega)]
  have e4 : ∀ k, hv (hset h b j a) 4 k = hv h 4 k := fun k => ne 4 k (by omega)
  refine ⟨r0, fun k k0 k1 => ?_, fun k k' k0 k1 k0' k1' nz e => ?_, fun q q0 q1 => ?_, fun q q' q0 q1 q0' q1' nz e => ?_, ⟨stO_set r5 (by omega) (by omega), stO_set r6 (by omega) (by omega), stO_set r7 (by omega) (by omega)⟩, fun i i0 i1 => cl_set (r8 i i0 i1) (by omega), fun m m0 m1 => ?_, fun s s0 s1 => ?_, fun i i0 i1 => ?_, fun i i0 i1 => ?_⟩
  · rw [e4]
    exact (r1 k k0 k1).imp id (fun q => ⟨stO_set q.1 (by omega) (by omega), q.2⟩)
  · rw [e4] at nz
    rw [e4, e4] at e
    exact r2 k k' k0 k1 k0' k1' nz e
  · by_cases z : q = n
    · rw [z, cn]
      exact Or.inr ⟨cl_set co (by omega), a5⟩
    · rw [ce q q0 q1 z]
      exact (r3 q q0 q1).imp id (fun y => ⟨cl_set y.1 (by omega), y.2⟩)
  · by_cases z : q = n
    · by_cases z' : q' = n
      · omega
      · exfalso
        rw [z, cn, ce q' q0' q1' z'] at e
        exact fr q' q0' q1' e.symm
    · by_cases z' : q' = n
      · exfalso
        rw [z', cn, ce q q0 q1 z] at e
        exact fr q q0 q1 e
      · rw [ce q q0 q1 z] at nz
        rw [ce q q0 q1 z, ce q' q0' q1' z'] at e
        exact r4 q q' q0 q1 q0' q1' nz e
  · obtain ⟨o1, o2, o3, o4, o5, o6, o7⟩ := r9 m m0 m1
    exact ⟨by rw [ne _ _ (by omega)]; exact o1, o2, by rw [ne _ _ (by omega)]; exact o3, o4, by rw [ne _ _ (by omega)]; exact o5, o6, o7⟩
  · rw [ne _ _ (by omega)]; exact r10 s s0 s1
  · rw [ne _ _ (by omega), ne _ _ (by omega)]; exact r11 i i0 i1
  · rw [ne _ _ (by omega)]; exact r12 i i0 i1
/-- how much room is still to be made -/
def nSx (h : MH) : Nat := sm 1500 (fun k => if hv h 4 (k : Int) = 0 then 1 else 0)
def nCx (h : MH) : Nat := sm 567 (fun q => if cel h (q : Int) = 0 then 1 else 0)
def bdg (h : MH) (B C : Int) : Prop := hz h + 18 * nSx h + 3 * nCx h ≤ B ∧ hs h + 100 * nSx h + 31 * nCx h ≤ C
theorem nSx_eq (e : ∀ k, hv g 4 k = hv h 4 k) : nSx g = nSx h := by
  unfold nSx
  congr 1
  funext k
  rw [e]
theorem sm_cong {n : Nat} {f g : Nat → Nat} (h : ∀ i, i < n → f i = g i) : sm n f = sm n g := Nat.le_antisymm (sm_le fun i hi => by rw [h i hi]; exact Nat.le_refl _) (sm_le fun i hi => by rw [h i hi]; exact Nat.le_refl _)
theorem nCx_eq (e : ∀ q, 0 ≤ q → q < 567 → cel g q = cel h q) : nCx g = nCx h := by
  unfold nCx
  refine sm_cong (fun i hi => ?_)
  rw [e _ (by omega) (by omega)]
theorem nSx_set {n a : Int} (n0 : 0 ≤ n) (n1 : n < 1500) (z : hv h 4 n = 0) (az : a ≠ 0) : nSx h = nSx (hset h 4 n a) + 1 := by
  unfold nSx
  have kk : ((n.toNat : Nat) : Int) = n := by omega
  have q := sm_upd (f := fun k => if hv (hset h 4 n a) 4 (k : Int) = 0 then 1 else 0) (g := fun k => if hv h 4 (k : Int) = 0 then 1 else 0) (p := n.toNat) (by rw [kk, eq_a, if_neg az]) (by rw [kk, if_pos z]) (fun i hi => by rw [ne_k (by omega)]) 1500
  rw [q, if_pos (by omega)]
theorem nCx_set {n a b j : Int} (n0 : 0 ≤ n) (n1 : n < 567) (z : cel h n = 0) (az : a ≠ 0) (hb : (n < 63 ∧ b = 70 ∧ j = n) ∨ (63 ≤ n ∧ b = 7 + (n - 63) / 8 ∧ j = (n - 63) % 8)) : nCx h = nCx (hset h b j a) + 1 := by
  have kk : ((n.toNat : Nat) : Int) = n := by omega
  have cn : cel (hset h b j a) n = a := by
    unfold cel
    rcases hb with ⟨h1, h2, h3⟩ | ⟨h1, h2, h3⟩
    · rw [if_pos h1, h2, h3, eq_a]
    · rw [if_neg (by omega), h2, h3, eq_a]
  have ce : ∀ q, 0 ≤ q → q ≠ n → q < 567 → cel (hset h b j a) q = cel h q := by
    intro q q0 qn q1
    unfold cel
    by_cases z : q < 63
    · rw [if_pos z, if_pos z, hv_set, if_neg (by omega)]
    · rw [if_neg z, if_neg z, hv_set, if_neg (by omega)]
  have q := sm_upd (f := fun k => if k < 567 ∧ ¬ cel (hset h b j a) (k : Int) = 0 then 0 else if k < 567 then 1 else 0) (g := fun k => if k < 567 ∧ ¬ cel h (k : Int) = 0 then 0 else if k < 567 then 1 else 0) (p := n.toNat) (by rw [kk, cn, if_pos ⟨by omega, az⟩]) (by rw [kk, z, if_neg (fun y => y.2 rfl), if_pos (by omega)]) (fun i hi => by
    by_cases i5 : i < 567
    · rw [ce _ (by omega) (by omega) (by omega)]
    · simp [i5]) 567
  rw [if_pos (show n.toNat < 567 by omega)] at q
  have c1 : ∀ x : MH, nCx x = sm 567 (fun k => if k < 567 ∧ ¬ cel x (k : Int) = 0 then 0 else if k < 567 then 1 else 0) := by
    intro x
    unfold nCx
    refine sm_cong (fun i hi => ?_)
    by_cases z : cel x (i : Int) = 0
    · rw [if_pos z, if_neg (fun y => y.2 z), if_pos hi]
    · rw [if_neg z, if_pos ⟨hi, z⟩]
  rw [c1 h, c1 (hset h b j a), q]
end RMS
