/-! Part 54b: origins of threads -/
/-- an array that is laid for good -/
theorem sg_hn {G : JG} {h : MH} (H : HOK G h) (hG : gO G = true) {s : Int} {c : Nat} (o : 1 ≤ s ∧ s ≤ hz h ∧ ht h s = c) (k : Nat) {off : Int} {n t : Nat} (e1 : kof c k = (off, n)) (h0 : 0 ≤ off) (e2 : fty c k = t + 4) (h100 : 100 ≤ t) : hn h (s + off) = n ∧ ht h (s + off) = t ∧ 1 ≤ s + off ∧ s + off ≤ hz h := by
  have kf := H.2.2.2.2 hG s o.1 o.2.1 k
  rw [o.2.2, e1] at kf
  have kf' := kf h0
  simp only at kf'
  obtain ⟨k1, k2, k3, k4, k5⟩ := kf'
  rw [k1] at k2 k3 k4 k5
  rw [e2] at k4 k5
  exact ⟨k5 (by omega), by rw [k4]; omega, k2, k3⟩
section FL2
variable {l : Launch} {G : JG} {h : MH} {L : PG} {R : Int → Prop} {T : TB} {P : Int} {Q : Int → MH → Prop} {E : Nat → Int → MH → Prop}
theorem FW_o3 (w : FW L R T P h) : 1 ≤ (3 : Int) ∧ (3 : Int) ≤ hz h ∧ ht h 3 = 2 := ⟨by decide, by have := w.1.2.2.2.2.1; omega, w.1.2.2.2.2.2.2⟩
theorem FW_o7 (w : FW L R T P h) : 1 ≤ (296 : Int) ∧ (296 : Int) ≤ hz h ∧ ht h 296 = 7 := ⟨by decide, by have := w.1.2.2.2.2.1; omega, w.1.2.2.2.2.2.1⟩
/-- ORIGINS -/
def OGx (L : PG) (R : Int → Prop) (T : TB) (h : MH) : Prop := hv h 296 3 = nor L T ∧ ∀ o, 0 ≤ o → o < nor L T → c64 (hv h 298 o) ∧ ∀ m, 0 ≤ m → m < 64 → (bl (hv h 298 o) m = true ↔ rns L T R o m)
theorem CA_fr {g : MH} (e : ∀ m, hv g 302 m = hv h 302 m) (c : CAx L T h) : CAx L T g := fun m x m0 m1 x0 x1 => by rw [e]; exact c m x m0 m1 x0 x1
theorem c_findOrigins (hG : gO G = true) (w : FW L R T P h) (ca : CAx L T h) (hQ : ∀ h', fwf h h' → (∀ b j, b ≠ 296 → b ≠ 297 → b ≠ 298 → hv h' b j = hv h b j) → (∀ j, j ≠ 3 → hv h' 296 j = hv h 296 j) → OGx L R T h' → Q 0 h') : S_X7_findOrigins l G [(2007, 296)] h Q E := by
  have nn := w.1.1.n
  unfold WFn at nn
  have cb := cnt_b (stp L T) (pNp L).toNat
  refine s_X7_findOrigins rfl fun K ki => r_X7_findOrigins_0 ki hG fun x1 e1 x3 e3 => ?_
  have fr : ∀ g, (∀ b j, b ≠ 296 → b ≠ 297 → b ≠ 298 → hv g b j = hv h b j) → (∀ j, j ≠ 3 → hv g 296 j = hv h 296 j) → g.2 = h.2 → fwf h g := by
    intro g a b c
    refine ⟨c, fun x j z => ?_⟩
    by_cases e : x = 296
    · rw [e] at z ⊢
      exact b j (fun q => z (by unfold wfl; omega))
    · exact a x j e (fun q => z (by unfold wfl; omega)) (fun q => z (by unfold wfl; omega))
  have starts : ∀ N : Nat, ∀ n v : Int, ∀ g : MH, (pNp L - n).toNat ≤ N → 0 ≤ n → n ≤ pNp L → g.2 = h.2 → (∀ b j, b ≠ 296 → b ≠ 297 → b ≠ 298 → hv g b j = hv h b j) → (∀ j, j ≠ 3 → hv g 296 j = hv h 296 j) → hv g 296 3 = 1 + cnt (stp L T) n.toNat → (c64 (hv g 298 0) ∧ ∀ m, 0 ≤ m → m < 64 → (bl (hv g 298 0) m = true ↔ CLO L T (fun c => inM L c ∧ R c) m)) →
      (∀ o, 1 ≤ o → o < hv g 296 3 → c64 (hv g 298 o) ∧ ∃ k, sta L T o k ∧ ∀ m, 0 ≤ m → m < 64 → (bl (hv g 298 o) m = true ↔ CLO L T (fun c => 0 ≤ c ∧ c < 64 ∧ ath (T 10 k c) ≠ 0) m)) →
      JW K 58 [(2007, 296), (1, v), (5000, 0), (0, n)] [] g := by
    intro N
    induction N with
    | zero =>
      intro n v g b1' b2 b3 g2 f1 f2 c0 r0 r1
      have en : n = pNp L := by omega
      subst en
      have wg := FW_fr w (fr g f1 f2 g2)
      have ep := wg.1.2.2.1
      have pp := wg.1.2.1.1.1
      have enp := wg.1.2.1.2.1.2.1
      refine r_X7_findOrigins_58 ki hG ?_
      rw [ep, enp]
      refine ⟨by omega, fun _ => hQ g (fr g f1 f2 g2) f1 f2 ⟨c0, fun o o0 o1 => ?_⟩, fun z => by omega⟩
      have o1' : o < hv g 296 3 := by rw [c0]; exact o1
      by_cases e : o = 0
      · subst e
        refine ⟨r0.1, fun m m0 m1 => ?_⟩
        rw [r0.2 m m0 m1]
        constructor
        · intro y; exact Or.inl ⟨rfl, y⟩
        · rintro (y | y)
          · exact y.2
          · have := y.1; omega
      · obtain ⟨q0, k, q1, q2⟩ := r1 o (by omega) o1'
        refine ⟨q0, fun m m0 m1 => ?_⟩
        rw [q2 m m0 m1]
        constructor
        · intro y; exact Or.inr ⟨by omega, _, q1, y⟩
        · rintro (y | ⟨-, k', y1, y2⟩)
          · exact absurd y.1 e
          · rw [sta_one q1 y1]; exact y2
    | succ N ih =>
      intro n v g b1' b2 b3 g2 f1 f2 c0 r0 r1
      by_cases en : n = pNp L
      · exact ih n v g (by omega) b2 b3 g2 f1 f2 c0 r0 r1
      have wg := FW_fr w (fr g f1 f2 g2)
      have ep := wg.1.2.2.1
      have e3' := wg.1.2.2.2.1
      have pp := wg.1.2.1.1.1
      have enp := wg.1.2.1.2.1.2.1
      have hn : inP L n := ⟨b2, by omega⟩
      have nt : ((n.toNat : Nat) : Int) = n := by omega
      have n1 : (n + 1).toNat = n.toNat + 1 := by omega
      have cb' := cnt_b (stp L T) n.toNat
      have cm := cnt_m (stp L T) (show n.toNat ≤ (pNp L).toNat by omega)
      refine JW_hyp fun Hg _ _ => ?_
      have hG' : gO (kG K) = true := by rw [ki.2.2.1]; exact hG
      have c74 : c64 (hv g 74 n) := okf_l (sg_ok Hg hG' (FW_o3 wg) 8 (off := 71) (n := 1500) (t := 101) (e := 1) (by decide) (by decide) (by decide) (by decide) (by decide) hn.1 (by omega))
      have skip : ¬ stp L T n → ∀ x : Int, x = w32 (n + 1) → JW K 58 [(2007, 296), (1, v), (5000, 0), (0, x)] [] g := by
        intro ns x ex
        rw [w32_i (by omega) (by omega)] at ex
        subst ex
        refine ih (n + 1) v g (by omega) (by omega) (by omega) g2 f1 f2 ?_ r0 r1
        rw [n1, cnt_n (by rw [nt]; exact ns)]; exact c0
      refine r_X7_findOrigins_58 ki hG ?_
      rw [ep, enp]
      refine ⟨by omega, fun z => by omega, fun _ => c_fre hG wg hn fun z z01 zr => ⟨fun y => skip (fun s => by have := zr.mpr s.2.1; omega), fun y => c_fop hG wg hn ⟨fun y2 => ?_, fun y2 => skip (fun s => y2 s.2.2)⟩⟩⟩
      have sn : stp L T n := ⟨hn, zr.mp (by omega), y2⟩
      refine ⟨by omega, by omega, fun h6 e6 h7 e7 => ?_⟩
      have h63 : hv h6 296 3 = hv g 296 3 := by rw [e6, ne_a (by decide)]
      rw [h63, w32_i (by omega) (by omega)] at e7
      have v7 : ∀ b j, b ≠ 296 → b ≠ 297 → hv h7 b j = hv g b j := fun b j x y => by rw [e7, ne_a x, e6, ne_a y]
      have v7' : ∀ j, j ≠ 3 → hv h7 296 j = hv g 296 j := fun j hj => by rw [e7, ne_k hj, e6, ne_a (by decide)]
      have w7 : FW L R T P h7 := FW_fr w (fr h7 (fun b j x y z => (v7 b j x y).trans (f1 b j x y z)) (fun j hj => (v7' j hj).trans (f2 j hj)) (by rw [e7, e6]; exact g2))
      rw [v7' 1 (by decide), e3', show (3 : Int) + 71 = 74 from rfl, v7 74 n (by decide) (by decide)]
      refine ⟨by decide, b2, by omega, c_closure hG w7 (CA_fr (fun m => (v7 302 m (by decide) (by decide)).trans (f1 302 m (by decide) (by decide) (by decide))) ca) c74 fun z8 cz8 hz8 => ?_⟩
      rw [h63]
      refine ⟨by omega, by omega, fun g10 e10 x ex => ?_⟩
      rw [w32_i (by omega) (by omega)] at ex
      subst ex
      have a3 : hv g10 296 3 = hv g 296 3 + 1 := by rw [e10, ne_a (by decide), e7, eq_a]
      have a298 : ∀ o, hv g10 298 o = if o = hv g 296 3 then z8 else hv g 298 o := by
        intro o
        rw [e10, hv_set]
        by_cases q : o = hv g 296 3
        · rw [if_pos ⟨rfl, q⟩, if_pos q]
        · rw [if_neg (fun z => q z.2), if_neg q]; exact v7 298 o (by decide) (by decide)
      refine ih (n + 1) v g10 (by omega) (by omega) (by omega) (by rw [e10, e7, e6]; exact g2) (fun b j x y z => by rw [e10, ne_a z, v7 b j x y]; exact f1 b j x y z) (fun j hj => by rw [e10, ne_a (by decide), v7' j hj]; exact f2 j hj) ?_ ?_ (fun o o0 o1 => ?_)
      · rw [a3, n1, cnt_y (by rw [nt]; exact sn), c0]; omega
      · rw [a298 0, if_neg (by omega)]; exact r0
      · rw [a298 o]
        by_cases q : o = hv g 296 3
        · rw [if_pos q]
          refine ⟨cz8, n, ⟨sn, by rw [q, c0]⟩, fun m m0 m1 => ?_⟩
          rw [hz8 m m0 m1]
          refine CLO_eq (fun c => ?_) m
          have b74 := (wg.2.2.1 n hn).2.1 c
          unfold bls
          constructor
          · rintro ⟨c0', c1, y3⟩
            exact ⟨c0', c1, (b74 c0' c1).mp y3⟩
          · rintro ⟨c0', c1, y3⟩
            exact ⟨c0', c1, (b74 c0' c1).mpr y3⟩
        · rw [if_neg q]
          exact r1 o o0 (by omega)
  have roots : ∀ N : Nat, ∀ n v : Int, (pNm L - n).toNat ≤ N → 0 ≤ n → n ≤ pNm L → c64 v → (∀ m, 0 ≤ m → m < 64 → (bl v m = true ↔ m < n ∧ R m)) →
      JW K 4 [(2007, 296), (1, v), (5000, 0), (0, n)] [] h := by
    have ep := w.1.2.2.1
    have pp := w.1.2.1.1.1
    have p6 := (CP_ad w.1.2.1).2.2.2.2.1
    have ms := (CP_ms w.1.2.1).1
    obtain ⟨c13, c14⟩ := w.1.2.1.2.2.2.2.2.2.2.2.2.2
    have p13 := c13.1
    intro N
    induction N with
    | zero =>
      intro n v b1' b2 b3 cv iv
      have en : n = pNm L := by omega
      subst en
      refine r_X7_findOrigins_4 ki hG ?_
      rw [ep, ms]
      refine ⟨by omega, by omega, fun _ h1 e1' => ?_, fun z => by omega⟩
      have w1 : FW L R T P h1 := FW_fr w (by rw [e1']; exact fwf_set (by unfold wfl; omega))
      refine c_closure hG w1 (CA_fr (fun m => by rw [e1', ne_a (by decide)]) ca) cv fun z1 cz1 hz1 => ⟨by decide, by decide, fun g4 e4 x ex => ?_⟩
      subst ex
      refine starts _ 0 v g4 (Nat.le_refl _) (by omega) (by omega) (by rw [e4, e1']; rfl) (fun b j x y z => by rw [e4, ne_a z, e1', ne_a x]) (fun j hj => by rw [e4, ne_a (by decide), e1', ne_k hj]) (by rw [e4, ne_a (by decide), e1', eq_a]; rfl) ⟨by rw [e4, eq_a]; exact cz1, fun m m0 m1 => ?_⟩ (fun o o0 o1 => ?_)
      · rw [e4, eq_a, hz1 m m0 m1]
        refine CLO_eq (fun c => ?_) m
        unfold bls inM
        constructor
        · rintro ⟨c0', c1, y3⟩
          have := (iv c c0' c1).mp y3
          exact ⟨⟨c0', this.1⟩, this.2⟩
        · rintro ⟨⟨c0', c1⟩, y3⟩
          exact ⟨c0', by omega, (iv c c0' (by omega)).mpr ⟨c1, y3⟩⟩
      · rw [e4, ne_a (by decide), e1', eq_a] at o1
        omega
    | succ N ih =>
      intro n v b1' b2 b3 cv iv
      by_cases en : n = pNm L
      · exact ih n v (by omega) b2 b3 cv iv
      have hr := w.2.2.2.1 n ⟨b2, by omega⟩
      refine r_X7_findOrigins_4 ki hG ?_
      rw [ep, ms, c14]
      refine ⟨by omega, by omega, fun z => by omega, fun _ => ⟨by omega, by omega, b2, by omega, fun c x ex => ?_, fun c v' ev x ex => ?_⟩⟩
      · rw [w32_i (by omega) (by omega)] at ex
        subst ex
        refine ih (n + 1) v (by omega) (by omega) (by omega) cv (fun m m0 m1 => ?_)
        rw [iv m m0 m1]
        constructor
        · rintro ⟨y1, y2⟩
          exact ⟨by omega, y2⟩
        · rintro ⟨y1, y2⟩
          by_cases e : m = n
          · subst e; exact absurd c (hr.mpr y2)
          · exact ⟨by omega, y2⟩
      · rw [w32_i (by omega) (by omega)] at ex
        subst ex
        refine ih (n + 1) v' (by omega) (by omega) (by omega) (by rw [ev]; exact c64_l_or _ _) (fun m m0 m1 => ?_)
        rw [ev, bl_or, Bool.or_eq_true, iv m m0 m1, bl_shl b2 (by omega) m0]
        constructor
        · rintro (y | y)
          · exact ⟨by omega, y.2⟩
          · have e : m = n := of_decide_eq_true y
            subst e
            exact ⟨by omega, hr.mp c⟩
        · rintro ⟨y1, y2⟩
          by_cases e : m = n
          · exact Or.inr (decide_eq_true e)
          · exact Or.inl ⟨by omega, y2⟩
  subst e1; subst e3
  refine roots _ 0 0 (Nat.le_refl _) (by omega) (by omega) (by unfold c64; omega) (fun m m0 m1 => ?_)
  rw [bl_zero]
  constructor
  · intro y; cases y
  · rintro ⟨y, -⟩; omega
end FL2
