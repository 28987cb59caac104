/-! Part 54a: the component follows what its facts tell (class Follow): base, calls, closure -/
/-- a value of an array that is laid for good -/
theorem sg_ok {G : JG} {h : MH} (H : HOK G h) (hG : gO G = true) {s : Int} {c : Nat} (o : 1 ≤ s ∧ s ≤ hz h ∧ ht h s = c) (k : Nat) {off : Int} {n t e : Nat} (e1 : kof c k = (off, n)) (h0 : 0 ≤ off) (e2 : fty c k = t + 4) (h100 : 100 ≤ t) (e3 : ety t = e) {j : Int} (j0 : 0 ≤ j) (j1 : j < n) : okf h e (hv h (s + off) j) := by
  have kf := H.2.2.2.2 hG s o.1 o.2.1 k
  rw [o.2.2, e1] at kf
  have kf' := kf h0
  simp only at kf'
  obtain ⟨k1, k2, k3, k4, k5⟩ := kf'
  rw [k1] at k2 k3 k4 k5
  rw [e2] at k4 k5
  have k6 := k5 (by omega)
  rw [← e3]
  exact hok_arr H k2 k3 (by rw [k4]; omega) h100 j0 (by rw [k6]; exact j1)
/-- what Follow may change -/
def wfl (b j : Int) : Prop := 296 ≤ b ∧ b < 346 ∧ ¬ (b = 296 ∧ (j = 0 ∨ j = 1))
def fwf (h g : MH) : Prop := g.2 = h.2 ∧ ∀ b j, ¬ wfl b j → hv g b j = hv h b j
theorem fwf_rfl (h : MH) : fwf h h := ⟨rfl, fun _ _ _ => rfl⟩
theorem fwf_tr {h g k : MH} (p : fwf h g) (q : fwf g k) : fwf h k := ⟨q.1.trans p.1, fun b j x => (q.2 b j x).trans (p.2 b j x)⟩
theorem fwf_set {h : MH} {b j x : Int} (c : wfl b j) : fwf h (hset h b j x) := ⟨rfl, fun b' j' p => by rw [hv_set, if_neg]; rintro ⟨rfl, rfl⟩; exact p c⟩
theorem fwf_X {h g : MH} (f : fwf h g) : frX h g := ⟨⟨by rw [h2_hz f.1]; exact Int.le_refl _, fun b _ _ => ⟨h2_ht f.1 b, h2_hn f.1 b⟩⟩, fun b b1 _ _ j => f.2 b j (fun z => by unfold wfl at z; omega)⟩
/-- WHAT IS KNOWN when facts are found: T is the table -/
def FW (L : PG) (R : Int → Prop) (T : TB) (P : Int) (h : MH) : Prop := (WF L ∧ CP h L P ∧ hv h 296 0 = P ∧ hv h 296 1 = 3 ∧ 522 ≤ hz h ∧ ht h 296 = 7 ∧ ht h 3 = 2) ∧
  (∀ q, inP L q → 523 ≤ hv h 4 q ∧ (hv h (hv h 4 q) 0 = 0 ∨ hv h (hv h 4 q) 0 = 1) ∧ (hv h (hv h 4 q) 0 = 1 ↔ rch T q) ∧ (rch T q → T 6 q 0 = fk (hv h (hv h 4 q) 2) (hv h (hv h 4 q) 3))) ∧
  (∀ q, inP L q → hv h 73 q = ast (T 9 q 0) ∧ (∀ c, 0 ≤ c → c < 64 → (bl (hv h 74 q) c = true ↔ ath (T 10 q c) ≠ 0)) ∧ ∀ i, 0 ≤ i → i < 128 → (ath (T 11 q i) ≠ 0 ↔ ((hv h 75 q = 1 ∧ i = nx L q) ∨ (hv h 76 q = 1 ∧ i = pZ L q)))) ∧
  (∀ m, inM L m → (hv h (hv h P 13) m ≠ 0 ↔ R m)) ∧ (tiv L T ∧ ∀ k, inP L k → rch T k → used L T (hv h 77 k) k)
theorem FW_fr {L : PG} {R : Int → Prop} {T : TB} {P : Int} {h g : MH} (w : FW L R T P h) (f : fwf h g) : FW L R T P g := by
  obtain ⟨⟨w0, w1, w2, w3, w4, w5, w6⟩, w7, w8, w9, w10⟩ := w
  have e : ∀ b j, b < 296 ∨ 346 ≤ b → hv g b j = hv h b j := fun b j hb => f.2 b j (fun z => by unfold wfl at z; omega)
  have p13 := w1.2.2.2.2.2.2.2.2.2.2.1.1
  have pp := w1.1.1
  refine ⟨⟨w0, frX_CP (fwf_X f) w1, by rw [f.2 _ _ (fun z => by unfold wfl at z; omega)]; exact w2, by rw [f.2 _ _ (fun z => by unfold wfl at z; omega)]; exact w3, by rw [h2_hz f.1]; exact w4, by rw [h2_ht f.1]; exact w5, by rw [h2_ht f.1]; exact w6⟩, fun q hq => ?_, fun q hq => ?_, fun m hm => ?_, w10.1, fun k hk r => by rw [e _ _ (by omega)]; exact w10.2 k hk r⟩
  · have := (w7 q hq).1
    rw [e 4 q (by omega), e _ _ (by omega), e _ _ (by omega), e _ _ (by omega)]
    exact w7 q hq
  · rw [e _ _ (by omega), e _ _ (by omega), e _ _ (by omega), e _ _ (by omega)]
    exact w8 q hq
  · rw [e P 13 (by omega), e _ _ (by omega)]
    exact w9 m hm
section FL1
variable {l : Launch} {G : JG} {h : MH} {L : PG} {R : Int → Prop} {T : TB} {P : Int} {Q : Int → MH → Prop} {E : Nat → Int → MH → Prop}
/-- the method of a place, as it lies -/
theorem FW_me (w : FW L R T P h) {k : Int} (hk : inP L k) : hv h 296 0 = P ∧ 523 ≤ P ∧ 523 ≤ hv h P 11 ∧ hn h (hv h P 11) = pNp L ∧ hv h (hv h P 11) k = pMo L k ∧ 523 ≤ hv h P 6 ∧ hn h (hv h P 6) = pNm L ∧ inM L (pMo L k) ∧ CPm h L (pMo L k) (hv h (hv h P 6) (pMo L k)) := by
  obtain ⟨⟨w0, w1, w2, -⟩, -⟩ := w
  obtain ⟨c1, -, -, -, -, ⟨c6, c7, c8⟩, -, -, ⟨c11, c12, c13⟩, -⟩ := w1
  obtain ⟨⟨m0, m1, -⟩, -⟩ := w0.k hk.1 hk.2
  exact ⟨w2, c1.1, c11.1, c12, c13 k hk.1 hk.2, c6.1, c7, ⟨m0, m1⟩, c8 _ m0 m1⟩
theorem pl_rng (w : WF L) {k : Int} (hk : inP L k) : 0 ≤ k - pFi L (pMo L k) ∧ k - pFi L (pMo L k) < pCo L (pMo L k) ∧ pFi L (pMo L k) + (k - pFi L (pMo L k)) = k ∧ 0 ≤ pFi L (pMo L k) := by
  obtain ⟨⟨m0, m1, m2, m3⟩, -⟩ := w.k hk.1 hk.2
  obtain ⟨-, -, -, -, -, -, -, -, -, -, -, -, -, -, -, -, -, fi0, -⟩ := w.m m0 m1
  exact ⟨by omega, by omega, by omega, fi0⟩
theorem c_fop (hG : gO G = true) (w : FW L R T P h) {k : Int} (hk : inP L k) (hQ : Q (pOp L k) h) : S_X7_op l G [(2007, 296), (0, k)] h Q E := by
  have nn := w.1.1.n
  unfold WFn at nn
  obtain ⟨q1, q2, q3, q4, q5, q6, q7, q8, q9⟩ := FW_me w hk
  obtain ⟨r1, r2, r3, r4⟩ := pl_rng w.1.1 hk
  have k0 := hk.1
  have k1 := hk.2
  unfold inM at q8
  obtain ⟨m1, ⟨-, -, -, -, -, -, m14, -⟩, -, ⟨o1, o2, o3⟩, -⟩ := q9
  refine s_X7_op rfl fun K ki => r_X7_op_0 ki hG ?_
  rw [q1, q5, q4, q7]
  refine ⟨by omega, by omega, by omega, by omega, by omega, by omega, by omega, by omega, fun x ex => ?_⟩
  rw [ex, m14, o2, w32_i (by omega) (by omega)]
  have a1 := m1.1
  have a2 := o1.1
  refine ⟨by omega, by omega, by omega, r1, r2, ?_⟩
  rw [o3 _ r1 r2]
  show Q (pOp L (pFi L (pMo L k) + (k - pFi L (pMo L k)))) h
  rw [r3]
  exact hQ
theorem c_fx (hG : gO G = true) (w : FW L R T P h) {k : Int} (hk : inP L k) (hQ : Q (pX L k) h) : S_X7_x l G [(2007, 296), (0, k)] h Q E := by
  have nn := w.1.1.n
  unfold WFn at nn
  obtain ⟨q1, q2, q3, q4, q5, q6, q7, q8, q9⟩ := FW_me w hk
  obtain ⟨r1, r2, r3, r4⟩ := pl_rng w.1.1 hk
  have k0 := hk.1
  have k1 := hk.2
  unfold inM at q8
  obtain ⟨m1, ⟨-, -, -, -, -, -, m14, -⟩, -, -, ⟨o1, o2, o3⟩, -⟩ := q9
  refine s_X7_x rfl fun K ki => r_X7_x_0 ki hG ?_
  rw [q1, q5, q4, q7]
  refine ⟨by omega, by omega, by omega, by omega, by omega, by omega, by omega, by omega, fun x ex => ?_⟩
  rw [ex, m14, o2, w32_i (by omega) (by omega)]
  have a1 := m1.1
  have a2 := o1.1
  refine ⟨by omega, by omega, by omega, r1, r2, ?_⟩
  rw [o3 _ r1 r2]
  show Q (pX L (pFi L (pMo L k) + (k - pFi L (pMo L k)))) h
  rw [r3]
  exact hQ
theorem c_fre (hG : gO G = true) (w : FW L R T P h) {k : Int} (hk : inP L k) (hQ : ∀ z, (z = 0 ∨ z = 1) → (z = 1 ↔ rch T k) → Q z h) : S_X7_isReached l G [(2007, 296), (0, k)] h Q E := by
  have nn := w.1.1.n
  unfold WFn at nn
  obtain ⟨a1, a2, a3, -⟩ := w.2.1 k hk
  have k0 := hk.1
  have k1 := hk.2
  refine s_X7_isReached rfl fun K ki => r_X7_isReached_0 ki hG ?_
  rw [w.1.2.2.2.1, show (3 : Int) + 1 = 4 from rfl]
  exact ⟨by decide, k0, by omega, by omega, a2, hQ _ a2 a3⟩
/-- calls of each method -/
def CAx (L : PG) (T : TB) (h : MH) : Prop := ∀ m c, 0 ≤ m → m < 40 → 0 ≤ c → c < 64 → (bl (hv h 302 m) c = true ↔ ∃ k, inP L k ∧ rch T k ∧ pOp L k ≠ 36 ∧ pMo L k = m ∧ ath (T 10 k c) ≠ 0)
theorem c_findCalls (hG : gO G = true) (w : FW L R T P h) (hQ : ∀ h', fwf h h' → CAx L T h' → Q 0 h') : S_X7_findCalls l G [(2007, 296)] h Q E := by
  have nn := w.1.1.n
  unfold WFn at nn
  refine s_X7_findCalls rfl fun K ki => r_X7_findCalls_0 ki hG fun x ex => ?_
  subst ex
  have np : ∀ g, fwf h g → hv g 296 0 ≠ 0 ∧ hv g (hv g 296 0) 7 = pNp L := by
    intro g f
    have wg := FW_fr w f
    have := wg.1.2.1.1.1
    rw [wg.1.2.2.1]
    exact ⟨by omega, wg.1.2.1.2.1.2.1⟩
  have loop2 : ∀ N : Nat, ∀ (n : Int) (g : MH), (pNp L - n).toNat ≤ N → 0 ≤ n → n ≤ pNp L → fwf h g → (∀ m c, 0 ≤ m → m < 40 → 0 ≤ c → c < 64 → (bl (hv g 302 m) c = true ↔ ∃ k, (0 ≤ k ∧ k < n) ∧ rch T k ∧ pOp L k ≠ 36 ∧ pMo L k = m ∧ ath (T 10 k c) ≠ 0)) → JW K 23 [(2007, 296), (0, n)] [] g := by
    intro N
    induction N with
    | zero =>
      intro n g a1 a2 a3 f iv
      have en : n = pNp L := by omega
      subst en
      obtain ⟨p1, p2⟩ := np g f
      exact r_X7_findCalls_23 ki hG ⟨p1, fun _ => hQ g f iv, fun y => by omega⟩
    | succ N ih =>
      intro n g a1 a2 a3 f iv
      by_cases en : n = pNp L
      · exact ih n g (by omega) a2 a3 f iv
      obtain ⟨p1, p2⟩ := np g f
      have wg := FW_fr w f
      have hn : inP L n := ⟨a2, by omega⟩
      have skip : ¬ (rch T n ∧ pOp L n ≠ 36) → ∀ x : Int, x = w32 (n + 1) → JW K 23 [(2007, 296), (0, x)] [] g := by
        intro ns x ex
        rw [w32_i (by omega) (by omega)] at ex
        subst ex
        refine ih (n + 1) g (by omega) (by omega) (by omega) f (fun m c m0 m1 c0 c1 => ?_)
        rw [iv m c m0 m1 c0 c1]
        constructor
        · rintro ⟨k, ⟨k0, k1⟩, y⟩
          exact ⟨k, ⟨k0, by omega⟩, y⟩
        · rintro ⟨k, ⟨k0, k1⟩, y1, y2, y3⟩
          refine ⟨k, ⟨k0, ?_⟩, y1, y2, y3⟩
          by_cases e : k = n
          · subst e; exact absurd ⟨y1, y2⟩ ns
          · omega
      refine r_X7_findCalls_23 ki hG ⟨p1, fun y => by omega, fun _ => c_fre hG wg hn fun z z01 zr => ⟨fun y => skip (fun q => by have := zr.mpr q.1; omega), fun y => c_fop hG wg hn ⟨fun y2 => skip (fun q => q.2 y2), fun y2 => ?_⟩⟩⟩
      obtain ⟨q1, q2, q3, q4, q5, q6, q7, q8, q9⟩ := FW_me wg hn
      unfold inM at q8
      rw [wg.1.2.2.1, q5, q4, wg.1.2.2.2.1, show (3 : Int) + 71 = 74 from rfl]
      refine ⟨by omega, by omega, a2, by omega, by omega, by omega, by decide, a2, by omega, by omega, by omega, fun g7 e7 x ex => ?_⟩
      rw [w32_i (by omega) (by omega)] at ex
      subst ex
      have rn : rch T n := zr.mp (by omega)
      refine ih (n + 1) g7 (by omega) (by omega) (by omega) (by rw [e7]; exact fwf_tr f (fwf_set (by unfold wfl; omega))) (fun m c m0 m1 c0 c1 => ?_)
      have b74 := (wg.2.2.1 n hn).2.1 c c0 c1
      by_cases em : m = pMo L n
      · rw [e7, em, eq_a, bl_or, Bool.or_eq_true, iv _ c (by omega) (by omega) c0 c1, b74]
        constructor
        · rintro (⟨k, ⟨k0, k1⟩, y⟩ | y)
          · exact ⟨k, ⟨k0, by omega⟩, y⟩
          · exact ⟨n, ⟨a2, by omega⟩, rn, y2, rfl, y⟩
        · rintro ⟨k, ⟨k0, k1⟩, y3, y4, y5, y6⟩
          by_cases e : k = n
          · subst e; exact Or.inr y6
          · exact Or.inl ⟨k, ⟨k0, by omega⟩, y3, y4, y5, y6⟩
      · rw [e7, ne_k em, iv m c m0 m1 c0 c1]
        constructor
        · rintro ⟨k, ⟨k0, k1⟩, y⟩
          exact ⟨k, ⟨k0, by omega⟩, y⟩
        · rintro ⟨k, ⟨k0, k1⟩, y3, y4, y5, y6⟩
          refine ⟨k, ⟨k0, ?_⟩, y3, y4, y5, y6⟩
          by_cases e : k = n
          · subst e; exact absurd y5.symm em
          · omega
  have loop1 : ∀ N : Nat, ∀ (n : Int) (g : MH), (40 - n).toNat ≤ N → 0 ≤ n → n ≤ 40 → fwf h g → (∀ m, 0 ≤ m → m < n → hv g 302 m = 0) → JW K 2 [(2007, 296), (0, n)] [] g := by
    intro N
    induction N with
    | zero =>
      intro n g a1 a2 a3 f iv
      have en : n = 40 := by omega
      subst en
      refine r_X7_findCalls_2 ki hG ⟨fun _ x ex => ?_, fun y => by omega⟩
      subst ex
      refine loop2 _ 0 g (Nat.le_refl _) (by decide) (by omega) f (fun m c m0 m1 c0 c1 => ?_)
      rw [iv m m0 m1, bl_zero]
      exact ⟨(fun y => by cases y), fun ⟨k, ⟨k0, k1⟩, _⟩ => by omega⟩
    | succ N ih =>
      intro n g a1 a2 a3 f iv
      by_cases en : n = 40
      · exact ih n g (by omega) a2 a3 f iv
      refine r_X7_findCalls_2 ki hG ⟨fun y => by omega, fun _ => ⟨a2, by omega, fun g2 e2 x ex => ?_⟩⟩
      rw [w32_i (by omega) (by omega)] at ex
      subst ex
      refine ih (n + 1) g2 (by omega) (by omega) (by omega) (by rw [e2]; exact fwf_tr f (fwf_set (by unfold wfl; omega))) (fun m m0 m1 => ?_)
      by_cases em : m = n
      · rw [e2, em, eq_a]
      · rw [e2, ne_k em]; exact iv m m0 (by omega)
  exact loop1 _ 0 h (Nat.le_refl _) (by decide) (by decide) (fwf_rfl h) (fun m m0 m1 => by omega)
/-- methods called in turn -/
theorem c_closure (hG : gO G = true) (w : FW L R T P h) (ca : CAx L T h) {v : Int} (cv : c64 v) (hQ : ∀ z, c64 z → (∀ m, 0 ≤ m → m < 64 → (bl z m = true ↔ CLO L T (bls v) m)) → Q z h) : S_X7_closure l G [(2007, 296), (1, v)] h Q E := by
  have nn := w.1.1.n
  unfold WFn at nn
  have ms := CP_ms w.1.2.1
  have pp := w.1.2.1.1.1
  have p6 := (CP_ad w.1.2.1).2.2.2.2.1
  have ep := w.1.2.2.1
  refine s_X7_closure rfl fun K ki => r_X7_closure_0 ki hG fun x3 e3 x5 e5 => ?_
  have lt64 : ∀ k c, inP L k → ath (T 10 k c) ≠ 0 → pMo L k < 40 ∧ 0 ≤ pMo L k := by
    intro k c hk _
    obtain ⟨⟨m0, m1, -⟩, -⟩ := w.1.1.k hk.1 hk.2
    omega
  have outer : ∀ N : Nat, ∀ a b : Int, mbl a ≤ N → c64 a → (∀ m, bls v m → bls a m) → (∀ m, bls a m → CLO L T (bls v) m) → (b = a → ∀ m, 0 ≤ m → m < pNm L → bls a m → ∀ c, bls (hv h 302 m) c → bls a c) → JW K 5 [(2007, 296), (1, v), (5000, 0), (1, a), (5000, 0), (1, b), (5000, 0), (5000, 0)] [] h := by
    intro N
    induction N using Nat.strongRecOn with
    | ind N ih =>
      intro a0 b0 ms' ca0 sub snd cl
      refine r_X7_closure_5 ki hG ⟨fun z => ?_, fun z => ?_⟩
      · rw [lc_eq] at z
        refine hQ a0 ca0 (fun m m0 m1 => ⟨fun y => snd m ⟨m0, m1, y⟩, fun y => ?_⟩)
        refine (y (bls a0) sub (fun k c hk r o s c0 c1 t => ?_)).2.2
        obtain ⟨m0', m1'⟩ := lt64 k c hk t
        obtain ⟨⟨q0, q1, -⟩, -⟩ := w.1.1.k hk.1 hk.2
        exact cl z _ q0 q1 s c ⟨c0, c1, (ca _ c m1' m0' c0 c1).mpr ⟨k, hk, r, o, rfl, t⟩⟩
      · intro y5 f5 y7 f7
        subst f5; subst f7
        have inner : ∀ M : Nat, ∀ n a : Int, (pNm L - n).toNat ≤ M → 0 ≤ n → n ≤ pNm L → c64 a → (∀ m, bls v m → bls a m) → (∀ m, bls a m → CLO L T (bls v) m) → (a = y5 → ∀ m, 0 ≤ m → m < n → bls a m → ∀ c, bls (hv h 302 m) c → bls a c) → (a ≠ y5 → mbl a < mbl y5) →
            JW K 18 [(2007, 296), (1, v), (5000, 0), (1, a), (5000, 0), (1, y5), (5000, 0), (0, n)] [] h := by
          have fin : ∀ a : Int, c64 a → (∀ m, bls v m → bls a m) → (∀ m, bls a m → CLO L T (bls v) m) → (a = y5 → ∀ m, 0 ≤ m → m < pNm L → bls a m → ∀ c, bls (hv h 302 m) c → bls a c) → (a ≠ y5 → mbl a < mbl y5) →
            JW K 18 [(2007, 296), (1, v), (5000, 0), (1, a), (5000, 0), (1, y5), (5000, 0), (0, pNm L)] [] h := by
            intro a ca' sub snd z0 z1
            refine r_X7_closure_18 ki hG ?_
            rw [ep, ms.1]
            refine ⟨by omega, by omega, fun _ => ?_, fun y => by omega⟩
            by_cases e : a = y5
            · refine r_X7_closure_5 ki hG ⟨fun _ => ?_, fun z => absurd ((lc_eq _ _).mpr e.symm) z⟩
              refine hQ a ca' (fun m m0 m1 => ⟨fun y => snd m ⟨m0, m1, y⟩, fun y => ?_⟩)
              refine (y (bls a) sub (fun k c hk r o s c0 c1 t => ?_)).2.2
              obtain ⟨m0', m1'⟩ := lt64 k c hk t
              obtain ⟨⟨q0, q1, -⟩, -⟩ := w.1.1.k hk.1 hk.2
              exact z0 e _ q0 q1 s c ⟨c0, c1, (ca _ c m1' m0' c0 c1).mpr ⟨k, hk, r, o, rfl, t⟩⟩
            · exact ih (mbl a) (by have := z1 e; omega) a y5 (Nat.le_refl _) ca' sub snd (fun e2 => absurd e2.symm e)
          intro M
          induction M with
          | zero =>
            intro n a m1 m2 m3 ca' sub snd z0 z1
            have en : n = pNm L := by omega
            subst en
            exact fin a ca' sub snd z0 z1
          | succ M ihM =>
            intro n a m1 m2 m3 ca' sub snd z0 z1
            by_cases en : n = pNm L
            · subst en; exact fin a ca' sub snd z0 z1
            refine r_X7_closure_18 ki hG ?_
            rw [ep, ms.1, l_bit m2 (by omega)]
            refine ⟨by omega, by omega, fun y => by omega, fun _ => ⟨fun y x ex => ?_, fun y => ⟨m2, by omega, fun a' ea' x ex => ?_⟩⟩⟩
            · rw [w32_i (by omega) (by omega)] at ex
              subst ex
              rw [lc_eq] at y
              have nb : ¬ bl a n = true := fun q => by rw [if_pos q] at y; exact y rfl
              refine ihM (n + 1) a (by omega) (by omega) (by omega) ca' sub snd (fun e m m0 m1 hm c hc => ?_) z1
              by_cases em : m = n
              · subst em; exact absurd hm.2.2 nb
              · exact z0 e m m0 (by omega) hm c hc
            · rw [w32_i (by omega) (by omega)] at ex
              subst ex
              rw [lc_eq] at y
              have nb : bl a n = true := by
                apply Classical.byContradiction
                intro q
                rw [if_neg q] at y
                cases y
              have sup : ∀ m, bls a m → bls a' m := fun m hm => ⟨hm.1, hm.2.1, by rw [ea', bl_or, hm.2.2]; rfl⟩
              have ca2 : c64 a' := by rw [ea']; exact c64_l_or _ _
              refine ihM (n + 1) a' (by omega) (by omega) (by omega) ca2 (fun m hm => sup m (sub m hm)) (fun m hm => ?_) (fun e m m0 m1 hm c hc => ?_) (fun e => ?_)
              · obtain ⟨m0', m1', m2'⟩ := hm
                rw [ea', bl_or, Bool.or_eq_true] at m2'
                rcases m2' with y3 | y3
                · exact snd m ⟨m0', m1', y3⟩
                · obtain ⟨k, hk, r, o, emk, t⟩ := (ca n m m2 (by omega) m0' m1').mp y3
                  exact CLO_in hk r o (by rw [emk]; exact snd n ⟨m2, by omega, nb⟩) m0' m1' t
              · -- nothing new
                have same : a = y5 := by
                  apply Classical.byContradiction
                  intro ne
                  have l1 := z1 ne
                  have l2 : mbl a' ≤ mbl a := sm_le (fun i _ => wb_mono (fun q => by rw [ea', bl_or, q]; rfl))
                  rw [e] at l2
                  omega
                have aa : a' = a := e.trans same.symm
                rw [aa] at hm ⊢
                by_cases em : m = n
                · subst em
                  rw [← aa]
                  exact ⟨hc.1, hc.2.1, by rw [ea', bl_or, hc.2.2, Bool.or_true]⟩
                · exact z0 same m m0 (by omega) hm c hc
              · by_cases ne : a = y5
                · have diff : ∃ s, 0 ≤ s ∧ s < 64 ∧ bl (hv h 302 n) s = true ∧ bl a s = false := by
                    apply Classical.byContradiction
                    intro no
                    apply e
                    rw [← ne]
                    refine bl_ext ca2 ca' (fun s s0 s1 => ?_)
                    rw [ea', bl_or]
                    cases r1 : bl a s
                    · cases r2 : bl (hv h 302 n) s
                      · rfl
                      · exact absurd ⟨s, s0, s1, r2, r1⟩ no
                    · rfl
                  have := mbl_or diff
                  rw [← ea', ne] at this
                  exact this
                · have l1 := z1 ne
                  have l2 : mbl a' ≤ mbl a := sm_le (fun i _ => wb_mono (fun q => by rw [ea', bl_or, q]; rfl))
                  omega
        exact inner _ 0 y5 (Nat.le_refl _) (by decide) (by omega) ca0 sub snd (fun _ m m0 m1 => by omega) (fun e => absurd rfl e)
  subst e3
  subst e5
  refine outer _ x3 0 (Nat.le_refl _) cv (fun _ q => q) (fun m hm S s1 _ => s1 m hm) (fun e m m0 m1 hm => ?_)
  rw [← e] at hm
  have := hm.2.2
  rw [bl_zero] at this
  cases this
end FL1
