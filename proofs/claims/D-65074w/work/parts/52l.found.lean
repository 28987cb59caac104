/-! Part 52l: the component finds its facts -/
theorem cT_mk {g : MH} {L : PG} (w : WF L) (pl : ∀ k, inP L k → plz g k) (ce : ∀ a i j, cdom L a i j → a ≠ 3 → fo g (cad g a i j + 1) = fz) (ou : ∀ m, inM L m → ouz g m) (si : ∀ i, 0 ≤ i → i < 8 → fo g (288 + i) = fz) (sa : ∀ i, 0 ≤ i → i < pNs L → saz g L i) (a i j : Int) : cT g L a i j = if a = 3 ∧ 0 ≤ i ∧ i < pNs L ∧ j = 0 then f1st (pSk L i) else fz := by
  by_cases a0 : a = 0
  · subst a0
    rw [if_neg (fun z => by omega), cT_0]
    unfold tc0
    refine iff_n (fun z => ?_)
    have := (pl i z.1).2.1
    omega
  by_cases a1 : a = 1 ∨ a = 2 ∨ a = 3
  · rw [cT_c g L i j a1]
    unfold tc1
    by_cases d : cdom L a i j
    · rw [iff_p d]
      by_cases a3 : a = 3
      · subst a3
        have d' : 0 ≤ i ∧ i < pNs L ∧ j = 0 := by unfold cdom at d; omega
        rw [if_pos ⟨rfl, d'⟩]
        unfold cad
        rw [if_neg (by decide), if_neg (by decide), show (264 : Int) + 3 * i + 1 = 265 + 3 * i by omega]
        exact (sa i d'.1 d'.2.1).1
      · rw [if_neg (fun z => a3 z.1)]
        exact ce a i j d a3
    · rw [iff_n d, if_neg]
      rintro ⟨z1, z2, z3, z4⟩
      exact d (Or.inr (Or.inr ⟨z1, z2, z3, z4⟩))
  rw [if_neg (fun z => a1 (Or.inr (Or.inr z.1)))]
  by_cases a4 : a = 4
  · subst a4
    rw [cT_4]
    unfold tc4
    refine iff_n (fun z => ?_)
    have := congrArg ath (si i z.1 z.2.1)
    unfold fo fz ath at this
    have e : hv g (288 + i) 0 = 0 := this
    omega
  by_cases a5 : a = 5
  · subst a5
    rw [cT_5]
    unfold tc5
    refine iff_n (fun z => ?_)
    have := (ou i z.1).1
    omega
  by_cases a6 : a = 6
  · subst a6
    rw [cT_6]
    unfold tc6
    refine iff_n (fun z => ?_)
    have := (pl i z.1).2.1
    omega
  by_cases a7 : a = 7
  · subst a7
    rw [cT_7]
    unfold tc7
    refine iff_n (fun z => ?_)
    have := (ou i z.1).1
    omega
  by_cases a8 : a = 8
  · subst a8
    rw [cT_8]
    unfold tc8
    refine iff_n (fun z => ?_)
    have := (ou i z.1).2.1
    omega
  by_cases a9 : a = 9
  · subst a9
    rw [cT_9]
    unfold tc9
    by_cases d : inP L i ∧ j = 0
    · rw [iff_p d, (pl i d.1).2.2.2.1]; rfl
    · exact iff_n d
  by_cases a10 : a = 10
  · subst a10
    rw [cT_10]
    unfold tc10
    refine iff_n (fun z => ?_)
    have := z.2.2.2
    rw [(pl i z.1).2.2.2.2.1, bl_zero] at this
    cases this
  by_cases a11 : a = 11
  · subst a11
    rw [cT_11]
    unfold tc11
    refine iff_n (fun z => ?_)
    have := (pl i z.1).2.2.2.2.2.1
    have := (pl i z.1).2.2.2.2.2.2.1
    rcases z.2.2 with y | y
    · have := y.1; omega
    · have := y.1; omega
  by_cases a14 : a = 14
  · subst a14
    rw [cT_14]
    unfold tc14
    by_cases d : inM L i ∧ j = 0
    · rw [iff_p d, (ou i d.1).2.1]; rfl
    · exact iff_n d
  by_cases a15 : a = 15
  · subst a15
    rw [cT_15]
    unfold tc15
    by_cases d : inM L i ∧ j = 0
    · rw [iff_p d, (ou i d.1).2.2.1]; rfl
    · exact iff_n d
  unfold cT
  rw [if_neg a0, if_neg a1, if_neg a4, if_neg a5, if_neg a6, if_neg a7, if_neg a8, if_neg a9, if_neg a10, if_neg a11, if_neg a14, if_neg a15]
theorem T0_tiv {L : PG} {T : TB} (e : ∀ a i j, T a i j = if a = 3 ∧ 0 ≤ i ∧ i < pNs L ∧ j = 0 then f1st (pSk L i) else fz) : tiv L T := by
  have n3 : ∀ a i j, a ≠ 3 → T a i j = fz := fun a i j q => by rw [e, if_neg (fun z => q z.1)]
  have key : ∀ a i j, fok (T a i j) ∧ fmk L T (T a i j) ∧ fmr L (T a i j) := by
    intro a i j
    rw [show T a i j = _ from e a i j]
    split
    · have := f1st_gd L T (pSk L i)
      exact ⟨this.1, this.2.1, this.2.2.1⟩
    · exact fz_gd L _
  refine ⟨fun a i j => (key a i j).1, fun a i j => (key a i j).2.1, fun a i j => (key a i j).2.2, fun c => ?_, fun c => ?_, fun q s y => ?_⟩
  · rw [n3 5 c 0 (by omega), n3 7 c 0 (by omega)]
  · rw [n3 14 c 0 (by omega), n3 8 c 0 (by omega)]
    exact ⟨Iff.rfl, bl_zero 0⟩
  · rw [n3 6 q 0 (by omega)] at y
    exact absurd rfl y
section FO
variable {l : Launch} {G : JG} {h g : MH} {L : PG} {P B C : Int} {R : Int → Prop} {Q : Int → MH → Prop} {E : Nat → Int → MH → Prop}
theorem MO_cad (w : WF L) (m : MOx h L P B C 40 8 (pNs L) g) {a i j : Int} (d : cdom L a i j) : (a ≠ 3 → ∃ q, 0 ≤ q ∧ q < 567 ∧ cad g a i j = cel g q ∧ dB L (pNt L) q ∧ ((a = 2 ∧ q = i ∧ q < 63) ∨ (a = 1 ∧ q = 63 + 8 * i + j ∧ 63 ≤ q ∧ 0 ≤ j ∧ j < 8))) := by
  have nn := w.n
  unfold WFn at nn
  intro a3
  rcases d with ⟨rfl, d, j0, j1⟩ | ⟨rfl, d, j0⟩ | ⟨rfl, d, -⟩
  · have n8 := nfs_8 w d
    have d' := d
    unfold inS at d'
    have q1 : (63 + 8 * i + j - 63) / 8 = i := by omega
    have q2 : (63 + 8 * i + j - 63) % 8 = j := by omega
    refine ⟨63 + 8 * i + j, by omega, by omega, ?_, Or.inr ⟨by omega, by omega, by omega, by rw [q1, q2]; exact j1⟩, Or.inr ⟨rfl, rfl, by omega, j0, by omega⟩⟩
    unfold cad cel
    rw [if_pos rfl, if_neg (by omega), q1, q2]
  · have d' := d
    unfold inS at d'
    refine ⟨i, by omega, by omega, ?_, Or.inl ⟨by omega, by omega, by omega⟩, Or.inl ⟨rfl, rfl, by omega⟩⟩
    unfold cad cel
    rw [if_neg (by decide), if_pos rfl, if_pos (by omega)]
  · exact absurd rfl a3
/-- the search begins -/
theorem MO_FD (w : WF L) (m : MOx h L P B C 40 8 (pNs L) g) (q14 : hv g 3 14 = 0) (q15 : hv g 3 15 = 0) : FDx L R g ∧ ∀ k, inP L k → ¬ rch (cT g L) k := by
  have nn := w.n
  unfold WFn at nn
  obtain ⟨⟨mi, d1, d2⟩, mo, ms, mt⟩ := m
  have m' : MOx h L P B C 40 8 (pNs L) g := ⟨⟨mi, d1, d2⟩, mo, ms, mt⟩
  obtain ⟨rm, cp, e30, -, -⟩ := mi
  obtain ⟨r0, r1, r2, r3, r4, r5, r8, r9, r10, r11, r12⟩ := rm
  have pl : ∀ k, inP L k → plz g k := fun k hk => d1 k hk.1 hk.2
  have so : ∀ q, inP L q → stO g (hv g 4 q) ∧ 523 ≤ hv g 4 q := fun q hq => (r1 q hq.1 (by have := hq.2; omega)).resolve_left (pl q hq).1
  have cl : ∀ a i j, cdom L a i j → clO g (cad g a i j) ∧ (523 ≤ cad g a i j ∨ (264 ≤ cad g a i j ∧ cad g a i j < 288 ∧ cad g a i j % 3 = 0)) := by
    intro a i j d
    by_cases a3 : a = 3
    · subst a3
      have d' : 0 ≤ i ∧ i < pNs L ∧ j = 0 := by unfold cdom at d; omega
      unfold cad
      rw [if_neg (by decide), if_neg (by decide)]
      exact ⟨r8 i d'.1 (by omega), Or.inr (by omega)⟩
    · obtain ⟨q, q0, q1, e, db, -⟩ := MO_cad w m' d a3
      rw [e]
      have := (r3 q q0 q1).resolve_left (d2 q q0 q1 db).1
      exact ⟨this.1, Or.inl this.2⟩
  have ce : ∀ a i j, cdom L a i j → a ≠ 3 → fo g (cad g a i j + 1) = fz ∧ ∀ j', 0 ≤ j' → j' < 24 → hv g (cad g a i j + 2) j' = 0 := by
    intro a i j d a3
    obtain ⟨q, q0, q1, e, db, -⟩ := MO_cad w m' d a3
    rw [e]
    exact (d2 q q0 q1 db).2
  have ub0 : ∀ a i j, udom L a i j → ∀ p, 0 ≤ p → p < 1536 → ubt g (uad g a i j) p = false := by
    intro a i j d p p0 p1
    have z : hv g (uad g a i j) (p / 64) = 0 := by
      unfold uad
      rcases d with d | ⟨o, d, -⟩
      · have e : a = 1 ∨ a = 2 ∨ a = 3 := by unfold cdom at d; omega
        rw [if_pos e]
        by_cases a3 : a = 3
        · subst a3
          have d' : 0 ≤ i ∧ i < pNs L ∧ j = 0 := by unfold cdom at d; omega
          unfold cad
          rw [if_neg (by decide), if_neg (by decide), show (264 : Int) + 3 * i + 2 = 266 + 3 * i by omega]
          exact (mt i d'.1 d'.2.1).2 _ (by omega) (by omega)
        · exact (ce a i j d a3).2 _ (by omega) (by omega)
      · have e : ¬ (a = 1 ∨ a = 2 ∨ a = 3) := by unfold oca at o; omega
        rw [if_neg e]
        unfold inM at d
        exact (mo i d.1 (by omega)).2.2.2.2 _ (by omega) (by omega)
    unfold ubt
    rw [z, bl_zero]
  have T := cT_mk w pl (fun a i j d a3 => (ce a i j d a3).1) (fun m hm => mo m hm.1 (by have := hm.2; omega)) ms mt
  have nr : ∀ k, inP L k → ¬ rch (cT g L) k := by
    intro k hk z
    unfold rch at z
    rw [T, if_neg (by omega)] at z
    exact z rfl
  have wz : wcn g (pNp L) = 0 := by
    unfold wcn
    rw [sm_cong (g := fun _ => 0) (fun i hi => by rw [(d1 (i : Int) (by omega) (by omega)).2.2.2.2.2.2.2.2, if_pos rfl]), sm_zero]
  have qi : QI g (pNp L) := ⟨by omega, by omega, by omega, by omega, by rw [q15, wz]; rfl, fun i i0 i1 => by omega, fun i j i0 i1 j1 => by omega, fun p p0 p1 z => absurd (d1 p p0 p1).2.2.2.2.2.2.2.2 z⟩
  have inj : ∀ a i j a' i' j', cdom L a i j → cdom L a' i' j' → cad g a i j = cad g a' i' j' → a = a' ∧ i = i' ∧ j = j' := by
    intro a i j a' i' j' d d' e
    have c3 : ∀ a i j, cdom L a i j → a = 3 → cad g a i j = 264 + 3 * i ∧ i < 8 ∧ j = 0 := by
      intro a i j d a3
      subst a3
      have d' : 0 ≤ i ∧ i < pNs L ∧ j = 0 := by unfold cdom at d; omega
      unfold cad
      rw [if_neg (by decide), if_neg (by decide)]
      exact ⟨rfl, by omega, d'.2.2⟩
    by_cases a3 : a = 3
    · by_cases a3' : a' = 3
      · obtain ⟨x1, x2, x3⟩ := c3 a i j d a3
        obtain ⟨y1, y2, y3⟩ := c3 a' i' j' d' a3'
        omega
      · exfalso
        obtain ⟨x1, x2, x3⟩ := c3 a i j d a3
        obtain ⟨q, q0, q1, eq, db, -⟩ := MO_cad w m' d' a3'
        have := ((r3 q q0 q1).resolve_left (d2 q q0 q1 db).1).2
        omega
    · by_cases a3' : a' = 3
      · exfalso
        obtain ⟨x1, x2, x3⟩ := c3 a' i' j' d' a3'
        obtain ⟨q, q0, q1, eq, db, -⟩ := MO_cad w m' d a3
        have := ((r3 q q0 q1).resolve_left (d2 q q0 q1 db).1).2
        omega
      · obtain ⟨q, q0, q1, eq, db, y⟩ := MO_cad w m' d a3
        obtain ⟨q', q0', q1', eq', db', y'⟩ := MO_cad w m' d' a3'
        have := r4 q q' q0 q1 q0' q1' (d2 q q0 q1 db).1 (by rw [← eq, ← eq']; exact e)
        unfold cdom at d d'
        omega
  have cw : CW g L := by
    refine ⟨by rw [e30]; exact cp, so, fun q q' hq hq' e => r2 q q' hq.1 (by have := hq.2; omega) hq'.1 (by have := hq'.2; omega) (pl q hq).1 e, r5, cl, inj, r9, r10, r11, r12⟩
  have z4 : ∀ i, 0 ≤ i → i < 8 → hv g (288 + i) 0 = 0 := by
    intro i i0 i1
    have := congrArg ath (ms i i0 i1)
    exact this
  have st : STc g L := by
    refine ⟨cw, qi, fun a i j d p p0 p1 x => ?_, T0_tiv T, fun q hq => Or.inr ⟨(pl q hq).2.1, (pl q hq).2.2.1⟩, fun m hm => Or.inr ?_, fun i i0 i1 => Or.inl (z4 i i0 i1)⟩
    · rw [ub0 a i j d p p0 p1] at x; cases x
    · have o := mo m hm.1 (by have := hm.2; omega)
      exact ⟨o.1, o.2.2.2.1⟩
  refine ⟨⟨st, ⟨fun p hp x => absurd (pl p hp).2.2.2.2.2.2.2.2 x, fun a i j d p hp x => ?_⟩, fun k hk s s0 b => ?_, fun i i0 i1 => ?_, fun k hk r => absurd r (nr k hk), fun U oU cU a i j => ?_⟩, nr⟩
  · rw [ub0 a i j d p hp.1 (by have := hp.2; omega)] at x; cases x
  · rw [(pl k hk).2.2.2.2.2.2.2.1, bl_zero] at b; cases b
  · rw [T, if_pos ⟨rfl, i0, i1, rfl⟩]; exact fle_rfl _
  · rw [T]
    by_cases y : a = 3 ∧ 0 ≤ i ∧ i < pNs L ∧ j = 0
    · rw [if_pos y]
      obtain ⟨rfl, i0, i1, rfl⟩ := y
      exact cU.1.2 i i0 i1
    · rw [if_neg y]; exact fle_fz _
/-- THE COMPONENT FINDS ITS FACTS -/
theorem w_find (hG : gO G = true) (w : WF L) (hz : L 99 0 = 1) (hB : B ≤ LIMC) (hC : C ≤ LIMS) (rm : RMx h) (cp : CP h L P) (bd : bdg h B C) (hR : ∀ m, inM L m → (hv h (hv h P 13) m ≠ 0 ↔ R m)) (hQ : ∀ g, FCx L R g → MIx h L P B C g → Q 0 g) : S_X2_find l G [(2002, 3), (16, P)] h Q E := by
  have nn := w.n
  unfold WFn at nn
  refine s_X2_find rfl fun K ki => r_X2_find_0 ki hG (w_make hG w hB hC rm cp bd fun g1 mo q14 q15 => ?_)
  obtain ⟨fd1, nr1⟩ := MO_FD (R := R) w mo q14 q15
  have mi1 := mo.1.1
  intro x ex
  subst ex
  have roots : ∀ N : Nat, ∀ n : Int, ∀ g : MH, (pNm L - n).toNat ≤ N → 0 ≤ n → n ≤ pNm L → FDx L R g → rts L R n (cT g L) → frC g1 g → JW K 7 [(2002, 3), (16, P), (0, n)] [] g := by
    have base : ∀ g, frC g1 g → hv g 3 0 = P ∧ P ≠ 0 ∧ hv g P 6 ≠ 0 ∧ hn g (hv g P 6) = pNm L ∧ (∀ m, 0 ≤ m → m < pNm L → CPm g L m (hv g (hv g P 6) m)) ∧ hv g P 13 ≠ 0 ∧ hn g (hv g P 13) = pNm L ∧ ∀ m, inM L m → (hv g (hv g P 13) m ≠ 0 ↔ R m) := by
      intro g f
      have mi := MI_C mi1 f
      obtain ⟨-, cpg, e, -, mk⟩ := mi
      obtain ⟨c1, -, -, -, -, ⟨c6, c7, c8⟩, -, -, -, -, c13, c14⟩ := cpg
      have p1 := c1.1
      have o13 := cp.2.2.2.2.2.2.2.2.2.2.1
      have e13 : hv g P 13 = hv h P 13 := frX_hv (MKf_X mk) cp.1 (by decide) 13
      refine ⟨e, by omega, by have := c6.1; omega, c7, c8, by have := c13.1; omega, c14, fun m hm => ?_⟩
      rw [e13, (mk.2 _ o13.2.1).2 m (fun z => by
        have := o13.1
        have t := o13.2.2
        unfold mkw wlo whi at z
        rw [t] at z
        omega)]
      exact hR m hm
    have last : ∀ g : MH, FDx L R g → rts L R (pNm L) (cT g L) → frC g1 g → JW K 7 [(2002, 3), (16, P), (0, pNm L)] [] g := by
      intro g fd rt f
      obtain ⟨b1', b2, b3, b4, b5, b6, b7, b8⟩ := base g f
      refine r_X2_find_7 ki hG ?_
      rw [b1', b4]
      refine ⟨b2, b3, fun _ => ?_, fun y => by omega⟩
      refine w_find_loop (R := R) hG w hz (hb := g1) ki (fun g' fd' rt' f' z79 => ?_) _ (pNm L) g (Nat.le_refl _) fd rt f
      have mi' := MI_C mi1 f'
      obtain ⟨st, rwx, us, s3, dn, lst⟩ := fd'
      have dn' : ∀ k, inP L k → rch (cT g' L) k → dnC g' L k := fun k hk r => (dn k hk r).resolve_left (fun z => z (z79 k hk))
      exact hQ g' ⟨st, ⟨⟨rt', s3⟩, fun k k0 k1 r => (dn' k ⟨k0, k1⟩ r).1⟩, lst, fun k hk r => (dn' k hk r).2.2⟩ mi'
    intro N
    induction N with
    | zero =>
      intro n g a1 a2 a3 fd rt f
      have en : n = pNm L := by omega
      subst en
      exact last g fd rt f
    | succ N ih =>
      intro n g a1 a2 a3 fd rt f
      by_cases en : n = pNm L
      · subst en
        exact last g fd rt f
      have hn : inM L n := ⟨a2, by omega⟩
      obtain ⟨b1', b2, b3, b4, b5, b6, b7, b8⟩ := base g f
      refine r_X2_find_7 ki hG ?_
      rw [b1', b4, b7]
      refine ⟨b2, b3, fun y => by omega, fun _ => ⟨b2, b6, a2, by omega, fun y => ⟨b2, b3, a2, by omega, ?_⟩, fun y x ex => ?_⟩⟩
      · have rn := (b8 n hn).mp y
        refine K_root hG w fd.1 hn (b5 n a2 (by omega)) fun g2 ad => ?_
        intro x ex
        rw [w32_i (by omega) (by omega)] at ex
        subst ex
        refine ih (n + 1) g2 (by omega) (by omega) (by omega) (FD_ad w fd ad (fun U oU cU => cU.1.1 n a2 (by omega) rn)) ((rts_s a2).mpr ⟨fun m m0 m1 r => Flow_le (fun _ => fle_rfl _) (fle_rfl _) ad.2.2.2.2.1 (rt m m0 m1 r), fun _ => ad.2.2.2.2.2.1⟩) (frC_tr f ad.1)
      · rw [w32_i (by omega) (by omega)] at ex
        subst ex
        exact ih (n + 1) g (by omega) (by omega) (by omega) fd ((rts_s a2).mpr ⟨rt, fun r => absurd y ((b8 n hn).mpr r)⟩) f
  exact roots _ 0 g1 (Nat.le_refl _) (by decide) (by omega) fd1 (fun m m0 m1 => by omega) (frC_rfl g1)
end FO
