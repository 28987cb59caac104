/-! Part 51r: the loop over arrays in the component -/
section EF
variable {T : TB} {I : FA} {x n v5 v6 x6 : Int}
theorem eBN_fl (m2 : 7 ≤ n) (i6 : v6 ≠ 0 ↔ ∃ s, eBN T I x n s) (o6 : v6 = 0 ∨ v6 = 1) (b : bl x n = true) (e6 : x6 = i_or v6 (if alo I < 0 then 1 else (if ahi I < alo (T 2 n 0) then 0 else 1 : Int) : Int)) : (x6 ≠ 0 ↔ ∃ s, eBN T I x (n + 1) s) ∧ (x6 = 0 ∨ x6 = 1) := by
  have bb : ∀ B : Int, B = (if alo I < 0 then 1 else (if ahi I < alo (T 2 n 0) then 0 else 1 : Int) : Int) → (B = 0 ∨ B = 1) ∧ (B ≠ 0 ↔ (alo I < 0 ∨ alo (T 2 n 0) ≤ ahi I)) := by
    clear e6 i6
    intro B eB
    split at eB
    · exact ⟨by omega, by omega⟩
    · split at eB
      · exact ⟨by omega, by omega⟩
      · exact ⟨by omega, by omega⟩
  obtain ⟨u1, u2⟩ := bb _ rfl
  obtain ⟨v1, v2⟩ := i_or01 o6 u1
  rw [← e6] at v1 v2
  refine ⟨?_, v1⟩
  constructor
  · intro z
    by_cases z6 : v6 = 0
    · have : ¬ (if alo I < 0 then 1 else (if ahi I < alo (T 2 n 0) then 0 else 1 : Int) : Int) = 0 := fun z7 => z (v2.mpr ⟨z6, z7⟩)
      exact ⟨n, (eBN_s m2).mpr (Or.inr ⟨rfl, b, u2.mp this⟩)⟩
    · obtain ⟨s, hs⟩ := i6.mp z6
      exact ⟨s, (eBN_s m2).mpr (Or.inl hs)⟩
  · rintro ⟨s, hs⟩ z
    obtain ⟨z6, z7⟩ := v2.mp z
    rcases (eBN_s m2).mp hs with y1 | ⟨-, -, y1⟩
    · exact i6.mpr ⟨s, y1⟩ z6
    · exact u2.mpr y1 z7
theorem eFl_out (m2 : 7 ≤ n) (f : eFl T I x n v5 v6) (b : bl x n = true) (no : ¬ (0 ≤ ahi I ∧ alo I < ahi (T 2 n 0))) (e6 : x6 = i_or v6 (if alo I < 0 then 1 else (if ahi I < alo (T 2 n 0) then 0 else 1 : Int) : Int)) : eFl T I x (n + 1) v5 x6 := by
  obtain ⟨q1, q2⟩ := eBN_fl m2 f.2.1 f.2.2 b e6
  refine ⟨?_, q1, q2⟩
  rw [f.1]
  constructor
  · rintro ⟨s, hs⟩; exact ⟨s, (eIN_s m2).mpr (Or.inl hs)⟩
  · rintro ⟨s, hs⟩
    rcases (eIN_s m2).mp hs with y | ⟨-, -, y⟩
    · exact ⟨s, y⟩
    · exact absurd y no
theorem eFl_in (m2 : 7 ≤ n) (f : eFl T I x n v5 v6) (b : bl x n = true) (yes : 0 ≤ ahi I ∧ alo I < ahi (T 2 n 0)) (e6 : x6 = i_or v6 (if alo I < 0 then 1 else (if ahi I < alo (T 2 n 0) then 0 else 1 : Int) : Int)) : eFl T I x (n + 1) 1 x6 := by
  obtain ⟨q1, q2⟩ := eBN_fl m2 f.2.1 f.2.2 b e6
  exact ⟨⟨fun _ => ⟨n, (eIN_s m2).mpr (Or.inr ⟨rfl, b, yes⟩)⟩, fun _ => by decide⟩, q1, q2⟩
theorem eFl_no (m2 : 7 ≤ n) (f : eFl T I x n v5 v6) (nb : ¬ bl x n = true) : eFl T I x (n + 1) v5 v6 := by
  refine ⟨?_, ?_, f.2.2⟩
  · rw [f.1]
    constructor
    · rintro ⟨s, hs⟩; exact ⟨s, (eIN_s m2).mpr (Or.inl hs)⟩
    · rintro ⟨s, hs⟩
      rcases (eIN_s m2).mp hs with y | ⟨-, y, -⟩
      · exact ⟨s, y⟩
      · exact absurd y nb
  · rw [f.2.1]
    constructor
    · rintro ⟨s, hs⟩; exact ⟨s, (eBN_s m2).mpr (Or.inl hs)⟩
    · rintro ⟨s, hs⟩
      rcases (eBN_s m2).mp hs with y | ⟨-, y, -⟩
      · exact ⟨s, y⟩
      · exact absurd y nb
end EF
section EQ
variable {l : Launch} {G : JG} {h g : MH} {L : PG} {k M : Int} {Q : Int → MH → Prop} {E : Nat → Int → MH → Prop}
theorem w_elem_loop (hG : gO G = true) (w : WF L) (t : tiv L (cT h L)) (hr : rch (cT h L) k) (u : usI h L k) (e : pOp L k = 23 ∨ pOp L k = 24) {x1 D : Int} (hD : D = rfsC L k - 8)
    (bg : ∀ s, 0 ≤ s → (bl x1 s = true ↔ bl (ast (cT h L 0 k (rfsC L k))) s = true ∧ 1 ≤ s ∧ isarr L s (pX L k))) {g3 : MH} (t3 : tiv L (cT g3 L)) (le3 : tle (cT h L) (cT g3 L)) (hQ : ∀ g', WE h g' L k → Q 0 g')
    {h0 : MH} {K : JC} (ki : KI K l G yX2_element cX2_element 9 none [] 11 321 700 Q E h0) :
    ∀ N : Nat, ∀ n : Int, ∀ g' : MH, ∀ V v5 v6 : Int, (pNt L - n).toNat ≤ N → 7 ≤ n → n ≤ pNt L → EI h g3 L k M D x1 n g' V v5 v6 →
      JW K 75 [(2002, 3), (0, pOp L k), (0, pX L k), (1, x1), (5000, 0), (0, v5), (0, v6), (0, n), (5000, 0)] [] g' := by
  have nn := w.n
  unfold WFn at nn
  intro N
  induction N with
  | zero =>
    intro n g' V v5 v6 m1 m2 m3 ei
    have en : n = pNt L := by omega
    subst en
    exact w_elem_end hG w t hr u e hD bg t3 le3 ei hQ ki
  | succ N ih =>
    intro n g' V v5 v6 m1 m2 m3 ei
    by_cases en : n = pNt L
    · subst en
      exact w_elem_end hG w t hr u e hD bg t3 le3 ei hQ ki
    have ei0 := ei
    obtain ⟨cg, eT2, e23, rgL, ii, bV, f135, f137, le3l⟩ := ei
    have hk := cg.2.1.1
    have hk1 := hk.1
    have hk2 := hk.2
    obtain ⟨⟨rr1, rr2, rr3⟩, sbx, arr⟩ := el_facts w hk t hr e bg t3 le3
    have it := tiv_slot t hr rr2
    have i0 : ath (cT h L 0 k (rfsC L k + 1)) ≠ 0 := by rw [it.2.2.2]; decide
    have vt := tiv_slot t hr rr3
    have cp := (wcf_st cg).1.1
    have e18 := cg.2.1.2.1
    have ch : CW h L := frC_CW (frC_sym (frC_tr (o77_f (o77_set h k V)) cg.1.1)) w (wcf_st cg).1
    refine r_X2_element_75 ki hG ⟨by have := cp.1.1; omega, ?_⟩
    rw [cp.2.1.2.2, w32_i (by omega) (by omega), l_bit (by omega) (by omega)]
    refine ⟨fun y => by omega, fun _ => ⟨fun y => ?_, fun y x7 e7 => ?_⟩⟩
    · -- an array
      have b : bl x1 n = true := by
        cases r : bl x1 n
        · rw [r, if_neg (by decide)] at y
          exact absurd (lc_z.mpr rfl) y
        · rfl
      obtain ⟨i1, nf, gs2, gs1⟩ := arr n b (by omega)
      have dd2 : cdom L 2 n 0 := Or.inr (Or.inl ⟨rfl, i1, rfl⟩)
      have dd1 : cdom L 1 n 0 := Or.inl ⟨rfl, i1, by decide, by omega⟩
      obtain ⟨cl, cr⟩ := (wcf_st cg).1.2.2.2.2.1 2 n 0 dd2
      have e70 : hv g' 70 n = cad g' 2 n 0 := rfl
      have eu : uad g' 2 n 0 = cad g' 2 n 0 + 2 := rfl
      have rT : cT g' L 2 n 0 = fo g' (cad g' 2 n 0 + 1) := by
        rw [cT_c g' L n 0 (Or.inr (Or.inl rfl))]
        unfold tc1
        rw [iff_p dd2]
      obtain ⟨w1, w2, w3, w4, w5⟩ := W_reg w (ath_le (tle_trans le3 le3l _ _ _) hr) cg (Or.inl dd2)
      have cr1 : (144 : Int) ≤ cad g' 2 n 0 := by omega
      rw [e70, cl.2.2.2.2.2.1]
      refine ⟨by omega, by omega, by omega, c_use hG (by rw [e18]; exact hk1) (by rw [e18]; omega) (by omega) cl.2.2.2.2.2.2.2 ?_⟩
      rw [e18, ← eu]
      have g70 : hv (urs g' (uad g' 2 n 0) k) 70 n = cad g' 2 n 0 := by rw [w4 70 n (by decide)]; exact e70
      have gC : hv (urs g' (uad g' 2 n 0) k) (cad g' 2 n 0) 0 = cad g' 2 n 0 + 1 := by rw [urs_ne (by omega)]; exact cl.2.2.2.1
      have gF : fo (urs g' (uad g' 2 n 0) k) (cad g' 2 n 0 + 1) = cT g3 L 2 n 0 := by rw [← eT2, rT]; exact fo_eq (fun j => urs_ne (by omega))
      have gI : fo (urs g' (uad g' 2 n 0) k) 135 = cT h L 0 k (rfsC L k + 1) := by rw [← f135]; exact fo_eq (fun j => w4 _ j (by decide))
      have a0 : hv (urs g' (uad g' 2 n 0) k) (cad g' 2 n 0 + 1) 0 = 1 := (congrArg ath gF).trans gs2.2.2.2
      have a1 : hv (urs g' (uad g' 2 n 0) k) (cad g' 2 n 0 + 1) 1 = alo (cT g3 L 2 n 0) := congrArg alo gF
      have a2 : hv (urs g' (uad g' 2 n 0) k) (cad g' 2 n 0 + 1) 2 = ahi (cT g3 L 2 n 0) := congrArg ahi gF
      have b1' : hv (urs g' (uad g' 2 n 0) k) 135 1 = alo (cT h L 0 k (rfsC L k + 1)) := congrArg alo gI
      have b2 : hv (urs g' (uad g' 2 n 0) k) 135 2 = ahi (cT h L 0 k (rfsC L k + 1)) := congrArg ahi gI
      have g77 : hv (urs g' (uad g' 2 n 0) k) 77 k = V := by rw [w4 77 k (by decide), cg.1.2.2.2.1 k, eq_a]
      have g18 : hv (urs g' (uad g' 2 n 0) k) 3 18 = k := by rw [w4 3 18 (by decide)]; exact e18
      have w136 : fo (urs g' (uad g' 2 n 0) k) 136 = fo g' 136 := fo_eq (fun j => w4 _ j (by decide))
      have w137 : pOp L k = 24 → fo (urs g' (uad g' 2 n 0) k) 137 = cT h L 0 k (7 + pDp L k) := fun o => by rw [← f137 o]; exact fo_eq (fun j => w4 _ j (by decide))
      rw [g70, gC, b1', b2, g18, g77]
      generalize hg1 : urs g' (uad g' 2 n 0) k = g1 at *
      refine ⟨by omega, by omega, by omega, fun x8 e8 => ?_⟩
      subst e8
      rw [a0, a1, a2]
      have keep := w5.2.2.1.2.2.2.1
      have rgL1 : ∀ s, 7 ≤ s → s < n + 1 → bl x1 s = true → ubt g1 (uad g1 2 s 0) k = true := by
        intro s s7 sn bs
        by_cases z : s = n
        · rw [z]; exact w2
        · exact keep 2 s 0 (Or.inl (Or.inr (Or.inl ⟨rfl, (arr s bs (by omega)).1, rfl⟩))) k hk (rgL s s7 (by omega) bs)
      refine ⟨by omega, fun _ => ⟨fun _ => by omega, fun x6 e6 => ?_⟩, fun z => absurd z (by decide)⟩
      -- the index is not within
      have out : ¬ (0 ≤ ahi (cT h L 0 k (rfsC L k + 1)) ∧ alo (cT h L 0 k (rfsC L k + 1)) < ahi (cT g3 L 2 n 0)) → ∀ x7 : Int, x7 = w32 (n + 1) → JW K 75 [(2002, 3), (0, pOp L k), (0, pX L k), (1, x1), (5000, 0), (0, v5), (0, x6), (0, x7), (5000, 0)] [] g1 := by
        intro no x7 e7
        rw [w32_i (by omega) (by omega)] at e7
        subst e7
        have eqI : ∀ s, eIN (cT g3 L) (cT h L 0 k (rfsC L k + 1)) x1 (n + 1) s ↔ eIN (cT g3 L) (cT h L 0 k (rfsC L k + 1)) x1 n s := by
          intro s
          rw [eIN_s m2]
          constructor
          · rintro (y1 | ⟨-, -, y1⟩)
            · exact y1
            · exact absurd y1 no
          · exact Or.inl
        refine ih (n + 1) g1 V v5 x6 (by omega) (by omega) (by omega) ⟨wcf_P w1 (fun _ p => ⟨p.1, fun o s hs => p.2 o s ((eqI s).mp hs)⟩), fun s => by rw [w3]; exact eT2 s, fun o => ?_, rgL1, eFl_out m2 ii b no e6, fun s s0 => by rw [bV s s0, eqI s], gI, w137, by rw [w3]; exact le3l⟩
        · obtain ⟨z1, z2, z3, z4⟩ := e23 o
          refine ⟨w3.trans z1, by rw [w136]; exact lub_n z2 eqI, by rw [w136]; exact z3, fun s hs => ?_⟩
          have hs' := (eqI s).mp hs
          obtain ⟨j1, jn, -⟩ := arr s hs'.2.2.1 (by have := hs'.1; omega)
          exact keep 1 s 0 (Or.inl (Or.inl ⟨rfl, j1, by decide, by omega⟩)) k hk (z4 s hs')
      refine ⟨fun z => out (by omega), fun z => ⟨by omega, fun z2 => ?_, fun z2 => out (by omega)⟩⟩
      intro x5 e5
      subst e5
      refine ⟨hk1, by omega, hk1, by omega, fun h21 e21 => ?_⟩
      obtain ⟨cb, ebh, ebg⟩ := wcf_77 w w1 (l_or V (l_shl 1 n))
      rw [hset_tw, ← e21] at cb
      rw [← e21] at ebg
      have o21 : o77 g1 h21 := by rw [e21]; exact o77_set _ _ _
      have eqI : ∀ s, eIN (cT g3 L) (cT h L 0 k (rfsC L k + 1)) x1 (n + 1) s ↔ (eIN (cT g3 L) (cT h L 0 k (rfsC L k + 1)) x1 n s ∨ s = n) := by
        intro s
        rw [eIN_s m2]
        constructor
        · rintro (y1 | ⟨y1, -⟩)
          · exact Or.inl y1
          · exact Or.inr y1
        · rintro (y1 | y1)
          · exact Or.inl y1
          · exact Or.inr ⟨y1, b, z, z2⟩
      have bV' : ∀ s, 0 ≤ s → (bl (l_or V (l_shl 1 n)) s = true ↔ bl (hv h 77 k) s = true ∨ eIN (cT g3 L) (cT h L 0 k (rfsC L k + 1)) x1 (n + 1) s) := by
        intro s s0
        rw [bl_or, bl_shl (by omega) (by omega) s0, eqI s]
        simp only [Bool.or_eq_true, decide_eq_true_eq]
        rw [bV s s0]
        constructor
        · rintro ((y1 | y1) | y1)
          · exact Or.inl y1
          · exact Or.inr (Or.inl y1)
          · exact Or.inr (Or.inr y1)
        · rintro (y1 | y1 | y1)
          · exact Or.inl (Or.inl y1)
          · exact Or.inl (Or.inr y1)
          · exact Or.inr y1
      have fl' := eFl_in m2 ii b ⟨z, z2⟩ e6
      have T21 : cT h21 L = cT g' L := ebg.trans w3
      obtain ⟨r6, r8⟩ := CW_row (wcf_st cb).1 (show 0 ≤ n by omega) (by omega)
      have f21 : ∀ b, b ≠ 77 → fo h21 b = fo g1 b := fun b hb => fo_eq (fun j => o21.2 b j hb)
      have u21 : ∀ a i j, udom L a i j → ubt h21 (uad h21 a i j) k = ubt g1 (uad g1 a i j) k := fun a i j dd => o77_u w (wcf_st w1).1 o21 dd k
      have ea : hv h21 (7 + n) 0 = cad h21 1 n 0 := rfl
      rw [r6, r8, ea]
      have dlen : ∀ s, 7 ≤ s → s < n + 1 → bl x1 s = true → udom L 2 s 0 := fun s s7 sn bs => Or.inl (Or.inr (Or.inl ⟨rfl, (arr s bs (by omega)).1, rfl⟩))
      refine ⟨fun n23 => ⟨by omega, by omega, by omega, by decide, by decide, ?_⟩, fun y23 => ⟨by omega, by omega, by omega, by decide, by decide, ?_⟩⟩
      · have e24 : pOp L k = 24 := by omega
        refine W_cjoin (v := cT h L 0 k (7 + pDp L k)) hG w EI_P cb dd1 (by decide) (by rw [f21 137 (by decide)]; exact w137 e24) (fgd_le (by rw [T21]; exact tle_trans le3 le3l) vt) (fun U oU p q => ?_) fun g23 c23 ws23 a23 x7 e7 => ?_
        · obtain ⟨z1, z2', z3⟩ := (bg n (by omega)).mp b
          have lh : tle (cT h L) (cT h21 L) := by rw [T21]; exact tle_trans le3 le3l
          obtain ⟨j0, j1, j2, -⟩ := lh 0 k (rfsC L k + 1) i0
          have q2 := ((CLel e).mp (CL_dn (wcf_st cb).2.2.2.1 (ath_le (lh _ _ _) hr) p q) n (sb_le (t.1 _ _ _) (lh _ _ _) (sbx n (by omega) z1))).2.2 (by omega) z3 (by rw [T21, eT2, gs2.2.2.2]; decide) j0
          have hh : cT h21 L 2 n 0 = cT g3 L 2 n 0 := by rw [T21]; exact eT2 n
          exact fle_trans (lh _ _ _) ((q2.2 (by rw [hh]; omega)).1 e24)
        · rw [w32_i (by omega) (by omega)] at e7
          subst e7
          refine ih (n + 1) g23 (l_or V (l_shl 1 n)) 1 x6 (by omega) (by omega) (by omega) ⟨wcf_P c23 (fun _ p => ⟨p.1.1, fun o s hs => ?_⟩), fun s => ?_, fun o => absurd o n23, fun s s7 sn bs => a23.2.2.1.2.2.2.1 2 s 0 (dlen s s7 sn bs) k hk (by rw [u21 2 s 0 (dlen s s7 sn bs)]; exact rgL1 s s7 sn bs), fl', bV', ?_, fun o => ?_, tle_trans (by rw [T21]; exact le3l) a23.2.2.2.2.1⟩
          · rcases (eqI s).mp hs with y1 | y1
            · exact p.1.2 o s y1
            · rw [y1]; exact p.2
          · rw [AdK_one (wcf_st cb).2.2.2.1.1 vt.1 a23 (by omega), T21]; exact eT2 s
          · rw [← gI, ← f21 135 (by decide)]; exact fo_eq (fun j => ws23 _ j (by omega))
          · rw [← w137 o, ← f21 137 (by decide)]; exact fo_eq (fun j => ws23 _ j (by omega))
      · refine W_gather hG w (by rw [T21]; exact ath_le (tle_trans le3 le3l _ _ _) hr) cb dd1 fun g26 c26 rg26 eT26 fo26 fr26 a26 x7 e7 => ?_
        rw [w32_i (by omega) (by omega)] at e7
        subst e7
        obtain ⟨z1, z2', z3, z4⟩ := e23 y23
        have T26 : cT g26 L = cT g3 L := eT26.trans (T21.trans z1)
        have fo26' : fo g26 136 = fjoin (fo g' 136) (cT g3 L 1 n 0) := by rw [fo26, f21 136 (by decide), w136, T21, z1]
        refine ih (n + 1) g26 (l_or V (l_shl 1 n)) 1 x6 (by omega) (by omega) (by omega) ⟨wcf_P c26 (fun _ p => ⟨p.1, fun o => by omega⟩), fun s => by rw [T26], fun _ => ⟨T26, lub_1 (n := n) z2' eqI fo26', Or.inr (by rw [fo26']; exact fgd_join z3 gs1), fun s hs => ?_⟩, fun s s7 sn bs => a26.2.2.1.2.2.2.1 2 s 0 (dlen s s7 sn bs) k hk (by rw [u21 2 s 0 (dlen s s7 sn bs)]; exact rgL1 s s7 sn bs), fl', bV', ?_, fun o => by omega, by rw [T26]; exact tle_rfl _⟩
        · rcases (eqI s).mp hs with y1 | y1
          · obtain ⟨j1, jn, -⟩ := arr s y1.2.2.1 (by have := y1.1; omega)
            have du : udom L 1 s 0 := Or.inl (Or.inl ⟨rfl, j1, by decide, by omega⟩)
            exact a26.2.2.1.2.2.2.1 1 s 0 du k hk (by rw [u21 1 s 0 du]; exact keep 1 s 0 du k hk (z4 s y1))
          · rw [y1]; exact rg26
        · rw [← gI, ← f21 135 (by decide)]; exact fo_eq (fun j => fr26 _ j (by decide) (by decide))
    · -- none
      rw [w32_i (by omega) (by omega)] at e7
      subst e7
      have nb : ¬ bl x1 n = true := fun b => by
        rw [if_pos b] at y
        exact absurd (lc_z.mp y) (by decide)
      have eqI : ∀ s, eIN (cT g3 L) (cT h L 0 k (rfsC L k + 1)) x1 (n + 1) s ↔ eIN (cT g3 L) (cT h L 0 k (rfsC L k + 1)) x1 n s := by
        intro s
        rw [eIN_s m2]
        constructor
        · rintro (y1 | ⟨-, y1, -⟩)
          · exact y1
          · exact absurd y1 nb
        · exact Or.inl
      refine ih (n + 1) g' V v5 v6 (by omega) (by omega) (by omega) ⟨wcf_P cg (fun _ p => ⟨p.1, fun o s hs => p.2 o s ((eqI s).mp hs)⟩), eT2, fun o => ?_, fun s s7 sn bs => rgL s s7 ?_ bs, eFl_no m2 ii nb, fun s s0 => by rw [bV s s0, eqI s], f135, f137, le3l⟩
      · obtain ⟨z1, z2, z3, z4⟩ := e23 o
        exact ⟨z1, lub_n z2 eqI, z3, fun s hs => z4 s ((eqI s).mp hs)⟩
      · have : s ≠ n := fun z => nb (by rw [← z]; exact bs)
        omega
theorem hset_id {h : MH} {a k : Int} : hset h a k (hv h a k) = h := by
  refine mh_ext rfl (fun b j => ?_)
  rw [hv_set]
  split
  · rename_i q; rw [q.1, q.2]
  · rfl
/-- elements -/
theorem w_elem (hG : gO G = true) (w : WF L) (t : tiv L (cT h L)) (hr : rch (cT h L) k) (u : usI h L k) (c : wcf h g L k M (cT h L 0 k) (cT h L 6 k 0) (pDp L k) (fun _ => True)) (e : pOp L k = 23 ∨ pOp L k = 24) (hQ : ∀ g', WE h g' L k → Q 0 g') : S_X2_element l G [(2002, 3), (0, pOp L k), (0, pX L k)] g Q E := by
  have nn := w.n
  unfold WFn at nn
  have hk := c.2.1.1
  have hk1 := hk.1
  have hk2 := hk.2
  obtain ⟨-, -, xr, -, -, -, -, -, -, xa, -, -, -, -, -, -, -, -, -, dp, -⟩ := w.k hk.1 hk.2
  have xa' := xa (by omega)
  clear xa
  obtain ⟨cs, bs⟩ := tiv_sok t w 0 k (rfsC L k)
  refine s_X2_element rfl fun K ki => r_X2_element_0 ki hG ?_
  -- once the values are taken
  have main : ∀ (g1 : MH), wcf h g1 L k M (cT h L 0 k) (cT h L 6 k 0) (rfsC L k - 8) (fun _ => True) → fo g1 134 = cT h L 0 k (rfsC L k) → fo g1 135 = cT h L 0 k (rfsC L k + 1) → (pOp L k = 24 → fo g1 137 = cT h L 0 k (7 + pDp L k)) →
      ((hv g1 3 0) ≠ 0) ∧ S_X12_arrays l G [(2012, (hv g1 3 0)), (1, (hv g1 134 4)), (0, pX L k)] g1 (fun z5 h6 => (∀ x3_7 : Int, x3_7 = z5 → S_X2_refuse l G [(2002, 3), (8, 134), (1, x3_7)] h6 (fun _ h9 => S_X4_none l G [(2004, 136)] h9 (fun _ h11 => (∀ x5_12 : Int, x5_12 = 0 → (∀ x6_13 : Int, x6_13 = 0 → (∀ x7_14 : Int, x7_14 = 7 → JW K 75 [(2002, 3), (0, pOp L k), (0, pX L k), (1, x3_7), (5000, 0), (0, x5_12), (0, x6_13), (0, x7_14), (5000, 0)] [] h11)))) E) E)) E := by
    intro g1 c1 f1 f135 f137
    have ex : hv g1 134 4 = ast (cT h L 0 k (rfsC L k)) := congrArg ast f1
    have cp1 := (wcf_st c1).1.1
    refine ⟨by have := cp1.1.1; omega, ?_⟩
    rw [ex]
    refine c_arrays hG w cp1 (by omega) fun z5 fl x1 e1 => ?_
    subst e1
    have bg : ∀ s, 0 ≤ s → (bl x1 s = true ↔ bl (ast (cT h L 0 k (rfsC L k))) s = true ∧ 1 ≤ s ∧ isarr L s (pX L k)) := by
      intro s s0
      rw [fl.2 s s0]
      unfold isarr
      simp only [Bool.and_eq_true, decide_eq_true_eq]
      constructor
      · rintro ⟨⟨⟨y1, y2⟩, y3⟩, y4⟩
        exact ⟨y3, y1, y4⟩
      · rintro ⟨y1, y2, y3⟩
        exact ⟨⟨⟨y2, bs s s0 y1⟩, y1⟩, y3⟩
    have sbx : ∀ s, 0 ≤ s → bl (ast (cT h L 0 k (rfsC L k))) s = true → sb (cT h L 0 k (rfsC L k)) s := fun s s0 y => ⟨s0, by have := bs s s0 y; omega, y⟩
    refine W_refuse hG w t hr (fun _ _ _ x => x) c1 (Or.inr ⟨by decide, by decide⟩) ex (fun U _ q => ⟨fun y => ((CLel e).mp q 0 (sbx 0 (by decide) y)).1 rfl, fun ⟨s, s1, s2, y1, y2⟩ => ?_⟩) fun g2 c2 ws2 => ?_
    · refine ((CLel e).mp q s (sbx s (by omega) y1)).2.1 (by omega) (fun y3 => ?_)
      have := (bg s (by omega)).mpr ⟨y1, s1, y3⟩
      rw [this] at y2; cases y2
    refine c_none hG ?_
    intro x5 e5 x6 e6 x7 e7
    subst e5 e6 e7
    have c3 := wcf_fw (f := 136) (v := fz) w (by omega) c2
    refine w_elem_loop (M := M) hG w t hr u e rfl bg (wcf_st c3).2.2.2.1 c3.1.2.2.2.2.1 hQ ki _ 7 _ (hv h 77 k) 0 0 (Nat.le_refl _) (by decide) (by omega) ⟨?_, fun _ => rfl, fun _ => ⟨rfl, ?_, Or.inl (fo_fw0 rfl), fun s hs => ?_⟩, fun s s7 sn => by omega, ⟨?_, ?_, Or.inl rfl⟩, fun s s0 => ?_, ?_, fun o => ?_, tle_rfl _⟩
    · rw [hset_id]
      exact wcf_P c3 (fun _ p => ⟨p, fun _ s hs => by have := hs.1; have := hs.2.1; omega⟩)
    · rw [fo_fw0 rfl]
      exact lub_0 (fun s hs => by have := hs.1; have := hs.2.1; omega)
    · have := hs.1; have := hs.2.1; omega
    · exact ⟨fun y => absurd rfl y, fun ⟨s, hs⟩ => by have := hs.1; have := hs.2.1; omega⟩
    · exact ⟨fun y => absurd rfl y, fun ⟨s, hs⟩ => by have := hs.1; have := hs.2.1; omega⟩
    · exact ⟨Or.inl, fun y => by
        rcases y with y | y
        · exact y
        · have := y.1; have := y.2.1; omega⟩
    · rw [fo_ne (by decide), ← f135]; exact fo_eq (fun j => ws2 _ j (by omega))
    · rw [fo_ne (by decide), ← f137 o]; exact fo_eq (fun j => ws2 _ j (by omega))
  refine ⟨fun n24 => ?_, fun e24 => ?_⟩
  · have e23 : pOp L k = 23 := by omega
    have pp : ppo L k = 2 := by unfold ppo; simp [e23]
    have rD : rfsC L k = 6 + pDp L k := by unfold rfsC; rw [if_pos e23]
    refine W_take hG w c (by omega) (Or.inl ⟨by decide, by decide⟩) fun g0 c0 f0 gd0 fr0 => ?_
    refine W_take hG w c0 (by omega) (Or.inl ⟨by decide, by decide⟩) fun g1 c1 f1 gd1 fr1 => ?_
    rw [show 7 + (pDp L k - 1) = rfsC L k by omega] at f1
    rw [show pDp L k - 1 - 1 = rfsC L k - 8 by omega] at c1
    exact main g1 c1 f1 (by rw [show rfsC L k + 1 = 7 + pDp L k by omega, ← f0]; exact fo_eq (fun j => fr1 _ j (by omega) (by decide) (by omega))) (fun o => absurd o n24)
  · have pp : ppo L k = 3 := by unfold ppo; simp [e24]
    have rD : rfsC L k = 5 + pDp L k := by unfold rfsC; rw [if_neg (by omega)]
    refine W_take hG w c (by omega) (Or.inl ⟨by decide, by decide⟩) fun gz cz fz' gdz frz => ?_
    refine W_take hG w cz (by omega) (Or.inl ⟨by decide, by decide⟩) fun g0 c0 f0 gd0 fr0 => ?_
    refine W_take hG w c0 (by omega) (Or.inl ⟨by decide, by decide⟩) fun g1 c1 f1 gd1 fr1 => ?_
    rw [show 7 + (pDp L k - 1 - 1) = rfsC L k by omega] at f1
    rw [show pDp L k - 1 - 1 - 1 = rfsC L k - 8 by omega] at c1
    refine main g1 c1 f1 ?_ (fun _ => ?_)
    · rw [show rfsC L k + 1 = 7 + (pDp L k - 1) by omega, ← f0]; exact fo_eq (fun j => fr1 _ j (by omega) (by decide) (by omega))
    · rw [← fz']
      exact (fo_eq (fun j => fr1 _ j (by omega) (by decide) (by omega))).trans (fo_eq (fun j => fr0 _ j (by omega) (by decide) (by omega)))
end EQ
