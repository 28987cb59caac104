/-! Part 51z: one method that is called, in the component -/
section CST
variable {l : Launch} {G : JG} {h : MH} {L : PG} {k M D own : Int} {rc : Int → Int} {P0 : TB → Prop} {Q : Int → MH → Prop} {E : Nat → Int → MH → Prop}
/-- the next round of the loop, from what was read of one more method -/
theorem CLI_next {n : Int} {gx : MH} {f f1 : Int → Int → FA} {v5 v6 v7 v8 w5 w7 w8 x6 : Int} (w : WF L) (t : tiv L (cT h L)) (hk : inP L k) (n0 : 0 ≤ n) (hn : inM L n) (cd : CD L (cT h L) k n) (ef : ∀ a c, c < n → f1 a c = f a c) (gx0 : cGx L (cT h L) k f n v5 v6 v7 v8) (rg : RGx L (cT h L) k n gx f) (of : ∀ c, (f1 15 c = fbi (alb (f1 15 c)) ∧ c32 (alb (f1 15 c))) ∧ su8 (asu (f1 7 c)))
    (c1 : wcf h gx L k M (cT h L 0 k) (cT h L 6 k 0) D (fun U => (P0 U ∧ ∀ c, 0 ≤ c → c < n → CD L (cT h L) k c → (∀ s, cld L (cT h L 0 k) k s c → fle (fs 0) (U 10 k c) ∧ Flow L U (pFi L c) (entz L (cT h L 0 k) k s c) (cT h L 6 k 0)) ∧ tsX L k (cT h L 0 k) (ast (f 14 c)) (lke (RTb (cT h L) f) k c) U) ∧
      ((∀ s, cld L (cT h L 0 k) k s n → fle (fs 0) (U 10 k n) ∧ Flow L U (pFi L n) (entz L (cT h L 0 k) k s n) (cT h L 6 k 0)) ∧ tsX L k (cT h L 0 k) (ast (f1 14 n)) (lke (RTb (cT h L) f1) k n) U)))
    (ri : RIx (cT h L) (cT gx L) f1) (r1 : ubt gx (146 + 3 * n) k = true) (r2 : hv gx 79 k ≠ 0 ∨ ∀ a, oca a → cT gx L a n 0 = f1 a n) (e6 : x6 = i_or v6 (alb (f1 15 n)))
    (hw : (ath (f1 5 n) ≠ 0 ∧ w5 = 1 ∧ w7 = i_and v7 (asu (f1 7 n)) ∧ w8 = i_or v8 (alb (f1 7 n))) ∨ (ath (f1 5 n) = 0 ∧ w5 = v5 ∧ w7 = v7 ∧ w8 = v8))
    (mad : 0 < pGi L (lik L k) → lub (fo gx 136) (cIx L (cT h L) k f1 (n + 1)) (fun c => f1 5 c) ∧ (fo gx 136 = fz ∨ fgd L (cT gx L) (fo gx 136))) (arg : ∀ j, 0 ≤ j → j < pAr L (lik L k) → fo gx (139 + j) = cT h L 0 k (frs L k + j)) (rcv : ∀ c, hv gx 143 c = rc c) :
    CLI h L k M D rc P0 (n + 1) gx f1 w5 x6 w7 w8 := by
  refine ⟨wcf_P c1 (fun _ p => ⟨p.1.1, fun c c0 c1' cdc => ?_⟩), ri, fun c c0 c1' cdc => ?_, ?_, of, mad, arg, rcv⟩
  · by_cases z : c = n
    · rw [z]; exact p.2
    · have cn : c < n := by omega
      rw [ef 14 c cn, lke_f (ef 8 c cn) (ef 15 c cn)]
      exact p.1.2 c c0 cn cdc
  · by_cases z : c = n
    · rw [z]; exact ⟨r1, r2⟩
    · exact RGx_eq ef rg c c0 (by omega) cdc
  · rw [e6]
    exact cGx_yes n0 cd (cGx_eq ef gx0) hw
theorem cIx_s {n : Int} {f : Int → Int → FA} {T : TB} (n0 : 0 ≤ n) (cd : CD L T k n) (y : ath (f 5 n) ≠ 0) (c : Int) : cIx L T k f (n + 1) c ↔ (cIx L T k f n c ∨ c = n) := by
  unfold cIx
  constructor
  · rintro ⟨y1, y2, y3, y4⟩
    by_cases e : c = n
    · exact Or.inr e
    · exact Or.inl ⟨y1, by omega, y3, y4⟩
  · rintro (⟨y1, y2, y3, y4⟩ | e)
    · exact ⟨y1, by omega, y3, y4⟩
    · rw [e]; exact ⟨n0, by omega, cd, y⟩
theorem cIx_sn {n : Int} {f : Int → Int → FA} {T : TB} (y : ¬ (CD L T k n ∧ ath (f 5 n) ≠ 0)) (c : Int) : cIx L T k f (n + 1) c ↔ cIx L T k f n c := by
  unfold cIx
  constructor
  · rintro ⟨y1, y2, y3, y4⟩
    have : c ≠ n := fun e => by
      rw [e] at y3 y4
      exact y ⟨y3, y4⟩
    exact ⟨y1, by omega, y3, y4⟩
  · rintro ⟨y1, y2, y3, y4⟩; exact ⟨y1, by omega, y3, y4⟩
theorem w_call_loop (hG : gO G = true) (w : WF L) (t : tiv L (cT h L)) (hr : rch (cT h L) k) (u : usI h L k) (hz : L 99 0 = 1) (e : pOp L k = 29 ∨ pOp L k = 30) (hD : D = pDp L k - pAr L (lik L k)) (upP : ∀ U V, tle U V → P0 U → P0 V)
    (p0 : ∀ U, P0 U → (pOp L k = 30 → ∀ s, sb (cT h L 0 k (frs L k)) s → (s = 0 → TS L U k (cT h L 0 k) 1 (cT h L 6 k 0)) ∧ (s ≠ 0 → sent L s (pX L k) < 0 → TS L U k (cT h L 0 k) 5 (cT h L 6 k 0))))
    (hQ : ∀ g', WE h g' L k → Q 0 g') {M1 v2 : Int} (eo : own = (if lc v2 (-1) = 0 then 0 else 1 : Int)) (o29 : pOp L k = 29 → own = 0) (o30 : pOp L k = 30 → own = 1)
    (hrc : ∀ c, 0 ≤ c → c < pNm L → (rc c ≠ 0 ↔ CD L (cT h L) k c)) (hxo : pOp L k = 30 → ∀ c, 0 ≤ c → c < pNm L → ∀ s, 0 ≤ s → (bl (l_and (ast (cT h L 0 k (frs L k))) (rc c)) s = true ↔ cld L (cT h L 0 k) k s c)) {h0 : MH} {K : JC} (ki : KI K l G yX2_call cX2_call 12 none [] 9 276 700 Q E h0) :
    ∀ N : Nat, ∀ n : Int, ∀ g : MH, ∀ f : Int → Int → FA, ∀ v5 v6 v7 v8 : Int, (pNm L - n).toNat ≤ N → 0 ≤ n → n ≤ pNm L → CPm g L (lik L k) M1 → CLI h L k M D rc P0 n g f v5 v6 v7 v8 →
      JW K 74 [(2002, 3), (18, M1), (1, v2), (5000, 0), (9, 144 + 3 * pMo L k), (0, v5), (0, v6), (0, v7), (0, v8), (0, n), (5000, 0), (5000, 0)] [] g := by
  have nn := w.n
  unfold WFn at nn
  intro N
  induction N with
  | zero =>
    intro n g f v5 v6 v7 v8 n1 n2 n3 cm1 ci
    have en : n = pNm L := by omega
    subst en
    exact w_call_end hG w t hr u e hD upP p0 hQ cm1 ci ki
  | succ N ih =>
    intro n g f v5 v6 v7 v8 n1 n2 n3 cm1 ci
    by_cases en : n = pNm L
    · subst en
      exact w_call_end hG w t hr u e hD upP p0 hQ cm1 ci ki
    have aN : (pNm L - (n + 1)).toNat ≤ N ∧ 0 ≤ n + 1 ∧ n + 1 ≤ pNm L ∧ n < pNm L ∧ n < 40 := by omega
    obtain ⟨cg, ri, rg, gx, f15, mad, arg, rcv⟩ := ci
    have hk := cg.2.1.1
    have hk1 := hk.1
    have hk2 := hk.2
    have hn : inM L n := ⟨n2, aN.2.2.2.1⟩
    have cp := (wcf_st cg).1.1
    obtain ⟨ms1, ms2⟩ := CP_ms cp
    have ad := CP_ad cp
    have leh : tle (cT h L) (cT g L) := cg.1.2.2.2.2.1
    have cdm : ∀ c, CD L (cT h L) k c → inM L c ∧ pAr L c = pAr L (lik L k) ∧ pGi L c = pGi L (lik L k) ∧ (pOp L k ≠ 29 → 1 ≤ pAr L c) := fun c ⟨s, hs⟩ => cld_ok w t hk1 hk2 (by omega) hs
    obtain ⟨mk, -, -, -, -, -, -, -, -, -, -, -, -, -, -, -, -, -, -, dp, -⟩ := w.k hk.1 hk.2
    refine r_X2_call_74 ki hG ⟨by have := cp.1.1; omega, by omega, fun y => by rw [ms1] at y; omega, fun _ => ⟨n2, aN.2.2.2.2, ?_⟩⟩
    rw [rcv n, ms1]
    refine ⟨fun y => ?_, fun y => ?_⟩
    · -- a method that is called
      rw [lc_z] at y
      have cd := (hrc n n2 aN.2.2.2.1).mp y
      obtain ⟨-, arn, gin, ar1⟩ := cdm n cd
      have cmn := ms2 n n2 aN.2.2.2.1
      have lkb := cg.2.2.1.2
      have p1 : ppo L k = pAr L (lik L k) := by
        rcases e with e | e
        · unfold ppo; simp [e]
        · unfold ppo; simp [e]
      have slot : ∀ j, 0 ≤ j → j < pAr L n → rel L k (frs L k + j) := fun j j0 j1 => Or.inr ⟨by rw [frs_lik]; omega, by rw [frs_lik]; omega⟩
      have gY : ∀ j, 0 ≤ j → j < pAr L n → fgd L (cT g L) (cT h L 0 k (frs L k + j)) := fun j j0 j1 => fgd_le leh (tiv_slot t hr (slot j j0 j1))
      obtain ⟨s1, hs1⟩ := cd
      have cd : CD L (cT h L) k n := ⟨s1, hs1⟩
      have xbit : pOp L k = 30 → ∀ s, 0 ≤ s → (bl (l_and (ast (cT h L 0 k (frs L k))) (rc n)) s = true ↔ cld L (cT h L 0 k) k s n) := fun o => hxo o n n2 aN.2.2.2.1
      rw [← eo]
      refine ⟨by have := cp.1.1; omega, by omega, n2, aN.2.2.2.1, ?_⟩
      -- what is asked of a method's first facts
      have enEq : ∀ U : TB, (fle (fs 0) (U 10 k n) ∧ Flow L U (pFi L n) (enX L n own (l_and (ast (cT h L 0 k (frs L k))) (rc n)) (fun j => cT h L 0 k (frs L k + j))) (cT h L 6 k 0)) ↔ (∀ s, cld L (cT h L 0 k) k s n → fle (fs 0) (U 10 k n) ∧ Flow L U (pFi L n) (entz L (cT h L 0 k) k s n) (cT h L 6 k 0)) := by
        intro U
        have rl : ∀ j, rel L (pFi L n) j → 0 ≤ j := fun j r => by unfold rel at r; omega
        rcases e with e29 | e30
        · have s1e : ∀ s, cld L (cT h L 0 k) k s n → s = -1 := fun s hs => by
            rcases hs with hs | hs
            · exact hs.2.1
            · exact absurd e29 hs.1
          rw [o29 e29]
          have fe := fun j (r : rel L (pFi L n) j) => enX_0 (c := n) (k := k) (L := L) (X := cT h L 0 k) (Y := fun j => cT h L 0 k (frs L k + j)) (xo := l_and (ast (cT h L 0 k (frs L k))) (rc n)) (rl j r) (fun j _ _ => rfl)
          constructor
          · rintro ⟨q1, q2⟩ s hs
            rw [s1e s hs]
            exact ⟨q1, Flow_eq fe q2⟩
          · intro q
            have q1 := q s1 hs1
            rw [s1e s1 hs1] at q1
            exact ⟨q1.1, Flow_eq (fun j r => (fe j r).symm) q1.2⟩
        · have xb := xbit e30
          have sge : ∀ s, cld L (cT h L 0 k) k s n → 1 ≤ s ∧ s < 63 := fun s hs => by
            rcases hs with hs | hs
            · omega
            · exact ⟨hs.2.1, hs.2.2.1.2.1⟩
          have nz : l_and (ast (cT h L 0 k (frs L k))) (rc n) ≠ 0 := fun z => by
            have := (xb s1 (by have := sge s1 hs1; omega)).mpr hs1
            rw [z, bl_zero] at this; cases this
          have fe := Flow_en (L := L) (k := k) (c := n) (U := U) (q := pFi L n) (lk := cT h L 6 k 0) (X := cT h L 0 k) (Y := fun j => cT h L 0 k (frs L k + j)) hz (c64_l_and _ _) nz (ar1 (by omega)) (fun j _ _ => rfl) (fun s s0 b => (sge s ((xb s s0).mp b)).1) rl
          rw [o30 e30, fe]
          constructor
          · rintro ⟨q1, q2⟩ s hs
            have := sge s hs
            exact ⟨q1, q2 s (by omega) (by omega) ((xb s (by omega)).mpr hs)⟩
          · intro q
            exact ⟨(q s1 hs1).1, fun s s0 s2 b => (q s ((xb s s0).mp b)).2⟩
      refine K_enter (Y := fun j => cT h L 0 k (frs L k + j)) (xo := l_and (ast (cT h L 0 k (frs L k))) (rc n)) hG w (wcf_st cg) cg.2.1 hn cmn (fun j j0 j1 => arg j j0 (by omega)) gY (fun oo => ?_) (by rw [lkb]; exact fgd_le leh (tiv_lock t hr)) fun h12 a12 ws12 => ?_
      · have o1 : 1 ≤ pAr L n := ar1 (fun z => oo (o29 z))
        refine ⟨o1, by rw [rcv n, Int.add_zero], fok_fs (c64_l_and _ _), fun s s0 q => ?_, ⟨⟨mk_0 L, su8_0⟩, mk_0 L⟩, rfl⟩
        change bl (l_and (ast (cT h L 0 k (frs L k))) (rc n)) s = true at q
        rw [bl_and] at q
        simp only [Bool.and_eq_true] at q
        have := (gY 0 (by decide) (by omega)).2.1 s s0
        rw [Int.add_zero] at this
        exact this q.1
      · rw [lkb] at a12
        have c12 := wcf_goG w (CLI_P upP) cg a12 ws12 (fun U oU p q => (enEq U).mpr (fun s hs => by
          have := ((CL29 e).mp (CL_dn t hr (tle_trans leh p) q)).1 s n hs
          exact ⟨this.1, this.2.1⟩))
        have st12 := wcf_st c12
        obtain ⟨oo1, oo2, oo3, oo4, oo5, oo6, oo7⟩ := st12.1.2.2.2.2.2.2.1 n n2 aN.2.2.2.2
        have e18 := c12.2.1.2.1
        have ud : udom L 14 n 0 := Or.inr ⟨by unfold oca; omega, hn, rfl⟩
        have eu : uad h12 14 n 0 = 146 + 3 * n := uad_o (by unfold oca; omega)
        obtain ⟨w1, w2, w3, w4, w5⟩ := W_reg w (ath_le (c12.1.2.2.2.2.1 _ _ _) hr) c12 ud
        rw [eu] at w1 w2 w3 w4 w5
        rw [uad_o (by unfold oca; omega)] at w2
        rw [oo1]
        refine ⟨n2, aN.2.2.2.2, fun x10 e10 => ?_⟩
        subst e10
        rw [oo5]
        have on : (144 + 3 * n : Int) ≠ 0 := by omega
        refine ⟨on, c_use hG (by rw [e18]; exact hk1) (by rw [e18]; omega) (by omega) oo7 ?_⟩
        rw [e18]
        have o15 : ∀ j, hv (urs h12 (146 + 3 * n) k) (144 + 3 * n) j = hv h12 (144 + 3 * n) j := fun j => urs_ne (by omega)
        have le12 : tle (cT g L) (cT h12 L) := a12.2.2.2.2.1
        have b15 : hv (urs h12 (146 + 3 * n) k) 116 2 = asu (cT h L 6 k 0) := congrArg asu w1.2.2.1.2
        generalize hg15 : urs h12 (146 + 3 * n) k = g15 at *
        have st15 := wcf_st w1
        have t15 := st15.2.2.2.1
        have le15 : tle (cT g L) (cT g15 L) := by rw [w3]; exact le12
        have le15h : tle (cT h L) (cT g15 L) := tle_trans leh le15
        have ri15 : RIx (cT h L) (cT g15 L) (fup f n S1x (cT g15 L)) := RIx_fup t15 le15h (Or.inl rfl) (RIx_up le15 ri)
        have wd15 : wkdC g g15 L := wkdC_tr a12.2.2.1 w5.2.2.1
        have rg15 : RGx L (cT h L) k n g15 f := RGx_up hk (fun c cd => (cdm c cd).1) wd15 rg
        have k15 : ∀ b j, (116 ≤ b ∧ b < 144) → hv g15 b j = hv g b j := fun b j hb => by rw [w4 b j (by omega)]; exact ws12 b j (by omega)
        have f1e : ∀ a c, c < n → fup f n S1x (cT g15 L) a c = f a c := fun a c hc => fup_ne (by omega)
        have f114 : fup f n S1x (cT g15 L) 14 n = fb (hv g15 (144 + 3 * n) 4) := by rw [fup_y (by decide)]; exact rd_14 hn
        have f115 : fup f n S1x (cT g15 L) 15 n = cT g15 L 15 n 0 := fup_y (by decide)
        have f1of : ∀ c, (fup f n S1x (cT g15 L) 15 c = fbi (alb (fup f n S1x (cT g15 L) 15 c)) ∧ c32 (alb (fup f n S1x (cT g15 L) 15 c))) ∧ su8 (asu (fup f n S1x (cT g15 L) 7 c)) := by
          intro c
          rw [fup_n (show S1x 7 = false by decide) c]
          refine ⟨?_, (f15 c).2⟩
          by_cases z : c = n
          · rw [z, f115]; exact ⟨c15_fbi n, c32_alb (t15.1 _ _ _)⟩
          · rw [fup_ne z]; exact (f15 c).1
        have e115 : alb (fup f n S1x (cT g15 L) 15 n) = hv g15 (144 + 3 * n) 7 := by rw [f115]; exact rd_15a hn
        refine ⟨on, fun x6 e6 => ⟨on, ?_⟩⟩
        -- what is given back
        have tail : ∀ gz : MH, wcf h gz L k M (cT h L 0 k) (cT h L 6 k 0) D (fun U => (P0 U ∧ ∀ c, 0 ≤ c → c < n → CD L (cT h L) k c → (∀ s, cld L (cT h L 0 k) k s c → fle (fs 0) (U 10 k c) ∧ Flow L U (pFi L c) (entz L (cT h L 0 k) k s c) (cT h L 6 k 0)) ∧ tsX L k (cT h L 0 k) (ast (f 14 c)) (lke (RTb (cT h L) f) k c) U) ∧
              ((∀ s, cld L (cT h L 0 k) k s n → fle (fs 0) (U 10 k n) ∧ Flow L U (pFi L n) (entz L (cT h L 0 k) k s n) (cT h L 6 k 0)) ∧ tsX L k (cT h L 0 k) (ast (fup f n S1x (cT g15 L) 14 n)) (lke (RTb (cT h L) (fup f n S1x (cT g15 L))) k n) U)) →
            wkdC g15 gz L → tle (cT g15 L) (cT gz L) → frC g15 gz → (∀ b j, (116 ≤ b ∧ b < 144) → hv gz b j = hv g15 b j) →
            ((¬ (hv gz (144 + 3 * n) 0) = 0 → (∀ x5_17 : Int, x5_17 = 1 → (144 + 3 * n ≠ 0) ∧ (∀ x7_18 : Int, x7_18 = (i_and v7 (hv gz (144 + 3 * n) 2)) → (144 + 3 * n ≠ 0) ∧ (∀ x8_19 : Int, x8_19 = (i_or v8 (hv gz (144 + 3 * n) 3)) → (144 + 3 * n ≠ 0) ∧ S_X4_join l G [(2004, 136), (8, (hv gz (144 + 3 * n) 1))] gz (fun z20 h21 => (∀ x11_22 : Int, x11_22 = z20 → (∀ x9_23 : Int, x9_23 = w32 (n + 1) → JW K 74 [(2002, 3), (18, M1), (1, v2), (5000, 0), (9, 144 + 3 * pMo L k), (0, x5_17), (0, x6), (0, x7_18), (0, x8_19), (0, x9_23), (5000, 0), (5000, 0)] [] h21))) E)))) ∧
            ((hv gz (144 + 3 * n) 0) = 0 → (∀ x9_24 : Int, x9_24 = w32 (n + 1) → JW K 74 [(2002, 3), (18, M1), (1, v2), (5000, 0), (9, 144 + 3 * pMo L k), (0, v5), (0, x6), (0, v7), (0, v8), (0, x9_24), (5000, 0), (5000, 0)] [] gz))) := by
          intro gz cz wdz lez frz kz
          have stz := wcf_st cz
          have tz := stz.2.2.2.1
          have lezh : tle (cT h L) (cT gz L) := tle_trans le15h lez
          have riz : RIx (cT h L) (cT gz L) (fup (fup f n S1x (cT g15 L)) n S2x (cT gz L)) := RIx_fup tz lezh (Or.inr rfl) (RIx_up lez ri15)
          have rgz : RGx L (cT h L) k n gz f := RGx_up hk (fun c cd => (cdm c cd).1) wdz rg15
          obtain ⟨q1, q2, q3, q4, q5, q6, q7⟩ := stz.1.2.2.2.2.2.2.1 n n2 aN.2.2.2.2
          have f2e : ∀ a c, c < n → fup (fup f n S1x (cT g15 L)) n S2x (cT gz L) a c = f a c := fun a c hc => by rw [fup_ne (by omega)]; exact f1e a c hc
          have f2n : ∀ a, S2x a = false → fup (fup f n S1x (cT g15 L)) n S2x (cT gz L) a n = fup f n S1x (cT g15 L) a n := fun a s => fup_n s n
          have f25 : fup (fup f n S1x (cT g15 L)) n S2x (cT gz L) 5 n = cT gz L 5 n 0 := fup_y (by decide)
          have f27 : fup (fup f n S1x (cT g15 L)) n S2x (cT gz L) 7 n = cT gz L 7 n 0 := fup_y (by decide)
          have regz : ubt gz (146 + 3 * n) k = true := by
            have := wdz.2.2.2.1 14 n 0 ud k hk (by rw [uad_o (by unfold oca; omega)]; exact w2)
            rw [uad_o (by unfold oca; omega)] at this
            exact this
          have r2z : hv gz 79 k ≠ 0 ∨ ∀ a, oca a → cT gz L a n 0 = fup (fup f n S1x (cT g15 L)) n S2x (cT gz L) a n := by
            by_cases aw : hv gz 79 k ≠ 0
            · exact Or.inl aw
            · right
              intro a o
              by_cases s2 : S2x a = true
              · rw [fup_y s2]
              · have s2' : S2x a = false := by simpa using s2
                have s1x : S1x a = true := by
                  unfold S1x S2x at *
                  simp at s2'
                  simp
                  unfold oca at o
                  omega
                rw [f2n a s2', fup_y s1x]
                rcases wdz.2.2.1 a n 0 (Or.inr ⟨o, hn, rfl⟩) with z | z
                · exact z
                · exact absurd (z k hk (by rw [uad_o o]; exact w2)) aw
          have f2of : ∀ c, (fup (fup f n S1x (cT g15 L)) n S2x (cT gz L) 15 c = fbi (alb (fup (fup f n S1x (cT g15 L)) n S2x (cT gz L) 15 c)) ∧ c32 (alb (fup (fup f n S1x (cT g15 L)) n S2x (cT gz L) 15 c))) ∧ su8 (asu (fup (fup f n S1x (cT g15 L)) n S2x (cT gz L) 7 c)) := by
            intro c
            rw [fup_n (show S2x 15 = false by decide) c]
            refine ⟨(f1of c).1, ?_⟩
            by_cases z : c = n
            · rw [z, f27]; exact (tz.2.2.1 7 n 0).1.2
            · rw [fup_ne z]; exact (f1of c).2
          have cz2 : wcf h gz L k M (cT h L 0 k) (cT h L 6 k 0) D (fun U => (P0 U ∧ ∀ c, 0 ≤ c → c < n → CD L (cT h L) k c → (∀ s, cld L (cT h L 0 k) k s c → fle (fs 0) (U 10 k c) ∧ Flow L U (pFi L c) (entz L (cT h L 0 k) k s c) (cT h L 6 k 0)) ∧ tsX L k (cT h L 0 k) (ast (f 14 c)) (lke (RTb (cT h L) f) k c) U) ∧
              ((∀ s, cld L (cT h L 0 k) k s n → fle (fs 0) (U 10 k n) ∧ Flow L U (pFi L n) (entz L (cT h L 0 k) k s n) (cT h L 6 k 0)) ∧ tsX L k (cT h L 0 k) (ast (fup (fup f n S1x (cT g15 L)) n S2x (cT gz L) 14 n)) (lke (RTb (cT h L) (fup (fup f n S1x (cT g15 L)) n S2x (cT gz L))) k n) U)) := by
            rw [f2n 14 (by decide), lke_f (f2n 8 (by decide)) (f2n 15 (by decide))]
            exact cz
          have e6' : x6 = i_or v6 (alb (fup (fup f n S1x (cT g15 L)) n S2x (cT gz L) 15 n)) := by rw [f2n 15 (by decide), e115]; exact e6
          have argz : ∀ j, 0 ≤ j → j < pAr L (lik L k) → fo gz (139 + j) = cT h L 0 k (frs L k + j) := fun j j0 j1 => by
            have a4 : pAr L n ≤ 4 := by
              obtain ⟨-, -, -, -, a4, -⟩ := w.m hn.1 hn.2
              exact a4
            rw [← arg j j0 j1]
            exact fo_eq (fun i => by rw [kz _ i (by omega), k15 _ i (by omega)])
          have rcvz : ∀ c, hv gz 143 c = rc c := fun c => by rw [kz _ c (by omega), k15 _ c (by omega)]; exact rcv c
          have madz : fo gz 136 = fo g 136 := fo_eq (fun i => by rw [kz _ i (by omega), k15 _ i (by omega)])
          have cmz : CPm gz L (lik L k) M1 := frX_m (frC_X (frC_tr (frC_tr a12.1 w5.1) frz)) cm1
          refine ⟨fun y0 x5 e5 => ⟨on, fun x7 e7 => ⟨on, fun x8 e8 => ⟨on, ?_⟩⟩⟩, fun y0 x9 e9 => ?_⟩
          · have y1 : hv gz (144 + 3 * n) 0 = 1 := by
              rcases stz.2.2.2.2.2.1 n hn with z | ⟨z, -⟩
              · exact z
              · exact absurd z y0
            have r7 := rd_7 hn y1
            have r5 := rd_5 hn y1
            have th5 : ath (cT gz L 5 n 0) ≠ 0 := (tz.2.2.2.1 n).mpr (by rw [r7]; exact (by decide : (1 : Int) ≠ 0))
            rw [q3]
            refine c_join hG (by omega) fun z20 _ _ x11 _ x9 e9 => ?_
            rw [w32_i (by omega) (by omega)] at e9
            subst e9 e5
            have sm : smC gz (fw gz 136 (fjoin (fo gz 136) (fo gz (145 + 3 * n)))) := smC_fw (by omega)
            have eT := smC_ext w stz.1 sm
            have wd := smC_wkd w stz.1 sm
            have h136 : fo (fw gz 136 (fjoin (fo gz 136) (fo gz (145 + 3 * n)))) 136 = fjoin (fo g 136) (fo gz (145 + 3 * n)) := by rw [fo_fw0 (asu_join rfl rfl), madz]
            refine ih (n + 1) _ (fup (fup f n S1x (cT g15 L)) n S2x (cT gz L)) 1 x6 x7 x8 aN.1 aN.2.1 aN.2.2.1 (frX_m (frC_X (smC_fr sm)) cmz) (CLI_next w t hk n2 hn cd f2e gx (RGx_up hk (fun c cd => (cdm c cd).1) wd rgz) f2of (wcf_fw w (by omega) cz2) (by rw [eT]; exact riz) ?_ ?_ e6' (Or.inl ⟨by rw [f25]; exact th5, rfl, by rw [f27, r7]; exact e7, by rw [f27, r7]; exact e8⟩) (fun gi => ?_) (fun j j0 j1 => ?_) (fun c => ?_))
            · rw [ubt_ne (fun j => fw_ne (by omega))]; exact regz
            · rw [fw_ne (by omega), eT]; exact r2z
            · obtain ⟨lb, gd⟩ := mad gi
              have v5e : cT gz L 5 n 0 = fo gz (145 + 3 * n) := by rw [r5, if_pos (by rw [gin]; exact gi)]
              rw [h136, eT]
              refine ⟨lub_1 (n := n) (lub_eq (J := cIx L (cT h L) k (fup (fup f n S1x (cT g15 L)) n S2x (cT gz L)) n) (g := fun c => fup (fup f n S1x (cT g15 L)) n S2x (cT gz L) 5 c) lb (fun c => cIx_eq f2e c) (fun c hc => f2e 5 c hc.2.1)) (fun c => cIx_s n2 cd (by rw [f25]; exact th5) c) (by show _ = fjoin _ (fup (fup f n S1x (cT g15 L)) n S2x (cT gz L) 5 n); rw [f25, v5e]), Or.inr ?_⟩
              refine fgd_join (gd.imp id (fun q => fgd_le (tle_trans le15 lez) q)) ?_
              rw [← v5e]
              exact ⟨tz.1 _ _ _, tz.2.1 _ _ _, tz.2.2.1 _ _ _, (fok_there (tz.1 _ _ _) th5).1⟩
            · rw [fo_ne (by omega)]; exact argz j j0 j1
            · rw [fw_ne (by omega)]; exact rcvz c
          · rw [w32_i (by omega) (by omega)] at e9
            subst e9
            have r5 := rd_5n (L := L) hn y0
            refine ih (n + 1) gz (fup (fup f n S1x (cT g15 L)) n S2x (cT gz L)) v5 x6 v7 v8 aN.1 aN.2.1 aN.2.2.1 cmz (CLI_next w t hk n2 hn cd f2e gx rgz f2of cz2 riz regz r2z e6' (Or.inr ⟨by rw [f25, r5]; rfl, rfl, rfl, rfl⟩) (fun gi => ?_) argz rcvz)
            obtain ⟨lb, gd⟩ := mad gi
            rw [madz]
            refine ⟨lub_eq lb (fun c => (cIx_sn (fun q => q.2 (by rw [f25, r5]; rfl)) c).trans (cIx_eq f2e c)) (fun c hc => f2e 5 c hc.2.1), ?_⟩
            exact gd.imp id (fun q => fgd_le (tle_trans le15 lez) q)
        have w1' : wcf h g15 L k M (cT h L 0 k) (cT h L 6 k 0) D (fun U => (P0 U ∧ ∀ c, 0 ≤ c → c < n → CD L (cT h L) k c → (∀ s, cld L (cT h L 0 k) k s c → fle (fs 0) (U 10 k c) ∧ Flow L U (pFi L c) (entz L (cT h L 0 k) k s c) (cT h L 6 k 0)) ∧ tsX L k (cT h L 0 k) (ast (f 14 c)) (lke (RTb (cT h L) f) k c) U) ∧ (∀ s, cld L (cT h L 0 k) k s n → fle (fs 0) (U 10 k n) ∧ Flow L U (pFi L n) (entz L (cT h L 0 k) k s n) (cT h L 6 k 0))) := wcf_P w1 (fun _ p => ⟨p.1, (enEq _).mp p.2⟩)
        refine ⟨fun z4 => ⟨on, ?_⟩, fun z4 => ⟨on, on, on, on, ?_⟩⟩
        · rw [lc_z] at z4
          refine tail g15 (wcf_P w1' (fun _ p => ⟨p.1, p.2, fun s s1 s2 b => ?_⟩)) (wkdC_rfl _ _) (tle_rfl _) (frC_rfl _) (fun _ _ _ => rfl)
          rw [f114, z4, show ast (fb 0) = 0 by decide, bl_zero] at b
          cases b
        · rw [lc_z] at z4
          have r8 := rd_8 hn z4
          have r14 : cT g15 L 14 n 0 = fs (hv g15 (144 + 3 * n) 4) := by
            rw [rd_14 hn]
            unfold fb
            rw [if_neg z4]
          have g14 : fgd L (cT g15 L) (fs (hv g15 (144 + 3 * n) 4)) := by
            rw [← r14]
            exact ⟨t15.1 _ _ _, t15.2.1 _ _ _, t15.2.2.1 _ _ _, by rw [r14]; rfl⟩
          have b0 : bl (hv g15 (144 + 3 * n) 4) 0 = false := by
            have := (t15.2.2.2.2.1 n).2
            rw [r14] at this
            exact this
          have lke1 : lke (RTb (cT h L) (fup f n S1x (cT g15 L))) k n = fk (i_or (hv g15 (144 + 3 * n) 5) (i_and (asu (cT h L 6 k 0)) (i_xor (hv g15 (144 + 3 * n) 7) (-1)))) (hv g15 (144 + 3 * n) 6) := by
            unfold lke
            rw [RTb_o _ _ n (by unfold oca; omega), RTb_o _ _ n (by unfold oca; omega), RTb_6, e115, fup_y (show S1x 8 = true by decide), r8]
            rfl
          have gk := tiv_lock t hr
          have s8 : su8 (i_or (hv g15 (144 + 3 * n) 5) (i_and (asu (cT h L 6 k 0)) (i_xor (hv g15 (144 + 3 * n) 7) (-1)))) := by
            intro x hx
            have h5 := (t15.2.2.1 8 n 0).1.2 x hx
            rw [r8] at h5
            rw [bi_or, show bi (hv g15 (144 + 3 * n) 5) x = false from h5, bi_and, gk.2.2.1.1.2 x hx]; rfl
          have c6 : c32 (hv g15 (144 + 3 * n) 6) := by
            have := c32_alb (t15.1 8 n 0)
            rw [r8] at this
            exact this
          have rl : ∀ j, 0 ≤ j → j < pLc L (pMo L k) → rel L k j := fun j j0 j1 => Or.inl ⟨j0, j1⟩
          rw [b15]
          refine K_hurl2 (X := cT h L 0 k) hG w st15 w1.2.1 (fun j j0 j1 => w1.2.2.1.1 j (rl j j0 j1)) (fun j j0 j1 => fgd_le le15h (tiv_slot t hr (rl j j0 j1))) b0 z4 g14 (fgd_fk (c32_i_or _ _) s8 c6) fun g26 a26 ws26 => ⟨on, ?_⟩
          rw [← lke1] at a26
          have up15 : ∀ U V : TB, tle U V → ((P0 U ∧ ∀ c, 0 ≤ c → c < n → CD L (cT h L) k c → (∀ s, cld L (cT h L 0 k) k s c → fle (fs 0) (U 10 k c) ∧ Flow L U (pFi L c) (entz L (cT h L 0 k) k s c) (cT h L 6 k 0)) ∧ tsX L k (cT h L 0 k) (ast (f 14 c)) (lke (RTb (cT h L) f) k c) U) ∧ (∀ s, cld L (cT h L 0 k) k s n → fle (fs 0) (U 10 k n) ∧ Flow L U (pFi L n) (entz L (cT h L 0 k) k s n) (cT h L 6 k 0))) → ((P0 V ∧ ∀ c, 0 ≤ c → c < n → CD L (cT h L) k c → (∀ s, cld L (cT h L 0 k) k s c → fle (fs 0) (V 10 k c) ∧ Flow L V (pFi L c) (entz L (cT h L 0 k) k s c) (cT h L 6 k 0)) ∧ tsX L k (cT h L 0 k) (ast (f 14 c)) (lke (RTb (cT h L) f) k c) V) ∧ (∀ s, cld L (cT h L 0 k) k s n → fle (fs 0) (V 10 k n) ∧ Flow L V (pFi L n) (entz L (cT h L 0 k) k s n) (cT h L 6 k 0))) :=
            fun U V p q => ⟨CLI_P upP U V p q.1, fun s hs => ⟨fle_trans (q.2 s hs).1 (p _ _ _), Flow_le (fun _ => fle_rfl _) (fle_rfl _) p (q.2 s hs).2⟩⟩
          have c26 := wcf_goG w up15 w1' a26 ws26 (fun U oU p q s s1' s2 b => by
            have := (((CL29 e).mp (RTb_dn t hr le15h ri15 p q)).1 s1 n (by rw [RTb_0]; exact hs1)).2.2.2.1 s
            rw [RTb_0] at this
            refine this ?_
            rw [RTb_o _ _ n (by unfold oca; omega), fup_y (show S1x 14 = true by decide), r14]
            have q2 := (tiv_sok t15 w 14 n 0).2 s (by omega) (by rw [r14]; exact b)
            exact ⟨by omega, by omega, b⟩)
          refine tail g26 (wcf_P c26 (fun _ p => ⟨p.1.1, p.1.2, ?_⟩)) a26.2.2.1 a26.2.2.2.2.1 a26.1 (fun b j hb => ws26 b j (by omega))
          rw [f114, show ast (fb (hv g15 (144 + 3 * n) 4)) = hv g15 (144 + 3 * n) 4 from ast_fb _]
          exact p.2
    · -- a method that is not called
      rw [lc_z] at y
      have nd : ¬ CD L (cT h L) k n := fun q => (hrc n n2 aN.2.2.2.1).mpr q y
      intro x9 e9
      rw [w32_i (by omega) (by omega)] at e9
      subst e9
      refine ih (n + 1) g f v5 v6 v7 v8 aN.1 aN.2.1 aN.2.2.1 cm1 ⟨wcf_P cg (fun _ p => ⟨p.1, fun c c0 c1 cd => ?_⟩), ri, fun c c0 c1 cd => ?_, cGx_no nd gx, f15, fun gi => ⟨lub_eq (mad gi).1 (fun c => cIx_sn (fun q => nd q.1) c) (fun _ _ => rfl), (mad gi).2⟩, arg, rcv⟩
      · have : c ≠ n := fun z => nd (by rw [← z]; exact cd)
        exact p.2 c c0 (by omega) cd
      · have : c ≠ n := fun z => nd (by rw [← z]; exact cd)
        exact rg c c0 (by omega) cd
end CST
