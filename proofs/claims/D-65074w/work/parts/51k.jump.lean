/-! Part 51k: jumps in the component -/
/-- a reference's sites one by one -/
theorem lub_rs {v : FA} {x : Int} (a1 : ath v ≠ 0) (cx : c64 x) (nz : x ≠ 0) (b63 : ∀ s, 0 ≤ s → bl x s = true → s < 63) : lub (fv (alo v) (ahi v) (alb v) x) (fun s => 0 ≤ s ∧ s < 63 ∧ bl x s = true) (rs v) := by
  intro u
  constructor
  · intro p s ⟨s0, s1, b⟩
    refine fle_trans ?_ p
    unfold rs
    rw [if_neg a1]
    intro _
    refine ⟨(by decide : (1 : Int) ≠ 0), Int.le_refl _, Int.le_refl _, fun _ y => y, fun z y => ?_, fun _ y => y⟩
    change bl (l_shl 1 s) z = true at y
    change bl x z = true
    by_cases z0 : 0 ≤ z
    · rw [bl_shl s0 (by omega) z0] at y; simp at y; rw [y]; exact b
    · rw [bl_neg (by omega), bl_shl s0 (by omega) (by omega)] at y
      simp at y
      rw [bl_neg (by omega), y]; exact b
  · intro p _
    obtain ⟨s, s0, s1, b⟩ := l_some cx nz
    have q := p s ⟨s0, b63 s s0 b, b⟩
    unfold rs at q
    rw [if_neg a1] at q
    obtain ⟨r0, r1, r2, r3, r4, r5⟩ := q (by decide : (1 : Int) ≠ 0)
    refine ⟨r0, r1, r2, r3, fun z y => ?_, r5⟩
    change bl x z = true at y
    have go : ∀ z, 0 ≤ z → bl x z = true → bl (ast u) z = true := by
      intro z z0 y
      have z3 := b63 z z0 y
      have q := p z ⟨z0, z3, y⟩
      unfold rs at q
      rw [if_neg a1] at q
      obtain ⟨-, -, -, -, r4, -⟩ := q (by decide : (1 : Int) ≠ 0)
      refine r4 z ?_
      change bl (l_shl 1 z) z = true
      rw [bl_shl z0 (by omega) z0]; simp
    by_cases z0 : 0 ≤ z
    · exact go z z0 y
    · rw [bl_neg (by omega)] at y ⊢
      exact go 0 (by omega) y
section JU
variable {l : Launch} {G : JG} {h g : MH} {L : PG} {k M d : Int} {X : Int → FA} {lk : FA} {P : TB → Prop} {Q : Int → MH → Prop} {E : Nat → Int → MH → Prop}
/-- facts go to where an instruction jumps -/
theorem W_jump (hG : gO G = true) (w : WF L) (t : tiv L (cT h L)) (hr : rch (cT h L) k) (up : ∀ U V, tle U V → P U → P V) (c : wcf h g L k M X lk d P) (ho : 15 ≤ pOp L k ∧ pOp L k ≤ 19)
    (f : ∀ U, tbok U → CLz L (cT h L) U k → GT L U k (pZ L k) X lk) (hQ : ∀ g', wcf h g' L k M X lk d (fun U => P U ∧ GT L U k (pZ L k) X lk) → wsk g g' → Q 0 g') : S_X2_goOn l G [(2002, 3), (0, pZ L k)] g Q E := by
  have hk := c.2.1.1
  obtain ⟨mk, -, -, -, -, -, -, -, -, -, -, -, -, -, -, -, -, zj, -⟩ := w.k hk.1 hk.2
  obtain ⟨z0, z1, z2, -⟩ := zj ho
  obtain ⟨-, -, -, -, -, -, -, -, -, -, -, -, -, -, -, -, -, fi0, fi1, fim, -⟩ := w.m mk.1 mk.2.1
  refine W_goOn hG w t hr up c (Or.inr rfl) z0 z1 (fun s r => ?_) f hQ
  unfold rel at r
  rw [fim _ z0 z1, z2] at r
  unfold vld
  omega
theorem fo_4 {g : MH} {a x : Int} : fo (hset g a 4 x) a = (hv g a 0, hv g a 1, hv g a 2, hv g a 3, x, 0) := by
  unfold fo
  rw [ne_k (by decide), ne_k (by decide), ne_k (by decide), ne_k (by decide), eq_a]
theorem w_jumps (hG : gO G = true) (w : WF L) (t : tiv L (cT h L)) (hr : rch (cT h L) k) (u : usI h L k) (c : wcf h g L k M (cT h L 0 k) (cT h L 6 k 0) (pDp L k) (fun _ => True)) (ho : 15 ≤ pOp L k ∧ pOp L k < 20) (hQ : ∀ g', WE h g' L k → Q 0 g') : S_X2_jumps l G [(2002, 3), (0, pOp L k), (0, pX L k), (0, pY L k)] g Q E := by
  have nn := w.n
  unfold WFn at nn
  have hk := c.2.1.1
  have hk1 := hk.1
  have hk2 := hk.2
  obtain ⟨mk, ops, xr, yr, x2, x7, x5, x47, -, -, -, x19, -, -, -, -, -, zj, -, dp, -⟩ := w.k hk.1 hk.2
  obtain ⟨z0, z1, z2, z3⟩ := zj (by omega)
  obtain ⟨-, -, -, -, -, -, -, -, -, lc8, -, -, -, -, -, -, co2, fi0, fi1, -⟩ := w.m mk.1 mk.2.1
  have fin : ∀ {g' : MH} {X' : Int → FA} {lk' : FA} {d' : Int} {P' : TB → Prop}, wcf h g' L k M X' lk' d' P' → (P' (cT g' L) → CLz L (cT h L) (cT g' L) k) → Q 0 g' := fun c f => hQ _ (WE_of w hk t hr u (AdK_w c.1 (fun _ p => f p) (fun _ _ _ q => q)) (by omega))
  have upT : ∀ U V : TB, tle U V → (fun _ : TB => True) U → (fun _ : TB => True) V := fun _ _ _ x => x
  have pu : ppu L k = 0 := by unfold ppu; rw [if_neg (by omega), if_neg (by omega), if_neg (by omega)]
  obtain ⟨-, -, hM, cm, h17⟩ := c.2.1
  obtain ⟨mo, -, -, -, -, -, ⟨k1, k2, k3⟩, -⟩ := cm
  have mo1 := mo.1
  have k11 := k1.1
  refine s_X2_jumps rfl fun K ki => r_X2_jumps_0 ki hG ?_
  rw [hM, h17, k2]
  refine ⟨by omega, by omega, by omega, by omega, fun x4 e4 => ?_⟩
  have kz : hv g (hv g M 10) (k - pFi L (pMo L k)) = pZ L k := by
    rw [k3 _ (by omega) (by omega)]
    show pZ L (pFi L (pMo L k) + (k - pFi L (pMo L k))) = pZ L k
    rw [show pFi L (pMo L k) + (k - pFi L (pMo L k)) = k by omega]
  rw [kz] at e4
  subst e4
  refine ⟨fun n15 => ⟨fun n16 => ⟨fun n17 => ?_, fun e => ?_⟩, fun e => ?_⟩, fun e => ?_⟩
  · -- a reference is told by null or by class
    have xl := x2 (by omega)
    have vv : vld L (pMo L k) (pDp L k) (pX L k) := Or.inl ⟨xr.1, xl⟩
    have rv : rel L k (pX L k) := Or.inl ⟨xr.1, xl⟩
    obtain ⟨s1, s2, s3⟩ := kind_slots (wcf_st c).1 xr.1 (show pX L k < 16 by omega)
    rw [s1, s2, s3]
    have pp : ppo L k = 0 := by unfold ppo; rw [if_neg (by omega), if_neg (by omega), if_neg (by omega), if_neg (by omega), if_neg (by omega)]
    have fX := c.2.2.2.1.1 _ vv
    have gdv := tiv_slot t hr rv
    have a1 : ath (cT h L 0 k (pX L k)) ≠ 0 := by rw [gdv.2.2.2]; decide
    obtain ⟨cs, bs⟩ := tiv_sok t w 0 k (pX L k)
    refine ⟨by decide, xr.1, by omega, fun x5' e5 => ⟨by omega, fun x6 e6 => ?_⟩⟩
    subst e5
    have e6' : x6 = ast (cT h L 0 k (pX L k)) := by rw [e6]; exact congrArg ast fX
    have h0 : hv g (80 + 2 + pX L k) 0 = 1 := (congrArg ath fX).trans gdv.2.2.2
    have h1 : hv g (80 + 2 + pX L k) 1 = alo (cT h L 0 k (pX L k)) := congrArg alo fX
    have h2 : hv g (80 + 2 + pX L k) 2 = ahi (cT h L 0 k (pX L k)) := congrArg ahi fX
    have h3 : hv g (80 + 2 + pX L k) 3 = alb (cT h L 0 k (pX L k)) := congrArg alb fX
    -- sites that are kept make a good fact
    have gds : ∀ (T : TB) (x : Int), tle (cT h L) T → c64 x → (∀ s, 0 ≤ s → bl x s = true → bl (ast (cT h L 0 k (pX L k))) s = true) → fgd L T (fv (alo (cT h L 0 k (pX L k))) (ahi (cT h L 0 k (pX L k))) (alb (cT h L 0 k (pX L k))) x) := by
      intro T x p cx b
      obtain ⟨-, b1', b2, b3, b4, -⟩ := fok_there gdv.1 a1
      exact ⟨fok_fv b1' b2 b3 b4 cx, fun s s0 q => mkd_le p (gdv.2.1 s s0 (b s s0 q)), ⟨⟨gdv.2.2.1.1.1, su8_0⟩, gdv.2.2.1.2⟩, rfl⟩
    have common : ∀ (so : Int) (p : Int → Prop), c64 so → (∀ s, 0 ≤ s → (bl so s = true ↔ bl (ast (cT h L 0 k (pX L k))) s = true ∧ p s)) → (∀ U, CLz L (cT h L) U k ↔ ∀ s, sb (cT h L 0 k (pX L k)) s → (p s → GT L U k (pZ L k) (ux (cT h L 0 k) (pX L k) (rs (cT h L 0 k (pX L k)) s)) (cT h L 6 k 0)) ∧ (¬ p s → GT L U k (nx L k) (ux (cT h L 0 k) (pX L k) (rs (cT h L 0 k (pX L k)) s)) (cT h L 6 k 0))) →
        ∀ h7, h7 = hset g (80 + 2 + pX L k) 4 so →
        ((lc so 0) = 0 → (80 + 2 + pX L k ≠ 0) ∧ (∀ h8, h8 = hset h7 (80 + 2 + pX L k) 4 (l_and x6 (l_xor so (-1))) → (80 + 2 + pX L k ≠ 0) ∧ (((lc (hv h8 (80 + 2 + pX L k) 4) 0) = 0 → Q 0 h8) ∧ (¬ (lc (hv h8 (80 + 2 + pX L k) 4) 0) = 0 → S_X2_goOn l G [(2002, 3), (0, (w32 ((hv h8 3 17) + 1)))] h8 (fun _ h10 => Q 0 h10) E)))) ∧
        (¬ (lc so 0) = 0 → S_X2_goOn l G [(2002, 3), (0, pZ L k)] h7 (fun _ h12 => (80 + 2 + pX L k ≠ 0) ∧ (∀ h13, h13 = hset h12 (80 + 2 + pX L k) 4 (l_and x6 (l_xor so (-1))) → (80 + 2 + pX L k ≠ 0) ∧ (((lc (hv h13 (80 + 2 + pX L k) 4) 0) = 0 → Q 0 h13) ∧ (¬ (lc (hv h13 (80 + 2 + pX L k) 4) 0) = 0 → S_X2_goOn l G [(2002, 3), (0, (w32 ((hv h13 3 17) + 1)))] h13 (fun _ h15 => Q 0 h15) E)))) E) := by
      intro so p cso bso cl h7 e7
      have bso' : ∀ s, 0 ≤ s → bl so s = true → bl (ast (cT h L 0 k (pX L k))) s = true := fun s s0 q => ((bso s s0).mp q).1
      have b63 : ∀ s, 0 ≤ s → bl (ast (cT h L 0 k (pX L k))) s = true → s < 63 := fun s s0 q => by have := bs s s0 q; omega
      have f7 : hset g (80 + 2 + pX L k) 4 so = fw g (80 + 2 + pX L k) (fv (alo (cT h L 0 k (pX L k))) (ahi (cT h L 0 k (pX L k))) (alb (cT h L 0 k (pX L k))) so) := by
        rw [hset_fw (by decide), fo_4, h0, h1, h2, h3]; rfl
      have c7 := wcf_slot (s := pX L k) (v := fv (alo (cT h L 0 k (pX L k))) (ahi (cT h L 0 k (pX L k))) (alb (cT h L 0 k (pX L k))) so) w c xr.1 (by omega) rfl (fun _ => gds _ so c.1.2.2.2.2.1 cso bso')
      rw [← f7, ← e7] at c7
      have bre : ∀ s, 0 ≤ s → (bl (l_and x6 (l_xor so (-1))) s = true ↔ bl (ast (cT h L 0 k (pX L k))) s = true ∧ ¬ p s) := by
        intro s s0
        by_cases s64 : s < 64
        · rw [e6', bl_and, bl_not s64]
          simp only [Bool.and_eq_true, Bool.not_eq_true']
          have := bso s s0
          constructor
          · rintro ⟨y1, y2⟩
            refine ⟨y1, fun y3 => ?_⟩
            rw [this.mpr ⟨y1, y3⟩] at y2; cases y2
          · rintro ⟨y1, y2⟩
            refine ⟨y1, ?_⟩
            cases r : bl so s
            · rfl
            · exact absurd (this.mp r).2 y2
        · rw [bl_hi (by omega), bl_hi (by omega)]; simp
      have cre : c64 (l_and x6 (l_xor so (-1))) := c64_l_and _ _
      -- the second half
      have tail : ∀ (g1 : MH) (P' : TB → Prop), (∀ U V, tle U V → P' U → P' V) → wcf h g1 L k M (ux (cT h L 0 k) (pX L k) (fv (alo (cT h L 0 k (pX L k))) (ahi (cT h L 0 k (pX L k))) (alb (cT h L 0 k (pX L k))) so)) (cT h L 6 k 0) (pDp L k) P' → (∀ U, P' U → ∀ s, sb (cT h L 0 k (pX L k)) s → p s → GT L U k (pZ L k) (ux (cT h L 0 k) (pX L k) (rs (cT h L 0 k (pX L k)) s)) (cT h L 6 k 0)) →
          ∀ h8, h8 = hset g1 (80 + 2 + pX L k) 4 (l_and x6 (l_xor so (-1))) → (80 + 2 + pX L k ≠ 0) ∧ (((lc (hv h8 (80 + 2 + pX L k) 4) 0) = 0 → Q 0 h8) ∧ (¬ (lc (hv h8 (80 + 2 + pX L k) 4) 0) = 0 → S_X2_goOn l G [(2002, 3), (0, (w32 ((hv h8 3 17) + 1)))] h8 (fun _ h10 => Q 0 h10) E)) := by
        intro g1 P' upP cg pz h8 e8
        have fg := cg.2.2.2.1.1 _ vv
        unfold ux at fg
        rw [if_pos rfl] at fg
        have i0 : hv g1 (80 + 2 + pX L k) 0 = 1 := congrArg ath fg
        have i1 : hv g1 (80 + 2 + pX L k) 1 = alo (cT h L 0 k (pX L k)) := congrArg alo fg
        have i2 : hv g1 (80 + 2 + pX L k) 2 = ahi (cT h L 0 k (pX L k)) := congrArg ahi fg
        have i3 : hv g1 (80 + 2 + pX L k) 3 = alb (cT h L 0 k (pX L k)) := congrArg alb fg
        have f8 : hset g1 (80 + 2 + pX L k) 4 (l_and x6 (l_xor so (-1))) = fw g1 (80 + 2 + pX L k) (fv (alo (cT h L 0 k (pX L k))) (ahi (cT h L 0 k (pX L k))) (alb (cT h L 0 k (pX L k))) (l_and x6 (l_xor so (-1)))) := by
          rw [hset_fw (by decide), fo_4, i0, i1, i2, i3]; rfl
        have c8 := wcf_slot (s := pX L k) (v := fv (alo (cT h L 0 k (pX L k))) (ahi (cT h L 0 k (pX L k))) (alb (cT h L 0 k (pX L k))) (l_and x6 (l_xor so (-1)))) w cg xr.1 (by omega) rfl (fun _ => gds _ _ cg.1.2.2.2.2.1 cre (fun s s0 q => ((bre s s0).mp q).1))
        rw [← f8, ← e8] at c8
        have c9 : wcf h h8 L k M (ux (cT h L 0 k) (pX L k) (fv (alo (cT h L 0 k (pX L k))) (ahi (cT h L 0 k (pX L k))) (alb (cT h L 0 k (pX L k))) (l_and x6 (l_xor so (-1))))) (cT h L 6 k 0) (pDp L k) P' := wcf_X c8 (fun j _ => by unfold ux; split <;> rfl)
        have e84 : hv h8 (80 + 2 + pX L k) 4 = l_and x6 (l_xor so (-1)) := by rw [e8, eq_a]
        rw [e84]
        refine ⟨by omega, fun y => ?_, fun y => ?_⟩
        · rw [lc_z] at y
          refine fin c9 (fun p' => (cl _).mpr (fun s hs => ⟨pz _ p' s hs, fun np => ?_⟩))
          have := (bre s hs.1).mpr ⟨hs.2.2, np⟩
          rw [y, bl_zero] at this; cases this
        · rw [lc_z] at y
          have lb := lub_rs a1 cre y (fun s s0 q => b63 s s0 ((bre s s0).mp q).1)
          obtain ⟨sx, sx0, sx1, sxb⟩ := l_some cre y
          have ne : ∃ s, 0 ≤ s ∧ s < 63 ∧ bl (l_and x6 (l_xor so (-1))) s = true := ⟨sx, sx0, b63 sx sx0 ((bre sx sx0).mp sxb).1, sxb⟩
          refine W_next hG w t hr upP c9 (by omega) (by omega) (fun U _ q => (GT_lub lb ne).mpr (fun s hs => ?_)) fun g3 c3 _ => fin c3 (fun p' => (cl _).mpr (fun s hs => ⟨pz _ p'.1 s hs, fun np => (GT_lub lb ne).mp p'.2 s ⟨hs.1, hs.2.1, (bre s hs.1).mpr ⟨hs.2.2, np⟩⟩⟩))
          obtain ⟨y1, y2⟩ := (bre s hs.1).mp hs.2.2
          exact (((cl U).mp q) s ⟨hs.1, hs.2.1, y1⟩).2 y2
      refine ⟨fun y => ⟨by omega, fun h8 e8 => ?_⟩, fun y => ?_⟩
      · rw [lc_z] at y
        refine tail h7 _ upT c7 (fun U _ s hs ps => ?_) h8 e8
        have := (bso s hs.1).mpr ⟨hs.2.2, ps⟩
        rw [y, bl_zero] at this; cases this
      · rw [lc_z] at y
        have lb := lub_rs a1 cso y (fun s s0 q => b63 s s0 (bso' s s0 q))
        obtain ⟨sx, sx0, sx1, sxb⟩ := l_some cso y
        have ne : ∃ s, 0 ≤ s ∧ s < 63 ∧ bl so s = true := ⟨sx, sx0, b63 sx sx0 (bso' sx sx0 sxb), sxb⟩
        refine W_jump hG w t hr upT c7 (by omega) (fun U _ q => (GT_lub lb ne).mpr (fun s hs => ?_)) fun g3 c3 _ => ⟨by omega, fun h13 e13 => ?_⟩
        · obtain ⟨y1, y2⟩ := (bso s hs.1).mp hs.2.2
          exact (((cl U).mp q) s ⟨hs.1, hs.2.1, y1⟩).1 y2
        · exact tail g3 _ (fun U V p q => ⟨trivial, GT_up p q.2⟩) c3 (fun U p' s hs ps => (GT_lub lb ne).mp p'.2 s ⟨hs.1, hs.2.1, (bso s hs.1).mpr ⟨hs.2.2, ps⟩⟩) h13 e13
    refine ⟨fun n18 => ⟨by have := (wcf_st c).1.1.1.1; omega, c_ofClass hG w (wcf_st c).1.1 fun so fl x8 e8 => ?_⟩, fun e18 x8 e8 => ?_⟩
    · subst e8
      obtain ⟨cso, bso⟩ := fl
      refine ⟨by omega, common x8 (fun s => s ≠ 0 ∧ isOf L s (pY L k) = true) cso (fun s s0 => ?_) (fun U => CL19 (by omega))⟩
      rw [bso s s0, e6']
      simp only [Bool.and_eq_true, decide_eq_true_eq]
      constructor
      · rintro ⟨⟨⟨y1, y2⟩, y3⟩, y4⟩
        exact ⟨y3, by omega, y4⟩
      · rintro ⟨y1, y2, y3⟩
        exact ⟨⟨⟨by omega, bs s s0 y1⟩, y1⟩, y3⟩
    · refine ⟨by omega, common x8 (fun s => s = 0) (by rw [e8]; exact c64_l_and _ _) (fun s s0 => ?_) (fun U => ?_)⟩
      · rw [e8, e6', bl_and, bl_one s0]
        simp
      · exact CL18 e18
  · -- a local is told by a number
    obtain ⟨xq, xl⟩ := x47 e
    obtain ⟨ir, id⟩ := i_rem_8 xr.1 (by omega)
    rw [ir, id]
    have s8 : 0 ≤ pX L k % 8 ∧ pX L k % 8 < 16 := by omega
    obtain ⟨s1, s2, s3⟩ := kind_slots (wcf_st c).1 s8.1 s8.2
    rw [s1, s2, s3]
    have vv : vld L (pMo L k) (pDp L k) (pX L k % 8) := Or.inl ⟨s8.1, xl⟩
    have rv : rel L k (pX L k % 8) := Or.inl ⟨s8.1, xl⟩
    have pp : ppo L k = 0 := by unfold ppo; simp [e]
    have fX := c.2.2.2.1.1 _ vv
    have gdv := tiv_slot t hr rv
    have a1 : ath (cT h L 0 k (pX L k % 8)) ≠ 0 := by rw [gdv.2.2.2]; decide
    have v05 : 0 ≤ pX L k / 8 ∧ pX L k / 8 ≤ 5 := by omega
    have w05 : 0 ≤ i_xor (pX L k / 8) 1 ∧ i_xor (pX L k / 8) 1 ≤ 5 := by
      have : pX L k / 8 = 0 ∨ pX L k / 8 = 1 ∨ pX L k / 8 = 2 ∨ pX L k / 8 = 3 ∨ pX L k / 8 = 4 ∨ pX L k / 8 = 5 := by omega
      rcases this with y | y | y | y | y | y <;> rw [y] <;> decide
    have mks : isMk L (pY L k - 1) ∧ isMk L (pY L k) ∧ isMk L (pY L k + 1) := by
      unfold isMk
      exact ⟨by right; right; right; right; right; right; exact ⟨k, hk.1, hk.2, Or.inl ⟨Or.inr e, Or.inl rfl⟩⟩, by right; right; right; right; right; right; exact ⟨k, hk.1, hk.2, Or.inl ⟨Or.inr e, Or.inr (Or.inl rfl)⟩⟩, by right; right; right; right; right; right; exact ⟨k, hk.1, hk.2, Or.inl ⟨Or.inr e, Or.inr (Or.inr rfl)⟩⟩⟩
    have asc : ∀ v, asu (ctf v (cT h L 0 k (pX L k % 8)) (pY L k)) = 0 := by
      intro v
      unfold ctf
      repeat' split
      all_goals rfl
    refine ⟨by decide, by decide, s8.1, by omega, fun x5' e5 => ?_⟩
    subst e5
    refine c_become hG (by omega) ⟨by decide, ?_⟩
    have c1 := wcf_fw (f := 134) (v := fo g (80 + 2 + pX L k % 8)) w (by omega) c
    have fo1 : fo (fw g 134 (fo g (80 + 2 + pX L k % 8))) 134 = cT h L 0 k (pX L k % 8) := by rw [fo_fw0 rfl]; exact fX
    -- the second half
    have tail : ∀ (g1 : MH) (P' : TB → Prop), (∀ U V, tle U V → P' U → P' V) → (∃ X1, wcf h g1 L k M X1 (cT h L 6 k 0) (pDp L k) P' ∧ ∀ j, j ≠ pX L k % 8 → X1 j = cT h L 0 k j) → fo g1 134 = cT h L 0 k (pX L k % 8) → (∀ U, P' U → mayp (pX L k / 8) (cT h L 0 k (pX L k % 8)) (fv (pY L k) (pY L k) 0 0) → GT L U k (pZ L k) (ux (cT h L 0 k) (pX L k % 8) (ctf (pX L k / 8) (cT h L 0 k (pX L k % 8)) (pY L k))) (cT h L 6 k 0)) →
        S_X4_become l G [(2004, 80 + 2 + pX L k % 8), (8, 134)] g1 (fun z31 h32 => (¬ (8 : Int) = 0) ∧ S_X2_cut l G [(8, 80 + 2 + pX L k % 8), (0, (i_xor (pX L k / 8) 1)), (0, pY L k)] h32 (fun z33 h34 => ((z33 = 0 → Q 0 h34) ∧ (¬ z33 = 0 → S_X2_goOn l G [(2002, 3), (0, (w32 ((hv h34 3 17) + 1)))] h34 (fun _ h36 => Q 0 h36) E))) E) E := by
      intro g1 P' upP ⟨X1, cg, hX1⟩ f1 pz
      refine c_become hG (by decide) ⟨by decide, ?_⟩
      rw [f1]
      have c2 := wcf_slot (s := pX L k % 8) (v := cT h L 0 k (pX L k % 8)) w cg s8.1 s8.2 (by rw [← fX]; rfl) (fun _ => fgd_le cg.1.2.2.2.2.1 gdv)
      have c3 : wcf h (fw g1 (80 + 2 + pX L k % 8) (cT h L 0 k (pX L k % 8))) L k M (cT h L 0 k) (cT h L 6 k 0) (pDp L k) P' := wcf_X c2 (fun j _ => by
        unfold ux
        by_cases y : j = pX L k % 8
        · rw [if_pos y, y]
        · rw [if_neg y, hX1 j y])
      have f3 := c3.2.2.2.1.1 _ vv
      have i0 : hv (fw g1 (80 + 2 + pX L k % 8) (cT h L 0 k (pX L k % 8))) (80 + 2 + pX L k % 8) 0 = 1 := (congrArg ath f3).trans gdv.2.2.2
      have i1 : hv (fw g1 (80 + 2 + pX L k % 8) (cT h L 0 k (pX L k % 8))) (80 + 2 + pX L k % 8) 1 = alo (cT h L 0 k (pX L k % 8)) := congrArg alo f3
      have i2 : hv (fw g1 (80 + 2 + pX L k % 8) (cT h L 0 k (pX L k % 8))) (80 + 2 + pX L k % 8) 2 = ahi (cT h L 0 k (pX L k % 8)) := congrArg ahi f3
      refine c_cut hG (by omega) (by rw [f3]; exact fgd_nb gdv) i0 w05 ⟨yr.1, yr.2.1⟩ (fun y => ⟨fun y2 => absurd y2 (by decide), fun _ => ?_⟩) (fun y => ⟨fun _ => ?_, fun y2 => absurd rfl y2⟩)
      · rw [i1, i2] at y
        have mp : mayp (i_xor (pX L k / 8) 1) (cT h L 0 k (pX L k % 8)) (fv (pY L k) (pY L k) 0 0) := ⟨a1, (by decide : (1 : Int) ≠ 0), by
          rcases mayf_b (i_xor (pX L k / 8) 1) (alo (cT h L 0 k (pX L k % 8))) (ahi (cT h L 0 k (pX L k % 8))) (pY L k) (pY L k) with z | z
          · exact absurd z y
          · exact z⟩
        rw [f3]
        have c4 := wcf_slot (s := pX L k % 8) (v := ctf (i_xor (pX L k / 8) 1) (cT h L 0 k (pX L k % 8)) (pY L k)) w c3 s8.1 s8.2 (asc _) (fun _ => fgd_ctf w05 ⟨yr.1, yr.2.1⟩ (fgd_le c3.1.2.2.2.2.1 gdv) mp mks.1 mks.2.1 mks.2.2)
        exact W_next hG w t hr upP c4 (by omega) (by omega) (fun U _ q => ((CL17 e).mp q).2 mp) fun g5 c5 _ => fin c5 (fun p => (CL17 e).mpr ⟨pz _ p.1, fun _ => p.2⟩)
      · rw [i1, i2] at y
        exact fin c3 (fun p => (CL17 e).mpr ⟨pz _ p, fun z => absurd z.2.2 (by show ¬ mayf _ _ _ (pY L k) (pY L k) = 1; rw [y]; decide)⟩)
    have f1 := c1.2.2.2.1.1 _ vv
    have j0 : hv (fw g 134 (fo g (80 + 2 + pX L k % 8))) (80 + 2 + pX L k % 8) 0 = 1 := (congrArg ath f1).trans gdv.2.2.2
    have j1 : hv (fw g 134 (fo g (80 + 2 + pX L k % 8))) (80 + 2 + pX L k % 8) 1 = alo (cT h L 0 k (pX L k % 8)) := congrArg alo f1
    have j2 : hv (fw g 134 (fo g (80 + 2 + pX L k % 8))) (80 + 2 + pX L k % 8) 2 = ahi (cT h L 0 k (pX L k % 8)) := congrArg ahi f1
    refine c_cut hG (by omega) (by rw [f1]; exact fgd_nb gdv) j0 v05 ⟨yr.1, yr.2.1⟩ (fun y => ⟨fun y2 => absurd y2 (by decide), fun _ => ?_⟩) (fun y => ⟨fun _ => ⟨by omega, ?_⟩, fun y2 => absurd rfl y2⟩)
    · rw [j1, j2] at y
      have mp : mayp (pX L k / 8) (cT h L 0 k (pX L k % 8)) (fv (pY L k) (pY L k) 0 0) := ⟨a1, (by decide : (1 : Int) ≠ 0), by
        rcases mayf_b (pX L k / 8) (alo (cT h L 0 k (pX L k % 8))) (ahi (cT h L 0 k (pX L k % 8))) (pY L k) (pY L k) with z | z
        · exact absurd z y
        · exact z⟩
      rw [f1]
      have c4 := wcf_slot (s := pX L k % 8) (v := ctf (pX L k / 8) (cT h L 0 k (pX L k % 8)) (pY L k)) w c1 s8.1 s8.2 (asc _) (fun _ => fgd_ctf v05 ⟨yr.1, yr.2.1⟩ (fgd_le c1.1.2.2.2.2.1 gdv) mp mks.1 mks.2.1 mks.2.2)
      refine W_jump hG w t hr upT c4 (by omega) (fun U _ q => ((CL17 e).mp q).1 mp) fun g5 c5 ws => ⟨by omega, ?_⟩
      refine tail g5 _ (fun U V p q => ⟨trivial, GT_up p q.2⟩) ⟨_, c5, fun j y => by unfold ux; rw [if_neg y]⟩ ?_ (fun U p _ => p.2)
      rw [← fo1]
      exact (fo_eq (fun j => ws _ j (by omega))).trans (fo_ne (by omega))
    · rw [j1, j2] at y
      exact tail _ _ upT ⟨_, c1, fun j _ => rfl⟩ fo1 (fun U _ z => absurd z.2.2 (by show ¬ mayf _ _ _ (pY L k) (pY L k) = 1; rw [y]; decide))
  · -- two numbers
    have pp : ppo L k = 2 := by unfold ppo; simp [e]
    refine W_take hG w c (by omega) (Or.inl ⟨by decide, by decide⟩) fun g1 c1 f1 gd1 fr1 x5' e5 => ?_
    subst e5
    refine W_take hG w c1 (by omega) (Or.inl ⟨by decide, by decide⟩) fun g2 c2 f2 gd2 fr2 x6' e6 => ?_
    subst e6
    rw [show 7 + (pDp L k - 1) = 6 + pDp L k by omega] at f2 gd2
    have f1' : fo g2 135 = cT h L 0 k (7 + pDp L k) := by rw [← f1]; exact fo_eq (fun j => fr2 _ j (by omega) (by decide) (by omega))
    have bt := tiv_slot (j := 7 + pDp L k) t hr (Or.inr ⟨by omega, by omega⟩)
    have at' := tiv_slot (j := 6 + pDp L k) t hr (Or.inr ⟨by omega, by omega⟩)
    have a0 : ath (cT h L 0 k (6 + pDp L k)) ≠ 0 := by rw [at'.2.2.2]; decide
    have b0 : ath (cT h L 0 k (7 + pDp L k)) ≠ 0 := by rw [bt.2.2.2]; decide
    have nums : ∀ g3, fo g3 134 = cT h L 0 k (6 + pDp L k) → fo g3 135 = cT h L 0 k (7 + pDp L k) → ∀ v, mayf v (hv g3 134 1) (hv g3 134 2) (hv g3 135 1) (hv g3 135 2) = mayf v (alo (cT h L 0 k (6 + pDp L k))) (ahi (cT h L 0 k (6 + pDp L k))) (alo (cT h L 0 k (7 + pDp L k))) (ahi (cT h L 0 k (7 + pDp L k))) := by
      intro g3 y1 y2 v
      rw [show hv g3 134 1 = alo (cT h L 0 k (6 + pDp L k)) from congrArg alo y1, show hv g3 134 2 = ahi (cT h L 0 k (6 + pDp L k)) from congrArg ahi y1, show hv g3 135 1 = alo (cT h L 0 k (7 + pDp L k)) from congrArg alo y2, show hv g3 135 2 = ahi (cT h L 0 k (7 + pDp L k)) from congrArg ahi y2]
    have tail : ∀ (g3 : MH) (P' : TB → Prop), (∀ U V, tle U V → P' U → P' V) → wcf h g3 L k M (cT h L 0 k) (cT h L 6 k 0) (pDp L k - 1 - 1) P' → fo g3 134 = cT h L 0 k (6 + pDp L k) → fo g3 135 = cT h L 0 k (7 + pDp L k) → (∀ U, P' U → mayp (pX L k) (cT h L 0 k (6 + pDp L k)) (cT h L 0 k (7 + pDp L k)) → GT L U k (pZ L k) (cT h L 0 k) (cT h L 6 k 0)) →
        ((134 : Int) ≠ 0) ∧ ((134 : Int) ≠ 0) ∧ ((135 : Int) ≠ 0) ∧ ((135 : Int) ≠ 0) ∧ (((mayf (i_xor (pX L k) 1) (hv g3 134 1) (hv g3 134 2) (hv g3 135 1) (hv g3 135 2)) = 0 → Q 0 g3) ∧ (¬ (mayf (i_xor (pX L k) 1) (hv g3 134 1) (hv g3 134 2) (hv g3 135 1) (hv g3 135 2)) = 0 → S_X2_goOn l G [(2002, 3), (0, (w32 ((hv g3 3 17) + 1)))] g3 (fun _ h52 => Q 0 h52) E)) := by
      intro g3 P' upP c3 y1 y2 pz
      rw [nums g3 y1 y2]
      refine ⟨by decide, by decide, by decide, by decide, fun y => ?_, fun y => ?_⟩
      · exact fin c3 (fun p => (CL16 e).mpr ⟨pz _ p, fun z => absurd z.2.2 (by rw [y]; decide)⟩)
      · have mp : mayp (i_xor (pX L k) 1) (cT h L 0 k (6 + pDp L k)) (cT h L 0 k (7 + pDp L k)) := ⟨a0, b0, by
          rcases mayf_b (i_xor (pX L k) 1) (alo (cT h L 0 k (6 + pDp L k))) (ahi (cT h L 0 k (6 + pDp L k))) (alo (cT h L 0 k (7 + pDp L k))) (ahi (cT h L 0 k (7 + pDp L k))) with z | z
          · exact absurd z y
          · exact z⟩
        exact W_next hG w t hr upP c3 (by omega) (by omega) (fun U _ q => ((CL16 e).mp q).2 mp) fun g5 c5 _ => fin c5 (fun p => (CL16 e).mpr ⟨pz _ p.1, fun _ => p.2⟩)
    refine ⟨by decide, by decide, by decide, by decide, fun y => ?_, fun y => ?_⟩
    · rw [nums g2 f2 f1'] at y
      exact tail g2 _ upT c2 f2 f1' (fun U _ z => absurd z.2.2 (by rw [y]; decide))
    · rw [nums g2 f2 f1'] at y
      have mp : mayp (pX L k) (cT h L 0 k (6 + pDp L k)) (cT h L 0 k (7 + pDp L k)) := ⟨a0, b0, by
        rcases mayf_b (pX L k) (alo (cT h L 0 k (6 + pDp L k))) (ahi (cT h L 0 k (6 + pDp L k))) (alo (cT h L 0 k (7 + pDp L k))) (ahi (cT h L 0 k (7 + pDp L k))) with z | z
        · exact absurd z y
        · exact z⟩
      refine W_jump hG w t hr upT c2 (by omega) (fun U _ q => ((CL16 e).mp q).1 mp) fun g5 c5 ws => ?_
      exact tail g5 _ (fun U V p q => ⟨trivial, GT_up p q.2⟩) c5 (by rw [← f2]; exact fo_eq (fun j => ws _ j (by omega))) (by rw [← f1']; exact fo_eq (fun j => ws _ j (by omega))) (fun U p _ => p.2)
  · exact W_jump hG w t hr upT c (by omega) (fun U _ q => (CL15 e).mp q) fun g3 c3 _ => fin c3 (fun p => (CL15 e).mpr p.2)
end JU
