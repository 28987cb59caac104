/-! Part 38s: goOn: elements and lengths of arrays -/
set_option maxRecDepth 100000
theorem CL22 {L : PG} {T U : TB} {k : Int} (e : pOp L k = 22) : CLz L T U k ↔ ∀ s, sb (T 0 k (7 + pDp L k)) s → (s = 0 → TS L U k (T 0 k) 1 (T 6 k 0)) ∧ (s ≠ 0 → 0 ≤ pSc L s → TS L U k (T 0 k) 5 (T 6 k 0)) ∧
    (s ≠ 0 → pSc L s < 0 → ath (T 2 s 0) ≠ 0 → GT L U k (nx L k) (ux (T 0 k) (7 + pDp L k) (T 2 s 0)) (T 6 k 0)) := by simp [CLz, Csz, Co, Ccz, e]
theorem CL23 {L : PG} {T U : TB} {k : Int} (e : pOp L k = 23) : CLz L T U k ↔ ∀ s, sb (T 0 k (6 + pDp L k)) s → (s = 0 → TS L U k (T 0 k) 1 (T 6 k 0)) ∧ (s ≠ 0 → ¬ isarr L s (pX L k) → TS L U k (T 0 k) 5 (T 6 k 0)) ∧
    (s ≠ 0 → isarr L s (pX L k) → ath (T 2 s 0) ≠ 0 → ath (T 0 k (7 + pDp L k)) ≠ 0 → (alo (T 0 k (7 + pDp L k)) < 0 ∨ alo (T 2 s 0) ≤ ahi (T 0 k (7 + pDp L k)) → TS L U k (T 0 k) 2 (T 6 k 0)) ∧
      (0 ≤ ahi (T 0 k (7 + pDp L k)) ∧ alo (T 0 k (7 + pDp L k)) < ahi (T 2 s 0) → GT L U k (nx L k) (ux (T 0 k) (6 + pDp L k) (T 1 s 0)) (T 6 k 0))) := by
  simp only [CLz, Csz, Co, Ccz, e]; simp
theorem CL24 {L : PG} {T U : TB} {k : Int} (e : pOp L k = 24) : CLz L T U k ↔ ∀ s, sb (T 0 k (5 + pDp L k)) s → (s = 0 → TS L U k (T 0 k) 1 (T 6 k 0)) ∧ (s ≠ 0 → ¬ isarr L s (pX L k) → TS L U k (T 0 k) 5 (T 6 k 0)) ∧
    (s ≠ 0 → isarr L s (pX L k) → ath (T 2 s 0) ≠ 0 → ath (T 0 k (6 + pDp L k)) ≠ 0 → (alo (T 0 k (6 + pDp L k)) < 0 ∨ alo (T 2 s 0) ≤ ahi (T 0 k (6 + pDp L k)) → TS L U k (T 0 k) 2 (T 6 k 0)) ∧
      (0 ≤ ahi (T 0 k (6 + pDp L k)) ∧ alo (T 0 k (6 + pDp L k)) < ahi (T 2 s 0) → fle (T 0 k (7 + pDp L k)) (U 1 s 0) ∧ GT L U k (nx L k) (T 0 k) (T 6 k 0))) := by
  simp only [CLz, Csz, Co, Ccz, e]; simp
theorem t2_row {h : MH} {L : PG} {s : Int} (hs : ath (tT h L 2 s 0) ≠ 0) : tT h L 2 s 0 = fv (hv h 477 s) (hv h 478 s) 0 0 ∧ inS L s ∧ hv h 479 s = 1 := by
  change ath (t2 h L s 0) ≠ 0 at hs
  have c := iff_b hs
  refine ⟨?_, c.1, c.2.2⟩
  show t2 h L s 0 = _
  unfold t2
  rw [iff_p c]
/-- a site is used; an index may be beyond; what is got -/
def uin (L : PG) (T : TB) (k v9 v10 s : Int) : Prop := pOp L k = 22 ∨ (0 ≤ v10 ∧ v9 < ahi (T 2 s 0))
def iin (L : PG) (T : TB) (k v9 v10 s : Int) : Prop := pOp L k ≠ 22 ∧ (v9 < 0 ∨ alo (T 2 s 0) ≤ v10)
def IX (L : PG) (T : TB) (k v9 v10 good n : Int) : Prop := ∃ s, 1 ≤ s ∧ s < n ∧ bl good s = true ∧ iin L T k v9 v10 s
def vin (L : PG) (T : TB) (k s : Int) : FA := if pOp L k = 22 then T 2 s 0 else T 1 s 0
theorem t_inArray {l : Launch} {G : JG} (hG : gO G = true) {h h2 : MH} {L : PG} {k : Int} (q : wrk h L k h2) (e : pOp L k = 22 ∨ pOp L k = 23 ∨ pOp L k = 24) {Q : Int → MH → Prop} {E : Nat → Int → MH → Prop}
    (hQ : ∀ h', AdvG L k h h' (fun U => CLz L (tT h L) U k) → (pOp L k ≠ 22 → ∀ s, 0 ≤ s → (bl (hv h' 471 k) s = true ↔ usd L (tT h L) k s)) → Q 0 h') : S_X9_inArray l G [(2009, 396), (0, k)] h2 (fun _ h' => Q 0 h') E := by
  have q' := q
  obtain ⟨tf, w, mk, t, k0, k1, hr, s2, c2⟩ := q'
  have nn := w.n
  unfold WFn at nn
  obtain ⟨mo, -, xr, yr, -, -, -, -, -, x1, -, -, -, -, -, -, -, -, -, dp, -⟩ := w.k k0 k1
  have x1' : pOp L k ≠ 22 → pX L k ≤ 1 := fun z => x1 (by omega)
  have p0 : ppo L k = pOp L k - 21 := by
    rcases e with e | e | e <;> (unfold ppo; simp [e])
  have p1 : ppu L k = if pOp L k = 24 then 0 else 1 := by
    rcases e with e | e | e <;> (unfold ppu; simp [e])
  have tf2 := frA_TF s2.1 tf
  refine s_X9_inArray rfl fun K ki => r_X9_inArray_0 ki hG ⟨tf2.ne, k0, by omega, ?_⟩
  intro op eop
  rw [tf2.op] at eop
  subst eop
  refine ⟨tf2.ne, k0, by omega, ?_⟩
  intro xx exx
  rw [tf2.x] at exx
  subst exx
  intro x4 e4 x5 e5 x6 e6 x7 e7
  -- the loop and what follows: R the slot of the reference, I the index
  have main : ∀ (R : Int) (I : FA) (v4 v5 v6 v7 v9 v10 : Int) (g : MH), same h g → R = 7 + pDp L k - (pOp L k - 22) →
      (pOp L k ≠ 22 → I = tT h L 0 k (R + 1) ∧ v9 = alo I ∧ v10 = ahi I) →
      cur L (pMo L k) g (tT h L 0 k) (tT h L 6 k 0) (R - 8) → (pOp L k = 24 → fv v4 v5 v6 v7 = tT h L 0 k (7 + pDp L k)) → ∀ x11 : Int, x11 = ast (tT h L 0 k R) → ∀ good : Int, flt (fun s => decide (pSc L s < 0 ∧ ((if pOp L k = 22 then 2 else pX L k) = 2 ∨ pSc L s = -1 - (if pOp L k = 22 then 2 else pX L k)))) good 63 x11 → ∀ g1 : MH, g1 = hset g 396 72 0 →
      JW K 137 [(2009, 396), (0, k), (0, pOp L k), (0, pX L k), (0, v4), (0, v5), (0, v6), (1, v7), (5000, 0), (0, v9), (0, v10), (1, x11), (5000, 0), (1, good), (5000, 0), (0, 0), (1, 0), (5000, 0), (0, 1), (5000, 0)] [] g1 := by
    intro R I v4 v5 v6 v7 v9 v10 g sg eR hI cR vv x11 e11 good flg1 g1 eg1
    have R8 : 8 ≤ R ∧ R < 8 + pDp L k := by omega
    have gr := q.st R8.1 R8.2
    have skr := tiv_sok t w 0 k R
    have isa : ∀ s, (pSc L s < 0 ∧ ((if pOp L k = 22 then 2 else pX L k) = 2 ∨ pSc L s = -1 - (if pOp L k = 22 then 2 else pX L k))) ↔ (if pOp L k = 22 then pSc L s < 0 else isarr L s (pX L k)) := by
      intro s
      by_cases z : pOp L k = 22
      · rw [if_pos z, if_pos z]; exact ⟨fun y => y.1, fun y => ⟨y, Or.inl rfl⟩⟩
      · have := x1' z
        rw [if_neg z, if_neg z]; unfold isarr
        constructor
        · rintro ⟨y1, y2⟩; omega
        · intro y; exact ⟨by omega, Or.inr y⟩
    have bg : ∀ s, 0 ≤ s → (bl good s = true ↔ 1 ≤ s ∧ s < 63 ∧ bl x11 s = true ∧ (if pOp L k = 22 then pSc L s < 0 else isarr L s (pX L k))) := by
      intro s s0
      rw [flg1.2 s s0, ← isa s]
      simp only [Bool.and_eq_true, decide_eq_true_eq]
      constructor
      · rintro ⟨⟨y1, y2⟩, y3⟩; exact ⟨y1.1, y1.2, y2, y3⟩
      · rintro ⟨y1, y2, y3, y4⟩; exact ⟨⟨⟨y1, y2⟩, y3⟩, y4⟩
    have sbx : ∀ s, 0 ≤ s → bl x11 s = true → sb (tT h L 0 k R) s := fun s s0 y => by
      rw [e11] at y
      have := skr.2 s s0 y
      exact ⟨s0, by omega, y⟩
    have gsp : ∀ s, 0 ≤ s → bl good s = true → 1 ≤ s ∧ s < 63 ∧ sb (tT h L 0 k R) s ∧ (if pOp L k = 22 then pSc L s < 0 else isarr L s (pX L k)) ∧ pSc L s < 0 ∧ inS L s ∧ ath (tT h L 2 s 0) ≠ 0 ∧ ath (tT h L 1 s 0) ≠ 0 := by
      intro s s0 y
      have y' := (bg s s0).mp y
      have sx := sbx s s0 y'.2.2.1
      have slt' := skr.2 s s0 sx.2.2
      have neg : pSc L s < 0 := ((isa s).mpr y'.2.2.2).1
      have ins : inS L s := by
        refine ⟨?_, slt'⟩
        by_cases c : s < 7
        · have := w.s.1 s y'.1 c; omega
        · omega
      have i7 := ins.1
      refine ⟨y'.1, y'.2.1, sx, y'.2.2.2, neg, ins, ?_, ?_⟩
      · rcases t.2.1 0 k R s s0 sx.2.2 with z | z
        · omega
        · exact z.2.2 neg
      · rcases t.2.1 0 k R s s0 sx.2.2 with z | z
        · omega
        · exact z.2.1 0 (by omega) (by unfold nfs; rw [if_pos neg]; omega)
    have ug : pOp L k ≠ 22 → ∀ s, 0 ≤ s → ((bl good s = true ∧ uin L (tT h L) k v9 v10 s) ↔ usd L (tT h L) k s) := by
      intro n22 s s0
      obtain ⟨i1, i2, i3⟩ := hI n22
      constructor
      · rintro ⟨y, u⟩
        have gp := gsp s s0 y
        rw [if_neg n22] at gp
        refine ⟨gp.1, ?_⟩
        rcases u with u | u
        · exact absurd u n22
        · rw [i2, i3, i1] at u
          rcases e with e | e | e
          · exact absurd e n22
          · rw [show R = 6 + pDp L k by omega] at gp u
            rw [show 6 + pDp L k + 1 = 7 + pDp L k by omega] at u
            exact Or.inl ⟨e, gp.2.2.1, gp.2.2.2.1, gp.2.2.2.2.2.2.1, u.1, u.2⟩
          · rw [show R = 5 + pDp L k by omega] at gp u
            rw [show 5 + pDp L k + 1 = 6 + pDp L k by omega] at u
            exact Or.inr (Or.inl ⟨e, gp.2.2.1, gp.2.2.2.1, gp.2.2.2.2.2.2.1, u.1, u.2⟩)
      · rintro ⟨u1, u2⟩
        rcases u2 with u | u | u | u
        · have sx : sb (tT h L 0 k R) s := by rw [show R = 6 + pDp L k by omega]; exact u.2.1
          refine ⟨(bg s s0).mpr ⟨u1, sx.2.1, by rw [e11]; exact sx.2.2, by rw [if_neg n22]; exact u.2.2.1⟩, Or.inr ?_⟩
          rw [i2, i3, i1, show R + 1 = 7 + pDp L k by omega]; exact u.2.2.2.2
        · have sx : sb (tT h L 0 k R) s := by rw [show R = 5 + pDp L k by omega]; exact u.2.1
          refine ⟨(bg s s0).mpr ⟨u1, sx.2.1, by rw [e11]; exact sx.2.2, by rw [if_neg n22]; exact u.2.2.1⟩, Or.inr ?_⟩
          rw [i2, i3, i1, show R + 1 = 6 + pDp L k by omega]; exact u.2.2.2.2
        · omega
        · omega
    have gI : pOp L k ≠ 22 → fgd L (tT h L) I := fun n22 => by rw [(hI n22).1]; exact q.st (by omega) (by omega)
    -- the loop
    have key : ∀ N : Nat, ∀ n v15 v16 : Int, ∀ g2 : MH, (63 - n).toNat ≤ N → 1 ≤ n → n ≤ 63 →
        AdvC L k h g2 (fun U => pOp L k = 24 → ∀ s, 1 ≤ s → s < n → bl good s = true → uin L (tT h L) k v9 v10 s → fle (tT h L 0 k (7 + pDp L k)) (U 1 s 0)) →
        cur L (pMo L k) g2 (tT h L 0 k) (tT h L 6 k 0) (R - 8) → (∀ a j, 477 ≤ a → a ≤ 479 → hv g2 a j = hv h a j) →
        (c64 v16 ∧ ∀ s, 0 ≤ s → (bl v16 s = true ↔ 1 ≤ s ∧ s < n ∧ bl good s = true ∧ uin L (tT h L) k v9 v10 s)) →
        (¬ v15 = 0 ↔ IX L (tT h L) k v9 v10 good n) →
        (pOp L k ≠ 24 → tT g2 L = tT h L ∧ lub (nvl g2) (fun s => 1 ≤ s ∧ s < n ∧ bl good s = true ∧ uin L (tT h L) k v9 v10 s) (vin L (tT h L) k) ∧ (nvl g2 = fz ∨ fgd L (tT h L) (nvl g2)) ∧ ((∃ s, 1 ≤ s ∧ s < n ∧ bl good s = true ∧ uin L (tT h L) k v9 v10 s) → hv g2 396 72 = 1)) →
        JW K 137 [(2009, 396), (0, k), (0, pOp L k), (0, pX L k), (0, v4), (0, v5), (0, v6), (1, v7), (5000, 0), (0, v9), (0, v10), (1, x11), (5000, 0), (1, good), (5000, 0), (0, v15), (1, v16), (5000, 0), (0, n), (5000, 0)] [] g2 := by
      have fin : ∀ v15 v16 : Int, ∀ g2 : MH,
        AdvC L k h g2 (fun U => pOp L k = 24 → ∀ s, 1 ≤ s → s < 63 → bl good s = true → uin L (tT h L) k v9 v10 s → fle (tT h L 0 k (7 + pDp L k)) (U 1 s 0)) →
        cur L (pMo L k) g2 (tT h L 0 k) (tT h L 6 k 0) (R - 8) →
        (c64 v16 ∧ ∀ s, 0 ≤ s → (bl v16 s = true ↔ 1 ≤ s ∧ s < 63 ∧ bl good s = true ∧ uin L (tT h L) k v9 v10 s)) →
        (¬ v15 = 0 ↔ IX L (tT h L) k v9 v10 good 63) →
        (pOp L k ≠ 24 → tT g2 L = tT h L ∧ lub (nvl g2) (fun s => 1 ≤ s ∧ s < 63 ∧ bl good s = true ∧ uin L (tT h L) k v9 v10 s) (vin L (tT h L) k) ∧ (nvl g2 = fz ∨ fgd L (tT h L) (nvl g2)) ∧ ((∃ s, 1 ≤ s ∧ s < 63 ∧ bl good s = true ∧ uin L (tT h L) k v9 v10 s) → hv g2 396 72 = 1)) →
        JW K 137 [(2009, 396), (0, k), (0, pOp L k), (0, pX L k), (0, v4), (0, v5), (0, v6), (1, v7), (5000, 0), (0, v9), (0, v10), (1, x11), (5000, 0), (1, good), (5000, 0), (0, v15), (1, v16), (5000, 0), (0, 63), (5000, 0)] [] g2 := by
        intro v15 v16 g2 a c5 h16 h15 lv
        refine r_X9_inArray_137 ki hG ⟨fun _ => ⟨k0, by omega, fun gu egu => ?_⟩, fun z => by omega⟩
        have qU := u_wrk (v := v16) q
        have aU := u_Adv (v := v16) a
        rw [← egu] at aU
        have TU : tT (hset h 471 k v16) L = tT h L := us_T
        have cU : cur L (pMo L k) gu (tT h L 0 k) (tT h L 6 k 0) (R - 8) := by rw [egu]; exact wsm_cur (fun a j ha => ne_a (by omega)) c5
        have upU : ∀ U V : TB, tle U V → (pOp L k = 24 → ∀ s, 1 ≤ s → s < 63 → bl good s = true → uin L (tT h L) k v9 v10 s → fle (tT h L 0 k (7 + pDp L k)) (U 1 s 0)) → (pOp L k = 24 → ∀ s, 1 ≤ s → s < 63 → bl good s = true → uin L (tT h L) k v9 v10 s → fle (tT h L 0 k (7 + pDp L k)) (V 1 s 0)) := fun U V p y z s s0 s1 b u => fle_trans (y z s s0 s1 b u) (p _ _ _)
        -- what a closed table has of the sites of the reference
        have clR : ∀ U, tbok U → tle (tT h L) U → CLz L U U k → ∀ s, sb (tT h L 0 k R) s → (s = 0 → TS L U k (U 0 k) 1 (U 6 k 0)) ∧ (s ≠ 0 → ¬ (if pOp L k = 22 then pSc L s < 0 else isarr L s (pX L k)) → TS L U k (U 0 k) 5 (U 6 k 0)) ∧
            (s ≠ 0 → (if pOp L k = 22 then pSc L s < 0 else isarr L s (pX L k)) → ath (tT h L 2 s 0) ≠ 0 → iin L (tT h L) k v9 v10 s → TS L U k (U 0 k) 2 (U 6 k 0)) := by
          intro U oU pU cz s sx
          have sxU := sb_le (t.1 _ _ _) (pU 0 k R) sx
          rcases e with e | e | e
          · rw [show R = 7 + pDp L k by omega] at sxU
            have c := (CL22 e).mp cz s sxU
            rw [if_pos e]
            exact ⟨c.1, fun z z2 => c.2.1 z (by omega), fun _ _ _ z4 => absurd e z4.1⟩
          · have n22 : pOp L k ≠ 22 := by omega
            obtain ⟨i1, i2, i3⟩ := hI n22
            rw [show R = 6 + pDp L k by omega] at sxU
            have c := (CL23 e).mp cz s sxU
            rw [if_neg n22]
            refine ⟨c.1, c.2.1, fun z z2 z3 z4 => ?_⟩
            have thI : ath (tT h L 0 k (7 + pDp L k)) ≠ 0 := by
              have := (gI n22).2.2.2; rw [i1, show R + 1 = 7 + pDp L k by omega] at this; rw [this]; decide
            obtain ⟨u0, u1, u2, -⟩ := pU 0 k (7 + pDp L k) thI
            obtain ⟨w0, w1, w2, -⟩ := pU 2 s 0 z3
            refine (c.2.2 z z2 w0 u0).1 ?_
            have := z4.2
            rw [i2, i3, i1, show R + 1 = 7 + pDp L k by omega] at this
            omega
          · have n22 : pOp L k ≠ 22 := by omega
            obtain ⟨i1, i2, i3⟩ := hI n22
            rw [show R = 5 + pDp L k by omega] at sxU
            have c := (CL24 e).mp cz s sxU
            rw [if_neg n22]
            refine ⟨c.1, c.2.1, fun z z2 z3 z4 => ?_⟩
            have thI : ath (tT h L 0 k (6 + pDp L k)) ≠ 0 := by
              have := (gI n22).2.2.2; rw [i1, show R + 1 = 6 + pDp L k by omega] at this; rw [this]; decide
            obtain ⟨u0, u1, u2, -⟩ := pU 0 k (6 + pDp L k) thI
            obtain ⟨w0, w1, w2, -⟩ := pU 2 s 0 z3
            refine (c.2.2 z z2 w0 u0).1 ?_
            have := z4.2
            rw [i2, i3, i1, show R + 1 = 6 + pDp L k by omega] at this
            omega
        have ngood : ∀ s, 1 ≤ s → s < 64 → bl x11 s = true → bl good s = false → ¬ (if pOp L k = 22 then pSc L s < 0 else isarr L s (pX L k)) := by
          intro s s0 s1 y1 y2 z
          have := (bg s (by omega)).mpr ⟨s0, (sbx s (by omega) y1).2.1, y1, z⟩
          rw [y2] at this; cases this
        have cn : bl x11 0 = true → ∀ U, tbok U → tle (tT (hset h 471 k v16) L) U → CLz L U U k → TS L U k (U 0 k) 1 (U 6 k 0) := by
          intro y U oU pU cz
          rw [TU] at pU
          exact (clR U oU pU cz 0 (sbx 0 (by omega) y)).1 rfl
        have cs : ∀ s, 1 ≤ s → s < 64 → bl x11 s = true → bl good s = false → ∀ U, tbok U → tle (tT (hset h 471 k v16) L) U → CLz L U U k → TS L U k (U 0 k) 5 (U 6 k 0) := by
          intro s s0 s1 y1 y2 U oU pU cz
          rw [TU] at pU
          exact (clR U oU pU cz s (sbx s (by omega) y1)).2.1 (by omega) (ngood s s0 s1 y1 y2)
        have ci : ¬ v15 = 0 → ∀ U, tbok U → tle (tT (hset h 471 k v16) L) U → CLz L U U k → TS L U k (U 0 k) 2 (U 6 k 0) := by
          intro z U oU pU cz
          rw [TU] at pU
          obtain ⟨s, s0, s1, y1, y2⟩ := h15.mp z
          have gp := gsp s (by omega) y1
          exact (clR U oU pU cz s gp.2.2.1).2.2 (by omega) gp.2.2.2.1 gp.2.2.2.2.2.2.1 y2
        -- the end
        have done : ∀ h' {P : TB → Prop}, AdvC L k (hset h 471 k v16) h' (fun U => (P U ∧ (bl x11 0 = true → TS L U k (tT h L 0 k) 1 (tT h L 6 k 0)) ∧ (∀ s, 1 ≤ s → s < 64 → bl x11 s = true → bl good s = false → TS L U k (tT h L 0 k) 5 (tT h L 6 k 0))) ∧ (¬ v15 = 0 → TS L U k (tT h L 0 k) 2 (tT h L 6 k 0))) →
            (∀ U, P U → ∀ s, 0 ≤ s → bl good s = true → uin L (tT h L) k v9 v10 s → (pOp L k ≠ 24 → GT L U k (nx L k) (ux (tT h L 0 k) R (vin L (tT h L) k s)) (tT h L 6 k 0)) ∧ (pOp L k = 24 → fle (tT h L 0 k (7 + pDp L k)) (U 1 s 0) ∧ GT L U k (nx L k) (tT h L 0 k) (tT h L 6 k 0))) → Q 0 h' := by
          intro h' P b fP
          have ub := u_back (AdvC_w b (P' := fun U => CLz L (tT h L) U k) (fun _ p => ?_))
          · refine hQ h' ub.1 (fun n22 s s0 => ?_)
            rw [ub.2, h16.2 s s0, ← ug n22 s s0]
            exact ⟨fun y => ⟨y.2.2.1, y.2.2.2⟩, fun y => ⟨(gsp s s0 y.1).1, (gsp s s0 y.1).2.1, y.1, y.2⟩⟩
          · have hx : ∀ s, sb (tT h L 0 k R) s → (s = 0 → TS L (tT h' L) k (tT h L 0 k) 1 (tT h L 6 k 0)) ∧ (s ≠ 0 → ¬ (if pOp L k = 22 then pSc L s < 0 else isarr L s (pX L k)) → TS L (tT h' L) k (tT h L 0 k) 5 (tT h L 6 k 0)) ∧ (s ≠ 0 → (if pOp L k = 22 then pSc L s < 0 else isarr L s (pX L k)) → bl good s = true) := by
              intro s sx
              have s0 := sx.1
              have s63 := sx.2.1
              have xb : bl x11 s = true := by rw [e11]; exact sx.2.2
              refine ⟨fun z => p.1.2.1 (by rw [z] at xb; exact xb), fun z z2 => p.1.2.2 s (by omega) (by omega) xb ?_, fun z z2 => (bg s s0).mpr ⟨by omega, s63, xb, z2⟩⟩
              cases r : bl good s
              · rfl
              · exact absurd ((bg s s0).mp r).2.2.2 z2
            have ixt : ∀ s, s ≠ 0 → sb (tT h L 0 k R) s → bl good s = true → iin L (tT h L) k v9 v10 s → TS L (tT h' L) k (tT h L 0 k) 2 (tT h L 6 k 0) := by
              intro s z sx y1 y2
              have s0 := sx.1
              exact p.2 (h15.mpr ⟨s, by omega, sx.2.1, y1, y2⟩)
            rcases e with e | e | e
            · refine (CL22 e).mpr (fun s sx => ?_)
              have h3 := hx s (by rw [show R = 7 + pDp L k by omega]; exact sx)
              rw [if_pos e] at h3
              refine ⟨h3.1, fun z z2 => h3.2.1 z (by omega), fun z z2 z3 => ?_⟩
              have f := (fP _ p.1.1 s sx.1 (h3.2.2 z z2) (Or.inl e)).1 (by omega)
              rw [show R = 7 + pDp L k by omega] at f
              unfold vin at f
              rw [if_pos e] at f
              exact f
            · have n22 : pOp L k ≠ 22 := by omega
              obtain ⟨i1, i2, i3⟩ := hI n22
              refine (CL23 e).mpr (fun s sx => ?_)
              have sxR : sb (tT h L 0 k R) s := by rw [show R = 6 + pDp L k by omega]; exact sx
              have h3 := hx s sxR
              rw [if_neg n22] at h3
              refine ⟨h3.1, h3.2.1, fun z z2 z3 z4 => ⟨fun z5 => ixt s z sxR (h3.2.2 z z2) ⟨n22, by rw [i2, i3, i1, show R + 1 = 7 + pDp L k by omega]; exact z5⟩, fun z5 => ?_⟩⟩
              have f := (fP _ p.1.1 s sx.1 (h3.2.2 z z2) (Or.inr (by rw [i2, i3, i1, show R + 1 = 7 + pDp L k by omega]; exact z5))).1 (by omega)
              rw [show R = 6 + pDp L k by omega] at f
              unfold vin at f
              rw [if_neg n22] at f
              exact f
            · have n22 : pOp L k ≠ 22 := by omega
              obtain ⟨i1, i2, i3⟩ := hI n22
              refine (CL24 e).mpr (fun s sx => ?_)
              have sxR : sb (tT h L 0 k R) s := by rw [show R = 5 + pDp L k by omega]; exact sx
              have h3 := hx s sxR
              rw [if_neg n22] at h3
              refine ⟨h3.1, h3.2.1, fun z z2 z3 z4 => ⟨fun z5 => ixt s z sxR (h3.2.2 z z2) ⟨n22, by rw [i2, i3, i1, show R + 1 = 6 + pDp L k by omega]; exact z5⟩, fun z5 => ?_⟩⟩
              exact (fP _ p.1.1 s sx.1 (h3.2.2 z z2) (Or.inr (by rw [i2, i3, i1, show R + 1 = 6 + pDp L k by omega]; exact z5))).2 e
        -- the tosses, then the end
        have last : ∀ {g3 : MH} {P : TB → Prop}, AdvC L k (hset h 471 k v16) g3 P → (∀ U V, tle U V → P U → P V) →
            (∀ U, P U → ∀ s, 0 ≤ s → bl good s = true → uin L (tT h L) k v9 v10 s → (pOp L k ≠ 24 → GT L U k (nx L k) (ux (tT h L 0 k) R (vin L (tT h L) k s)) (tT h L 6 k 0)) ∧ (pOp L k = 24 → fle (tT h L 0 k (7 + pDp L k)) (U 1 s 0) ∧ GT L U k (nx L k) (tT h L 0 k) (tT h L 6 k 0))) →
            rfs2 l G E k x11 good (fun g4 => (v15 = 0 → Q 0 g4) ∧ (¬ v15 = 0 → S_X9_toss l G [(2009, 396), (0, k), (0, 2)] g4 (fun _ h' => Q 0 h') E)) g3 := by
          intro g3 P b up fP
          refine t_refuse hG qU cn cs b up (fun g4 b4 => ?_)
          refine opt_toss hG qU b4 (fun U V p y => ⟨up U V p y.1, fun z => TS_up p (y.2.1 z), fun s s0 s1 y1 y2 => TS_up p (y.2.2 s s0 s1 y1 y2)⟩) v15 2 (by omega) (by omega) ci (cont := fun h' => Q 0 h') (fun h' b5 => ?_)
          rw [TU] at b5
          exact done h' b5 fP
        have gne : ¬ (lc v16 0) = 0 → ∃ s, 1 ≤ s ∧ s < 63 ∧ bl good s = true ∧ uin L (tT h L) k v9 v10 s := by
          intro z
          rw [lc_eq] at z
          apply Classical.byContradiction
          intro no
          apply z
          rw [bl_eq0 h16.1]
          intro s s0 s1
          cases r : bl v16 s
          · rfl
          · exact absurd ⟨s, (h16.2 s s0).mp r⟩ no
        refine ⟨fun z => ?_, fun z => ⟨fun z2 => ?_, fun z2 => ?_⟩⟩
        · rw [lc_eq] at z
          refine last aU upU (fun U pU s s0 y1 y2 => ?_)
          have := (h16.2 s s0).mpr ⟨(gsp s s0 y1).1, (gsp s s0 y1).2.1, y1, y2⟩
          rw [z, bl_zero] at this; cases this
        · obtain ⟨sg0, sg1, sg2, sg3, sg4⟩ := gne z
          have gp := gsp sg0 (by omega) sg3
          have n22 : pOp L k ≠ 22 := by omega
          obtain ⟨i1, i2, i3⟩ := hI n22
          rw [if_pos z2] at p1
          refine w_flowOn hG qU aU upU (by omega) (by omega) (by omega) cU (by omega) (fun j hj => fgd_le aU.2.2.2.1 (by rw [TU]; exact q.sl (vld_up hj (by omega)))) (fgd_le aU.2.2.2.1 (by rw [TU]; exact q.lk)) (fun U oU p cz => ?_) (fun h' b _ => ?_)
          · have pU : tle (tT h L) U := by have := tle_trans aU.2.2.2.1 p; rw [TU] at this; exact this
            have sx := gp.2.2.1
            have ar := gp.2.2.2.1
            rw [if_neg n22] at ar
            rw [show R = 5 + pDp L k by omega] at sx
            have thI : ath (tT h L 0 k (6 + pDp L k)) ≠ 0 := by
              have := (gI n22).2.2.2; rw [i1, show R + 1 = 6 + pDp L k by omega] at this; rw [this]; decide
            refine ((((CL24 z2).mp (CL_dn t q.r pU cz) sg0 sx).2.2 (by omega) ar gp.2.2.2.2.2.2.1 thI).2 ?_).2
            rcases sg4 with u | u
            · exact absurd u n22
            · rw [i2, i3, i1, show R + 1 = 6 + pDp L k by omega] at u; exact u
          · exact last b (fun U V p y => ⟨upU U V p y.1, GT_up p y.2⟩) (fun U pU s s0 y1 y2 => ⟨fun z3 => absurd z2 z3, fun _ => ⟨pU.1 z2 s (gsp s s0 y1).1 (gsp s s0 y1).2.1 y1 y2, pU.2⟩⟩)
        · obtain ⟨T2e, lb, gz, h72⟩ := lv z2
          have gn' := gne z
          have n72 : hv gu 396 72 = 1 := by rw [egu, ne_a (by omega)]; exact h72 gn'
          have nv : pld gu = nvl g2 := by
            rw [nvl_72 (h72 gn'), egu]
            unfold pld
            rw [ne_a (by omega), ne_a (by omega), ne_a (by omega), ne_a (by omega)]
          have gn : fgd L (tT h L) (nvl g2) := by
            rcases gz with y | y
            · exfalso
              obtain ⟨s, s0, s1, sy, su⟩ := gn'
              have := (lb fz).mp (by rw [y]; exact fle_rfl _) s ⟨s0, s1, sy, su⟩
              refine (ath_le this ?_) rfl
              unfold vin
              split
              · exact (gsp s (by omega) sy).2.2.2.2.2.2.1
              · exact (gsp s (by omega) sy).2.2.2.2.2.2.2
            · exact y
          rw [if_neg z2] at p1
          refine t_lay2 hG cU (by omega) (by omega) fun g3 s3 c3 => ?_
          rw [show 8 + (R - 8) = R by omega, show R - 8 + 1 = R - 7 by omega, show fv (hv gu 396 64) (hv gu 396 65) (hv gu 396 66) (hv gu 396 67) = pld gu from rfl, nv] at c3
          have a3 : AdvC L k (hset h 471 k v16) g3 (fun U => pOp L k = 24 → ∀ s, 1 ≤ s → s < 63 → bl good s = true → uin L (tT h L) k v9 v10 s → fle (tT h L 0 k (7 + pDp L k)) (U 1 s 0)) := AdvC_w (AdvC_tr aU (AdvC_same s3 aU.2.2.1) upU) (fun _ p => p.1)
          refine w_flowOn hG qU a3 upU (by omega) (by omega) (by omega) c3 (by omega) (gX_ux (fun j hj ne => fgd_le a3.2.2.2.1 (by rw [TU]; exact q.sl (vld_up hj (by omega)))) (fgd_le a3.2.2.2.1 (by rw [TU]; exact gn))) (fgd_le a3.2.2.2.1 (by rw [TU]; exact q.lk)) (fun U oU p cz => ?_) (fun h' b _ => ?_)
          · have pU : tle (tT h L) U := by have := tle_trans a3.2.2.2.1 p; rw [TU] at this; exact this
            refine (GT_lub lb gn').mpr (fun s hs => ?_)
            have gp := gsp s (by omega) hs.2.2.1
            have sx := gp.2.2.1
            have ar := gp.2.2.2.1
            unfold vin
            rcases e with e | e | e
            · rw [show R = 7 + pDp L k by omega] at sx ⊢
              rw [if_pos e] at ar ⊢
              exact ((CL22 e).mp (CL_dn t q.r pU cz) s sx).2.2 (by omega) ar gp.2.2.2.2.2.2.1
            · have n22 : pOp L k ≠ 22 := by omega
              obtain ⟨i1, i2, i3⟩ := hI n22
              rw [show R = 6 + pDp L k by omega] at sx ⊢
              rw [if_neg n22] at ar ⊢
              have thI : ath (tT h L 0 k (7 + pDp L k)) ≠ 0 := by
                have := (gI n22).2.2.2; rw [i1, show R + 1 = 7 + pDp L k by omega] at this; rw [this]; decide
              refine (((CL23 e).mp (CL_dn t q.r pU cz) s sx).2.2 (by omega) ar gp.2.2.2.2.2.2.1 thI).2 ?_
              rcases hs.2.2.2 with u | u
              · exact absurd u n22
              · rw [i2, i3, i1, show R + 1 = 7 + pDp L k by omega] at u; exact u
            · exact absurd e z2
          · exact last b (fun U V p y => ⟨upU U V p y.1, GT_up p y.2⟩) (fun U pU s s0 y1 y2 => ⟨fun _ => (GT_lub lb gn').mp pU.2 s ⟨(gsp s s0 y1).1, (gsp s s0 y1).2.1, y1, y2⟩, fun z3 => absurd z3 z2⟩)
      intro N
      induction N with
      | zero =>
        intro n v15 v16 g2 n1 n2 n3 a c5 len h16 h15 lv
        have : n = 63 := by omega
        subst this
        exact fin v15 v16 g2 a c5 h16 h15 lv
      | succ N ih =>
        intro n v15 v16 g2 n1 n2 n3 a c5 len h16 h15 lv
        by_cases n63 : n = 63
        · subst n63; exact fin v15 v16 g2 a c5 h16 h15 lv
        · have upn : ∀ U V : TB, tle U V → (pOp L k = 24 → ∀ s, 1 ≤ s → s < n → bl good s = true → uin L (tT h L) k v9 v10 s → fle (tT h L 0 k (7 + pDp L k)) (U 1 s 0)) → (pOp L k = 24 → ∀ s, 1 ≤ s → s < n → bl good s = true → uin L (tT h L) k v9 v10 s → fle (tT h L 0 k (7 + pDp L k)) (V 1 s 0)) := fun U V p y z s s0 s1 b u => fle_trans (y z s s0 s1 b u) (p _ _ _)
          -- a step that uses nothing
          have skip : ∀ v15' : Int, (bl good n = true → ¬ uin L (tT h L) k v9 v10 n) → (¬ v15' = 0 ↔ (¬ v15 = 0 ∨ (bl good n = true ∧ iin L (tT h L) k v9 v10 n))) → ∀ n' : Int, n' = w32 (n + 1) →
              JW K 137 [(2009, 396), (0, k), (0, pOp L k), (0, pX L k), (0, v4), (0, v5), (0, v6), (1, v7), (5000, 0), (0, v9), (0, v10), (1, x11), (5000, 0), (1, good), (5000, 0), (0, v15'), (1, v16), (5000, 0), (0, n'), (5000, 0)] [] g2 := by
            intro v15' nu e15 n' en'
            rw [w32_i (by omega) (by omega)] at en'
            subst en'
            have ge : ∀ s, (1 ≤ s ∧ s < n + 1 ∧ bl good s = true ∧ uin L (tT h L) k v9 v10 s) ↔ (1 ≤ s ∧ s < n ∧ bl good s = true ∧ uin L (tT h L) k v9 v10 s) := by
              intro s
              constructor
              · rintro ⟨y1, y2, y3, y4⟩
                by_cases sn : s = n
                · rw [sn] at y3 y4; exact absurd y4 (nu y3)
                · exact ⟨y1, by omega, y3, y4⟩
              · rintro ⟨y1, y2, y3, y4⟩
                exact ⟨y1, by omega, y3, y4⟩
            refine ih _ _ _ _ (by omega) (by omega) (by omega) (AdvC_w a (fun _ p z3 s s0 s1 sy su => ?_)) c5 len ⟨h16.1, fun s s0 => by rw [h16.2 s s0]; exact (ge s).symm⟩ ?_ (fun z3 => ?_)
            · have := (ge s).mp ⟨s0, s1, sy, su⟩
              exact p z3 s s0 this.2.1 sy su
            · rw [e15, h15]
              constructor
              · rintro (⟨s, s0, s1, y1, y2⟩ | ⟨y1, y2⟩)
                · exact ⟨s, s0, by omega, y1, y2⟩
                · exact ⟨n, by omega, by omega, y1, y2⟩
              · rintro ⟨s, s0, s1, y1, y2⟩
                by_cases sn : s = n
                · rw [sn] at y1 y2; exact Or.inr ⟨y1, y2⟩
                · exact Or.inl ⟨s, s0, by omega, y1, y2⟩
            · obtain ⟨T2e, lb, gz, h72⟩ := lv z3
              exact ⟨T2e, lub_n lb ge, gz, fun ⟨s, hs⟩ => h72 ⟨s, (ge s).mp hs⟩⟩
          refine r_X9_inArray_137 ki hG ⟨fun z => by omega, fun _ => ⟨fun z => ?_, fun z => ?_⟩⟩
          · rw [lc_eq, l_bit (by omega) (by omega)] at z
            have gb : bl good n = false := bf1 z
            refine skip v15 (fun y => by rw [gb] at y; cases y) ?_
            constructor
            · intro y; exact Or.inl y
            · rintro (y | y)
              · exact y
              · rw [gb] at y; cases y.1
          · rw [lc_eq, l_bit (by omega) (by omega)] at z
            have gb : bl good n = true := bt2 z
            have gp := gsp n (by omega) gb
            have r2 := t2_row gp.2.2.2.2.2.2.1
            have l79 : hv g2 479 n = 1 := by rw [len 479 n (by omega) (by omega)]; exact r2.2.2
            have l77 : hv g2 477 n = alo (tT h L 2 n 0) := by rw [len 477 n (by omega) (by omega), r2.1]; rfl
            have l78 : hv g2 478 n = ahi (tT h L 2 n 0) := by rw [len 478 n (by omega) (by omega), r2.1]; rfl
            -- a step that uses the site
            have lev := a.2.2.2.1
            have use1 : ∀ v15' v16' : Int, uin L (tT h L) k v9 v10 n → (¬ v15' = 0 ↔ (¬ v15 = 0 ∨ iin L (tT h L) k v9 v10 n)) → v16' = l_or v16 (l_shl 1 n) → ∀ g5 : MH,
                AdvC L k h g5 (fun U => pOp L k = 24 → ∀ s, 1 ≤ s → s < n + 1 → bl good s = true → uin L (tT h L) k v9 v10 s → fle (tT h L 0 k (7 + pDp L k)) (U 1 s 0)) →
                cur L (pMo L k) g5 (tT h L 0 k) (tT h L 6 k 0) (R - 8) → (∀ a j, 477 ≤ a → a ≤ 479 → hv g5 a j = hv h a j) →
                (pOp L k ≠ 24 → tT g5 L = tT h L ∧ nvl g5 = fjoin (nvl g2) (vin L (tT h L) k n) ∧ hv g5 396 72 = 1) → ∀ n' : Int, n' = w32 (n + 1) →
                JW K 137 [(2009, 396), (0, k), (0, pOp L k), (0, pX L k), (0, v4), (0, v5), (0, v6), (1, v7), (5000, 0), (0, v9), (0, v10), (1, x11), (5000, 0), (1, good), (5000, 0), (0, v15'), (1, v16'), (5000, 0), (0, n'), (5000, 0)] [] g5 := by
              intro v15' v16' u e15 e16 g5 a5 c5' len5 lv5 n' en'
              rw [w32_i (by omega) (by omega)] at en'
              subst en'
              have ge : ∀ s, (1 ≤ s ∧ s < n + 1 ∧ bl good s = true ∧ uin L (tT h L) k v9 v10 s) ↔ ((1 ≤ s ∧ s < n ∧ bl good s = true ∧ uin L (tT h L) k v9 v10 s) ∨ s = n) := by
                intro s
                constructor
                · rintro ⟨y1, y2, y3, y4⟩
                  by_cases sn : s = n
                  · exact Or.inr sn
                  · exact Or.inl ⟨y1, by omega, y3, y4⟩
                · rintro (⟨y1, y2, y3, y4⟩ | y)
                  · exact ⟨y1, by omega, y3, y4⟩
                  · rw [y]; exact ⟨by omega, by omega, gb, u⟩
              refine ih _ _ _ _ (by omega) (by omega) (by omega) a5 c5' len5 ⟨by rw [e16]; exact c64_l_or _ _, fun s s0 => ?_⟩ ?_ (fun z3 => ?_)
              · rw [e16, bl_or, bl_shl (by omega) (by omega) s0, ge s, ← h16.2 s s0]
                simp
              · rw [e15, h15]
                constructor
                · rintro (⟨s, s0, s1, y1, y2⟩ | y2)
                  · exact ⟨s, s0, by omega, y1, y2⟩
                  · exact ⟨n, by omega, by omega, gb, y2⟩
                · rintro ⟨s, s0, s1, y1, y2⟩
                  by_cases sn : s = n
                  · rw [sn] at y2; exact Or.inr y2
                  · exact Or.inl ⟨s, s0, by omega, y1, y2⟩
              · obtain ⟨T2e, lb, gz, h72⟩ := lv z3
                obtain ⟨u1, u2, u3⟩ := lv5 z3
                have gT : fgd L (tT h L) (vin L (tT h L) k n) := by
                  unfold vin
                  split
                  · exact ⟨t.1 _ _ _, t.2.1 _ _ _, t.2.2.1 _ _ _, (fok_there (t.1 _ _ _) gp.2.2.2.2.2.2.1).1⟩
                  · exact ⟨t.1 _ _ _, t.2.1 _ _ _, t.2.2.1 _ _ _, (fok_there (t.1 _ _ _) gp.2.2.2.2.2.2.2).1⟩
                exact ⟨u1, lub_1 (n := n) lb ge u2, Or.inr (by rw [u2]; exact fgd_join gz gT), fun _ => u3⟩
            -- a value is added
            have addv : ∀ v15' v16' : Int, pOp L k ≠ 24 → uin L (tT h L) k v9 v10 n → (¬ v15' = 0 ↔ (¬ v15 = 0 ∨ iin L (tT h L) k v9 v10 n)) → v16' = l_or v16 (l_shl 1 n) → ∀ a1 a2 a3 a4 : Int, fv a1 a2 a3 a4 = vin L (tT h L) k n →
                S_X9_addValue l G [(2009, 396), (0, a1), (0, a2), (0, a3), (1, a4)] g2 (fun _ h59 => ∀ x18 : Int, x18 = w32 (n + 1) →
                  JW K 137 [(2009, 396), (0, k), (0, pOp L k), (0, pX L k), (0, v4), (0, v5), (0, v6), (1, v7), (5000, 0), (0, v9), (0, v10), (1, x11), (5000, 0), (1, good), (5000, 0), (0, v15'), (1, v16'), (5000, 0), (0, x18), (5000, 0)] [] h59) E := by
              intro v15' v16' n24 u e15 e16 a1 a2 a3 a4 ev
              refine t_addValue hG (fun g5 s5 k5 kx nv h1 => ?_)
              rw [ev] at nv
              refine use1 v15' v16' u e15 e16 g5 (AdvC_w (AdvC_tr a (AdvC_same s5 a.2.2.1) upn) (fun _ p z3 => absurd z3 n24)) ?_ (fun x j y1 y2 => by rw [s5.2.1 x j (by omega) (by omega)]; exact len x j y1 y2) (fun z3 => ⟨by rw [same_T s5]; exact (lv z3).1, nv, h1⟩)
              refine ⟨fun j hj => ?_, ?_, ?_⟩
              · rw [← c5.1 j hj]; unfold cX
                rw [kx 499 j (by omega) (by omega), kx 500 j (by omega) (by omega), kx 501 j (by omega) (by omega), kx 502 j (by omega) (by omega)]
              · rw [← c5.2.1]; unfold lkc_; rw [k5 62 (by omega) (by omega), k5 63 (by omega) (by omega)]
              · rw [k5 61 (by omega) (by omega)]; exact c5.2.2
            refine ⟨by omega, by omega, fun _ => ⟨fun n22 => ⟨fun _ _ => ⟨by omega, by omega⟩, ?_⟩, fun y22 => ?_⟩, fun y => by omega⟩
            · intro x15 e15
              rw [l77] at e15
              have q15 : ¬ x15 = 0 ↔ (¬ v15 = 0 ∨ iin L (tT h L) k v9 v10 n) := by
                rw [e15]
                unfold iin
                by_cases y1 : v15 = 0
                · rw [if_pos y1]
                  by_cases y2 : v9 < 0
                  · rw [if_pos y2]; exact ⟨fun _ => Or.inr ⟨n22, Or.inl y2⟩, fun _ => by decide⟩
                  · rw [if_neg y2]
                    by_cases y3 : v10 < alo (tT h L 2 n 0)
                    · rw [if_pos y3]; exact ⟨fun y => absurd rfl y, fun y => by rcases y with y | y; exact absurd y1 y; have := y.2; omega⟩
                    · rw [if_neg y3]; exact ⟨fun _ => Or.inr ⟨n22, Or.inr (by omega)⟩, fun _ => by decide⟩
                · rw [if_neg y1]; exact ⟨fun _ => Or.inl y1, fun _ => by decide⟩
              have q15' : ¬ x15 = 0 ↔ (¬ v15 = 0 ∨ (bl good n = true ∧ iin L (tT h L) k v9 v10 n)) := by
                rw [q15]
                exact ⟨fun y => by rcases y with y | y; exact Or.inl y; exact Or.inr ⟨gb, y⟩, fun y => by rcases y with y | y; exact Or.inl y; exact Or.inr y.2⟩
              refine ⟨fun y1 => skip x15 (fun _ u => ?_) q15', fun y1 => ⟨by omega, by omega, fun y2 => ?_, fun y2 => skip x15 (fun _ u => ?_) q15'⟩⟩
              · rcases u with u | u
                · exact absurd u n22
                · omega
              · rw [l78] at y2
                have u : uin L (tT h L) k v9 v10 n := Or.inr ⟨y1, y2⟩
                intro x16 e16 x19 e19
                rw [w32_i (by omega) (by omega)] at e19
                have th1 : ath (tT g2 L 1 n 0) ≠ 0 := ath_le (lev _ _ _) gp.2.2.2.2.2.2.2
                have rw1 := t1_row th1
                refine ⟨fun n23 => ?_, fun y23 => ?_⟩
                · have e24 : pOp L k = 24 := by omega
                  have gt7 := q.st (j := 7 + pDp L k) (by omega) (by omega)
                  have gvv := vv e24
                  have gv7 : fgd L (tT g2 L) (fv v4 v5 v6 v7) := by rw [gvv]; exact fgd_le lev gt7
                  obtain ⟨-, -, -, -, d1, d2, -⟩ := fok_there gv7.1 (by decide : (1 : Int) ≠ 0)
                  refine t_joinHeld hG (by omega) (by omega) (by omega) (by omega) (Or.inl rfl) d1 d2 (fun g5 p5 => ?_)
                  rw [if_pos rfl] at p5
                  have b := Adv_held w a.2.2.1 gp.2.2.2.2.2.1 (by omega) (by unfold nfs; rw [if_pos gp.2.2.2.2.1]; omega) rw1.2.2.1 gv7 p5
                  have n22' : pOp L k ≠ 22 := n22
                  obtain ⟨i1, i2, i3⟩ := hI n22'
                  have b' : AdvC L k g2 g5 (fun U => fle (tT h L 0 k (7 + pDp L k)) (U 1 n 0)) := Adv_w b (fun _ p => by rw [← gvv]; exact p) (fun U oU p cz => by
                    rw [gvv]
                    have sx := gp.2.2.1
                    have ar := gp.2.2.2.1
                    rw [if_neg n22'] at ar
                    rw [show R = 5 + pDp L k by omega] at sx
                    have thI : ath (tT h L 0 k (6 + pDp L k)) ≠ 0 := by
                      have := (gI n22').2.2.2; rw [i1, show R + 1 = 6 + pDp L k by omega] at this; rw [this]; decide
                    refine ((((CL24 e24).mp (CL_dn t q.r (tle_trans lev p) cz) n sx).2.2 (by omega) ar gp.2.2.2.2.2.2.1 thI).2 ?_).1
                    have j2 := i2
                    have j3 := i3
                    rw [i1, show R + 1 = 6 + pDp L k by omega] at j2 j3
                    rw [← j2, ← j3]
                    exact ⟨y1, y2⟩)
                  refine use1 x15 x16 u q15 e16 g5 (AdvC_w (AdvC_tr a b' upn) (fun _ p z3 s s0 s1 sy su => ?_)) (wsm'_cur ⟨fun x j q1 q2 => p5.2.1 x j (by omega) (by omega), fun j q1 => p5.2.2.1 j q1⟩ c5) (fun x j q1 q2 => by rw [p5.2.1 x j (by omega) (by omega)]; exact len x j q1 q2) (fun z3 => absurd e24 z3)
                  by_cases sn : s = n
                  · rw [sn]; exact p.2
                  · exact p.1 z3 s s0 (by omega) sy su
                · refine ⟨by omega, by omega, by omega, by omega, by omega, by omega, by omega, by omega, ?_⟩
                  refine addv x15 x16 (by omega) u q15 e16 _ _ _ _ ?_
                  unfold vin
                  rw [if_neg n22, ← (lv (by omega)).1, rw1.1, e19, show 8 * n + 0 = 8 * n by omega]; rfl
              · rw [l78] at y2
                rcases u with u | u
                · exact absurd u n22
                · omega
            · intro x16 e16
              refine ⟨by omega, by omega, by omega, by omega, ?_⟩
              refine addv v15 x16 (by omega) (Or.inl y22) ⟨fun y => Or.inl y, fun y => by rcases y with y | y; exact y; exact absurd y22 y.1⟩ e16 _ _ _ _ ?_
              unfold vin
              rw [if_pos y22, l77, l78, r2.1]; rfl
    have sg1 : same h g1 := by rw [eg1]; exact same_tr sg (same_set (by omega))
    have c1 : cur L (pMo L k) g1 (tT h L 0 k) (tT h L 6 k 0) (R - 8) := by
      refine ⟨fun j hj => ?_, ?_, ?_⟩
      · rw [← cR.1 j hj, eg1]; unfold cX
        rw [ne_a (by omega), ne_a (by omega), ne_a (by omega), ne_a (by omega)]
      · rw [← cR.2.1, eg1]; unfold lkc_; rw [ne_k (by omega), ne_k (by omega)]
      · rw [eg1, ne_k (by omega)]; exact cR.2.2
    have nz1 : nvl g1 = fz := by unfold nvl; rw [eg1, eq_a, if_pos rfl]
    refine key _ 1 0 0 g1 (Nat.le_refl _) (by omega) (by omega) (AdvC_w (AdvC_same sg1 t) (fun _ _ z3 s s0 s1 => by omega)) c1 (fun x j y1 y2 => sg1.2.1 x j (by omega) (by omega)) ⟨by unfold c64; omega, fun s s0 => ?_⟩ ⟨fun y => absurd rfl y, fun ⟨s, s0, s1, _⟩ => by omega⟩ (fun _ => ⟨same_T sg1, by rw [nz1]; exact lub_0 (fun s hs => by omega), Or.inl nz1, fun ⟨s, s0, s1, _⟩ => by omega⟩)
    rw [bl_zero]
    exact ⟨(fun y => by cases y), fun y => by omega⟩
  -- the way to the loop
  have goes : ∀ (g : MH) (R : Int) (I : FA) (v4 v5 v6 v7 v9 v10 : Int), same h g → R = 7 + pDp L k - (pOp L k - 22) → (pOp L k ≠ 22 → I = tT h L 0 k (R + 1) ∧ v9 = alo I ∧ v10 = ahi I) → cur L (pMo L k) g (tT h L 0 k) (tT h L 6 k 0) (R - 7) → (pOp L k = 24 → fv v4 v5 v6 v7 = tT h L 0 k (7 + pDp L k)) →
      S_X9_pull_2 l G [(2009, 396)] g (fun _ h10 =>
        (∀ x11 : Int, x11 = (hv h10 396 67) →
        S_X9_arrays l G [(2009, 396), (1, x11), (0, (if pOp L k = 22 then 2 else pX L k : Int))] h10 (fun z12 h13 =>
        (∀ x13 : Int, x13 = z12 →
        (∀ x15 : Int, x15 = 0 →
        (∀ x16 : Int, x16 = 0 →
        ((0 : Int) = 0 ∨ (0 : Int) = 1) ∧
        (∀ h17, h17 = hset h13 396 72 0 →
        (∀ x18 : Int, x18 = 1 →
        JW K 137 [(2009, 396), (0, k), (0, pOp L k), (0, pX L k), (0, v4), (0, v5), (0, v6), (1, v7), (5000, 0), (0, v9), (0, v10), (1, x11), (5000, 0), (1, x13), (5000, 0), (0, x15), (1, x16), (5000, 0), (0, x18), (5000, 0)] [] h17)))))) E)) E := by
    intro g R I v4 v5 v6 v7 v9 v10 sg eR hI c vv
    refine t_pull hG c (by omega) (by omega) fun g' s' c' p' _ => ?_
    rw [show 7 + (R - 7) = R by omega] at p'
    intro x11 e11
    have sgg := same_tr sg s'
    have tg := frA_TF sgg.1 tf
    have ex : x11 = ast (tT h L 0 k R) := by rw [e11, ← p']; rfl
    refine t_arrays hG tg w (by split <;> (try have := x1' (by assumption)) <;> omega) ?_
    intro good fl x13 e13 x15 e15 x16 e16
    refine ⟨by simp, ?_⟩
    intro h17 e17 x18 e18
    subst e13; subst e15; subst e16; subst e18
    exact main R I v4 v5 v6 v7 v9 v10 g' sgg eR hI (by rw [show R - 8 = R - 7 - 1 by omega]; exact c') vv x11 ex x13 fl h17 e17
  refine ⟨fun n24 => ?_, fun y24 => ?_⟩
  · intro x9 e9 x10 e10
    refine ⟨fun y22 => goes h2 (7 + pDp L k) fz _ _ _ _ _ _ s2 (by omega) (fun z => absurd y22 z) (by rw [show 7 + pDp L k - 7 = pDp L k by omega]; exact c2) (fun z => absurd z n24), fun n22 => ?_⟩
    refine t_pull hG c2 (by omega) (by omega) fun g s c p _ => ?_
    intro y9 f9 y10 f10
    refine goes g (6 + pDp L k) (tT h L 0 k (7 + pDp L k)) _ _ _ _ _ _ (same_tr s2 s) (by omega) (fun _ => ⟨by rw [show 6 + pDp L k + 1 = 7 + pDp L k by omega], by rw [f9, ← p]; rfl, by rw [f10, ← p]; rfl⟩) (by rw [show 6 + pDp L k - 7 = pDp L k - 1 by omega]; exact c) (fun z => absurd z n24)
  · refine t_pull hG c2 (by omega) (by omega) fun g s c p _ => ?_
    intro v4 ev4 v5 ev5 v6 ev6 v7 ev7 x9 e9 x10 e10
    refine ⟨fun y22 => by omega, fun n22 => ?_⟩
    refine t_pull hG c (by omega) (by omega) fun g' s' c' p' _ => ?_
    rw [show 7 + (pDp L k - 1) = 6 + pDp L k by omega] at p'
    intro y9 f9 y10 f10
    refine goes g' (5 + pDp L k) (tT h L 0 k (6 + pDp L k)) _ _ _ _ _ _ (same_tr (same_tr s2 s) s') (by omega) (fun _ => ⟨by rw [show 5 + pDp L k + 1 = 6 + pDp L k by omega], by rw [f9, ← p']; rfl, by rw [f10, ← p']; rfl⟩) (by rw [show 5 + pDp L k - 7 = pDp L k - 1 - 1 by omega]; exact c') (fun _ => by rw [← p, ev4, ev5, ev6, ev7]; rfl)
