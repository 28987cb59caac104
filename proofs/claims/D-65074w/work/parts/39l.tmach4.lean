/-! Part 39l: the twin's machine: calls and threads -/
set_option maxRecDepth 100000
theorem sto_m1 {L : PG} {nm : Int} : ∀ (n : Nat) (c : Int), sto L nm n c < 0 → sto L nm n c = -1
  | 0, c, _ => rfl
  | n + 1, c, h => by
    unfold sto at h ⊢
    by_cases a : 0 ≤ frm (owns L c nm) (pNm L).toNat 0
    · rw [if_pos a] at h; omega
    · rw [if_neg a] at h ⊢
      by_cases b : c ≤ 0
      · rw [if_pos b]
      · rw [if_neg b] at h ⊢
        exact sto_m1 n _ h
theorem sent_m1 {L : PG} {s nm : Int} (h : sent L s nm < 0) : sent L s nm = -1 := sto_m1 _ _ h
/-- a method is entered, by the twin -/
theorem ec_copy {l : Launch} {G : JG} (hG : gO G = true) {h : MH} {L : PG} {T : TB} {t k : Int} (q : mwk h L T t k) {m n x3 x4 : Int} (n0 : 0 ≤ n) (n1 : n ≤ pDp L k) (n4 : n ≤ 4) (n30 : hv h 509 t < 30) (hm : 0 ≤ m ∧ m < 40) {K : JC} {Q : Int → MH → Prop} {E : Nat → Int → MH → Prop}
    (reg : ∀ {v1 v2 v3 v4 v5 v6 v7 v8 v9 : Int} {h : MH}, ((v5 ≤ v9 → Q 0 h) ∧ (v9 < v5 → (0 ≤ v7) ∧ (v7 < 240) ∧ (0 ≤ (w32 ((w32 ((w32 ((w32 (16 * v7)) + 8)) + (hv h 512 v7))) + v9))) ∧ ((w32 ((w32 ((w32 ((w32 (16 * v7)) + 8)) + (hv h 512 v7))) + v9)) < 3840) ∧ (0 ≤ (w32 ((w32 (16 * v8)) + v9))) ∧ ((w32 ((w32 (16 * v8)) + v9)) < 3840) ∧
      (∀ h1, h1 = hset h 513 (w32 ((w32 (16 * v8)) + v9)) (hv h 513 (w32 ((w32 ((w32 ((w32 (16 * v7)) + 8)) + (hv h 512 v7))) + v9))) → (∀ x9_2 : Int, x9_2 = w32 (v9 + 1) → JW K 187 [(2009, 396), (0, v1), (0, v2), (0, v3), (0, v4), (0, v5), (0, v6), (0, v7), (0, v8), (0, x9_2)] [] h1)))) →
      JW K 187 [(2009, 396), (0, v1), (0, v2), (0, v3), (0, v4), (0, v5), (0, v6), (0, v7), (0, v8), (0, v9)] [] h)
    (hQ : Q 0 (lft h (calA L (hv h) t m n))) : S_X9_frame l G [(2009, 396), (0, t)] h (fun z9 h10 =>
          (∀ x7_11 : Int, x7_11 = z9 →
          S_X9_drop l G [(2009, 396), (0, t), (0, n)] h10 (fun _ h13 =>
          S_X9_open l G [(2009, 396), (0, t), (0, m)] h13 (fun z14 h15 =>
          (∀ x8_16 : Int, x8_16 = z14 →
          (∀ x9_17 : Int, x9_17 = 0 →
          JW K 187 [(2009, 396), (0, t), (0, k), (0, x3), (0, x4), (0, n), (0, m), (0, x7_11), (0, x8_16), (0, x9_17)] [] h15))) E) E)) E := by
  have b := q.b
  obtain ⟨fk', e12, e11, kb, db⟩ := b
  have fb := fA_b fk'
  have ef : fA (hv h) t = 30 * t + hv h 509 t - 1 := rfl
  have t0 := fk'.1.1
  have t1 := fk'.1.2
  have c1 := fk'.2.1
  refine t_frame hG fk' ?_
  intro x7 e7
  subst e7
  refine q.dr hG n0 n1 ?_
  have d9 : hv (lft h (dropA (hv h) t n)) 509 t = hv h 509 t := by rw [lft_hv, drop_v, if_neg (by omega)]
  have tfd : TF (lft h (dropA (hv h) t n)) L := q.1.of (by rw [lft_hv, drop_v, if_neg (by omega)]) (fun a j h1 h2 => by rw [lft_hv, drop_v, if_neg (by omega)])
  refine t_open (L := L) hG tfd t0 t1 (by rw [d9]; omega) (by rw [d9]; omega) hm ?_
  rw [d9, lft_hv]
  intro x8 e8 x9 e9
  subst e8; subst e9
  have ov : ∀ a i, opnA L (dropA (hv h) t n) t m a i = if a = 509 ∧ i = t then hv h 509 t + 1 else if a = 510 ∧ i = 30 * t + hv h 509 t then m else if a = 511 ∧ i = 30 * t + hv h 509 t then pFi L m else if a = 512 ∧ i = 30 * t + hv h 509 t then 0 else if a = 513 ∧ 16 * (30 * t + hv h 509 t) ≤ i ∧ i < 16 * (30 * t + hv h 509 t) + 16 then 0 else dropA (hv h) t n a i := by
    intro a i
    unfold opnA
    rw [show dropA (hv h) t n 509 t = hv h 509 t from d9]
  have key : ∀ N : Nat, ∀ j : Int, ∀ g : MH, (n - j).toNat ≤ N → 0 ≤ j → j ≤ n → g.2 = h.2 → (∀ a i, hv g a i = if a = 513 ∧ 16 * (30 * t + hv h 509 t) ≤ i ∧ i < 16 * (30 * t + hv h 509 t) + j then hv h 513 (16 * fA (hv h) t + 8 + (hv h 512 (fA (hv h) t) - n) + (i - 16 * (30 * t + hv h 509 t))) else opnA L (dropA (hv h) t n) t m a i) →
      JW K 187 [(2009, 396), (0, t), (0, k), (0, x3), (0, x4), (0, n), (0, m), (0, fA (hv h) t), (0, 30 * t + hv h 509 t), (0, j)] [] g := by
    intro N
    induction N with
    | zero =>
      intro j g m1 m2 m3 g2 iv
      have ej : j = n := by omega
      subst ej
      refine reg ⟨fun _ => ?_, fun z => by omega⟩
      have eh : g = lft h (calA L (hv h) t m j) := by
        have e1' : hv g = calA L (hv h) t m j := by
          funext a i
          rw [iv]
          rfl
        show g = (calA L (hv h) t m j, h.2)
        rw [← e1', ← g2]
        rfl
      rw [eh]; exact hQ
    | succ N ih =>
      intro j g m1 m2 m3 g2 iv
      by_cases ej : j = n
      · exact ih j g (by omega) m2 m3 g2 iv
      have g12 : hv g 512 (fA (hv h) t) = hv h 512 (fA (hv h) t) - n := by
        rw [iv, if_neg (by omega), ov, if_neg (by omega), if_neg (by omega), if_neg (by omega), if_neg (by omega), if_neg (by omega), drop_v, if_pos ⟨rfl, rfl⟩]
      have src : hv g 513 (16 * fA (hv h) t + 8 + (hv h 512 (fA (hv h) t) - n) + j) = hv h 513 (16 * fA (hv h) t + 8 + (hv h 512 (fA (hv h) t) - n) + j) := by
        rw [iv, if_neg (by omega), ov, if_neg (by omega), if_neg (by omega), if_neg (by omega), if_neg (by omega), if_neg (by omega), drop_v, if_neg (by omega)]
      refine reg ⟨fun z => by omega, fun z => ?_⟩
      rw [g12, w32_i (z := 16 * fA (hv h) t) (by omega) (by omega), w32_i (z := 16 * fA (hv h) t + 8) (by omega) (by omega), w32_i (z := 16 * fA (hv h) t + 8 + (hv h 512 (fA (hv h) t) - n)) (by omega) (by omega), w32_i (z := 16 * fA (hv h) t + 8 + (hv h 512 (fA (hv h) t) - n) + j) (by omega) (by omega), w32_i (z := 16 * (30 * t + hv h 509 t)) (by omega) (by omega), w32_i (z := 16 * (30 * t + hv h 509 t) + j) (by omega) (by omega), src]
      refine ⟨fb.1, fb.2, by omega, by omega, by omega, by omega, ?_⟩
      intro g' eg x ex
      rw [w32_i (by omega) (by omega)] at ex
      subst ex
      refine ih (j + 1) g' (by omega) (by omega) (by omega) (by rw [eg]; exact g2) (fun a i => ?_)
      rw [eg, hv_set, iv]
      by_cases c : a = 513 ∧ i = 16 * (30 * t + hv h 509 t) + j
      · rw [if_pos c, if_pos (by omega), c.2]
        congr 1
        omega
      · rw [if_neg c]
        by_cases c2 : a = 513 ∧ 16 * (30 * t + hv h 509 t) ≤ i ∧ i < 16 * (30 * t + hv h 509 t) + j
        · rw [if_pos c2, if_pos (by omega)]
        · rw [if_neg c2, if_neg (by omega)]
  refine key _ 0 _ (Nat.le_refl _) (by omega) (by omega) rfl (fun a i => ?_)
  rw [if_neg (by omega)]
  rfl
theorem t_enterCall {l : Launch} {G : JG} (hG : gO G = true) {h : MH} {L : PG} {T : TB} {t k : Int} (q : mwk h L T t k) (e : pOp L k = 29 ∨ pOp L k = 30) {Q : Int → MH → Prop} {E : Nat → Int → MH → Prop} (hQ : INV L T (ecA L (hv h) t k) → Q 0 (lft h (ecA L (hv h) t k))) : S_X9_enterCall l G [(2009, 396), (0, t), (0, k)] h Q E := by
  have b := q.b
  obtain ⟨fk', e12, e11, kb, db⟩ := b
  have tf := q.1
  have g := q.2.2.1
  have f0 := q.2.2.2.2
  have nn := g.1.1.n
  unfold WFn at nn
  have d := g.d
  have dk := g.1.1.k g.tp.1.1.1 g.tp.1.1.2
  have wt := g.1.2.1.1 k g.tp.1.1
  have li := lik_ok g.1.1 g.tp.1.1 (by omega)
  have li0 := li.1
  have li1 := li.2
  have lm := g.1.1.m li0 li1
  have a0 := lm.2.2.2.1
  have a4 := lm.2.2.2.2.1
  have po : ppo L k = pAr L (lik L k) := by unfold ppo; rw [if_neg (by omega), if_neg (by omega), if_neg (by omega), if_pos e]
  have ful : hv h 509 t = 30 → INV L T (mset (hv h) 396 103 1) := fun _ => INV_eq g.1.1 g.2.1 (fun a j y => m_ne (by omega))
  have n30 := fk'.2.2
  refine s_X9_enterCall rfl fun K ki => r_X9_enterCall_0 ki hG ⟨tf.ne, kb.1, kb.2, ?_⟩
  rw [tf.op]
  intro x3 e3
  rcases e with e | e
  · -- a plain call
    rw [if_pos e] at e3
    subst e3
    have cy := dk.2.2.2.2.2.2.2.2.2.2.2.2.2.1 e
    have lk1 : lik L k = pY L k := by unfold lik; rw [if_pos e]
    unfold ecA at hQ
    rw [if_pos e] at hQ
    refine ⟨fun y => by omega, fun _ => ⟨tf.ne, kb.1, kb.2, ?_⟩⟩
    rw [tf.y]
    intro x4 e4
    subst e4
    refine ⟨tf.ne, cy.1, by omega, ?_⟩
    rw [tf.ar]
    intro x5 e5
    have e5' : x5 = pAr L (lik L k) := by rw [e5, lk1]
    subst e5'
    intro x6 e6
    subst e6
    refine ⟨fun _ => ⟨fk'.1.1, fk'.1.2, ?_⟩, fun y => by omega⟩
    have cl : cld L (T 0 k) k (-1) (pY L k) := Or.inl ⟨e, rfl, rfl⟩
    refine t_isFullBy hG (by split <;> simp) f0 (fun y => ⟨fun _ => ?_, fun z => absurd rfl z⟩) (fun y => ⟨fun z => absurd z (by decide), fun _ => ?_⟩)
    · have n3 : hv h 509 t ≠ 30 := fun z => by rw [if_pos z] at y; omega
      rw [if_neg n3] at hQ
      refine ec_copy hG q a0 (by omega) a4 (by omega) ⟨cy.1, by omega⟩ (fun H => r_X9_enterCall_187 ki hG H) (hQ ?_)
      exact d_29 g (Or.inl e) cl (fun z => absurd e z) (by omega)
    · have n3 : hv h 509 t = 30 := by
        apply Classical.byContradiction
        intro z; rw [if_neg z] at y; omega
      rw [if_pos n3] at hQ
      exact hQ (ful n3)
  · rw [if_neg (by omega)] at e3
    subst e3
    have cw := dk.2.2.2.2.2.2.2.2.2.2.2.2.2.2.1 (Or.inl e)
    have lk1 : lik L k = wnm L (pX L k) := by unfold lik; rw [if_neg (by omega)]
    have wk := wnm_ok g.1.1 cw.2
    unfold ecA at hQ
    rw [if_neg (by omega)] at hQ
    refine ⟨fun _ => ⟨tf.ne, kb.1, kb.2, ?_⟩, fun y => absurd rfl y⟩
    rw [tf.x]
    refine t_withName hG (A := hv h 396 3) tf.ne tf.2 (by omega) (by omega) ?_
    intro x4 e4
    have e4' : x4 = lik L k := by rw [e4, lk1]
    subst e4'
    refine ⟨tf.ne, li0, by omega, ?_⟩
    rw [tf.ar]
    intro x5 e5
    subst e5
    intro x6 e6
    subst e6
    have a1 : 1 ≤ pAr L (lik L k) := (lm.2.2.2.2.2.1 (by rw [lk1]; exact wk.2.2)).1
    -- the receiver
    have p29 := wt.2.2.2.2.2.2.2.2.2.2.2.1 (Or.inr e) 0 (by omega) (by omega)
    have k1 : pLk L (lik L k) 0 = 1 := (lm.2.2.2.2.2.1 (by rw [lk1]; exact wk.2.2)).2
    rw [k1] at p29
    have r := q.rf (i := pAr L (lik L k) - 1) (by omega) (by omega) (by rw [show pDp L k - 1 - (pAr L (lik L k) - 1) = pDp L k - pAr L (lik L k) + 0 by omega]; exact p29)
    have fr : 7 + pDp L k - (pAr L (lik L k) - 1) = frs L k := by rw [frs_lik]; omega
    rw [fr] at r
    have so := sit_ok g.1.1 g.2.1 r.1.2.1
    have sbx := inR_sb g.1.1 g.2.1 r.1
    have c30 := g.c.2.2.2.2.1 (Or.inl e) _ sbx
    refine ⟨fun y => by omega, fun _ => ?_⟩
    rw [w32_i (by omega) (by omega)]
    refine q.top hG (by omega) (by omega) ?_
    intro x7 e7
    subst e7
    refine ⟨fun nz => ?_, fun z => ?_⟩
    · rw [if_neg nz] at hQ
      have s1 : 1 ≤ sit (hv h) (topA (hv h) t (pAr L (lik L k) - 1)) := by
        have : sit (hv h) (topA (hv h) t (pAr L (lik L k) - 1)) ≠ 0 := fun y => nz (so.2.2.2.1.mp y)
        omega
      refine t_siteOf hG r.2.1 r.2.2 ⟨tf.ne, kb.1, kb.2, ?_⟩
      rw [tf.x]
      refine t_sentTo hG tf g.1.1 s1 so.2.1 ?_
      intro x6 e6
      subst e6
      refine ⟨fun c => ⟨fk'.1.1, fk'.1.2, ?_⟩, fun c => ?_⟩
      · have c0 : 0 ≤ sent L (sit (hv h) (topA (hv h) t (pAr L (lik L k) - 1))) (pX L k) := by
          apply Classical.byContradiction
          intro z; exact c (sent_m1 (by omega))
        rw [if_neg (by omega)] at hQ
        have cl : cld L (T 0 k) k (sit (hv h) (topA (hv h) t (pAr L (lik L k) - 1))) (sent L (sit (hv h) (topA (hv h) t (pAr L (lik L k) - 1))) (pX L k)) := Or.inr ⟨by omega, s1, sbx, rfl, c0⟩
        have so2 := sent_ok g.1.1 s1 so.2.1 c0
        refine t_isFullBy hG (by split <;> simp) f0 (fun y => ⟨fun _ => ?_, fun z => absurd rfl z⟩) (fun y => ⟨fun z => absurd z (by decide), fun _ => ?_⟩)
        · have n3 : hv h 509 t ≠ 30 := fun z => by rw [if_pos z] at y; omega
          rw [if_neg n3] at hQ
          refine ec_copy hG q a0 (by omega) a4 (by omega) ⟨c0, by omega⟩ (fun H => r_X9_enterCall_187 ki hG H) (hQ ?_)
          exact d_29 g (Or.inr e) cl (fun _ => rfl) (by omega)
        · have n3 : hv h 509 t = 30 := by
            apply Classical.byContradiction
            intro z; rw [if_neg z] at y; omega
          rw [if_pos n3] at hQ
          exact hQ (ful n3)
      · rw [if_pos (by omega)] at hQ
        rw [if_neg nz]
        exact t_hur hG q (by decide) (by decide) (c30.2 (by omega) (by omega)) hQ
    · rw [if_pos z] at hQ
      intro x6 e6
      refine ⟨fun c => absurd e6 c, fun _ => ?_⟩
      rw [if_pos z]
      exact t_hur hG q (by decide) (by decide) (c30.1 (so.2.2.2.1.mpr z)) hQ
theorem t_begin {l : Launch} {G : JG} (hG : gO G = true) {h : MH} {L : PG} {T : TB} {t k : Int} (q : mwk h L T t k) (e : pOp L k = 36) {Q : Int → MH → Prop} {E : Nat → Int → MH → Prop} (hQ : INV L T (bgA L (hv h) t k) → Q 0 (lft h (bgA L (hv h) t k))) : S_X9_begin l G [(2009, 396), (0, t), (0, k)] h Q E := by
  have b := q.b
  obtain ⟨fk', e12, e11, kb, db⟩ := b
  have tf := q.1
  have g := q.2.2.1
  have nn := g.1.1.n
  unfold WFn at nn
  have d := g.d
  have bb := g.2.1.1
  have dk := g.1.1.k g.tp.1.1.1 g.tp.1.1.2
  have wt := g.1.2.1.1 k g.tp.1.1
  have p22 := wt.2.2.2.2.2.2.1 (by omega)
  have c36 := dk.2.2.2.2.2.2.2.2.2.2.2.2.2.2.2.1 e
  have po : ppo L k = 1 := by unfold ppo; rw [if_pos (by omega)]
  have lk1 : lik L k = wnm L (pX L k) := by unfold lik; rw [if_neg (by omega)]
  have ar1 : pAr L (lik L k) = 1 := by rw [lk1]; exact c36.1
  have r := q.rf (i := 0) (by omega) (by omega) (by rw [show pDp L k - 1 - 0 = pDp L k - 1 by omega]; exact p22)
  have fr : 7 + pDp L k - 0 = frs L k := by rw [frs_lik, ar1]; omega
  rw [fr] at r
  have so := sit_ok g.1.1 g.2.1 r.1.2.1
  have sbx := inR_sb g.1.1 g.2.1 r.1
  have c30 := g.c.2.2.2.2.1 (Or.inr e) _ sbx
  have hbg : hv h 396 83 = bgn (hv h) := rfl
  unfold bgA at hQ
  refine s_X9_begin rfl fun K ki => r_X9_begin_0 ki hG ?_
  refine q.top hG (by decide) (by omega) ?_
  intro x3 e3
  subst e3
  refine ⟨fun nz => ?_, fun z => ?_⟩
  · rw [if_neg nz] at hQ
    have s1 : 1 ≤ sit (hv h) (topA (hv h) t 0) := by
      have : sit (hv h) (topA (hv h) t 0) ≠ 0 := fun y => nz (so.2.2.2.1.mp y)
      omega
    refine t_siteOf hG r.2.1 r.2.2 ⟨tf.ne, kb.1, kb.2, ?_⟩
    rw [tf.x]
    refine t_sentTo hG tf g.1.1 s1 so.2.1 ?_
    intro x4 e4
    subst e4
    refine ⟨fun c => ?_, fun c => ?_⟩
    · have c0 : 0 ≤ sent L (sit (hv h) (topA (hv h) t 0)) (pX L k) := by
        apply Classical.byContradiction
        intro z; exact c (sent_m1 (by omega))
      rw [if_neg (by omega)] at hQ
      have cl : cld L (T 0 k) k (sit (hv h) (topA (hv h) t 0)) (sent L (sit (hv h) (topA (hv h) t 0)) (pX L k)) := Or.inr ⟨by omega, s1, sbx, rfl, c0⟩
      have so2 := sent_ok g.1.1 s1 so.2.1 c0
      rw [hbg]
      refine ⟨fun n8 => ?_, fun n8 => ?_⟩
      · rw [if_neg n8] at hQ
        have inv := d_36 g e nz rfl c0 (by omega)
        refine q.dr hG (by decide) (by omega) ?_
        refine q.sd hG (by rw [drop_v, if_neg (by omega)]) (by rw [drop_v, if_neg (by omega)]; exact e11) ?_
        have sv := ds_v (hv h) t 1
        have b83 : hv (lft h (stepA (dropA (hv h) t 1) t)) 396 83 = bgn (hv h) := by rw [lft_hv, sv, if_neg (by omega), if_neg (by omega)]; rfl
        rw [b83]
        intro x5 e5
        subst e5
        intro h14 e14
        rw [w32_i (by omega) (by omega)] at e14
        refine ⟨by omega, by omega, by decide, ?_⟩
        intro h15 e15
        refine ⟨by omega, by omega, ?_⟩
        intro h16 e16
        have e16' : h16 = lft h (mset (mset (mset (stepA (dropA (hv h) t 1) t) 396 83 (bgn (hv h) + 1)) 508 (bgn (hv h)) 0) 509 (bgn (hv h)) 0) := by rw [e16, e15, e14]; rfl
        have n9 : hv h16 509 (bgn (hv h)) = 0 := by rw [e16, eq_a]
        have tf16 : TF h16 L := by
          rw [e16']
          refine tf.of ?_ (fun a j h1 h2 => ?_)
          · rw [lft_hv, m_ne (by omega), m_ne (by omega), m_ne (by omega), sv, if_neg (by omega), if_neg (by omega)]
          · rw [lft_hv, m_ne (by omega), m_ne (by omega), m_ne (by omega), sv, if_neg (by omega), if_neg (by omega)]
        refine t_open (L := L) hG tf16 (by omega) (by omega) (by rw [n9]; decide) (by rw [n9]; decide) ⟨c0, by omega⟩ ?_
        rw [n9, e16', lft_hv]
        intro x6 e6
        subst e6
        rw [show 30 * bgn (hv h) + 0 = 30 * bgn (hv h) by omega, w32_i (by omega) (by omega)]
        refine ⟨by omega, by omega, ?_⟩
        intro h20 e20
        have e20' : h20 = lft h (bgnA L (stepA (dropA (hv h) t 1) t) (bgn (hv h)) (sent L (sit (hv h) (topA (hv h) t 0)) (pX L k)) (topA (hv h) t 0)) := by rw [e20]; rfl
        rw [e20']
        exact hQ inv
      · rw [if_pos n8] at hQ
        have z := ((CL36 e).mp g.c).1 _ _ cl
        exact t_hur hG q (by decide) (by decide) z.2.2.1 hQ
    · rw [if_pos (by omega)] at hQ
      rw [if_neg nz]
      exact t_hur hG q (by decide) (by decide) (c30.2 (by omega) (by omega)) hQ
  · rw [if_pos z] at hQ
    intro x4 e4
    refine ⟨fun c => absurd e4 c, fun _ => ?_⟩
    rw [if_pos z]
    exact t_hur hG q (by decide) (by decide) (c30.1 (so.2.2.2.1.mpr z)) hQ
