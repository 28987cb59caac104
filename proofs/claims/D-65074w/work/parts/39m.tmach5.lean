/-! Part 39m: the twin's machine: an instruction -/
set_option maxRecDepth 100000
def inV (A : MA) : Int := if A 396 82 = A 396 80 then 0 else A 507 (A 396 82)
def inA (A : MA) : MA := if A 396 82 = A 396 80 then A else mset A 396 82 (A 396 82 + 1)
def ouA (A : MA) (x v : Int) : MA := if A 396 96 < 200 then mset (mset (mset A 518 (A 396 96) x) 519 (A 396 96) v) 396 96 (A 396 96 + 1) else mset A 396 96 (A 396 96 + 1)
def arA (o a b : Int) : Int := if o = 7 then w32 (a + b) else if o = 8 then w32 (a - b) else if o = 9 then w32 (a * b) else if o = 10 then i_div a b else i_rem a b
def fdA (L : PG) (A : MA) (t k : Int) : MA :=
  if pOp L k = 25 then (if topA A t 0 = 0 then hurlA L A t 1 else if isOf L (sit A (topA A t 0)) (pX L k) = true then lieA (dropA A t 1) t (A 517 (100 * (topA A t 0 - 7) + pY L k)) else hurlA L A t 5)
  else (if topA A t 1 = 0 then hurlA L A t 1 else if isOf L (sit A (topA A t 1)) (pX L k) = true then stepA (dropA (mset A 517 (100 * (topA A t 1 - 7) + pY L k) (topA A t 0)) t 2) t else hurlA L A t 5)
/-- AN INSTRUCTION -/
def doA (L : PG) (A : MA) (t k : Int) : MA :=
  if pOp L k = 0 then lieA A t (pY L k) else if pOp L k = 1 then lieA A t 0 else if pOp L k = 2 then lieA A t (A 513 (16 * fA A t + pX L k))
  else if pOp L k = 3 then stepA (dropA (mset A 513 (16 * fA A t + pX L k) (topA A t 0)) t 1) t else if pOp L k = 4 then stepA (dropA A t 1) t else if pOp L k = 5 then lieA A t (topA A t 0)
  else if pOp L k = 6 then lieA (pushA (dropA A t 2) t (topA A t 0)) t (topA A t 1)
  else if pOp L k ≤ 11 then (if (pOp L k = 10 ∨ pOp L k = 11) ∧ topA A t 0 = 0 then hurlA L A t 4 else lieA (dropA A t 2) t (arA (pOp L k) (topA A t 1) (topA A t 0)))
  else if pOp L k = 12 then lieA (dropA A t 1) t (w32 (-topA A t 0)) else if pOp L k = 13 then lieA (inA A) t (pY L k + (inV A - pY L k) % (pZ L k - pY L k + 1))
  else if pOp L k = 14 then stepA (dropA (ouA A (pX L k) (topA A t 0)) t 1) t else if pOp L k = 15 then jmpA L A t k 1
  else if pOp L k = 16 then jmpA L (dropA A t 2) t k (mayf (pX L k) (topA A t 1) (topA A t 1) (topA A t 0) (topA A t 0))
  else if pOp L k = 17 then jmpA L A t k (mayf (pX L k / 8) (A 513 (16 * fA A t + pX L k % 8)) (A 513 (16 * fA A t + pX L k % 8)) (pY L k) (pY L k))
  else if pOp L k = 18 then jmpA L A t k (if A 513 (16 * fA A t + pX L k) = 0 then 1 else 0)
  else if pOp L k = 19 then jmpA L A t k (if A 513 (16 * fA A t + pX L k) = 0 then 0 else if isOf L (sit A (A 513 (16 * fA A t + pX L k))) (pY L k) = true then 1 else 0)
  else if pOp L k = 20 then (if nob A = 400 then mset A 396 103 1 else lieA (mkA A (pSi L k) 0) t (nob A + 7))
  else if pOp L k = 21 then (if topA A t 0 < 0 ∨ 100 < topA A t 0 then hurlA L A t 3 else if nob A = 400 then mset A 396 103 1 else lieA (mkA (dropA A t 1) (pSi L k) (topA A t 0)) t (nob A + 7))
  else if pOp L k ≤ 24 then elA L A t k else if pOp L k ≤ 26 then fdA L A t k else if pOp L k = 27 then lieA A t (A 521 (pX L k))
  else if pOp L k = 28 then stepA (dropA (mset A 521 (pX L k) (topA A t 0)) t 1) t else if pOp L k ≤ 30 then ecA L A t k else if pOp L k = 31 then retA L A t k
  else if pOp L k = 32 then hurlA L A t (if topA A t 0 = 0 then 1 else if isOf L (sit A (topA A t 0)) 1 = true then topA A t 0 else 5)
  else if pOp L k = 33 then (if topA A t 0 = 0 ∨ isOf L (sit A (topA A t 0)) (pX L k) = true then stepA A t else hurlA L A t 5)
  else if pOp L k = 34 then (if A 514 (pX L k) = t then hurlA L A t 6 else stepA (mset A 514 (pX L k) t) t)
  else if pOp L k = 35 then (if A 514 (pX L k) = t then stepA (mset A 514 (pX L k) (-1)) t else hurlA L A t 6)
  else bgA L A t k
theorem t_nextInput {l : Launch} {G : JG} (hG : gO G = true) {h : MH} (i0 : 0 ≤ hv h 396 82) (i1 : hv h 396 82 ≤ hv h 396 80) (i2 : hv h 396 80 ≤ 200) {Q : Int → MH → Prop} {E : Nat → Int → MH → Prop} (hQ : Q (inV (hv h)) (lft h (inA (hv h)))) : S_X9_nextInput l G [(2009, 396)] h Q E := by
  refine s_X9_nextInput rfl fun K ki => r_X9_nextInput_0 ki hG ⟨fun c => ?_, fun c => ?_⟩
  · unfold inV inA at hQ
    rw [if_neg c, if_neg c] at hQ
    intro g eg
    rw [w32_i (by omega) (by omega)] at eg
    have e : hv g 396 82 = hv h 396 82 + 1 := by rw [eg, eq_a]
    rw [e, show hv h 396 82 + 1 - 1 = hv h 396 82 by omega, w32_i (by omega) (by omega)]
    refine ⟨by omega, by omega, ?_⟩
    have e2 : hv g 507 (hv h 396 82) = hv h 507 (hv h 396 82) := by rw [eg, ne_a (by omega)]
    rw [e2, eg]
    exact hQ
  · unfold inV inA at hQ
    rw [if_pos c, if_pos c] at hQ
    exact hQ
/-- the machine's input and output are in order -/
def ioo (A : MA) : Prop := (0 ≤ A 396 82 ∧ A 396 82 ≤ A 396 80 ∧ A 396 80 ≤ 200) ∧ (∀ i, 0 ≤ i → i < 200 → c32 (A 507 i)) ∧ 0 ≤ A 396 96 ∧ A 396 96 < 1000000
/-- nothing waits for a lock -/
def nwt (L : PG) (A : MA) (t k : Int) : Prop := pOp L k = 34 → A 514 (pX L k) = -1 ∨ A 514 (pX L k) = t
/-- a thread at work when what is not told of has changed -/
theorem mwk_eq {h : MH} {L : PG} {T : TB} {t k : Int} (q : mwk h L T t k) {A : MA} (e : ∀ a j, ¬ (a = 396 ∧ (j = 82 ∨ j = 96)) → ¬ (a = 518 ∨ a = 519) → A a j = hv h a j) : mwk (lft h A) L T t k := by
  obtain ⟨tf, eT, g, b0, f0⟩ := q
  refine ⟨tf.of (e _ _ (by omega) (by omega)) (fun a j h1 h2 => e _ _ (by omega) (by omega)), ?_, wkg_eq g (INV_eq g.1.1 g.2.1 (fun a j y => e a j (by omega) (by omega))) (fun a j y => e a j (by omega) (by omega)), by rw [lft_hv, e _ _ (by omega) (by omega)]; exact b0, by rw [lft_hv, e _ _ (by omega) (by omega)]; exact f0⟩
  rw [← eT]
  exact tT_eq' (fun a j _ _ _ _ => e a j (by omega) (by omega))
theorem t_doIt {l : Launch} {G : JG} (hG : gO G = true) {h : MH} {L : PG} {T : TB} {t k : Int} (q : mwk h L T t k) (io : ioo (hv h)) (nw : nwt L (hv h) t k) {Q : Int → MH → Prop} {E : Nat → Int → MH → Prop} (hQ : INV L T (doA L (hv h) t k) → Q 0 (lft h (doA L (hv h) t k))) : S_X9_doIt l G [(2009, 396), (0, t)] h Q E := by
  have b := q.b
  obtain ⟨fk', e12, e11, kb, db⟩ := b
  have tf := q.1
  have g := q.2.2.1
  have b0 := q.2.2.2.1
  have f0 := q.2.2.2.2
  have fb := fA_b fk'
  have nn := g.1.1.n
  unfold WFn at nn
  have d := g.d
  have hk := g.tp.1.1
  have dk := g.1.1.k hk.1 hk.2
  obtain ⟨mo, ops, xr, yr, x2, x7, x5, x47, xc, xa, xs, y19, y25, cy, cw, c36, yz, jz, si, dp, nxt⟩ := dk
  have lc8 := (g.1.1.m mo.1 mo.2.1).2.2.2.2.2.2.2.2.2.1
  have wt := g.1.2.1.1 k hk
  obtain ⟨w0, p3, p7, p12, p17, p18, p22, p23, p24, p26, p28, p29, p31, u0, u1, u2, u5, u6, u25, u27, u29⟩ := wt
  have o0 := g.2.1.2.1.1
  have o4 := g.2.1.2.1.2.1
  have lie0 : ∀ {v : Int} {Q : Int → MH → Prop}, pDp L k < 8 → Q 0 (lft h (lieA (hv h) t v)) → S_X9_lie l G [(2009, 396), (0, t), (0, v)] h Q E := by
    intro v Q d8 hq
    exact t_lie hG fk' (by rw [e12]; exact db.1) (by rw [e12]; exact d8) (by rw [e11]; exact kb.1) (by rw [e11]; have := kb.2; omega) hq
  have nx8 : pOp L k ≠ 15 → pOp L k ≠ 31 → pOp L k ≠ 32 → pDp L (k + 1) = pDp L k - ppo L k + ppu L k := fun a b c => (nxt a b c).2
  have ts4 : (pOp L k = 10 ∨ pOp L k = 11) → topA (hv h) t 0 = 0 → TS L T k (T 0 k) 4 (T 6 k 0) := by
    intro o z
    have po : ppo L k = 2 := by unfold ppo; rw [if_neg (by omega), if_pos (by omega)]
    have hb := g.top (i := 0) (by omega) (by omega)
    rw [show pDp L k - 1 - 0 = pDp L k - 1 by omega, (p7 (by omega)).1, gm_n (by decide), show 7 + pDp L k - 0 = 7 + pDp L k by omega, z] at hb
    exact ((CL10 o).mp g.c).2 ⟨hb.1, hb.2.1, hb.2.2⟩
  refine s_X9_doIt rfl fun K ki => r_X9_doIt_0 ki hG ?_
  refine t_frame hG fk' ?_
  intro f ef
  subst ef
  refine ⟨fb.1, fb.2, ?_⟩
  rw [e11]
  intro k' ek'
  subst ek'
  refine ⟨tf.ne, kb.1, kb.2, ?_⟩
  rw [tf.x]
  intro x ex
  subst ex
  refine ⟨tf.ne, kb.1, kb.2, ?_⟩
  rw [tf.y]
  intro y ey
  subst ey
  rw [w32_i (z := 16 * fA (hv h) t) (by omega) (by omega)]
  intro x6 e6
  subst e6
  refine ⟨tf.ne, kb.1, kb.2, ?_⟩
  rw [tf.op]
  -- numbers
  have num : 7 ≤ pOp L k' ∧ pOp L k' ≤ 11 → S_X9_top l G [(2009, 396), (0, t), (0, 0)] h (fun z41 h42 =>
      (∀ x8_43 : Int, x8_43 = z41 →
      S_X9_top l G [(2009, 396), (0, t), (0, 1)] h42 (fun z44 h45 =>
      (∀ x7_46 : Int, x7_46 = z44 →
      ((hv h45 396 3) ≠ 0) ∧
      (0 ≤ k') ∧
      (k' < 1500) ∧
      (∀ x9_47 : Int, x9_47 = (hv h45 ((hv h45 396 3) + 19) k') →
      ((((x9_47 = 10 ∧ x8_43 = 0) ∨ (¬ x9_47 = 10 ∧ (x9_47 = 11 ∧ x8_43 = 0))) →
        S_X9_hurl l G [(2009, 396), (0, t), (0, 4)] h45 (fun _ h49 =>
        Q 0 h49) E) ∧
      (¬ ((x9_47 = 10 ∧ x8_43 = 0) ∨ (¬ x9_47 = 10 ∧ (x9_47 = 11 ∧ x8_43 = 0))) →
        S_X9_drop l G [(2009, 396), (0, t), (0, 2)] h45 (fun _ h51 =>
        ((¬ x9_47 = 7 → (¬ x9_47 = 8 → (¬ x9_47 = 9 → ((¬ x9_47 = 10 → ¬ x8_43 = 0)) ∧ (x9_47 = 10 → ¬ x8_43 = 0))))) ∧
        S_X9_lie l G [(2009, 396), (0, t), (0, (if x9_47 = 7 then (w32 (x7_46 + x8_43)) else (if x9_47 = 8 then (w32 (x7_46 - x8_43)) else (if x9_47 = 9 then (w32 (x7_46 * x8_43)) else (if x9_47 = 10 then (i_div x7_46 x8_43) else (i_rem x7_46 x8_43) : Int) : Int) : Int) : Int))] h51 (fun _ h53 =>
        Q 0 h53) E) E))))) E)) E := by
    intro o
    have po : ppo L k' = 2 := by unfold ppo; rw [if_neg (by omega), if_pos (by omega)]
    have pu : ppu L k' = 1 := by unfold ppu; rw [if_pos (by omega)]
    have dd : doA L (hv h) t k' = if (pOp L k' = 10 ∨ pOp L k' = 11) ∧ topA (hv h) t 0 = 0 then hurlA L (hv h) t 4 else lieA (dropA (hv h) t 2) t (arA (pOp L k') (topA (hv h) t 1) (topA (hv h) t 0)) := by
      unfold doA
      rw [if_neg (by omega), if_neg (by omega), if_neg (by omega), if_neg (by omega), if_neg (by omega), if_neg (by omega), if_neg (by omega), if_pos (by omega)]
    rw [dd] at hQ
    have hb := g.top (i := 0) (by omega) (by omega)
    have ha := g.top (i := 1) (by omega) (by omega)
    rw [show pDp L k' - 1 - 0 = pDp L k' - 1 by omega, (p7 (Or.inl o)).1, gm_n (by decide)] at hb
    rw [show pDp L k' - 1 - 1 = pDp L k' - 2 by omega, (p7 (Or.inl o)).2, gm_n (by decide)] at ha
    have oT := g.1.2.2.2.1.1
    have cb := inN_c (oT _ _ _) hb
    have ca := inN_c (oT _ _ _) ha
    refine q.top hG (by decide) (by omega) ?_
    intro x8 e8
    subst e8
    refine q.top hG (by decide) (by omega) ?_
    intro x7' e7
    subst e7
    refine ⟨tf.ne, kb.1, kb.2, ?_⟩
    rw [tf.op]
    intro op eop
    subst eop
    refine ⟨fun c => ?_, fun c => ?_⟩
    · rw [if_pos (by omega)] at hQ
      exact t_hur hG q (by decide) (by decide) (ts4 (by omega) (by omega)) hQ
    · rw [if_neg (by omega)] at hQ
      refine q.dr hG (by decide) (by omega) ⟨fun a1 a2 a3 => ⟨fun a4 => by omega, fun a4 => by omega⟩, ?_⟩
      refine q.ld hG (by decide) (by omega) (by omega) (hQ ?_)
      refine d_7 g o (fun y z => c (by omega)) ?_
      unfold arA
      rw [i_div_v ca cb, i_rem_v ca cb]
  have fld : pOp L k' = 25 ∨ pOp L k' = 26 → ((hv h 396 3) ≠ 0) ∧
      (0 ≤ k') ∧
      (k' < 1500) ∧
      (∀ x12_185 : Int, x12_185 = (if pOp L k' = 26 then 1 else 0 : Int) →
      S_X9_top l G [(2009, 396), (0, t), (0, (if x12_185 = 0 then 0 else 1 : Int))] h (fun z186 h187 =>
      (∀ x7_188 : Int, x7_188 = z186 →
      S_X9_top l G [(2009, 396), (0, t), (0, 0)] h187 (fun z189 h190 =>
      (∀ x8_191 : Int, x8_191 = z189 →
      ((x7_188 = 0 →
        S_X9_hurl l G [(2009, 396), (0, t), (0, (if x7_188 = 0 then 1 else 5 : Int))] h190 (fun _ h193 =>
        Q 0 h193) E) ∧
      (¬ x7_188 = 0 →
        S_X9_siteOf l G [(2009, 396), (0, x7_188)] h190 (fun z194 h195 =>
        S_X9_isOf l G [(2009, 396), (0, z194), (0, pX L k')] h195 (fun z196 h197 =>
        ((¬ z196 = 0 →
          S_X9_drop l G [(2009, 396), (0, t), (0, (if x12_185 = 0 then 1 else 2 : Int))] h197 (fun _ h199 =>
          ((x12_185 = 0 →
            (0 ≤ (w32 ((w32 (100 * (w32 (x7_188 - 7)))) + pY L k'))) ∧
            ((w32 ((w32 (100 * (w32 (x7_188 - 7)))) + pY L k')) < 40000) ∧
            S_X9_lie l G [(2009, 396), (0, t), (0, (hv h199 517 (w32 ((w32 (100 * (w32 (x7_188 - 7)))) + pY L k'))))] h199 (fun _ h201 =>
            Q 0 h201) E) ∧
          (¬ x12_185 = 0 →
            (0 ≤ (w32 ((w32 (100 * (w32 (x7_188 - 7)))) + pY L k'))) ∧
            ((w32 ((w32 (100 * (w32 (x7_188 - 7)))) + pY L k')) < 40000) ∧
            (∀ h202, h202 = hset h199 517 (w32 ((w32 (100 * (w32 (x7_188 - 7)))) + pY L k')) x8_191 →
            S_X9_step l G [(2009, 396), (0, t)] h202 (fun _ h204 =>
            Q 0 h204) E)))) E) ∧
        (z196 = 0 →
          S_X9_hurl l G [(2009, 396), (0, t), (0, (if x7_188 = 0 then 1 else 5 : Int))] h197 (fun _ h206 =>
          Q 0 h206) E))) E) E)))) E)) E) := by
    intro o
    refine ⟨tf.ne, kb.1, kb.2, ?_⟩
    intro x12 e12'
    have xcl := xc (by omega)
    have yf := y25 o
    rcases o with o | o
    · rw [if_neg (by omega)] at e12'
      subst e12'
      rw [if_pos rfl, if_pos rfl]
      have po : ppo L k' = 1 := by unfold ppo; rw [if_pos (by omega)]
      have dd : doA L (hv h) t k' = if topA (hv h) t 0 = 0 then hurlA L (hv h) t 1 else if isOf L (sit (hv h) (topA (hv h) t 0)) (pX L k') = true then lieA (dropA (hv h) t 1) t (hv h 517 (100 * (topA (hv h) t 0 - 7) + pY L k')) else hurlA L (hv h) t 5 := by
        unfold doA fdA
        simp [o]
      rw [dd] at hQ
      have r := q.rf (i := 0) (by omega) (by omega) (by rw [show pDp L k' - 1 - 0 = pDp L k' - 1 by omega]; exact p22 (by omega))
      rw [show 7 + pDp L k' - 0 = 7 + pDp L k' by omega] at r
      have so := sit_ok g.1.1 g.2.1 r.1.2.1
      have sbx := inR_sb g.1.1 g.2.1 r.1
      have c25 := ((CL25 o).mp g.c) _ sbx
      refine q.top hG (by decide) (by omega) ?_
      intro x7' e7
      subst e7
      refine q.top hG (by decide) (by omega) ?_
      intro x8 e8
      refine ⟨fun z => ?_, fun nz => ?_⟩
      · rw [if_pos z] at hQ ⊢
        exact t_hur hG q (by decide) (by decide) (c25.1 (so.2.2.2.1.mpr z)) hQ
      · rw [if_neg nz] at hQ ⊢
        have s1 : 1 ≤ sit (hv h) (topA (hv h) t 0) := by
          have : sit (hv h) (topA (hv h) t 0) ≠ 0 := fun y => nz (so.2.2.2.1.mp y)
          omega
        refine t_siteOf hG r.2.1 r.2.2 (t_isOf hG tf g.1.1 s1 so.2.1 ?_)
        by_cases hof : isOf L (sit (hv h) (topA (hv h) t 0)) (pX L k') = true
        · rw [if_pos hof] at hQ ⊢
          have fo := fl_ok g.1.1 g.2.1 r.1.2.1 nz xr.1 (by omega) yf.1 yf.2 hof
          have fc8 := g.1.1.c.2.2.1 (pX L k') xr.1 (by omega)
          refine ⟨fun _ => q.dr hG (by decide) (by omega) ⟨fun _ => ?_, fun z => absurd rfl z⟩, fun z => absurd z (by decide)⟩
          rw [w32_i (z := topA (hv h) t 0 - 7) (by omega) (by omega), w32_i (z := 100 * (topA (hv h) t 0 - 7)) (by omega) (by omega), w32_i (z := 100 * (topA (hv h) t 0 - 7) + pY L k') (by omega) (by omega)]
          have ev : hv (lft h (dropA (hv h) t 1)) 517 (100 * (topA (hv h) t 0 - 7) + pY L k') = hv h 517 (100 * (topA (hv h) t 0 - 7) + pY L k') := by rw [lft_hv, drop_v, if_neg (by omega)]
          rw [ev]
          refine ⟨by omega, by omega, q.ld hG (by decide) (by omega) (by omega) (hQ (d_25 g o nz hof))⟩
        · rw [if_neg hof] at hQ ⊢
          refine ⟨fun z => absurd rfl z, fun _ => ?_⟩
          exact t_hur hG q (by decide) (by decide) (c25.2.1 (by omega) (by simpa using hof)) hQ
    · rw [if_pos o] at e12'
      subst e12'
      rw [if_neg (by decide), if_neg (by decide)]
      have po : ppo L k' = 2 := by unfold ppo; rw [if_neg (by omega), if_pos (by omega)]
      have dd : doA L (hv h) t k' = if topA (hv h) t 1 = 0 then hurlA L (hv h) t 1 else if isOf L (sit (hv h) (topA (hv h) t 1)) (pX L k') = true then stepA (dropA (mset (hv h) 517 (100 * (topA (hv h) t 1 - 7) + pY L k') (topA (hv h) t 0)) t 2) t else hurlA L (hv h) t 5 := by
        unfold doA fdA
        simp [o]
      rw [dd] at hQ
      have r := q.rf (i := 1) (by omega) (by omega) (by rw [show pDp L k' - 1 - 1 = pDp L k' - 2 by omega]; exact (p26 o).2)
      rw [show 7 + pDp L k' - 1 = 6 + pDp L k' by omega] at r
      have so := sit_ok g.1.1 g.2.1 r.1.2.1
      have sbx := inR_sb g.1.1 g.2.1 r.1
      have c26 := ((CL26 o).mp g.c) _ sbx
      refine q.top hG (by decide) (by omega) ?_
      intro x7' e7
      subst e7
      refine q.top hG (by decide) (by omega) ?_
      intro x8 e8
      subst e8
      refine ⟨fun z => ?_, fun nz => ?_⟩
      · rw [if_pos z] at hQ ⊢
        exact t_hur hG q (by decide) (by decide) (c26.1 (so.2.2.2.1.mpr z)) hQ
      · rw [if_neg nz] at hQ ⊢
        have s1 : 1 ≤ sit (hv h) (topA (hv h) t 1) := by
          have : sit (hv h) (topA (hv h) t 1) ≠ 0 := fun y => nz (so.2.2.2.1.mp y)
          omega
        refine t_siteOf hG r.2.1 r.2.2 (t_isOf hG tf g.1.1 s1 so.2.1 ?_)
        by_cases hof : isOf L (sit (hv h) (topA (hv h) t 1)) (pX L k') = true
        · rw [if_pos hof] at hQ ⊢
          have fo := fl_ok g.1.1 g.2.1 r.1.2.1 nz xr.1 (by omega) yf.1 yf.2 hof
          have fc8 := g.1.1.c.2.2.1 (pX L k') xr.1 (by omega)
          refine ⟨fun _ => q.dr hG (by decide) (by omega) ⟨fun z => absurd z (by decide), fun _ => ?_⟩, fun z => absurd z (by decide)⟩
          rw [w32_i (z := topA (hv h) t 1 - 7) (by omega) (by omega), w32_i (z := 100 * (topA (hv h) t 1 - 7)) (by omega) (by omega), w32_i (z := 100 * (topA (hv h) t 1 - 7) + pY L k') (by omega) (by omega)]
          refine ⟨by omega, by omega, ?_⟩
          intro g2 eg2
          have eg3 : g2 = lft h (dropA (mset (hv h) 517 (100 * (topA (hv h) t 1 - 7) + pY L k') (topA (hv h) t 0)) t 2) := by
            rw [eg2, drop_ms (by decide) (by decide)]; rfl
          rw [eg3]
          refine q.sd hG ?_ ?_ (hQ (d_26 g o nz hof))
          · rw [drop_v, if_neg (by omega), m_ne (by omega)]
          · rw [drop_v, if_neg (by omega), m_ne (by omega)]; exact e11
        · rw [if_neg hof] at hQ ⊢
          refine ⟨fun z => absurd rfl z, fun _ => ?_⟩
          exact t_hur hG q (by decide) (by decide) (c26.2.1 (by omega) (by simpa using hof)) hQ
  refine ⟨⟨fun e => ?_, fun e => ?_, fun e => ?_, fun e => ?_, fun e => ?_, fun e => ?_, fun e => ?_, fun e => ?_, fun e => ?_, fun e => ?_, fun e => ?_, fun e => ?_, fun e => ?_, fun e => ?_, fun e => ?_, fun e => ?_, fun e => ?_, fun e => ?_, fun e => ?_, fun e => ?_, fun e => ?_, fun e => ?_, fun e => ?_, fun e => ?_, fun e => ?_, fun e => ?_, fun e => ?_, fun e => ?_, fun e => ?_, fun e => ?_, fun e => ?_, fun e => ?_, fun e => ?_, fun e => ?_, fun e => ?_, fun e => ?_, fun e => ?_, trivial⟩, fun z => by omega⟩
  · have e' : pOp L k' = 0 := by omega
    have dd : doA L (hv h) t k' = lieA (hv h) t (pY L k') := by unfold doA; simp [e']
    rw [dd] at hQ
    have po : ppo L k' = 0 := by unfold ppo; rw [if_neg (by omega), if_neg (by omega), if_neg (by omega), if_neg (by omega), if_neg (by omega)]
    have pu : ppu L k' = 1 := by unfold ppu; rw [if_pos (by omega)]
    exact lie0 (by omega) (hQ (d_0 g e'))
  · have e' : pOp L k' = 1 := by omega
    have dd : doA L (hv h) t k' = lieA (hv h) t 0 := by unfold doA; simp [e']
    rw [dd] at hQ
    have po : ppo L k' = 0 := by unfold ppo; rw [if_neg (by omega), if_neg (by omega), if_neg (by omega), if_neg (by omega), if_neg (by omega)]
    have pu : ppu L k' = 1 := by unfold ppu; rw [if_pos (by omega)]
    exact lie0 (by omega) (hQ (d_1 g e'))
  · have e' : pOp L k' = 2 := by omega
    have dd : doA L (hv h) t k' = lieA (hv h) t (hv h 513 (16 * fA (hv h) t + pX L k')) := by unfold doA; simp [e']
    rw [dd] at hQ
    have po : ppo L k' = 0 := by unfold ppo; rw [if_neg (by omega), if_neg (by omega), if_neg (by omega), if_neg (by omega), if_neg (by omega)]
    have pu : ppu L k' = 1 := by unfold ppu; rw [if_pos (by omega)]
    have xl := x2 (by omega)
    rw [w32_i (by omega) (by omega)]
    exact ⟨by omega, by omega, lie0 (by omega) (hQ (d_2 g e'))⟩
  · have e' : pOp L k' = 3 := by omega
    have dd : doA L (hv h) t k' = stepA (dropA (mset (hv h) 513 (16 * fA (hv h) t + pX L k') (topA (hv h) t 0)) t 1) t := by unfold doA; simp [e']
    rw [dd] at hQ
    have po : ppo L k' = 1 := by unfold ppo; rw [if_pos (by omega)]
    have xl := x2 (by omega)
    refine q.top hG (by decide) (by omega) ?_
    rw [w32_i (by omega) (by omega)]
    refine ⟨by omega, by omega, ?_⟩
    intro g1 eg1
    have eg1' : g1 = lft h (mset (hv h) 513 (16 * fA (hv h) t + pX L k') (topA (hv h) t 0)) := eg1
    rw [eg1']
    have ff : fA (mset (hv h) 513 (16 * fA (hv h) t + pX L k') (topA (hv h) t 0)) t = fA (hv h) t := fA_ne (by omega)
    have m9 : mset (hv h) 513 (16 * fA (hv h) t + pX L k') (topA (hv h) t 0) 509 t = hv h 509 t := m_ne (by omega)
    have m12 : mset (hv h) 513 (16 * fA (hv h) t + pX L k') (topA (hv h) t 0) 512 (fA (hv h) t) = pDp L k' := by rw [m_ne (by omega)]; exact e12
    refine t_drop hG ⟨fk'.1, by rw [lft_hv, m9]; exact fk'.2.1, by rw [lft_hv, m9]; exact fk'.2.2⟩ (by decide) (by decide) (by rw [lft_hv, ff, m12]; exact db.1) (by rw [lft_hv, ff, m12]; exact db.2) ?_
    refine q.sd hG (A := dropA (mset (hv h) 513 (16 * fA (hv h) t + pX L k') (topA (hv h) t 0)) t 1) ?_ ?_ (hQ (d_3 g e'))
    · rw [drop_v, if_neg (by omega)]; exact m9
    · rw [drop_v, if_neg (by omega), m_ne (by omega)]; exact e11
  · have e' : pOp L k' = 4 := by omega
    have dd : doA L (hv h) t k' = stepA (dropA (hv h) t 1) t := by unfold doA; simp [e']
    rw [dd] at hQ
    have po : ppo L k' = 1 := by unfold ppo; rw [if_pos (by omega)]
    refine q.dr hG (by decide) (by omega) ?_
    refine q.sd hG ?_ ?_ (hQ (d_4 g e'))
    · rw [drop_v, if_neg (by omega)]
    · rw [drop_v, if_neg (by omega)]; exact e11
  · have e' : pOp L k' = 5 := by omega
    have dd : doA L (hv h) t k' = lieA (hv h) t (topA (hv h) t 0) := by unfold doA; simp [e']
    rw [dd] at hQ
    have po : ppo L k' = 1 := by unfold ppo; rw [if_pos (by omega)]
    have pu : ppu L k' = 2 := by unfold ppu; rw [if_neg (by omega), if_pos (by omega)]
    exact q.top hG (by decide) (by omega) (lie0 (by omega) (hQ (d_5 g e')))
  · have e' : pOp L k' = 6 := by omega
    have dd : doA L (hv h) t k' = lieA (pushA (dropA (hv h) t 2) t (topA (hv h) t 0)) t (topA (hv h) t 1) := by unfold doA; simp [e']
    rw [dd] at hQ
    have po : ppo L k' = 2 := by unfold ppo; rw [if_neg (by omega), if_pos (by omega)]
    have pu : ppu L k' = 2 := by unfold ppu; rw [if_neg (by omega), if_pos (by omega)]
    refine q.top hG (by decide) (by omega) ?_
    intro x7' e7
    subst e7
    refine q.top hG (by decide) (by omega) ?_
    intro x8 e8
    subst e8
    refine q.dr hG (by decide) (by omega) ?_
    have ff : fA (dropA (hv h) t 2) t = fA (hv h) t := drop_f _ _ _
    have m9 : dropA (hv h) t 2 509 t = hv h 509 t := by rw [drop_v, if_neg (by omega)]
    have m11 : dropA (hv h) t 2 511 (fA (hv h) t) = k' := by rw [drop_v, if_neg (by omega)]; exact e11
    have m12 : dropA (hv h) t 2 512 (fA (hv h) t) = pDp L k' - 2 := by rw [drop_v, if_pos ⟨rfl, rfl⟩, e12]
    refine t_push hG ⟨fk'.1, by rw [lft_hv, m9]; exact fk'.2.1, by rw [lft_hv, m9]; exact fk'.2.2⟩ (by rw [lft_hv, ff, m12]; omega) (by rw [lft_hv, ff, m12]; omega) ?_
    rw [lft_hv]
    have pv := push_v (dropA (hv h) t 2) t (topA (hv h) t 0)
    have pf : fA (pushA (dropA (hv h) t 2) t (topA (hv h) t 0)) t = fA (hv h) t := by rw [push_f, ff]
    have n9 : pushA (dropA (hv h) t 2) t (topA (hv h) t 0) 509 t = hv h 509 t := by rw [pv, if_neg (by omega), if_neg (by omega)]; exact m9
    have n12 : pushA (dropA (hv h) t 2) t (topA (hv h) t 0) 512 (fA (hv h) t) = pDp L k' - 1 := by rw [pv, ff, if_pos ⟨rfl, rfl⟩, m12]; omega
    have n11 : pushA (dropA (hv h) t 2) t (topA (hv h) t 0) 511 (fA (hv h) t) = k' := by rw [pv, if_neg (by omega), if_neg (by omega)]; exact m11
    refine t_lie (h := lft h (pushA (dropA (hv h) t 2) t (topA (hv h) t 0))) hG ⟨fk'.1, by rw [lft_hv, n9]; exact fk'.2.1, by rw [lft_hv, n9]; exact fk'.2.2⟩ (by rw [lft_hv, pf, n12]; omega) (by rw [lft_hv, pf, n12]; omega) (by rw [lft_hv, pf, n11]; exact kb.1) (by rw [lft_hv, pf, n11]; have := kb.2; omega) ?_
    exact hQ (d_6 g e')
  · exact num (by omega)
  · exact num (by omega)
  · exact num (by omega)
  · exact num (by omega)
  · exact num (by omega)
  · have e' : pOp L k' = 12 := by omega
    have dd : doA L (hv h) t k' = lieA (dropA (hv h) t 1) t (w32 (-topA (hv h) t 0)) := by unfold doA; simp [e']
    rw [dd] at hQ
    have po : ppo L k' = 1 := by unfold ppo; rw [if_pos (by omega)]
    refine q.top hG (by decide) (by omega) ?_
    intro x7' e7
    subst e7
    exact q.dr hG (by decide) (by omega) (q.ld hG (by decide) (by omega) (by omega) (hQ (d_12 g e')))
  · have e' : pOp L k' = 13 := by omega
    have dd : doA L (hv h) t k' = lieA (inA (hv h)) t (pY L k' + (inV (hv h) - pY L k') % (pZ L k' - pY L k' + 1)) := by unfold doA; simp [e']
    rw [dd] at hQ
    have po : ppo L k' = 0 := by unfold ppo; rw [if_neg (by omega), if_neg (by omega), if_neg (by omega), if_neg (by omega), if_neg (by omega)]
    have pu : ppu L k' = 1 := by unfold ppu; rw [if_pos (by omega)]
    have yz' := yz e'
    rw [tf.z, w32_i (z := pZ L k' - pY L k') (by omega) (by omega), w64_i (z := pZ L k' - pY L k' + 1) (by omega) (by omega)]
    refine ⟨tf.ne, kb.1, kb.2, ?_⟩
    intro x10 e10
    subst e10
    have cv : c32 (inV (hv h)) := by
      unfold inV
      split
      · exact c32_0
      · exact io.2.1 _ io.1.1 (by have := io.1.2.1; have := io.1.2.2; omega)
    have cv1 := cv.1
    have cv2 := cv.2
    have m0 := Int.emod_nonneg (inV (hv h) - pY L k') (show pZ L k' - pY L k' + 1 ≠ 0 by omega)
    have m1 := Int.emod_lt_of_pos (inV (hv h) - pY L k') (show 0 < pZ L k' - pY L k' + 1 by omega)
    have qi : mwk (lft h (inA (hv h))) L T t k' := by
      refine mwk_eq q (fun a j h1 h2 => ?_)
      unfold inA
      split
      · rfl
      · rw [m_ne (by omega)]
    refine t_nextInput hG io.1.1 io.1.2.1 io.1.2.2 ?_
    rw [w64_i (z := inV (hv h) - pY L k') (by omega) (by omega)]
    refine t_floorMod hG (by omega) (by omega) (by omega) (by omega) ?_
    rw [w64_i (z := pY L k' + (inV (hv h) - pY L k') % (pZ L k' - pY L k' + 1)) (by omega) (by omega), w32_i (by omega) (by omega)]
    have bi' := qi.b
    refine t_lie hG bi'.1 (by rw [bi'.2.1]; exact db.1) (by rw [bi'.2.1]; omega) (by rw [bi'.2.2.1]; exact kb.1) (by rw [bi'.2.2.1]; have := kb.2; omega) ?_
    refine hQ ?_
    exact d_13 qi.2.2.1 e' (by omega) (by omega)
  · have e' : pOp L k' = 14 := by omega
    have dd : doA L (hv h) t k' = stepA (dropA (ouA (hv h) (pX L k') (topA (hv h) t 0)) t 1) t := by unfold doA; simp [e']
    rw [dd] at hQ
    have po : ppo L k' = 1 := by unfold ppo; rw [if_pos (by omega)]
    have qo : mwk (lft h (ouA (hv h) (pX L k') (topA (hv h) t 0))) L T t k' := by
      refine mwk_eq q (fun a j h1 h2 => ?_)
      unfold ouA
      split
      · rw [m_ne (by omega), m_ne (by omega), m_ne (by omega)]
      · rw [m_ne (by omega)]
    have bo := qo.b
    have last : S_X9_drop l G [(2009, 396), (0, t), (0, 1)] (lft h (ouA (hv h) (pX L k') (topA (hv h) t 0))) (fun _ h122 => S_X9_step l G [(2009, 396), (0, t)] h122 (fun _ h124 => Q 0 h124) E) E := by
      refine qo.dr hG (by decide) (by omega) ?_
      refine qo.sd hG (A := dropA (ouA (hv h) (pX L k') (topA (hv h) t 0)) t 1) ?_ ?_ (hQ (d_14 qo.2.2.1 e'))
      · rw [drop_v, if_neg (by omega)]; rfl
      · have := bo.2.2.1
        rw [lft_hv] at this
        rw [drop_v, if_neg (by omega), lft_hv]; exact this
    have ob := io.2.2
    refine ⟨fun c => ?_, fun c => ⟨ob.1, c, ?_⟩⟩
    · intro h1 e1
      rw [w32_i (by omega) (by omega)] at e1
      have e1' : h1 = lft h (ouA (hv h) (pX L k') (topA (hv h) t 0)) := by
        unfold ouA
        rw [if_neg (by omega), e1]; rfl
      rw [e1']
      exact last
    · intro h1 e1
      have e1' : h1 = lft h (mset (hv h) 518 (hv h 396 96) (pX L k')) := e1
      have q1 : mwk h1 L T t k' := by rw [e1']; exact mwk_eq q (fun a j a1 a2 => m_ne (by omega))
      have h96 : hv h1 396 96 = hv h 396 96 := by rw [e1', lft_hv, m_ne (by omega)]
      refine q1.top hG (by decide) (by omega) ?_
      rw [h96]
      refine ⟨ob.1, c, ?_⟩
      intro h3 e3 h4 e4
      have h96' : hv h3 396 96 = hv h 396 96 := by rw [e3, ne_a (by omega)]; exact h96
      rw [h96', w32_i (by omega) (by omega)] at e4
      have tt : topA (hv h1) t 0 = topA (hv h) t 0 := by
        have f1 : fA (hv h1) t = fA (hv h) t := by rw [e1', lft_hv, fA_ne (by omega)]
        unfold topA
        rw [f1, e1', lft_hv, m_ne (by omega), m_ne (by omega)]
      have e4' : h4 = lft h (ouA (hv h) (pX L k') (topA (hv h) t 0)) := by
        unfold ouA
        rw [if_pos c, e4, e3, tt, e1']; rfl
      rw [e4']
      exact last
  · have e' : pOp L k' = 15 := by omega
    have dd : doA L (hv h) t k' = jmpA L (hv h) t k' 1 := by unfold doA; simp [e']
    rw [dd] at hQ
    have z := jz (by omega)
    have co := (g.1.1.m mo.1 mo.2.1).2.2.2.2.2.2.2.2.2.2.2.2.2.2.2.2.1
    exact t_jmp hG tf g.1.1 fk' hk (fun _ => ⟨z.1, by omega⟩) (by rw [e11]; exact kb.1) (by rw [e11]; have := kb.2; omega) (hQ (d_15 g e'))
  · have e' : pOp L k' = 16 := by omega
    have dd : doA L (hv h) t k' = jmpA L (dropA (hv h) t 2) t k' (mayf (pX L k') (topA (hv h) t 1) (topA (hv h) t 1) (topA (hv h) t 0) (topA (hv h) t 0)) := by unfold doA; simp [e']
    rw [dd] at hQ
    have po : ppo L k' = 2 := by unfold ppo; rw [if_neg (by omega), if_pos (by omega)]
    have z := jz (by omega)
    have co := (g.1.1.m mo.1 mo.2.1).2.2.2.2.2.2.2.2.2.2.2.2.2.2.2.2.1
    refine q.top hG (by decide) (by omega) ?_
    intro x8 e8
    subst e8
    refine q.top hG (by decide) (by omega) ?_
    intro x7' e7
    subst e7
    refine q.dr hG (by decide) (by omega) ?_
    have ff : fA (dropA (hv h) t 2) t = fA (hv h) t := drop_f _ _ _
    have m9 : dropA (hv h) t 2 509 t = hv h 509 t := by rw [drop_v, if_neg (by omega)]
    have m11 : dropA (hv h) t 2 511 (fA (hv h) t) = k' := by rw [drop_v, if_neg (by omega)]; exact e11
    have tfd : TF (lft h (dropA (hv h) t 2)) L := tf.of (by rw [lft_hv, drop_v, if_neg (by omega)]) (fun a j h1 h2 => by rw [lft_hv, drop_v, if_neg (by omega)])
    refine t_jmp hG tfd g.1.1 ⟨fk'.1, by rw [lft_hv, m9]; exact fk'.2.1, by rw [lft_hv, m9]; exact fk'.2.2⟩ hk (fun _ => ⟨z.1, by omega⟩) (by rw [lft_hv, ff, m11]; exact kb.1) (by rw [lft_hv, ff, m11]; have := kb.2; omega) ?_
    exact hQ (d_16 g e')
  · have e' : pOp L k' = 17 := by omega
    have dd : doA L (hv h) t k' = jmpA L (hv h) t k' (mayf (pX L k' / 8) (hv h 513 (16 * fA (hv h) t + pX L k' % 8)) (hv h 513 (16 * fA (hv h) t + pX L k' % 8)) (pY L k') (pY L k')) := by unfold doA; simp [e']
    rw [dd] at hQ
    have z := jz (by omega)
    have co := (g.1.1.m mo.1 mo.2.1).2.2.2.2.2.2.2.2.2.2.2.2.2.2.2.2.1
    have ir := i_rem_8 xr.1 xr.2
    rw [ir.1, ir.2, w32_i (by omega) (by omega)]
    refine ⟨by decide, by omega, by omega, ?_⟩
    intro x7' e7
    subst e7
    refine ⟨by decide, ?_⟩
    exact t_jmp hG tf g.1.1 fk' hk (fun _ => ⟨z.1, by omega⟩) (by rw [e11]; exact kb.1) (by rw [e11]; have := kb.2; omega) (hQ (d_17 g e'))
  · have e' : pOp L k' = 18 := by omega
    have dd : doA L (hv h) t k' = jmpA L (hv h) t k' (if hv h 513 (16 * fA (hv h) t + pX L k') = 0 then 1 else 0) := by unfold doA; simp [e']
    rw [dd] at hQ
    have z := jz (by omega)
    have co := (g.1.1.m mo.1 mo.2.1).2.2.2.2.2.2.2.2.2.2.2.2.2.2.2.2.1
    have xl := x2 (by omega)
    rw [w32_i (by omega) (by omega)]
    refine ⟨by omega, by omega, ?_⟩
    refine t_jmp hG tf g.1.1 fk' hk (fun _ => ⟨z.1, by omega⟩) (by rw [e11]; exact kb.1) (by rw [e11]; have := kb.2; omega) (hQ (d_18 g (Or.inl e') ?_))
    rw [if_pos e']
    by_cases c : hv h 513 (16 * fA (hv h) t + pX L k') = 0
    · rw [if_pos c]; exact ⟨fun _ => c, fun _ => by decide⟩
    · rw [if_neg c]; exact ⟨fun y => absurd rfl y, fun y => absurd y c⟩
  · have e' : pOp L k' = 19 := by omega
    have dd : doA L (hv h) t k' = jmpA L (hv h) t k' (if hv h 513 (16 * fA (hv h) t + pX L k') = 0 then 0 else if isOf L (sit (hv h) (hv h 513 (16 * fA (hv h) t + pX L k'))) (pY L k') = true then 1 else 0) := by unfold doA; simp [e']
    rw [dd] at hQ
    have z := jz (by omega)
    have co := (g.1.1.m mo.1 mo.2.1).2.2.2.2.2.2.2.2.2.2.2.2.2.2.2.2.1
    have xl := x2 (by omega)
    rw [w32_i (by omega) (by omega)]
    refine ⟨by omega, by omega, ?_⟩
    intro x7' e7
    subst e7
    have hx := g.lc (s := pX L k') xr.1 xl
    rw [p18 (Or.inr e'), gm_r rfl] at hx
    have hx' : inR (hv h) (T 0 k' (pX L k')) (hv h 513 (16 * fA (hv h) t + pX L k')) := hx
    have so := sit_ok g.1.1 g.2.1 hx'.2.1
    have hx1 := hx'.2.1.1
    have hx2 := hx'.2.1.2
    have inv := fun {b : Int} => d_18 (b := b) g (Or.inr e')
    refine ⟨fun c => ?_, fun c => ?_⟩
    · rw [if_pos c] at hQ
      refine t_jmp hG tf g.1.1 fk' hk (fun y => absurd rfl y) (by rw [e11]; exact kb.1) (by rw [e11]; have := kb.2; omega) (hQ (inv ?_))
      rw [if_neg (by omega)]
      exact ⟨fun y => absurd rfl y, fun y => absurd c y.1⟩
    · rw [if_neg c] at hQ
      have s1 : 1 ≤ sit (hv h) (hv h 513 (16 * fA (hv h) t + pX L k')) := by
        have : sit (hv h) (hv h 513 (16 * fA (hv h) t + pX L k')) ≠ 0 := fun y => c (so.2.2.2.1.mp y)
        omega
      refine t_siteOf hG hx1 (by omega) (t_isOf hG tf g.1.1 s1 so.2.1 ?_)
      by_cases hof : isOf L (sit (hv h) (hv h 513 (16 * fA (hv h) t + pX L k'))) (pY L k') = true
      · rw [if_pos hof] at hQ
        rw [if_pos hof, if_neg (by decide)]
        refine t_jmp hG tf g.1.1 fk' hk (fun _ => ⟨z.1, by omega⟩) (by rw [e11]; exact kb.1) (by rw [e11]; have := kb.2; omega) (hQ (inv ?_))
        rw [if_neg (by omega)]
        exact ⟨fun _ => ⟨c, hof⟩, fun _ => by decide⟩
      · rw [if_neg hof] at hQ
        rw [if_neg hof, if_pos rfl]
        refine t_jmp hG tf g.1.1 fk' hk (fun y => absurd rfl y) (by rw [e11]; exact kb.1) (by rw [e11]; have := kb.2; omega) (hQ (inv ?_))
        rw [if_neg (by omega)]
        exact ⟨fun y => absurd rfl y, fun y => absurd y.2 hof⟩
  · have e' : pOp L k' = 20 := by omega
    have dd : doA L (hv h) t k' = if nob (hv h) = 400 then mset (hv h) 396 103 1 else lieA (mkA (hv h) (pSi L k') 0) t (nob (hv h) + 7) := by unfold doA; simp [e']
    rw [dd] at hQ
    have po : ppo L k' = 0 := by unfold ppo; rw [if_neg (by omega), if_neg (by omega), if_neg (by omega), if_neg (by omega), if_neg (by omega)]
    have pu : ppu L k' = 1 := by unfold ppu; rw [if_pos (by omega)]
    have h91 : hv h 396 91 = nob (hv h) := rfl
    rw [h91]
    refine t_isFullBy hG (by split <;> simp) f0 (fun y => ⟨fun z => absurd rfl z, fun _ => ⟨tf.ne, kb.1, kb.2, ?_⟩⟩) (fun y => ⟨fun _ => ?_, fun z => absurd z (by decide)⟩)
    · have n4 : nob (hv h) ≠ 400 := fun z => by rw [if_pos z] at y; omega
      rw [if_neg n4] at hQ
      rw [tf.si]
      refine t_make hG o0 (by omega) ?_
      have mf : fA (mkA (hv h) (pSi L k') 0) t = fA (hv h) t := mk_f _ _ _ _
      have m9 : mkA (hv h) (pSi L k') 0 509 t = hv h 509 t := mk_ne (by omega) (by omega) (by omega)
      have m11 : mkA (hv h) (pSi L k') 0 511 (fA (hv h) t) = k' := by rw [mk_ne (by omega) (by omega) (by omega)]; exact e11
      have m12 : mkA (hv h) (pSi L k') 0 512 (fA (hv h) t) = pDp L k' := by rw [mk_ne (by omega) (by omega) (by omega)]; exact e12
      refine t_lie (h := lft h (mkA (hv h) (pSi L k') 0)) hG ⟨fk'.1, by rw [lft_hv, m9]; exact fk'.2.1, by rw [lft_hv, m9]; exact fk'.2.2⟩ (by rw [lft_hv, mf, m12]; omega) (by rw [lft_hv, mf, m12]; omega) (by rw [lft_hv, mf, m11]; exact kb.1) (by rw [lft_hv, mf, m11]; have := kb.2; omega) ?_
      exact hQ (d_20 g e' (by omega))
    · have n4 : nob (hv h) = 400 := by
        apply Classical.byContradiction
        intro z; rw [if_neg z] at y; omega
      rw [if_pos n4] at hQ
      exact hQ (INV_eq g.1.1 g.2.1 (fun a j y => m_ne (by omega)))
  · have e' : pOp L k' = 21 := by omega
    have dd : doA L (hv h) t k' = if topA (hv h) t 0 < 0 ∨ 100 < topA (hv h) t 0 then hurlA L (hv h) t 3 else if nob (hv h) = 400 then mset (hv h) 396 103 1 else lieA (mkA (dropA (hv h) t 1) (pSi L k') (topA (hv h) t 0)) t (nob (hv h) + 7) := by unfold doA; simp [e']
    rw [dd] at hQ
    have po : ppo L k' = 1 := by unfold ppo; rw [if_pos (by omega)]
    have pu : ppu L k' = 1 := by unfold ppu; rw [if_pos (by omega)]
    have h91 : hv h 396 91 = nob (hv h) := rfl
    refine q.top hG (by decide) (by omega) ?_
    intro x7' e7
    subst e7
    rw [h91]
    have hb := g.top (i := 0) (by omega) (by omega)
    rw [show pDp L k' - 1 - 0 = pDp L k' - 1 by omega, p12 (by omega), gm_n (by decide), show 7 + pDp L k' - 0 = 7 + pDp L k' by omega] at hb
    refine ⟨fun c => ?_, fun c => ?_⟩
    · have c' : 0 ≤ topA (hv h) t 0 ∧ topA (hv h) t 0 ≤ 100 := by
        apply Classical.byContradiction
        intro z; exact c (isin_0.mpr z)
      rw [if_neg (by omega)] at hQ
      refine t_isFullBy hG (by split <;> simp) f0 (fun y => ⟨fun z => absurd rfl z, fun _ => ?_⟩) (fun y => ⟨fun _ => ?_, fun z => absurd z (by decide)⟩)
      · have n4 : nob (hv h) ≠ 400 := fun z => by rw [if_pos z] at y; omega
        rw [if_neg n4] at hQ
        refine q.dr hG (by decide) (by omega) ?_
        have tfd : TF (lft h (dropA (hv h) t 1)) L := tf.of (by rw [lft_hv, drop_v, if_neg (by omega)]) (fun a j h1 h2 => by rw [lft_hv, drop_v, if_neg (by omega)])
        refine ⟨tfd.ne, kb.1, kb.2, ?_⟩
        rw [tfd.si]
        have nd : nob (hv (lft h (dropA (hv h) t 1))) = nob (hv h) := by unfold nob; rw [lft_hv, drop_v, if_neg (by omega)]
        refine t_make hG (by rw [nd]; exact o0) (by rw [nd]; omega) ?_
        rw [nd, lft_hv]
        have mf : fA (mkA (dropA (hv h) t 1) (pSi L k') (topA (hv h) t 0)) t = fA (hv h) t := by rw [mk_f, drop_f]
        have nn2 : nob (dropA (hv h) t 1) = nob (hv h) := nd
        have m9 : mkA (dropA (hv h) t 1) (pSi L k') (topA (hv h) t 0) 509 t = hv h 509 t := by rw [mk_ne (by omega) (by omega) (by omega), drop_v, if_neg (by omega)]
        have m11 : mkA (dropA (hv h) t 1) (pSi L k') (topA (hv h) t 0) 511 (fA (hv h) t) = k' := by rw [mk_ne (by omega) (by omega) (by omega), drop_v, if_neg (by omega)]; exact e11
        have m12 : mkA (dropA (hv h) t 1) (pSi L k') (topA (hv h) t 0) 512 (fA (hv h) t) = pDp L k' - 1 := by rw [mk_ne (by omega) (by omega) (by omega), drop_v, if_pos ⟨rfl, rfl⟩, e12]
        refine t_lie (h := lft h (mkA (dropA (hv h) t 1) (pSi L k') (topA (hv h) t 0))) hG ⟨fk'.1, by rw [lft_hv, m9]; exact fk'.2.1, by rw [lft_hv, m9]; exact fk'.2.2⟩ (by rw [lft_hv, mf, m12]; omega) (by rw [lft_hv, mf, m12]; omega) (by rw [lft_hv, mf, m11]; exact kb.1) (by rw [lft_hv, mf, m11]; have := kb.2; omega) ?_
        exact hQ (d_21 g e' (by omega) c'.1 c'.2)
      · have n4 : nob (hv h) = 400 := by
          apply Classical.byContradiction
          intro z; rw [if_neg z] at y; omega
        rw [if_pos n4] at hQ
        exact hQ (INV_eq g.1.1 g.2.1 (fun a j y => m_ne (by omega)))
    · have c' := isin_0.mp c
      rw [if_pos (by omega)] at hQ
      have c21 := ((CL21 e').mp g.c hb.1).2
      exact t_hur hG q (by decide) (by decide) (c21 (by have h1 := hb.2.1; have h2 := hb.2.2; omega)) hQ
  · have e' : pOp L k' = 22 := by omega
    have dd : doA L (hv h) t k' = elA L (hv h) t k' := by unfold doA; simp [e']
    rw [dd] at hQ
    exact t_element hG q (by omega) hQ
  · have e' : pOp L k' = 23 := by omega
    have dd : doA L (hv h) t k' = elA L (hv h) t k' := by unfold doA; simp [e']
    rw [dd] at hQ
    exact t_element hG q (by omega) hQ
  · have e' : pOp L k' = 24 := by omega
    have dd : doA L (hv h) t k' = elA L (hv h) t k' := by unfold doA; simp [e']
    rw [dd] at hQ
    exact t_element hG q (by omega) hQ
  · exact fld (by omega)
  · exact fld (by omega)
  · have e' : pOp L k' = 27 := by omega
    have dd : doA L (hv h) t k' = lieA (hv h) t (hv h 521 (pX L k')) := by unfold doA; simp [e']
    rw [dd] at hQ
    have po : ppo L k' = 0 := by unfold ppo; rw [if_neg (by omega), if_neg (by omega), if_neg (by omega), if_neg (by omega), if_neg (by omega)]
    have pu : ppu L k' = 1 := by unfold ppu; rw [if_pos (by omega)]
    have x8 := xs (by omega)
    exact ⟨xr.1, by omega, lie0 (by omega) (hQ (d_27 g e'))⟩
  · have e' : pOp L k' = 28 := by omega
    have dd : doA L (hv h) t k' = stepA (dropA (mset (hv h) 521 (pX L k') (topA (hv h) t 0)) t 1) t := by unfold doA; simp [e']
    rw [dd] at hQ
    have po : ppo L k' = 1 := by unfold ppo; rw [if_pos (by omega)]
    have x8 := xs (by omega)
    refine q.top hG (by decide) (by omega) ⟨xr.1, by omega, ?_⟩
    intro g1 eg1
    have eg1' : g1 = lft h (mset (hv h) 521 (pX L k') (topA (hv h) t 0)) := eg1
    rw [eg1']
    have ff : fA (mset (hv h) 521 (pX L k') (topA (hv h) t 0)) t = fA (hv h) t := fA_ne (by omega)
    have m9 : mset (hv h) 521 (pX L k') (topA (hv h) t 0) 509 t = hv h 509 t := m_ne (by omega)
    have m12 : mset (hv h) 521 (pX L k') (topA (hv h) t 0) 512 (fA (hv h) t) = pDp L k' := by rw [m_ne (by omega)]; exact e12
    refine t_drop hG ⟨fk'.1, by rw [lft_hv, m9]; exact fk'.2.1, by rw [lft_hv, m9]; exact fk'.2.2⟩ (by decide) (by decide) (by rw [lft_hv, ff, m12]; exact db.1) (by rw [lft_hv, ff, m12]; exact db.2) ?_
    refine q.sd hG (A := dropA (mset (hv h) 521 (pX L k') (topA (hv h) t 0)) t 1) ?_ ?_ (hQ (d_28 g e'))
    · rw [drop_v, if_neg (by omega)]; exact m9
    · rw [drop_v, if_neg (by omega), m_ne (by omega)]; exact e11
  · have e' : pOp L k' = 29 := by omega
    have dd : doA L (hv h) t k' = ecA L (hv h) t k' := by unfold doA; simp [e']
    rw [dd] at hQ
    exact t_enterCall hG q (by omega) hQ
  · have e' : pOp L k' = 30 := by omega
    have dd : doA L (hv h) t k' = ecA L (hv h) t k' := by unfold doA; simp [e']
    rw [dd] at hQ
    exact t_enterCall hG q (by omega) hQ
  · have e' : pOp L k' = 31 := by omega
    have dd : doA L (hv h) t k' = retA L (hv h) t k' := by unfold doA; simp [e']
    rw [dd] at hQ
    have inv := d_31 g e'
    have hQ := hQ inv
    have mo0 := mo.1
    have mo1 := mo.2.1
    have t0 := fk'.1.1
    have t8 := fk'.1.2
    have n1 := fk'.2.1
    have n30 := fk'.2.2
    rw [tf.mo, tf.gi]
    have tail : ∀ x7' : Int, x7' = (if 0 < pGi L (pMo L k') then topA (hv h) t 0 else 0) → ∀ x13 : Int, x13 = (if pGi L (pMo L k') = 1 then 1 else 0) → ∀ x14 : Int, x14 = (if 0 < pGi L (pMo L k') then 1 else 0) →
        (0 ≤ t) ∧ (t < 8) ∧ (0 ≤ t) ∧ (t < 8) ∧
        (∀ h245, h245 = hset h 509 t (w32 ((hv h 509 t) - 1)) →
        (0 ≤ t) ∧ (t < 8) ∧
        ((¬ (hv h245 509 t) = 0 →
          ((x14 = 0 →
            S_X9_step l G [(2009, 396), (0, t)] h245 (fun _ h247 =>
            Q 0 h247) E) ∧
          (¬ x14 = 0 →
            S_X9_push l G [(2009, 396), (0, t), (0, x7')] h245 (fun _ h249 =>
            S_X9_step l G [(2009, 396), (0, t)] h249 (fun _ h251 =>
            Q 0 h251) E) E))) ∧
        ((hv h245 509 t) = 0 →
          (0 ≤ t) ∧ (t < 8) ∧
          ((1 : Int) = 0 ∨ (1 : Int) = 1) ∧
          (∀ h252, h252 = hset h245 508 t 1 →
          ((¬ t = 0 →
            (∀ h253, h253 = hset h252 396 99 (hv h252 396 99) →
            Q 0 h253)) ∧
          (t = 0 →
            ((x13 = 0 →
              S_X9_siteOf l G [(2009, 396), (0, x7')] h252 (fun z254 h255 =>
              (∀ h256, h256 = hset h255 396 99 z254 →
              Q 0 h256)) E) ∧
            (¬ x13 = 0 →
              (∀ h257, h257 = hset h252 396 99 x7' →
              Q 0 h257))))))))) := by
      intro x7' e7 x13 e13 x14 e14
      refine ⟨t0, t8, t0, t8, ?_⟩
      intro h1 e1
      rw [w32_i (by omega) (by omega)] at e1
      have e1' : h1 = lft h (mset (hv h) 509 t (hv h 509 t - 1)) := e1
      have n9 : hv h1 509 t = hv h 509 t - 1 := by rw [e1, eq_a]
      unfold retA at hQ
      refine ⟨t0, t8, fun c => ?_, fun c => ⟨t0, t8, by decide, ?_⟩⟩
      · rw [if_neg (by omega)] at hQ
        -- who waits goes on
        have fm := ((g.2.1.2.2.2.2 t g.2.2.1 g.2.2.2.1).2 g.2.2.2.2.1).2.2.1 (hv h 509 t - 2) (by omega) (by omega)
        rw [show 30 * t + (hv h 509 t - 2) = 30 * t + hv h 509 t - 2 by omega] at fm
        obtain ⟨⟨hk2, rk2⟩, o2, de2, -, ⟨s2, cl2⟩, -⟩ := fm
        have k20 := hk2.1
        have k21 := hk2.2
        have co2 := cld_ok g.1.1 g.1.2.2.2.1 hk2.1 hk2.2 (by omega) cl2
        rw [show 30 * t + hv h 509 t - 2 + 1 = 30 * t + hv h 509 t - 1 by omega, show hv h 511 (30 * t + hv h 509 t - 1) = k' from e11] at co2
        have dk2 := g.1.1.k hk2.1 hk2.2
        have dp2 := dk2.2.2.2.2.2.2.2.2.2.2.2.2.2.2.2.2.2.2.2.1
        have po2 : ppo L (hv h 511 (30 * t + hv h 509 t - 2)) = pAr L (lik L (hv h 511 (30 * t + hv h 509 t - 2))) := by unfold ppo; rw [if_neg (by omega), if_neg (by omega), if_neg (by omega), if_pos o2]
        have pu2 : ppu L (hv h 511 (30 * t + hv h 509 t - 2)) = if 0 < pGi L (pMo L k') then 1 else 0 := by unfold ppu; rw [if_neg (by omega), if_neg (by omega), if_pos o2, co2.2.2.1]
        have f2 : fA (mset (hv h) 509 t (hv h 509 t - 1)) t = 30 * t + hv h 509 t - 2 := by unfold fA; rw [m_eq]; omega
        have fr2 : frk (hv h1) t := ⟨fk'.1, by rw [n9]; omega, by rw [n9]; omega⟩
        have m12 : hv h1 512 (30 * t + hv h 509 t - 2) = hv h 512 (30 * t + hv h 509 t - 2) := by rw [e1, ne_a (by omega)]
        have m11 : hv h1 511 (30 * t + hv h 509 t - 2) = hv h 511 (30 * t + hv h 509 t - 2) := by rw [e1, ne_a (by omega)]
        have f2' : fA (hv h1) t = 30 * t + hv h 509 t - 2 := by rw [e1']; exact f2
        by_cases gi : 0 < pGi L (pMo L k')
        · rw [if_pos gi] at e14 e7 hQ pu2
          subst e14; subst e7
          refine ⟨fun y => by omega, fun _ => ?_⟩
          refine t_push hG fr2 (by rw [f2', m12]; omega) (by rw [f2', m12]; omega) ?_
          have pf : fA (hv (lft h1 (pushA (hv h1) t (topA (hv h) t 0)))) t = fA (hv h1) t := push_f _ _ _
          have pv := push_v (hv h1) t (topA (hv h) t 0)
          refine t_stp hG ⟨fk'.1, by rw [lft_hv, pv, if_neg (by omega), if_neg (by omega)]; exact fr2.2.1, by rw [lft_hv, pv, if_neg (by omega), if_neg (by omega)]; exact fr2.2.2⟩ (by rw [pf, f2', lft_hv, pv, if_neg (by omega), if_neg (by omega), m11]; exact k20) (by rw [pf, f2', lft_hv, pv, if_neg (by omega), if_neg (by omega), m11]; omega) ?_
          rw [e1'] at *
          exact hQ
        · rw [if_neg gi] at e14 e7 hQ pu2
          subst e14
          refine ⟨fun _ => ?_, fun y => absurd rfl y⟩
          refine t_stp hG fr2 (by rw [f2', m11]; exact k20) (by rw [f2', m11]; omega) ?_
          rw [e1'] at *
          exact hQ
      · rw [n9] at c
        rw [if_pos (by omega)] at hQ
        intro h2 e2
        have e2' : h2 = lft h (mset (mset (hv h) 509 t 0) 508 t 1) := by rw [e2, e1', c]; rfl
        have h99 : hv h2 396 99 = hv h 396 99 := by rw [e2', lft_hv, m_ne (by omega), m_ne (by omega)]
        refine ⟨fun tz => ?_, fun tz => ⟨fun y => ?_, fun y => ?_⟩⟩
        · intro h3 e3
          rw [if_neg tz] at hQ
          rw [e3, h99, e2']
          exact hQ
        · have ng : ¬ pGi L (pMo L k') = 1 := fun z => by rw [if_pos z] at e13; omega
          rw [if_pos tz, if_neg ng, ← e7] at hQ
          have gb := (g.1.1.m mo0 mo1).2.2.2.2.2.2
          have rb : 0 ≤ x7' ∧ x7' < 407 := by
            by_cases gi : 0 < pGi L (pMo L k')
            · have po : ppo L k' = 1 := by unfold ppo; rw [if_neg (by omega), if_neg (by omega), if_neg (by omega), if_neg (by omega), if_pos e', if_pos gi]
              have g2 : pGi L (pMo L k') = 2 := by have := gb.2.1; omega
              have r := q.rf (i := 0) (by omega) (by omega) (by rw [show pDp L k' - 1 - 0 = pDp L k' - 1 by omega, p31 e' gi, g2]; rfl)
              rw [if_pos gi] at e7
              rw [e7]
              exact r.2
            · rw [if_neg gi] at e7
              rw [e7]; decide
          have sv : sit (hv h2) x7' = sit (hv h) x7' := by
            unfold sit
            rw [e2', lft_hv, m_ne (by omega), m_ne (by omega)]
          refine t_siteOf hG rb.1 rb.2 ?_
          rw [sv]
          intro h3 e3
          rw [e3, e2']
          exact hQ
        · intro h3 e3
          have g1 : pGi L (pMo L k') = 1 := by
            apply Classical.byContradiction
            intro z; rw [if_neg z] at e13; exact y e13
          rw [if_pos tz, if_pos g1] at hQ
          rw [if_pos (by omega)] at e7
          rw [e3, e2', e7]
          exact hQ
    refine ⟨tf.ne, tf.ne, kb.1, kb.2, mo0, by omega, fun c => ?_, fun c => ?_⟩
    · intro x7' e7
      refine ⟨tf.ne, tf.ne, kb.1, kb.2, mo0, by omega, ?_⟩
      intro x13 e13
      refine ⟨tf.ne, tf.ne, kb.1, kb.2, mo0, by omega, ?_⟩
      intro x14 e14
      exact tail x7' (by rw [if_neg (by omega)]; exact e7) x13 e13 x14 e14
    · have po : ppo L k' = 1 := by unfold ppo; rw [if_neg (by omega), if_neg (by omega), if_neg (by omega), if_neg (by omega), if_pos e', if_pos c]
      refine q.top hG (by decide) (by omega) ?_
      intro x7' e7
      refine ⟨tf.ne, tf.ne, kb.1, kb.2, ?_⟩
      rw [tf.mo, tf.gi]
      refine ⟨mo0, by omega, ?_⟩
      intro x13 e13
      refine ⟨tf.ne, tf.ne, kb.1, kb.2, mo0, by omega, ?_⟩
      intro x14 e14
      exact tail x7' (by rw [if_pos c]; exact e7) x13 e13 x14 e14
  · have e' : pOp L k' = 32 := by omega
    have dd : doA L (hv h) t k' = hurlA L (hv h) t (if topA (hv h) t 0 = 0 then 1 else if isOf L (sit (hv h) (topA (hv h) t 0)) 1 = true then topA (hv h) t 0 else 5) := by unfold doA; simp [e']
    rw [dd] at hQ
    have po : ppo L k' = 1 := by unfold ppo; rw [if_pos (by omega)]
    have r := q.rf (i := 0) (by omega) (by omega) (by rw [show pDp L k' - 1 - 0 = pDp L k' - 1 by omega]; exact p22 (by omega))
    rw [show 7 + pDp L k' - 0 = 7 + pDp L k' by omega] at r
    have so := sit_ok g.1.1 g.2.1 r.1.2.1
    have sbx := inR_sb g.1.1 g.2.1 r.1
    have c32' := ((CL32 e').mp g.c) _ sbx
    refine q.top hG (by decide) (by omega) ?_
    intro x7' e7
    subst e7
    refine ⟨fun nz => ?_, fun z => ?_⟩
    · rw [if_neg nz] at hQ
      have s1 : 1 ≤ sit (hv h) (topA (hv h) t 0) := by
        have : sit (hv h) (topA (hv h) t 0) ≠ 0 := fun y => nz (so.2.2.2.1.mp y)
        omega
      refine t_siteOf hG r.2.1 r.2.2 (t_isOf hG tf g.1.1 s1 so.2.1 ?_)
      have th := c32'.2 (by omega)
      by_cases hof : isOf L (sit (hv h) (topA (hv h) t 0)) 1 = true
      · rw [if_pos hof] at hQ th
        rw [if_pos hof, if_neg (by decide)]
        exact t_hurl hG tf q.2.1 g.1 (wkg_rsg g th) r.1.2.1 rfl nz b0 hQ
      · rw [if_neg hof] at hQ th
        rw [if_neg hof, if_pos rfl]
        exact t_hur hG q (by decide) (by decide) th hQ
    · rw [if_pos z] at hQ
      exact t_hur hG q (by decide) (by decide) (c32'.1 (so.2.2.2.1.mpr z)) hQ
  · have e' : pOp L k' = 33 := by omega
    have dd : doA L (hv h) t k' = if topA (hv h) t 0 = 0 ∨ isOf L (sit (hv h) (topA (hv h) t 0)) (pX L k') = true then stepA (hv h) t else hurlA L (hv h) t 5 := by unfold doA; simp [e']
    rw [dd] at hQ
    have po : ppo L k' = 1 := by unfold ppo; rw [if_pos (by omega)]
    have r := q.rf (i := 0) (by omega) (by omega) (by rw [show pDp L k' - 1 - 0 = pDp L k' - 1 by omega]; exact p22 (by omega))
    rw [show 7 + pDp L k' - 0 = 7 + pDp L k' by omega] at r
    have so := sit_ok g.1.1 g.2.1 r.1.2.1
    have sbx := inR_sb g.1.1 g.2.1 r.1
    have c33 := ((CL33 e').mp g.c) _ sbx
    refine q.top hG (by decide) (by omega) ?_
    intro x7' e7
    subst e7
    refine ⟨fun z => ?_, fun nz => ?_⟩
    · rw [if_pos (Or.inl z)] at hQ
      exact q.sd (A := hv h) hG rfl e11 (hQ (d_33 g e' (Or.inl z)))
    · have s1 : 1 ≤ sit (hv h) (topA (hv h) t 0) := by
        have : sit (hv h) (topA (hv h) t 0) ≠ 0 := fun y => nz (so.2.2.2.1.mp y)
        omega
      refine t_siteOf hG r.2.1 r.2.2 (t_isOf hG tf g.1.1 s1 so.2.1 ?_)
      by_cases hof : isOf L (sit (hv h) (topA (hv h) t 0)) (pX L k') = true
      · rw [if_pos (Or.inr hof)] at hQ
        rw [if_pos hof]
        exact ⟨fun _ => q.sd (A := hv h) hG rfl e11 (hQ (d_33 g e' (Or.inr hof))), fun z => absurd z (by decide)⟩
      · rw [if_neg (fun y => y.elim nz hof)] at hQ
        rw [if_neg hof]
        exact ⟨fun z => absurd rfl z, fun _ => t_hur hG q (by decide) (by decide) (c33.2 (by omega) (by simpa using hof)) hQ⟩
  · have e' : pOp L k' = 34 := by omega
    have dd : doA L (hv h) t k' = if hv h 514 (pX L k') = t then hurlA L (hv h) t 6 else stepA (mset (hv h) 514 (pX L k') t) t := by unfold doA; simp [e']
    rw [dd] at hQ
    have x8 := x7 (by omega)
    have c34 := (CL34 e').mp g.c
    refine ⟨xr.1, by omega, fun c => ⟨xr.1, by omega, ?_⟩, fun c => ?_⟩
    · rw [if_neg c] at hQ
      intro g1 eg1
      have eg1' : g1 = lft h (mset (hv h) 514 (pX L k') t) := eg1
      rw [eg1']
      refine q.sd hG (m_ne (by omega)) (by rw [m_ne (by omega)]; exact e11) (hQ (d_34 g e' ?_))
      rcases nw e' with z | z
      · exact z
      · exact absurd z c
    · rw [if_pos c] at hQ
      have al := (g.tp.2.2.2.2 _ xr.1 (by omega)).2 c
      exact t_hur hG q (by decide) (by decide) (c34.2 al) hQ
  · have e' : pOp L k' = 35 := by omega
    have dd : doA L (hv h) t k' = if hv h 514 (pX L k') = t then stepA (mset (hv h) 514 (pX L k') (-1)) t else hurlA L (hv h) t 6 := by unfold doA; simp [e']
    rw [dd] at hQ
    have x8 := x7 (by omega)
    have c35 := (CL35 e').mp g.c
    refine ⟨xr.1, by omega, fun c => ⟨xr.1, by omega, ?_⟩, fun c => ?_⟩
    · rw [if_pos c] at hQ
      intro g1 eg1
      have eg1' : g1 = lft h (mset (hv h) 514 (pX L k') (-1)) := eg1
      rw [eg1']
      exact q.sd hG (m_ne (by omega)) (by rw [m_ne (by omega)]; exact e11) (hQ (d_35 g e' c))
    · rw [if_neg c] at hQ
      have ns : bi (asu (T 6 k' 0)) (pX L k') = false := by
        cases r : bi (asu (T 6 k' 0)) (pX L k')
        · rfl
        · exact absurd ((g.tp.2.2.2.2 _ xr.1 (by omega)).1 r) c
      exact t_hur hG q (by decide) (by decide) (c35.2.2 ns) hQ
  · have e' : pOp L k' = 36 := by omega
    have dd : doA L (hv h) t k' = bgA L (hv h) t k' := by unfold doA; simp [e']
    rw [dd] at hQ
    exact t_begin hG q e' hQ
