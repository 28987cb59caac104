/-! Part 38v: calls: what is called, what is entered -/
set_option maxRecDepth 100000
theorem CL29 {L : PG} {T U : TB} {k : Int} (e : pOp L k = 29 ∨ pOp L k = 30) : CLz L T U k ↔ ((∀ s c, cld L (T 0 k) k s c →
    fle (fs 0) (U 10 k c) ∧ Flow L U (pFi L c) (entz L (T 0 k) k s c) (T 6 k 0) ∧ fle (T 15 c 0) (U 15 (pMo L k) 0) ∧
    (∀ s', sb (T 14 c 0) s' → TS L U k (T 0 k) s' (lke T k c)) ∧
    (ath (T 5 c 0) ≠ 0 → GT L U k (nx L k) (if 0 < pGi L c then ux (T 0 k) (frs L k) (T 5 c 0) else T 0 k) (lkr L T k c))) ∧
    (pOp L k = 30 → ∀ s, sb (T 0 k (frs L k)) s → (s = 0 → TS L U k (T 0 k) 1 (T 6 k 0)) ∧ (s ≠ 0 → sent L s (pX L k) < 0 → TS L U k (T 0 k) 5 (T 6 k 0)))) := by
  rcases e with e | e <;> simp [CLz, Csz, Co, Ccz, e]
theorem CL36 {L : PG} {T U : TB} {k : Int} (e : pOp L k = 36) : CLz L T U k ↔ ((∀ s c, cld L (T 0 k) k s c → fle (fs 0) (U 10 k c) ∧ Flow L U (pFi L c) (entz L (T 0 k) k s c) (fk 0 0) ∧ TS L U k (T 0 k) 6 (T 6 k 0) ∧ GT L U k (nx L k) (T 0 k) (T 6 k 0)) ∧
    (∀ s, sb (T 0 k (frs L k)) s → (s = 0 → TS L U k (T 0 k) 1 (T 6 k 0)) ∧ (s ≠ 0 → sent L s (pX L k) < 0 → TS L U k (T 0 k) 5 (T 6 k 0)))) := by
  simp [CLz, Csz, Co, Ccz, e]
/-- what may be called is a method like the one that is named -/
theorem cld_ok {L : PG} (w : WF L) {T : TB} (t : tiv L T) {k s c : Int} (k0 : 0 ≤ k) (k1 : k < pNp L) (e : pOp L k = 29 ∨ pOp L k = 30 ∨ pOp L k = 36) (h : cld L (T 0 k) k s c) : inM L c ∧ pAr L c = pAr L (lik L k) ∧ pGi L c = pGi L (lik L k) ∧ (pOp L k ≠ 29 → 1 ≤ pAr L c) := by
  obtain ⟨-, -, -, -, -, -, -, -, -, -, -, -, -, cy, cw, -⟩ := w.k k0 k1
  unfold lik
  rcases h with ⟨h1, h2, h3⟩ | ⟨h1, h2, h3, h4, h5⟩
  · rw [if_pos h1, h3]
    exact ⟨⟨(cy h1).1, (cy h1).2.1⟩, rfl, rfl, fun z => absurd h1 z⟩
  · rw [if_neg h1]
    have slt' := (tiv_sok t w 0 k (frs L k)).2 s h3.1 h3.2.2
    have so := sent_ok w h2 slt' (by rw [← h4]; exact h5)
    rw [← h4] at so
    have wn := wnm_ok w (cw (by omega)).2
    have al := w.l c (wnm L (pX L k)) h5 so.1 (cw (by omega)).2 wn.1 so.2.2 wn.2.2 (by rw [so.2.1, wn.2.1])
    have wm := w.m h5 so.1
    exact ⟨⟨h5, so.1⟩, al.1, al.2.1, fun _ => (wm.2.2.2.2.2.1 so.2.2).1⟩
/-- calls at a place are noted -/
noncomputable def jnC (T : TB) (k x : Int) : TB := fun a i j => if a = 10 ∧ i = k ∧ 0 ≤ j ∧ j < 64 ∧ bl x j = true then fjoin (T a i j) (fs 0) else T a i j
theorem jnC_le {T U : TB} {k x : Int} : tle (jnC T k x) U ↔ tle T U ∧ ∀ c, 0 ≤ c → c < 64 → bl x c = true → fle (fs 0) (U 10 k c) := by
  constructor
  · intro p
    refine ⟨fun a i j => ?_, fun c c0 c1 y => ?_⟩
    · have := p a i j
      unfold jnC at this
      split at this
      · exact (fjoin_le.mp this).1
      · exact this
    · have := p 10 k c
      unfold jnC at this
      rw [if_pos ⟨rfl, rfl, c0, c1, y⟩] at this
      exact (fjoin_le.mp this).2
  · rintro ⟨p, q⟩ a i j
    unfold jnC
    split
    · rename_i z
      obtain ⟨rfl, rfl, z1, z2, z3⟩ := z
      exact fjoin_le.mpr ⟨p _ _ _, q j z1 z2 z3⟩
    · exact p _ _ _
theorem cal_T {h : MH} {L : PG} {k x : Int} (hk : inP L k) : tT (hset h 468 k (l_or (hv h 468 k) x)) L = jnC (tT h L) k x := by
  funext a b c
  unfold jnC
  by_cases a9 : a = 10
  · subst a9
    show t10 (hset h 468 k (l_or (hv h 468 k) x)) L b c = if _ then fjoin (t10 h L b c) _ else t10 h L b c
    unfold t10
    by_cases e : b = k
    · subst e
      by_cases y : 0 ≤ c ∧ c < 64 ∧ bl x c = true
      · rw [if_pos ⟨rfl, rfl, y⟩, iff_p ⟨hk, y.1, y.2.1, by rw [eq_a, bl_or, y.2.2]; simp⟩]
        by_cases z : inP L b ∧ 0 ≤ c ∧ c < 64 ∧ bl (hv h 468 b) c = true
        · rw [iff_p z, fj_00]
        · rw [iff_n z, fjoin_zv rfl]
      · rw [if_neg (fun z => y z.2.2)]
        refine iff_c ?_ (fun _ => rfl)
        rw [eq_a, bl_or]
        constructor
        · rintro ⟨z1, z2, z3, z4⟩
          refine ⟨z1, z2, z3, ?_⟩
          cases r : bl x c
          · rw [r] at z4; simpa using z4
          · exact absurd ⟨z2, z3, r⟩ y
        · rintro ⟨z1, z2, z3, z4⟩
          exact ⟨z1, z2, z3, by rw [z4]; rfl⟩
    · rw [if_neg (fun z => e z.2.1)]
      refine iff_c ?_ (fun _ => rfl)
      rw [ne_k e]
  · rw [if_neg (fun y => a9 y.1)]
    have hh : ∀ a' j, a' ≠ 468 → hv (hset h 468 k (l_or (hv h 468 k) x)) a' j = hv h a' j := fun a' j q => ne_a q
    simp only [tT, if_neg a9, t0, t1, t2, t3, t4, t5, t6, t7, t8, t9, t11, t14, t15, row]
    simp only [hh 460 _ (by decide), hh 461 _ (by decide), hh 462 _ (by decide), hh 463 _ (by decide), hh 464 _ (by decide), hh 465 _ (by decide), hh 466 _ (by decide), hh 467 _ (by decide), hh 469 _ (by decide), hh 472 _ (by decide), hh 473 _ (by decide), hh 474 _ (by decide), hh 475 _ (by decide), hh 476 _ (by decide), hh 477 _ (by decide), hh 478 _ (by decide), hh 479 _ (by decide), hh 480 _ (by decide), hh 481 _ (by decide), hh 482 _ (by decide), hh 483 _ (by decide), hh 484 _ (by decide), hh 485 _ (by decide), hh 486 _ (by decide), hh 487 _ (by decide), hh 488 _ (by decide), hh 489 _ (by decide), hh 490 _ (by decide), hh 491 _ (by decide), hh 492 _ (by decide), hh 493 _ (by decide), hh 494 _ (by decide), hh 495 _ (by decide), hh 496 _ (by decide), hh 497 _ (by decide), hh 498 _ (by decide)]
theorem Adv_cal {h : MH} {L : PG} (t : tiv L (tT h L)) {k x : Int} (hk : inP L k) : Adv L h (hset h 468 k (l_or (hv h 468 k) x)) (fun U => ∀ c, 0 ≤ c → c < 64 → bl x c = true → fle (fs 0) (U 10 k c)) (fun U => ∀ c, 0 ≤ c → c < 64 → bl x c = true → fle (fs 0) (U 10 k c)) := by
  have e := cal_T (h := h) (x := x) hk
  have le := jnC_le.mp (tle_rfl (jnC (tT h L) k x))
  have ee : ∀ a b c, a ≠ 10 → jnC (tT h L) k x a b c = tT h L a b c := fun a b c ha => by unfold jnC; rw [if_neg (fun y => ha y.1)]
  obtain ⟨t1', t2', t3', t4', t5', t6'⟩ := t
  have g0 := fgd_s0 L (tT h L)
  refine ⟨frA_set (by omega), ?_, ?_, by rw [e]; exact le.1, by rw [e]; exact le.2, fun U _ p q => by rw [e]; exact jnC_le.mpr ⟨p, q⟩, cgt_of (fun j => ne_a (by omega)) (fun j => ne_a (by omega)) (fun a j ha => ne_a (by unfold za at ha; omega)), fun j => ne_a (by omega)⟩
  · unfold flg
    rw [e]
    exact ⟨fun q _ => ⟨fun x => by rw [ne_a (by omega)]; exact x, Or.inr ⟨fun s => ee _ _ _ (by omega), ee _ _ _ (by omega)⟩⟩, fun s _ => ⟨fun x => by rw [ne_a (by omega)]; exact x, Or.inr ⟨fun f => ee _ _ _ (by omega), ee _ _ _ (by omega)⟩⟩, fun j _ _ => ⟨fun x => by rw [ne_a (by omega)]; exact x, Or.inr (ee _ _ _ (by omega))⟩, fun m _ => ⟨fun x => by rw [ne_a (by omega)]; exact x, Or.inr fun a ha => ee _ _ _ (by omega)⟩, qui_of (fun j => ne_a (by omega)) (fun j => ne_a (by omega)) (fun j _ _ => ne_a (by omega))⟩
  · rw [e]
    refine ⟨fun a b c => ?_, fun a b c => fmk_le le.1 ?_, fun a b c => ?_, fun c => ?_, fun c => ?_, fun q' s r1 r2 => ?_⟩
    · unfold jnC; split
      · exact fjoin_ok (t1' _ _ _) g0.1
      · exact t1' _ _ _
    · unfold jnC; split
      · exact fmk_join (t2' _ _ _) g0.2.1
      · exact t2' _ _ _
    · unfold jnC; split
      · exact fmr_join (t3' _ _ _) g0.2.2.1
      · exact t3' _ _ _
    · rw [ee 5 c 0 (by omega), ee 7 c 0 (by omega)]; exact t4' c
    · rw [ee 14 c 0 (by omega), ee 8 c 0 (by omega)]; exact t5' c
    · rw [ee 6 _ _ (by omega)] at r1
      rw [ee 0 _ _ (by omega)]; exact t6' q' s r1 r2
/-- arguments with several sites are arguments with each -/
theorem Flow_enw {L : PG} (hz : ¬ L 99 0 = 1) {U : TB} {X : Int → FA} {k c own : Int} {lk : FA} (co : c64 own) (nz : own ≠ 0) (o29 : pOp L k ≠ 29) (ar : 1 ≤ pAr L c) (ts : ath (X (frs L k)) ≠ 0) (s0 : ∀ s, 0 ≤ s → bl own s = true → 1 ≤ s) {q : Int} :
    Flow L U q (enw L X (frs L k) own c) lk ↔ ∀ s, 0 ≤ s → s < 64 → bl own s = true → Flow L U q (entz L X k s c) lk := by
  have e1 : enw L X (frs L k) own c = ux (fun j => if j < pAr L c then X (frs L k + j) else f1st (pLk L c j)) 0 (fv (alo (X (frs L k))) (ahi (X (frs L k))) (alb (X (frs L k))) own) := by
    funext j
    unfold enw ux
    by_cases j0 : j = 0
    · rw [if_pos j0, if_pos (by omega), if_pos ⟨j0, nz⟩]
    · rw [if_neg j0]
      by_cases j1 : j < pAr L c
      · rw [if_pos j1, if_neg (fun y => j0 y.1)]; show _ = if j < pAr L c then _ else _; rw [if_pos j1]
      · rw [if_neg j1]; show _ = if j < pAr L c then _ else _; rw [if_neg j1]
  have e2 : ∀ s, 1 ≤ s → entz L X k s c = ux (fun j => if j < pAr L c then X (frs L k + j) else f1st (pLk L c j)) 0 (fv (alo (X (frs L k))) (ahi (X (frs L k))) (alb (X (frs L k))) (l_shl 1 s)) := by
    intro s s1
    funext j
    unfold entz ux
    by_cases j0 : j = 0
    · rw [if_pos j0, if_pos (by omega), if_pos ⟨j0, by omega⟩, if_neg hz]
      unfold rs
      rw [if_neg ts]
    · rw [if_neg j0]
      by_cases j1 : j < pAr L c
      · rw [if_pos j1, if_neg (fun y => j0 y.1)]; show _ = if j < pAr L c then _ else _; rw [if_pos j1]
      · rw [if_neg j1]; show _ = if j < pAr L c then _ else _; rw [if_neg j1]
  rw [e1, Flow_fs co nz]
  constructor
  · intro p s s1 s2 y
    rw [e2 s (s0 s s1 y)]; exact p s s1 s2 y
  · intro p s s1 s2 y
    rw [← e2 s (s0 s s1 y)]; exact p s s1 s2 y
theorem enw_0 {L : PG} {X : Int → FA} {k c : Int} : enw L X (frs L k) 0 c = entz L X k (-1) c := by
  funext j
  unfold enw entz
  by_cases j1 : j < pAr L c
  · rw [if_pos j1, if_pos j1, if_neg (fun y => y.2 rfl), if_neg (fun y => y.2 rfl)]
  · rw [if_neg j1, if_neg j1]
theorem AdvC_sm {L : PG} {k : Int} {h g g' : MH} {P : TB → Prop} (a : AdvC L k h g P) (s : same g g') (up : ∀ U V, tle U V → P U → P V) : AdvC L k h g' P :=
  AdvC_w (AdvC_tr a (AdvC_same s a.2.2.1) up) (fun _ p => p.1)
theorem c32_ite {P : Prop} [Decidable P] {a b : Int} (ha : c32 a) (hb : c32 b) : c32 (if P then a else b) := by split <;> assumption
theorem su8_ite {P : Prop} [Decidable P] {a b : Int} (ha : su8 a) (hb : su8 b) : su8 (if P then a else b) := by split <;> assumption
