/-! Part 38i: toss; facts that sites hold -/
theorem fb_join {a b : Int} (hb : c64 b) (nz : b ≠ 0) : fjoin (fb a) (fs b) = fb (l_or a b) := by
  by_cases za : a = 0
  · rw [za, l_or_0 hb]
    unfold fb
    rw [if_pos rfl, if_neg nz, fjoin_zv rfl]
  · have n2 : l_or a b ≠ 0 := by
      intro e
      apply nz
      rw [bl_eq0 hb]
      intro s s0 s1
      have := (bl_eq0 (c64_l_or a b)).mp e s s0 s1
      rw [bl_or] at this
      simp at this
      exact this.2
    unfold fb
    rw [if_neg za, if_neg n2]
    have := fjoin_fv 0 0 0 a 0 0 0 b
    rw [show i_or 0 0 = 0 by decide] at this
    exact this
theorem shl_ne {s : Int} (h0 : 0 ≤ s) (h1 : s < 64) : l_shl 1 s ≠ 0 := by
  intro e
  have := (bl_eq0 (c64_l_shl 1 s)).mp e s h0 h1
  rw [bl_shl h0 h1 h0] at this
  simp at this
theorem ast_fb (x : Int) : ast (fb x) = x := by
  unfold fb; split
  · rename_i e; rw [e]; rfl
  · rfl
theorem ath_fb {x : Int} : ath (fb x) ≠ 0 ↔ x ≠ 0 := by
  unfold fb; split
  · rename_i e; rw [e]; simp [ath, fz]
  · rename_i e; exact ⟨fun _ => e, fun _ => (by decide : (1 : Int) ≠ 0)⟩
theorem fle_b1 {s : Int} {v : FA} (h0 : 0 ≤ s) (h1 : s < 64) (ht : ath v ≠ 0) (l1 : alo v ≤ 0) (l2 : 0 ≤ ahi v) (q : bl (ast v) s = true) (su : ∀ x : Int, bi (asu v) x = false) : fle (b1 s) v := by
  intro _
  refine ⟨ht, l1, l2, fun x y => ?_, fun x y => ?_, fun x y => ?_⟩
  · rw [show alb (b1 s) = 0 from rfl, bi_zero] at y; cases y
  · change bl (l_shl 1 s) x = true at y
    by_cases x0 : 0 ≤ x
    · rw [bl_shl h0 h1 x0] at y; simp at y; rw [y]; exact q
    · rw [bl_neg (by omega), bl_shl h0 h1 (by omega)] at y
      simp at y
      rw [bl_neg (by omega), y]; exact q
  · rw [su x] at y; cases y
theorem le_b1 {s : Int} {v : FA} (h0 : 0 ≤ s) (h1 : s < 64) (h : fle (b1 s) v) : bl (ast v) s = true := by
  refine (h (by decide : (1 : Int) ≠ 0)).2.2.2.2.1 s ?_
  change bl (l_shl 1 s) s = true
  rw [bl_shl h0 h1 h0]; simp
/-- sites that are joined are joined one by one -/
theorem fs_le {x : Int} {v : FA} (hx : c64 x) (nz : x ≠ 0) : fle (fs x) v ↔ ∀ s, 0 ≤ s → s < 64 → bl x s = true → fle (b1 s) v := by
  constructor
  · intro p s s0 s1 q
    have lx : fle (b1 s) (fs x) → fle (b1 s) v := fun r => fle_trans r p
    refine lx (fun _ => ⟨(by decide : (1 : Int) ≠ 0), Int.le_refl _, Int.le_refl _, fun _ y => y, fun z y => ?_, fun _ y => y⟩)
    change bl (l_shl 1 s) z = true at y
    change bl x z = true
    by_cases z0 : 0 ≤ z
    · rw [bl_shl s0 s1 z0] at y; simp at y; rw [y]; exact q
    · rw [bl_neg (by omega), bl_shl s0 s1 (by omega)] at y
      simp at y
      rw [bl_neg (by omega), y]; exact q
  · intro p _
    have ex : ∃ s, 0 ≤ s ∧ s < 64 ∧ bl x s = true := by
      apply Classical.byContradiction
      intro c
      apply nz
      rw [bl_eq0 hx]
      intro s s0 s1
      cases e : bl x s
      · rfl
      · exact absurd ⟨s, s0, s1, e⟩ c
    obtain ⟨s, s0, s1, q⟩ := ex
    obtain ⟨r0, r1, r2, r3, r4, r5⟩ := p s s0 s1 q (by decide : (1 : Int) ≠ 0)
    refine ⟨r0, r1, r2, r3, fun z y => ?_, r5⟩
    change bl x z = true at y
    by_cases z0 : 0 ≤ z
    · by_cases z1 : z < 64
      · exact le_b1 z0 z1 (p z z0 z1 y)
      · rw [bl_hi (by omega)] at y; cases y
    · rw [bl_neg (by omega)] at y ⊢
      exact le_b1 (by omega) (by omega) (p 0 (by omega) (by omega) y)
theorem tiv_slot {L : PG} {T : TB} (t : tiv L T) {k j : Int} (hr : rch T k) (r : rel L k j) : fgd L T (T 0 k j) := by
  have := t.2.2.2.2.2 k j hr r
  exact ⟨t.1 _ _ _, t.2.1 _ _ _, t.2.2.1 _ _ _, (fok_there (t.1 _ _ _) this).1⟩
theorem tiv_lock {L : PG} {T : TB} (t : tiv L T) {k : Int} (hr : rch T k) : fgd L T (T 6 k 0) := ⟨t.1 _ _ _, t.2.1 _ _ _, t.2.2.1 _ _ _, (fok_there (t.1 _ _ _) hr).1⟩
theorem fgd_fk {L : PG} {T : TB} {a b : Int} (ha : c32 a) (h8 : su8 a) (hb : c32 b) : fgd L T (fk a b) := ⟨fok_fk ha hb, (fun s _ q => by rw [show ast (fk a b) = 0 from rfl, bl_zero] at q; cases q), ⟨⟨mk_0 L, h8⟩, mk_0 L⟩, rfl⟩
theorem fgd_b1 {L : PG} {T : TB} {s : Int} (h0 : 0 ≤ s) (h1 : s < 64) (m : mkd L T s) : fgd L T (b1 s) := by
  refine ⟨fok_fs (c64_l_shl _ _), fun x x0 q => ?_, ⟨⟨mk_0 L, su8_0⟩, mk_0 L⟩, rfl⟩
  change bl (l_shl 1 s) x = true at q
  rw [bl_shl h0 h1 x0] at q
  simp at q
  rw [q]; exact m
theorem rch_iff {h : MH} {L : PG} {k : Int} (hk : inP L k) : rch (tT h L) k ↔ hv h 460 k = 1 := by
  show ath (t6 h L k 0) ≠ 0 ↔ _
  unfold t6
  constructor
  · intro q; exact (iff_b q).2.2
  · intro q; rw [iff_p ⟨hk, rfl, q⟩]; exact (by decide : (1 : Int) ≠ 0)
/-- the same, but for what is noted as caught -/
def Adv0 (L : PG) (h h' : MH) (P A : TB → Prop) : Prop := frA h h' ∧ flg h h' L ∧ tiv L (tT h' L) ∧ tle (tT h L) (tT h' L) ∧ P (tT h' L) ∧ (∀ U, tbok U → tle (tT h L) U → A U → tle (tT h' L) U) ∧ (∀ j, hv h' 471 j = hv h 471 j)
theorem Adv.z {L : PG} {h h' : MH} {P A : TB → Prop} (a : Adv L h h' P A) : Adv0 L h h' P A := ⟨a.1, a.2.1, a.2.2.1, a.2.2.2.1, a.2.2.2.2.1, a.2.2.2.2.2.1, a.2.2.2.2.2.2.2⟩
theorem Adv0.c {L : PG} {h h' : MH} {P A : TB → Prop} (a : Adv0 L h h' P A) (c : cgt h L → cgt h' L) : Adv L h h' P A := ⟨a.1, a.2.1, a.2.2.1, a.2.2.2.1, a.2.2.2.2.1, a.2.2.2.2.2.1, c, a.2.2.2.2.2.2⟩
theorem Adv0_tr {L : PG} {h1 h2 h3 : MH} {P A P' A' : TB → Prop} (a : Adv0 L h1 h2 P A) (b : Adv0 L h2 h3 P' A') (up : ∀ U V, tle U V → P U → P V) : Adv0 L h1 h3 (fun U => P U ∧ P' U) (fun U => A U ∧ A' U) := by
  obtain ⟨a1, a2, a3, a4, a5, a6, a8⟩ := a
  obtain ⟨b1', b2, b3, b4, b5, b6, b8⟩ := b
  exact ⟨frA_tr a1 b1', flg_tr a2 b2 a4 b4 a3.1 b3.1, b3, tle_trans a4 b4, ⟨up _ _ b4 a5, b5⟩, fun U oU p q => b6 U oU (a6 U oU p q.1) q.2, fun j => (b8 j).trans (a8 j)⟩
theorem Adv0_w {L : PG} {h h' : MH} {P A P' A' : TB → Prop} (a : Adv0 L h h' P A) (hP : tle (tT h L) (tT h' L) → P (tT h' L) → P' (tT h' L)) (hA : ∀ U, tbok U → tle (tT h L) U → A' U → A U) : Adv0 L h h' P' A' := by
  obtain ⟨a1, a2, a3, a4, a5, a6, a8⟩ := a
  exact ⟨a1, a2, a3, a4, hP a4 a5, fun U oU p q => a6 U oU p (hA U oU p q), a8⟩
theorem Adv0_rfl {L : PG} {h : MH} (t : tiv L (tT h L)) : Adv0 L h h (fun _ => True) (fun _ => True) := (same_Adv (same_rfl h) t).z
/-- one step that joins one entry, flagged -/
theorem Adv0_tj {L : PG} {h h' : MH} {a i j : Int} {v : FA} (t : tiv L (tT h L)) (f : frA h h') (e : tT h' L = tj (tT h L) a i j v) (na : a ≠ 0 ∧ a ≠ 5 ∧ a ≠ 6 ∧ a ≠ 7 ∧ a ≠ 8 ∧ a ≠ 14) (g : fgd L (tT h L) v) (fl : flg h h' L) (u : ∀ j, hv h' 471 j = hv h 471 j) : Adv0 L h h' (fun U => fle v (U a i j)) (fun U => fle v (U a i j)) := by
  have le := tj_le.mp (tle_rfl (tj (tT h L) a i j v))
  exact ⟨f, fl, by rw [e]; exact tiv_tj t na g, by rw [e]; exact le.1, by rw [e]; exact le.2, fun U _ p q => by rw [e]; exact tj_le.mpr ⟨p, q⟩, u⟩
theorem thr_T {h : MH} {L : PG} {k x : Int} (hk : inP L k) (hx : c64 x) (nz : x ≠ 0) : tT (hset h 467 k (l_or (hv h 467 k) x)) L = tj (tT h L) 9 k 0 (fs x) := by
  funext a b c
  unfold tj
  by_cases a9 : a = 9
  · subst a9
    show t9 (hset h 467 k (l_or (hv h 467 k) x)) L b c = if _ then fjoin (t9 h L b c) _ else t9 h L b c
    unfold t9
    by_cases e : b = k ∧ c = 0
    · obtain ⟨rfl, rfl⟩ := e
      rw [if_pos ⟨rfl, rfl, rfl⟩, iff_p ⟨hk, rfl⟩, iff_p ⟨hk, rfl⟩, eq_a, fb_join hx nz]
    · rw [if_neg (fun y => e y.2)]
      refine iff_c Iff.rfl (fun y => ?_)
      rw [ne_k (fun z => e ⟨z, y.2⟩)]
  · rw [if_neg (fun y => a9 y.1)]
    have hh : ∀ a' j, a' ≠ 467 → hv (hset h 467 k (l_or (hv h 467 k) x)) a' j = hv h a' j := fun a' j q => ne_a q
    simp only [tT, if_neg a9, t0, t1, t2, t3, t4, t5, t6, t7, t8, t10, t11, t14, t15, row]
    simp only [hh 460 _ (by decide), hh 461 _ (by decide), hh 462 _ (by decide), hh 463 _ (by decide), hh 464 _ (by decide), hh 465 _ (by decide), hh 466 _ (by decide), hh 468 _ (by decide), hh 469 _ (by decide), hh 472 _ (by decide), hh 473 _ (by decide), hh 474 _ (by decide), hh 475 _ (by decide), hh 476 _ (by decide), hh 477 _ (by decide), hh 478 _ (by decide), hh 479 _ (by decide), hh 480 _ (by decide), hh 481 _ (by decide), hh 482 _ (by decide), hh 483 _ (by decide), hh 484 _ (by decide), hh 485 _ (by decide), hh 486 _ (by decide), hh 487 _ (by decide), hh 488 _ (by decide), hh 489 _ (by decide), hh 490 _ (by decide), hh 491 _ (by decide), hh 492 _ (by decide), hh 493 _ (by decide), hh 494 _ (by decide), hh 495 _ (by decide), hh 496 _ (by decide), hh 497 _ (by decide), hh 498 _ (by decide)]
/-- what escapes from a method is noted -/
theorem esc_T {h h' : MH} {L : PG} {m s su pe : Int} (hm : inM L m) (s0 : 0 ≤ s) (s1 : s < 64) (e495 : ∀ j, hv h' 495 j = if j = m then l_or (hv h 495 m) (l_shl 1 s) else hv h 495 j)
    (e496 : ∀ j, hv h' 496 j = if j = m then (if hv h 495 m = 0 then su else i_and (hv h 496 m) su) else hv h 496 j) (e497 : ∀ j, hv h' 497 j = if j = m then (if hv h 495 m = 0 then pe else i_or (hv h 497 m) pe) else hv h 497 j)
    (hh : ∀ a j, 460 ≤ a → a ≤ 498 → a ≠ 495 → a ≠ 496 → a ≠ 497 → hv h' a j = hv h a j) : tT h' L = tj (tj (tT h L) 14 m 0 (b1 s)) 8 m 0 (fk su pe) := by
  have nz := shl_ne s0 s1
  have orn : l_or (hv h 495 m) (l_shl 1 s) ≠ 0 := by
    intro e
    have := (bl_eq0 (c64_l_or _ _)).mp e s s0 s1
    rw [bl_or, bl_shl s0 s1 s0] at this
    simp at this
  funext a b c
  unfold tj
  by_cases a8 : a = 8
  · subst a8
    show t8 h' L b c = if _ then fjoin (if _ then _ else t8 h L b c) _ else (if _ then _ else t8 h L b c)
    rw [if_neg (show ¬ ((8 : Int) = 14 ∧ b = m ∧ c = 0) from fun y => by have := y.1; omega)]
    unfold t8
    by_cases e : b = m ∧ c = 0
    · obtain ⟨rfl, rfl⟩ := e
      rw [if_pos ⟨rfl, rfl, rfl⟩, iff_p ⟨hm, rfl, by rw [e495, if_pos rfl]; exact orn⟩, e496, e497, if_pos rfl, if_pos rfl]
      by_cases z : hv h 495 b = 0
      · rw [if_pos z, if_pos z, iff_n (fun y => y.2.2 z), fjoin_zv rfl]
      · rw [if_neg z, if_neg z, iff_p ⟨hm, rfl, z⟩, fjoin_fk]
    · rw [if_neg (fun y => e y.2)]
      refine iff_c ?_ (fun y => ?_)
      · constructor
        · intro y; rw [e495, if_neg (fun z => e ⟨z, y.2.1⟩)] at y; exact y
        · intro y; rw [e495, if_neg (fun z => e ⟨z, y.2.1⟩)]; exact y
      · rw [e496, e497, if_neg (fun z => e ⟨z, y.2.1⟩), if_neg (fun z => e ⟨z, y.2.1⟩)]
  · rw [if_neg (show ¬ (a = 8 ∧ b = m ∧ c = 0) from fun y => a8 y.1)]
    by_cases a14 : a = 14
    · subst a14
      show t14 h' L b c = if _ then fjoin (t14 h L b c) _ else t14 h L b c
      unfold t14
      by_cases e : b = m ∧ c = 0
      · obtain ⟨rfl, rfl⟩ := e
        rw [if_pos ⟨rfl, rfl, rfl⟩, iff_p ⟨hm, rfl⟩, iff_p ⟨hm, rfl⟩, e495, if_pos rfl]
        exact (fb_join (c64_l_shl _ _) nz).symm
      · rw [if_neg (fun y => e y.2)]
        refine iff_c Iff.rfl (fun y => ?_)
        rw [e495, if_neg (fun z => e ⟨z, y.2⟩)]
    · rw [if_neg (fun y => a14 y.1)]
      simp only [tT, if_neg a8, if_neg a14, t0, t1, t2, t3, t4, t5, t6, t7, t9, t10, t11, t15, row]
      simp only [hh 460 _ (by decide) (by decide) (by decide) (by decide) (by decide), hh 461 _ (by decide) (by decide) (by decide) (by decide) (by decide), hh 462 _ (by decide) (by decide) (by decide) (by decide) (by decide), hh 463 _ (by decide) (by decide) (by decide) (by decide) (by decide), hh 464 _ (by decide) (by decide) (by decide) (by decide) (by decide), hh 465 _ (by decide) (by decide) (by decide) (by decide) (by decide), hh 466 _ (by decide) (by decide) (by decide) (by decide) (by decide), hh 467 _ (by decide) (by decide) (by decide) (by decide) (by decide), hh 468 _ (by decide) (by decide) (by decide) (by decide) (by decide), hh 469 _ (by decide) (by decide) (by decide) (by decide) (by decide), hh 472 _ (by decide) (by decide) (by decide) (by decide) (by decide), hh 473 _ (by decide) (by decide) (by decide) (by decide) (by decide), hh 474 _ (by decide) (by decide) (by decide) (by decide) (by decide), hh 475 _ (by decide) (by decide) (by decide) (by decide) (by decide), hh 476 _ (by decide) (by decide) (by decide) (by decide) (by decide), hh 477 _ (by decide) (by decide) (by decide) (by decide) (by decide), hh 478 _ (by decide) (by decide) (by decide) (by decide) (by decide), hh 479 _ (by decide) (by decide) (by decide) (by decide) (by decide), hh 480 _ (by decide) (by decide) (by decide) (by decide) (by decide), hh 481 _ (by decide) (by decide) (by decide) (by decide) (by decide), hh 482 _ (by decide) (by decide) (by decide) (by decide) (by decide), hh 483 _ (by decide) (by decide) (by decide) (by decide) (by decide), hh 484 _ (by decide) (by decide) (by decide) (by decide) (by decide), hh 485 _ (by decide) (by decide) (by decide) (by decide) (by decide), hh 486 _ (by decide) (by decide) (by decide) (by decide) (by decide), hh 487 _ (by decide) (by decide) (by decide) (by decide) (by decide), hh 488 _ (by decide) (by decide) (by decide) (by decide) (by decide), hh 489 _ (by decide) (by decide) (by decide) (by decide) (by decide), hh 490 _ (by decide) (by decide) (by decide) (by decide) (by decide), hh 491 _ (by decide) (by decide) (by decide) (by decide) (by decide), hh 492 _ (by decide) (by decide) (by decide) (by decide) (by decide), hh 493 _ (by decide) (by decide) (by decide) (by decide) (by decide), hh 494 _ (by decide) (by decide) (by decide) (by decide) (by decide), hh 498 _ (by decide) (by decide) (by decide) (by decide) (by decide)]
/-- escapes and their locks grow together -/
theorem tiv_esc {L : PG} {T : TB} (t : tiv L T) {m s su pe : Int} (s1 : 1 ≤ s) (s2 : s < 64) (g1 : fgd L T (b1 s)) (g2 : fgd L T (fk su pe)) : tiv L (tj (tj T 14 m 0 (b1 s)) 8 m 0 (fk su pe)) := by
  obtain ⟨t1', t2', t3', t4', t5', t6'⟩ := t
  have up : tle T (tj (tj T 14 m 0 (b1 s)) 8 m 0 (fk su pe)) := tle_trans (tj_ge T 14 m 0 _) (tj_ge _ 8 m 0 _)
  have e : ∀ b k j, b ≠ 8 → b ≠ 14 → tj (tj T 14 m 0 (b1 s)) 8 m 0 (fk su pe) b k j = T b k j := by
    intro b k j h8 h14
    unfold tj
    rw [if_neg (fun y => h8 y.1), if_neg (fun y => h14 y.1)]
  refine ⟨tj_ok (tj_ok t1' g1.1) g2.1, fun b k j => fmk_le up ?_, fun b k j => ?_, fun c => ?_, fun c => ?_, fun q' s r1 r2 => ?_⟩
  · unfold tj
    split
    · refine fmk_join ?_ g2.2.1
      split
      · exact fmk_join (t2' _ _ _) g1.2.1
      · exact t2' _ _ _
    · split
      · exact fmk_join (t2' _ _ _) g1.2.1
      · exact t2' _ _ _
  · unfold tj
    split
    · refine fmr_join ?_ g2.2.2.1
      split
      · exact fmr_join (t3' _ _ _) g1.2.2.1
      · exact t3' _ _ _
    · split
      · exact fmr_join (t3' _ _ _) g1.2.2.1
      · exact t3' _ _ _
  · rw [e 5 c 0 (by omega) (by omega), e 7 c 0 (by omega) (by omega)]; exact t4' c
  · by_cases cm : c = m
    · subst cm
      have a14 : tj (tj T 14 c 0 (b1 s)) 8 c 0 (fk su pe) 14 c 0 = fjoin (T 14 c 0) (b1 s) := by
        unfold tj
        rw [if_neg (fun y => by have := y.1; omega), if_pos ⟨rfl, rfl, rfl⟩]
      have a8 : tj (tj T 14 c 0 (b1 s)) 8 c 0 (fk su pe) 8 c 0 = fjoin (T 8 c 0) (fk su pe) := by
        unfold tj
        rw [if_pos ⟨rfl, rfl, rfl⟩, if_neg (fun y => by have := y.1; omega)]
      rw [a14, a8, ath_join, ath_join]
      refine ⟨⟨fun _ => Or.inr (by decide : (1 : Int) ≠ 0), fun _ => Or.inr (by decide : (1 : Int) ≠ 0)⟩, ?_⟩
      have b0 : bl (ast (b1 s)) 0 = false := by
        show bl (l_shl 1 s) 0 = false
        rw [bl_shl (by omega) (by omega) (by omega)]; simp; omega
      unfold fjoin
      rw [if_neg (show ¬ ath (b1 s) = 0 from (by decide : ¬ (1 : Int) = 0))]
      by_cases z : ath (T 14 c 0) = 0
      · rw [if_pos z]; exact b0
      · rw [if_neg z]
        show bl (l_or (ast (T 14 c 0)) (ast (b1 s))) 0 = false
        rw [bl_or, b0, (t5' c).2]; rfl
    · have a14 : tj (tj T 14 m 0 (b1 s)) 8 m 0 (fk su pe) 14 c 0 = T 14 c 0 := by
        unfold tj
        rw [if_neg (fun y => cm y.2.1), if_neg (fun y => cm y.2.1)]
      have a8 : tj (tj T 14 m 0 (b1 s)) 8 m 0 (fk su pe) 8 c 0 = T 8 c 0 := by
        unfold tj
        rw [if_neg (fun y => cm y.2.1), if_neg (fun y => cm y.2.1)]
      rw [a14, a8]; exact t5' c
  · rw [e 6 _ _ (by omega) (by omega)] at r1
    rw [e 0 _ _ (by omega) (by omega)]; exact t6' q' s r1 r2
/-- a handler is one of the method's -/
theorem hnd_lt {L : PG} (w : WF L) {k s : Int} (k0 : 0 ≤ k) (k1 : k < pNp L) (h : 0 ≤ hnd L k s) : hnd L k s < pHn L (pMo L k) := by
  obtain ⟨mk, -⟩ := w.k k0 k1
  obtain ⟨-, -, -, -, -, -, -, -, -, -, -, -, -, hn0, hn1, -⟩ := w.m mk.1 mk.2.1
  have := (frm_lt _ _ _ h).2.1
  unfold hnd at *
  omega
theorem hnd_neg {L : PG} {k s : Int} (h : hnd L k s < 0) : hnd L k s = -1 := (frm_neg _ _ _ (by omega) h).1
theorem t_toss2 {l : Launch} {G : JG} (hG : gO G = true) {h : MH} {L : PG} (tf : TF h L) (w : WF L) (t : tiv L (tT h L)) {k x su pe : Int} (k0 : 0 ≤ k) (k1 : k < pNp L) (hr : hv h 460 k = 1) (hx : c64 x) (xs : ∀ s, 0 ≤ s → bl x s = true → 1 ≤ s ∧ s < pNt L ∧ mkd L (tT h L) s) (hsu : c32 su) (hs8 : su8 su) (hpe : c32 pe)
    {Q : Int → MH → Prop} {E : Nat → Int → MH → Prop} (hQ : ∀ h', Adv L h h' (fun U => ∀ s, 0 ≤ s → bl x s = true → TS L U k (tT h L 0 k) s (fk su pe)) (fun U => ∀ s, 0 ≤ s → bl x s = true → TS L U k (U 0 k) s (fk su pe)) → hv h' 396 72 = hv h 396 72 → Q 0 h') : S_X9_toss_2 l G [(2009, 396), (0, k), (1, x), (0, su), (0, pe)] h Q E := by
  have nn := w.n
  unfold WFn at nn
  obtain ⟨mk, -⟩ := w.k k0 k1
  obtain ⟨-, -, -, -, -, -, -, -, -, -, -, -, -, hn0, hn1, co0, co1, fi0, fi1, pm, -, hh⟩ := w.m mk.1 mk.2.1
  refine Sem_hyp fun H ok => ?_
  have c467 : c64 (hv h 467 k) := okf_l (tw_ok H hG (ok _ List.mem_cons_self) 25 (off := 71) (n := 1500) (t := 101) (e := 1) (by decide) (by decide) (by decide) (by decide) (by decide) k0 (by omega))
  refine s_X9_toss_2 rfl fun K ki => r_X9_toss_2_0 ki hG ⟨tf.ne, k0, by omega, ?_⟩
  intro m em
  rw [tf.mo] at em
  subst em
  refine ⟨k0, by omega, k0, by omega, ?_⟩
  intro h2 e2 n0 en0
  subst en0
  -- what is thrown is noted at once
  have fl2 : flg h h2 L ∧ tle (tT h L) (tT h2 L) ∧ tiv L (tT h2 L) ∧ (∀ s, 0 ≤ s → bl x s = true → fle (b1 s) (tT h2 L 9 k 0)) ∧ (∀ U, tle (tT h L) U → (∀ s, 0 ≤ s → bl x s = true → fle (b1 s) (U 9 k 0)) → tle (tT h2 L) U) := by
    by_cases z : x = 0
    · have eT : tT h2 L = tT h L := by
        refine tT_eq (fun a j _ _ => ?_)
        rw [e2, hv_set]
        by_cases y : a = 467 ∧ j = k
        · rw [if_pos y, y.1, y.2, z]
          exact bl_ext (c64_l_or _ _) c467 (fun i _ _ => by rw [bl_or, bl_zero]; simp)
        · rw [if_neg y]
      refine ⟨?_, by rw [eT]; exact tle_rfl _, by rw [eT]; exact t, (fun s s0 q => by rw [z, bl_zero] at q; cases q), fun U p _ => by rw [eT]; exact p⟩
      unfold flg
      rw [eT, e2]
      exact ⟨fun q _ => ⟨fun y => by rw [ne_a (by omega)]; exact y, Or.inr ⟨fun _ => rfl, rfl⟩⟩, fun q _ => ⟨fun y => by rw [ne_a (by omega)]; exact y, Or.inr ⟨fun _ => rfl, rfl⟩⟩, fun q _ _ => ⟨fun y => by rw [ne_a (by omega)]; exact y, Or.inr rfl⟩, fun q _ => ⟨fun y => by rw [ne_a (by omega)]; exact y, Or.inr fun _ _ => rfl⟩, qui_of (fun j => ne_a (by omega)) (fun j => ne_a (by omega)) (fun j _ _ => ne_a (by omega))⟩
    · have eT : tT h2 L = tj (tT h L) 9 k 0 (fs x) := by rw [e2]; exact thr_T ⟨k0, k1⟩ hx z
      have gx : fgd L (tT h L) (fs x) := ⟨fok_fs hx, fun s s0 q => (xs s s0 q).2.2, ⟨⟨mk_0 L, su8_0⟩, mk_0 L⟩, rfl⟩
      have le := tj_le.mp (tle_rfl (tj (tT h L) 9 k 0 (fs x)))
      have ee : ∀ a b c, a ≠ 9 → tj (tT h L) 9 k 0 (fs x) a b c = tT h L a b c := fun a b c ha => by unfold tj; rw [if_neg (fun y => ha y.1)]
      refine ⟨?_, by rw [eT]; exact le.1, by rw [eT]; exact tiv_tj t (by omega) gx, fun s s0 q => ?_, fun U p q => ?_⟩
      · unfold flg
        rw [eT, e2]
        exact ⟨fun q _ => ⟨fun y => by rw [ne_a (by omega)]; exact y, Or.inr ⟨fun s => ee _ _ _ (by omega), ee _ _ _ (by omega)⟩⟩, fun q _ => ⟨fun y => by rw [ne_a (by omega)]; exact y, Or.inr ⟨fun s => ee _ _ _ (by omega), ee _ _ _ (by omega)⟩⟩, fun q _ _ => ⟨fun y => by rw [ne_a (by omega)]; exact y, Or.inr (ee _ _ _ (by omega))⟩, fun q _ => ⟨fun y => by rw [ne_a (by omega)]; exact y, Or.inr fun a ha => ee _ _ _ (by omega)⟩, qui_of (fun j => ne_a (by omega)) (fun j => ne_a (by omega)) (fun j _ _ => ne_a (by omega))⟩
      · rw [eT]
        have := (fs_le hx z).mp le.2 s s0
        by_cases s64 : s < 64
        · exact this s64 q
        · rw [bl_hi (by omega)] at q; cases q
      · rw [eT]
        exact tj_le.mpr ⟨p, (fs_le hx z).mpr (fun s s0 _ y => q s s0 y)⟩
  have fr2 : frA h h2 := by rw [e2]; exact frA_set (by omega)
  obtain ⟨fl2, le2, tv2, th2, un2⟩ := fl2
  have a2 : Adv0 L h h2 (fun U => ∀ s, 0 ≤ s → bl x s = true → fle (b1 s) (U 9 k 0)) (fun U => ∀ s, 0 ≤ s → bl x s = true → TS L U k (U 0 k) s (fk su pe)) :=
    ⟨fr2, fl2, tv2, le2, th2, fun U _ p q => un2 U p (fun s s0 y => (q s s0 y).1), fun j => by rw [e2, ne_a (by omega)]⟩
  -- the loop
  have key : ∀ N : Nat, ∀ n : Int, ∀ g : MH, (63 - n).toNat ≤ N → 1 ≤ n → n ≤ 63 →
      Adv0 L h g (fun U => (∀ s, 0 ≤ s → bl x s = true → fle (b1 s) (U 9 k 0)) ∧ ∀ s, 0 ≤ s → s < n → bl x s = true → TS L U k (tT h L 0 k) s (fk su pe)) (fun U => ∀ s, 0 ≤ s → bl x s = true → TS L U k (U 0 k) s (fk su pe)) →
      ((∀ j, hv g 467 j = hv h2 467 j) ∧ ∀ a j, (za a ∨ (a = 396 ∧ j = 72)) → hv g a j = hv h a j) →
      (∀ k' i, inP L k' → 0 ≤ i → i < 128 → (bl (hv g 470 (2 * k' + i / 64)) (i % 64) = true ↔ (bl (hv h 470 (2 * k' + i / 64)) (i % 64) = true ∨ (k' = k ∧ ∃ s, 1 ≤ s ∧ s < n ∧ bl x s = true ∧ 0 ≤ hnd L k s ∧ pHa L (pMo L k) (hnd L k s) 2 = i)))) →
      JW K 24 [(2009, 396), (0, k), (1, x), (5000, 0), (0, su), (0, pe), (0, pMo L k), (0, n), (5000, 0), (5000, 0), (5000, 0), (5000, 0), (5000, 0)] [] g := by
    have fin : ∀ g : MH, Adv0 L h g (fun U => (∀ s, 0 ≤ s → bl x s = true → fle (b1 s) (U 9 k 0)) ∧ ∀ s, 0 ≤ s → s < 63 → bl x s = true → TS L U k (tT h L 0 k) s (fk su pe)) (fun U => ∀ s, 0 ≤ s → bl x s = true → TS L U k (U 0 k) s (fk su pe)) →
      ((∀ j, hv g 467 j = hv h2 467 j) ∧ ∀ a j, (za a ∨ (a = 396 ∧ j = 72)) → hv g a j = hv h a j) →
      (∀ k' i, inP L k' → 0 ≤ i → i < 128 → (bl (hv g 470 (2 * k' + i / 64)) (i % 64) = true ↔ (bl (hv h 470 (2 * k' + i / 64)) (i % 64) = true ∨ (k' = k ∧ ∃ s, 1 ≤ s ∧ s < 63 ∧ bl x s = true ∧ 0 ≤ hnd L k s ∧ pHa L (pMo L k) (hnd L k s) 2 = i)))) → Q 0 g := by
      intro g a e67 cg
      refine hQ g (Adv0.c (Adv0_w a (fun _ p s s0 q => p.2 s s0 (by have := xs s s0 q; omega) q) (fun U _ _ q => q)) (fun c => ⟨fun k' i hk' i0 i1 => ?_, zi_of (fun a j ha => e67.2 a j (Or.inl ha)) c.2⟩)) (e67.2 396 72 (Or.inr ⟨rfl, rfl⟩))
      rw [cg k' i hk' i0 i1, c.1 k' i hk' i0 i1, e67.1, e2]
      by_cases kk : k' = k
      · subst kk
        rw [eq_a]
        constructor
        · rintro (⟨s, b1', b2', b3', b4', b5'⟩ | ⟨-, s, b1', b2', b3', b4', b5'⟩)
          · exact ⟨s, b1', b2', by rw [bl_or, b3']; rfl, b4', b5'⟩
          · exact ⟨s, b1', b2', by rw [bl_or, b3']; simp, b4', b5'⟩
        · rintro ⟨s, b1', b2', b3', b4', b5'⟩
          rw [bl_or] at b3'
          simp at b3'
          rcases b3' with z | z
          · exact Or.inl ⟨s, b1', b2', z, b4', b5'⟩
          · exact Or.inr ⟨rfl, s, b1', b2', z, b4', b5'⟩
      · rw [ne_k kk]
        constructor
        · rintro (z | z)
          · exact z
          · exact absurd z.1 kk
        · intro z; exact Or.inl z
    intro N
    induction N with
    | zero =>
      intro n g n1 n2 n3 a e67 cg
      have : n = 63 := by omega
      subst this
      exact r_X9_toss_2_24 ki hG ⟨fun _ => fin g a e67 cg, fun q => by omega⟩
    | succ N ih =>
      intro n g n1 n2 n3 a e67 cg
      by_cases n63 : n = 63
      · subst n63
        exact r_X9_toss_2_24 ki hG ⟨fun _ => fin g a e67 cg, fun q => by omega⟩
      · refine JW_hyp fun Hg okg _ => ?_
        have c495 : c64 (hv g 495 (pMo L k)) := okf_l (tw_ok Hg (by rw [ki.2.2.1]; exact hG) (okg _ List.mem_cons_self) 53 (off := 99) (n := 40) (t := 101) (e := 1) (by decide) (by decide) (by decide) (by decide) (by decide) mk.1 (by omega))
        refine r_X9_toss_2_24 ki hG ⟨fun q => by omega, fun _ => ⟨fun z => ?_, fun z => ?_⟩⟩
        · -- a site that is thrown
          rw [lc_eq, l_bit (by omega) (by omega)] at z
          have xb : bl x n = true := by cases r : bl x n <;> simp_all
          obtain ⟨xs1, xs2, xs3⟩ := xs n (by omega) xb
          have tg : TF g L := frA_TF a.1 tf
          have tvg := a.2.2.1
          have rg : rch (tT g L) k := ath_le (a.2.2.2.1 6 k 0) ((rch_iff ⟨k0, k1⟩).mpr hr)
          have rg' : hv g 460 k = 1 := (rch_iff ⟨k0, k1⟩).mp rg
          refine t_handlerOf hG tg w k0 k1 xs1 xs2 ?_
          intro hd ehd
          refine ⟨fun y => ?_, fun y => ?_⟩
          · -- it has a handler
            have h0 : 0 ≤ hd := by
              by_cases c : hd < 0
              · rw [ehd] at c; have := hnd_neg c; omega
              · omega
            have h1 : hd < pHn L (pMo L k) := by rw [ehd]; exact hnd_lt w k0 k1 (by rw [← ehd]; exact h0)
            have hj := hh hd h0 h1
            refine ⟨tg.ne, ?_⟩
            rw [w32_i (z := 16 * pMo L k) (by omega) (by omega), w32_i (z := 4 * hd) (by omega) (by omega), w32_i (z := 16 * pMo L k + 4 * hd) (by omega) (by omega), w32_i (z := 16 * pMo L k + 4 * hd + 2) (by omega) (by omega)]
            refine ⟨by omega, by omega, ?_⟩
            intro i ei
            rw [tg.at 13 _ (by omega) (by omega)] at ei
            have ei' : i = pHa L (pMo L k) hd 2 := ei
            have i0 : 0 ≤ i ∧ i < pCo L (pMo L k) := by rw [ei']; exact ⟨hj.2.2.2.1, hj.2.2.2.2.1⟩
            rw [shr_6 i0.1 (by omega), and_63 i0.1 (by omega), w32_i (z := 2 * k) (by omega) (by omega), w32_i (z := 2 * k + i / 64) (by omega) (by omega)]
            refine ⟨by omega, by omega, by omega, by omega, ?_⟩
            intro g5 e5
            have same5 : tT g5 L = tT g L := tT_eq' (fun a j _ _ r1 _ => by rw [e5, ne_a r1])
            have fr5 : frA g g5 := by rw [e5]; exact frA_set (by omega)
            have tf5 := frA_TF fr5 tg
            have a5 : Adv0 L g g5 (fun _ => True) (fun _ => True) := by
              refine ⟨fr5, ?_, by rw [same5]; exact tvg, by rw [same5]; exact tle_rfl _, trivial, fun U _ p _ => by rw [same5]; exact p, fun j => by rw [e5, ne_a (by omega)]⟩
              unfold flg
              rw [same5, e5]
              exact ⟨fun q _ => ⟨fun y => by rw [ne_a (by omega)]; exact y, Or.inr ⟨fun _ => rfl, rfl⟩⟩, fun q _ => ⟨fun y => by rw [ne_a (by omega)]; exact y, Or.inr ⟨fun _ => rfl, rfl⟩⟩, fun q _ _ => ⟨fun y => by rw [ne_a (by omega)]; exact y, Or.inr rfl⟩, fun q _ => ⟨fun y => by rw [ne_a (by omega)]; exact y, Or.inr fun _ _ => rfl⟩, qui_of (fun j => ne_a (by omega)) (fun j => ne_a (by omega)) (fun j _ _ => ne_a (by omega))⟩
            refine t_takeFacts hG tf5 w k0 k1 (by rw [e5, ne_a (by omega)]; exact rg') fun g7 s7 c7 e72 => ?_
            refine t_setSlot hG (by omega) (by omega) ?_
            intro g10 e10 g11 e11
            have c9 := cur_set (k := 8) (l := 0) (hh := 0) (b := 0) (s := l_shl 1 n) c7
            have s11 : same g5 g11 := by
              rw [e11, e10]
              exact same_tr (same_tr (same_tr s7 (slt_same _ _ _ _ _ _)) (same_set (by omega))) (same_set (by omega))
            have tf11 := frA_TF s11.1 tf5
            refine ⟨tf11.ne, mk.1, by omega, ?_⟩
            rw [tf11.fi, w32_i (by omega) (by omega)]
            have mo : pMo L (pFi L (pMo L k) + i) = pMo L k := pm i i0.1 i0.2
            have dpq : pDp L (pFi L (pMo L k) + i) = 1 := by rw [ei']; exact hj.2.2.2.2.2.2.2
            have T11 : tT g11 L = tT g L := by rw [same_T s11, same5]
            have lk11 : lkc_ g11 = fk su pe := by unfold lkc_; rw [e11, eq_a, ne_k (by omega), e10, eq_a]
            have cx11 : ∀ j, rel L (pFi L (pMo L k) + i) j → cX g11 j = ux (tT g L 0 k) 8 (b1 n) j := by
              intro j rj
              have e9 : cX g11 j = cX (slt g7 8 0 0 0 (l_shl 1 n)) j := by
                rw [e11, e10]; unfold cX; simp [hv_set]
              rw [e9, slt_cX]
              unfold ux
              by_cases j8 : j = 8
              · rw [if_pos j8, if_pos j8]; rfl
              · rw [if_neg j8, if_neg j8, c7.1 j ?_, same5]
                unfold rel at rj
                rw [mo, dpq] at rj
                unfold vld
                omega
            refine t_joinTo hG tf11 w (by omega) (by omega) fun g13 j13 => ?_
            have gX : ∀ j, rel L (pFi L (pMo L k) + i) j → fgd L (tT g11 L) (cX g11 j) := by
              intro j rj
              rw [cx11 j rj, T11]
              unfold ux
              by_cases j8 : j = 8
              · rw [if_pos j8]; exact fgd_b1 (by omega) (by omega) (mkd_le a.2.2.2.1 xs3)
              · rw [if_neg j8]
                refine tiv_slot tvg rg ?_
                unfold rel at rj ⊢
                rw [mo, dpq] at rj
                omega
            have aj := Adv_join (q := pFi L (pMo L k) + i) ⟨by omega, by omega⟩ (by rw [T11]; exact tvg) j13 gX (by rw [lk11]; exact fgd_fk hsu hs8 hpe)
            have a11 : Adv0 L g g11 (fun _ => True) (fun _ => True) := Adv0_w (Adv0_tr a5 (same_Adv s11 (by rw [same5]; exact tvg)).z (fun _ _ _ z => z)) (fun _ _ => trivial) (fun _ _ _ _ => ⟨trivial, trivial⟩)
            have a13 := Adv0_tr a11 aj.z (fun _ _ _ z => z)
            have a14 := Adv0_tr a a13 (fun U V p q => ⟨fun s s0 y => fle_trans (q.1 s s0 y) (p _ _ _), fun s s0 s1 y => TS_le (fun _ => fle_rfl _) (fle_rfl _) p (q.2 s s0 s1 y)⟩)
            intro n' en'
            rw [w32_i (by omega) (by omega)] at en'
            subst en'
            refine ih _ _ (by omega) (by omega) (by omega) (Adv0_w a14 (fun le p => ⟨p.1.1, fun s s0 s1 y => ?_⟩) (fun U oU pU q => ⟨q, trivial, ?_⟩)) ⟨fun j => ?_, fun a' j ha => ?_⟩ (fun k' i' hk' i0' i1' => ?_)
            · by_cases sn : s = n
              · subst sn
                refine ⟨p.1.1 s s0 y, fun z => by rw [← ehd] at z; omega, fun _ => ?_⟩
                have fl := p.2.2
                rw [lk11] at fl
                rw [← ehd, ← ei']
                exact Flow_le (fun j => ux_le (fun j' => a.2.2.2.1 0 k j') (fle_rfl _) j) (fle_rfl _) (tle_rfl _) (Flow_eq (fun j rj => cx11 j rj) fl)
              · exact p.1.2 s s0 (by omega) y
            · rw [lk11]
              have ts := (q n (by omega) xb).2.2 (by rw [← ehd]; exact h0)
              rw [← ehd, ← ei'] at ts
              have gU : tle (tT g L) U := a.2.2.2.2.2.1 U oU pU q
              exact Flow_eq (fun j rj => (cx11 j rj).symm) (Flow_le (fun j => ux_le (fun j' => gU 0 k j') (fle_rfl _) j) (fle_rfl _) (tle_rfl _) ts)
            · rw [j13.2.2.1 467 j (by omega) (by omega), s11.2.1 467 j (by omega) (by omega), e5, ne_a (by omega)]; exact e67.1 j
            · rcases ha with ha | ⟨ha1, ha2⟩
              · rw [j13.2.2.1 a' j (by unfold za at ha; omega) (by unfold za at ha; omega), s11.2.1 a' j (by unfold za at ha; omega) (by unfold za at ha; omega), e5, ne_a (by unfold za at ha; omega)]; exact e67.2 a' j (Or.inl ha)
              · subst ha1; subst ha2
                rw [j13.2.2.1 396 72 (by omega) (by omega), e11, ne_k (by decide), e10, ne_k (by decide), slt_396, e72 72 (by omega), e5, ne_a (by decide)]; exact e67.2 396 72 (Or.inr ⟨rfl, rfl⟩)
            · rw [j13.2.2.1 470 _ (by omega) (by omega), s11.2.1 470 _ (by omega) (by omega), e5, hv_set]
              have cg' := cg k' i' hk' i0' i1'
              by_cases bb : 2 * k' + i' / 64 = 2 * k + i / 64
              · rw [if_pos ⟨rfl, bb⟩, bl_or, bl_shl (by omega) (by omega) (by omega)]
                have kk : k' = k := by omega
                rw [bb] at cg'
                constructor
                · intro z2
                  simp at z2
                  rcases z2 with z2 | z2
                  · rcases cg'.mp z2 with z3 | ⟨z3, s, b1', b2', b3', b4', b5'⟩
                    · rw [bb]; exact Or.inl z3
                    · exact Or.inr ⟨z3, s, b1', by omega, b3', b4', b5'⟩
                  · exact Or.inr ⟨kk, n, by omega, by omega, xb, by rw [← ehd]; exact h0, by rw [← ehd, ← ei']; omega⟩
                · intro z2
                  simp
                  rcases z2 with z2 | ⟨z3, s, b1', b2', b3', b4', b5'⟩
                  · exact Or.inl (cg'.mpr (Or.inl (by rw [bb] at z2; exact z2)))
                  · by_cases sn : s = n
                    · right
                      rw [sn, ← ehd, ← ei'] at b5'
                      rw [b5']
                    · exact Or.inl (cg'.mpr (Or.inr ⟨z3, s, b1', by omega, b3', b4', b5'⟩))
              · rw [if_neg (fun z2 => bb z2.2), cg']
                constructor
                · rintro (z2 | ⟨z3, s, b1', b2', b3', b4', b5'⟩)
                  · exact Or.inl z2
                  · exact Or.inr ⟨z3, s, b1', by omega, b3', b4', b5'⟩
                · rintro (z2 | ⟨z3, s, b1', b2', b3', b4', b5'⟩)
                  · exact Or.inl z2
                  · by_cases sn : s = n
                    · exfalso
                      rw [sn, ← ehd, ← ei'] at b5'
                      apply bb
                      rw [z3, b5']
                    · exact Or.inr ⟨z3, s, b1', by omega, b3', b4', b5'⟩
          · -- it escapes
            have hneg : hnd L k n < 0 := by rw [← ehd]; omega
            refine ⟨mk.1, by omega, ?_⟩
            intro x9 e9
            simp only [lc_eq] at e9
            refine ⟨fun _ => ⟨mk.1, by omega⟩, ?_⟩
            intro x10 e10
            refine ⟨fun _ => ⟨mk.1, by omega⟩, ?_⟩
            intro x11 e11
            refine ⟨mk.1, by omega, fun _ => ⟨mk.1, by omega, fun _ => ⟨mk.1, by omega⟩⟩, ?_⟩
            intro x12 e12
            rw [l_bit (by omega) (by omega)] at e12
            simp only [lc_eq] at e12
            intro g19 e19
            refine ⟨mk.1, by omega, mk.1, by omega, ?_⟩
            intro g20 e20
            refine ⟨mk.1, by omega, ?_⟩
            intro g21 e21
            refine ⟨mk.1, by omega, ?_⟩
            intro g22 e22
            have x9v : x9 = 0 ↔ ¬ hv g 495 (pMo L k) = 0 := by rw [e9]; split <;> simp_all
            have x10v : x10 = if hv g 495 (pMo L k) = 0 then su else i_and (hv g 496 (pMo L k)) su := by
              rw [e10]
              by_cases c : hv g 495 (pMo L k) = 0
              · rw [if_pos c, if_neg (fun c2 => (x9v.mp c2) c)]
              · rw [if_neg c, if_pos (x9v.mpr c)]
            have x11v : x11 = if hv g 495 (pMo L k) = 0 then pe else i_or (hv g 497 (pMo L k)) pe := by
              rw [e11]
              by_cases c : hv g 495 (pMo L k) = 0
              · rw [if_pos c, if_neg (fun c2 => (x9v.mp c2) c)]
              · rw [if_neg c, if_pos (x9v.mpr c)]
            have hv22 : ∀ a j, hv g22 a j = if a = 497 ∧ j = pMo L k then x11 else if a = 496 ∧ j = pMo L k then x10 else if a = 495 ∧ j = pMo L k then l_or (hv g 495 (pMo L k)) (l_shl 1 n) else if a = 396 ∧ j = 14 then l_or (hv g 396 14) (if x12 = 0 then 0 else l_shl 1 (pMo L k)) else hv g a j := by
              intro a j
              rw [e22, hv_set, e21, hv_set, e20, hv_set, e19, hv_set, hv_set]
              simp
            have ET : tT g22 L = tj (tj (tT g L) 14 (pMo L k) 0 (b1 n)) 8 (pMo L k) 0 (fk su pe) := by
              refine esc_T ⟨mk.1, mk.2.1⟩ (by omega) (by omega) (fun j => ?_) (fun j => ?_) (fun j => ?_) (fun a j p1 p2 p3 p4 p5 => ?_)
              · rw [hv22]
                by_cases c : j = pMo L k
                · simp [c]
                · simp [c]
              · rw [hv22, x10v]
                by_cases c : j = pMo L k
                · simp [c]
                · simp [c]
              · rw [hv22, x11v]
                by_cases c : j = pMo L k
                · simp [c]
                · simp [c]
              · rw [hv22, if_neg (fun c => p5 c.1), if_neg (fun c => p4 c.1), if_neg (fun c => p3 c.1), if_neg (fun c => by have := c.1; omega)]
            have g1 : fgd L (tT g L) (b1 n) := fgd_b1 (by omega) (by omega) (mkd_le a.2.2.2.1 xs3)
            have le1 := tj_le.mp (tle_rfl (tj (tj (tT g L) 14 (pMo L k) 0 (b1 n)) 8 (pMo L k) 0 (fk su pe)))
            have le0 := tj_le.mp le1.1
            have ee : ∀ a b c, a ≠ 14 → a ≠ 8 → tT g22 L a b c = tT g L a b c := by
              intro a b c h14 h8
              rw [ET]; unfold tj
              rw [if_neg (fun c2 => h8 c2.1), if_neg (fun c2 => h14 c2.1)]
            have em : ∀ a b c, b ≠ pMo L k → tT g22 L a b c = tT g L a b c := by
              intro a b c hb
              rw [ET]; unfold tj
              rw [if_neg (fun c2 => hb c2.2.1), if_neg (fun c2 => hb c2.2.1)]
            have sto : tT g22 L = tT g L → x12 = 0 := by
              intro eT
              have im : inM L (pMo L k) := ⟨mk.1, mk.2.1⟩
              have v5 : hv g22 495 (pMo L k) = l_or (hv g 495 (pMo L k)) (l_shl 1 n) := by rw [hv22]; simp
              have e1 : hv g22 495 (pMo L k) = hv g 495 (pMo L k) := by
                have := congrArg ast (congrFun (congrFun (congrFun eT 14) (pMo L k)) 0)
                rw [rw_14 im, rw_14 im, fb_ast, fb_ast] at this; exact this
              have bt : bl (hv g 495 (pMo L k)) n = true := by
                rw [← e1, v5, bl_or, bl_shl (by omega) (by omega) (by omega)]; simp
              have nz : hv g 495 (pMo L k) ≠ 0 := fun z => by rw [z, bl_zero] at bt; cases bt
              have e2 := congrFun (congrFun (congrFun eT 8) (pMo L k)) 0
              rw [rw_8 im (by rw [e1]; exact nz), rw_8 im nz] at e2
              have v6 : hv g22 496 (pMo L k) = x10 := by rw [hv22]; simp
              have v7 : hv g22 497 (pMo L k) = x11 := by rw [hv22]; simp
              rw [v6, v7] at e2
              have c1 : x10 = hv g 496 (pMo L k) := congrArg asu e2
              have c2 : x11 = hv g 497 (pMo L k) := congrArg alb e2
              rw [e12, bt]
              simp [c1, c2]
            have nog : x12 = 0 → tT g22 L = tT g L := by
              intro z0
              rw [e12] at z0
              have bt : bl (hv g 495 (pMo L k)) n = true := by
                cases r : bl (hv g 495 (pMo L k)) n
                · rw [r] at z0; simp at z0
                · rfl
              rw [bt] at z0
              simp at z0
              have c1 : x10 = hv g 496 (pMo L k) := by
                by_cases c : x10 = hv g 496 (pMo L k)
                · exact c
                · rw [if_neg c] at z0; omega
              rw [if_pos c1] at z0
              have c2 : x11 = hv g 497 (pMo L k) := by
                by_cases c : x11 = hv g 497 (pMo L k)
                · exact c
                · rw [if_neg c] at z0; omega
              refine tT_eq (fun a j p1 p2 => ?_)
              rw [hv22]
              by_cases c3 : a = 497 ∧ j = pMo L k
              · rw [if_pos c3, c2, c3.1, c3.2]
              rw [if_neg c3]
              by_cases c4 : a = 496 ∧ j = pMo L k
              · rw [if_pos c4, c1, c4.1, c4.2]
              rw [if_neg c4]
              by_cases c5 : a = 495 ∧ j = pMo L k
              · rw [if_pos c5, c5.1, c5.2]
                refine bl_ext (c64_l_or _ _) c495 (fun i i0 i1 => ?_)
                rw [bl_or, bl_shl (by omega) (by omega) i0]
                by_cases c6 : i = n
                · rw [c6, bt]; rfl
                · simp [c6]
              rw [if_neg c5, if_neg (fun c => by have := c.1; omega)]
            have ag : Adv0 L g g22 (fun U => fle (b1 n) (U 14 (pMo L k) 0) ∧ fle (fk su pe) (U 8 (pMo L k) 0)) (fun U => fle (b1 n) (U 14 (pMo L k) 0) ∧ fle (fk su pe) (U 8 (pMo L k) 0)) := by
              refine ⟨?_, ⟨fun q _ => ⟨fun y => by rw [hv22]; simpa using y, Or.inr ⟨fun s => ee _ _ _ (by omega) (by omega), ee _ _ _ (by omega) (by omega)⟩⟩, fun s _ => ⟨fun y => by rw [hv22]; simpa using y, Or.inr ⟨fun f => ee _ _ _ (by omega) (by omega), ee _ _ _ (by omega) (by omega)⟩⟩, fun i _ _ => ⟨fun y => by rw [hv22]; simpa using y, Or.inr (ee _ _ _ (by omega) (by omega))⟩, fun m' hm' => ?_, qui_14 (fun j => by rw [hv22]; simp) (fun j => by rw [hv22]; simp) (by rw [hv22]; simp) (by rw [hv22]; simp) (fun eT s _ => by rw [show hv g22 396 14 = l_or (hv g 396 14) (if x12 = 0 then 0 else l_shl 1 (pMo L k)) by rw [hv22]; simp]; exact bl_or0 (sto eT))⟩, by rw [ET]; exact tiv_esc tvg (by omega) (by omega) g1 (fgd_fk hsu hs8 hpe), by rw [ET]; exact le0.1, by rw [ET]; exact ⟨le0.2, le1.2⟩, fun U _ p q => by rw [ET]; exact tj_le.mpr ⟨tj_le.mpr ⟨p, q.1⟩, q.2⟩, fun j => by rw [hv22]; simp⟩
              · rw [e22, e21, e20, e19]
                exact frA_tr (frA_tr (frA_tr (frA_set (by omega)) (frA_set (by omega))) (frA_set (by omega))) (frA_set (by omega))
              · have e14 : hv g22 396 14 = l_or (hv g 396 14) (if x12 = 0 then 0 else l_shl 1 (pMo L k)) := by rw [hv22]; simp
                rw [e14, bl_or]
                refine ⟨fun y => by rw [y]; rfl, ?_⟩
                by_cases mm : m' = pMo L k
                · by_cases z0 : x12 = 0
                  · right; rw [nog z0]; exact fun _ _ => rfl
                  · left; rw [if_neg z0, bl_shl mk.1 (by omega) hm'.1, mm]; simp
                · right; exact fun a _ => em a m' 0 mm
            have a14 := Adv0_tr a ag (fun U V p q => ⟨fun s s0 y => fle_trans (q.1 s s0 y) (p _ _ _), fun s s0 s1 y => TS_le (fun _ => fle_rfl _) (fle_rfl _) p (q.2 s s0 s1 y)⟩)
            intro n' en'
            rw [w32_i (by omega) (by omega)] at en'
            subst en'
            refine ih _ _ (by omega) (by omega) (by omega) (Adv0_w a14 (fun le p => ⟨p.1.1, fun s s0 s1 y => ?_⟩) (fun U oU pU q => ⟨q, ((q n (by omega) xb).2.1 hneg)⟩)) ⟨fun j => ?_, fun a' j ha => ?_⟩ (fun k' i' hk' i0' i1' => ?_)
            · by_cases sn : s = n
              · subst sn
                exact ⟨p.1.1 s s0 y, fun _ => p.2, fun z => by omega⟩
              · exact p.1.2 s s0 (by omega) y
            · rw [hv22]; simp; exact e67.1 j
            · rw [hv22, if_neg (by unfold za at ha; omega), if_neg (by unfold za at ha; omega), if_neg (by unfold za at ha; omega), if_neg (by unfold za at ha; omega)]; exact e67.2 a' j ha
            · rw [show hv g22 470 (2 * k' + i' / 64) = hv g 470 (2 * k' + i' / 64) by rw [hv22]; simp, cg k' i' hk' i0' i1']
              constructor
              · rintro (z2 | ⟨z3, s, b1', b2', b3', b4', b5'⟩)
                · exact Or.inl z2
                · exact Or.inr ⟨z3, s, b1', by omega, b3', b4', b5'⟩
              · rintro (z2 | ⟨z3, s, b1', b2', b3', b4', b5'⟩)
                · exact Or.inl z2
                · refine Or.inr ⟨z3, s, b1', ?_, b3', b4', b5'⟩
                  by_cases sn : s = n
                  · rw [sn] at b4'; omega
                  · omega
        · rw [lc_eq, l_bit (by omega) (by omega)] at z
          have xb : bl x n = false := by cases r : bl x n <;> simp_all
          intro n' en'
          rw [w32_i (by omega) (by omega)] at en'
          subst en'
          refine ih _ _ (by omega) (by omega) (by omega) (Adv0_w a (fun _ p => ⟨p.1, fun s s0 s1 y => ?_⟩) (fun U _ _ q => q)) e67 (fun k' i' hk' i0' i1' => ?_)
          · by_cases sn : s = n
            · rw [sn, xb] at y; cases y
            · exact p.2 s s0 (by omega) y
          · rw [cg k' i' hk' i0' i1']
            constructor
            · rintro (z2 | ⟨z3, s, b1', b2', b3', b4', b5'⟩)
              · exact Or.inl z2
              · exact Or.inr ⟨z3, s, b1', by omega, b3', b4', b5'⟩
            · rintro (z2 | ⟨z3, s, b1', b2', b3', b4', b5'⟩)
              · exact Or.inl z2
              · refine Or.inr ⟨z3, s, b1', ?_, b3', b4', b5'⟩
                by_cases sn : s = n
                · rw [sn, xb] at b3'; cases b3'
                · omega
  refine key _ 1 h2 (Nat.le_refl _) (by omega) (by omega) (Adv0_w a2 (fun _ p => ⟨p, fun s s0 s1 y => by have := xs s s0 y; omega⟩) (fun U _ _ q => q)) ⟨fun _ => rfl, fun a' j ha => by rw [e2, ne_a (by unfold za at ha; omega)]⟩ (fun k' i' hk' i0' i1' => ?_)
  rw [e2, ne_a (by omega)]
  constructor
  · intro z; exact Or.inl z
  · rintro (z | ⟨-, s, b1', b2', -⟩)
    · exact z
    · omega
