/-! Part 38g: takeFacts, flow, flowOn -/
theorem ast_le {a b : FA} (oa : fok a) (p : fle a b) (x : Int) (q : bl (ast a) x = true) : bl (ast b) x = true := by
  refine (p ?_).2.2.2.2.1 x q
  intro e
  rcases oa with r | r
  · rw [r, show ast fz = 0 from rfl, bl_zero] at q; cases q
  · omega
theorem fmr_fz (L : PG) : fmr L fz := ⟨⟨mk_0 L, su8_0⟩, mk_0 L⟩
theorem fmk_fz (L : PG) (T : TB) : fmk L T fz := fun s _ q => by rw [show ast fz = 0 from rfl, bl_zero] at q; cases q
theorem fgd_le {L : PG} {T U : TB} (p : tle T U) {v : FA} (h : fgd L T v) : fgd L U v := ⟨h.1, fmk_le p h.2.1, h.2.2.1, h.2.2.2⟩
/-- facts that are joined to a place keep what tables have -/
theorem tiv_jnS {L : PG} {T : TB} (t : tiv L T) {q : Int} {X : Int → FA} {lk : FA} (gX : ∀ s, rel L q s → fgd L T (X s)) (gk : fgd L T lk) : tiv L (jnS L T q X lk) := by
  obtain ⟨t1', t2', t3', t4', t5', t6'⟩ := t
  have up : tle T (jnS L T q X lk) := (jnS_le.mp (tle_rfl _)).1
  have e : ∀ a i j, a ≠ 0 → a ≠ 6 → jnS L T q X lk a i j = T a i j := by
    intro a i j h0 h6
    unfold jnS
    rw [if_neg (fun y => h0 y.1), if_neg (fun y => h6 y.1)]
  refine ⟨jnS_ok t1' (fun s hs => (gX s hs).1) gk.1, fun a i j => fmk_le up ?_, fun a i j => ?_, fun c => ?_, fun c => ?_, fun q' s r1 r2 => ?_⟩
  · unfold jnS
    by_cases c : a = 0 ∧ i = q ∧ rel L q j
    · rw [if_pos c]; exact fmk_join (t2' _ _ _) (gX j c.2.2).2.1
    · rw [if_neg c]
      split
      · exact fmk_join (t2' _ _ _) gk.2.1
      · exact t2' _ _ _
  · unfold jnS
    by_cases c : a = 0 ∧ i = q ∧ rel L q j
    · rw [if_pos c]; exact fmr_join (t3' _ _ _) (gX j c.2.2).2.2.1
    · rw [if_neg c]
      split
      · exact fmr_join (t3' _ _ _) gk.2.2.1
      · exact t3' _ _ _
  · rw [e 5 c 0 (by omega) (by omega), e 7 c 0 (by omega) (by omega)]; exact t4' c
  · rw [e 14 c 0 (by omega) (by omega), e 8 c 0 (by omega) (by omega)]; exact t5' c
  · by_cases eq : q' = q
    · subst eq
      have := (jnS_le.mp (tle_rfl (jnS L T q' X lk))).2.1 s r2
      exact ath_le this (by rw [(gX s r2).2.2.2]; decide)
    · have e6 : jnS L T q X lk 6 q' 0 = T 6 q' 0 := by
        unfold jnS
        rw [if_neg (fun y => by have := y.1; omega), if_neg (fun y => eq y.2.1)]
      have e0 : jnS L T q X lk 0 q' s = T 0 q' s := by
        unfold jnS
        rw [if_neg (fun y => eq y.2.1), if_neg (fun y => by have := y.1; omega)]
      rw [e6] at r1
      rw [e0]; exact t6' q' s r1 r2
/-- one entry is joined, of a kind on which no other rests -/
theorem tiv_tj {L : PG} {T : TB} (t : tiv L T) {a i j : Int} {v : FA} (h : a ≠ 0 ∧ a ≠ 5 ∧ a ≠ 6 ∧ a ≠ 7 ∧ a ≠ 8 ∧ a ≠ 14) (g : fgd L T v) : tiv L (tj T a i j v) := by
  obtain ⟨t1', t2', t3', t4', t5', t6'⟩ := t
  have up : tle T (tj T a i j v) := tj_ge T a i j v
  have e : ∀ b k m, b ≠ a → tj T a i j v b k m = T b k m := by
    intro b k m hb
    unfold tj
    rw [if_neg (fun y => hb y.1)]
  refine ⟨tj_ok t1' g.1, fun b k m => fmk_le up ?_, fun b k m => ?_, fun c => ?_, fun c => ?_, fun q' s r1 r2 => ?_⟩
  · unfold tj; split
    · exact fmk_join (t2' _ _ _) g.2.1
    · exact t2' _ _ _
  · unfold tj; split
    · exact fmr_join (t3' _ _ _) g.2.2.1
    · exact t3' _ _ _
  · rw [e 5 c 0 (by omega), e 7 c 0 (by omega)]; exact t4' c
  · rw [e 14 c 0 (by omega), e 8 c 0 (by omega)]; exact t5' c
  · rw [e 6 _ _ (by omega)] at r1
    rw [e 0 _ _ (by omega)]; exact t6' q' s r1 r2
theorem Adv_join {L : PG} {h h' : MH} {q : Int} (hq : inP L q) (t : tiv L (tT h L)) (j : jpost h L q h') (gX : ∀ s, rel L q s → fgd L (tT h L) (cX h s)) (gk : fgd L (tT h L) (lkc_ h)) : Adv L h h' (fun U => Flow L U q (cX h) (lkc_ h)) (fun U => Flow L U q (cX h) (lkc_ h)) := by
  obtain ⟨j1, j2, j3, j4, j5, j6, j7⟩ := j
  have up := jnS_le.mp (tle_rfl (jnS L (tT h L) q (cX h) (lkc_ h)))
  have e : ∀ a i j, a ≠ 0 → a ≠ 6 → tT h' L a i j = tT h L a i j := by
    intro a i j h0 h6
    rw [j2]
    unfold jnS
    rw [if_neg (fun y => h0 y.1), if_neg (fun y => h6 y.1)]
  have e2 : ∀ i j, i ≠ q → tT h' L 0 i j = tT h L 0 i j ∧ tT h' L 6 i j = tT h L 6 i j := by
    intro i j hi
    rw [j2]
    unfold jnS
    exact ⟨by rw [if_neg (fun y => hi y.2.1), if_neg (fun y => by have := y.1; omega)], by rw [if_neg (fun y => by have := y.1; omega), if_neg (fun y => hi y.2.1)]⟩
  refine ⟨j1, ⟨fun p hp => ?_, fun s hs => ⟨fun x => by rw [j3 396 12 (by omega) (by omega)]; exact x, Or.inr ⟨fun f => e _ _ _ (by omega) (by omega), e _ _ _ (by omega) (by omega)⟩⟩, fun i i0 i1 => ⟨fun x => by rw [j3 396 13 (by omega) (by omega)]; exact x, Or.inr (e _ _ _ (by omega) (by omega))⟩, fun m hm => ⟨fun x => by rw [j3 396 14 (by omega) (by omega)]; exact x, Or.inr fun a ha => e _ _ _ (by omega) (by omega)⟩, ⟨fun s z => by rw [j3 472 s (by omega) (by omega)]; exact z, fun eT _ => ⟨fun i => if z : i = q then by rw [z]; exact j5.2 eT else j4 i z, fun s _ => by rw [j3 396 12 (by omega) (by omega), j3 396 13 (by omega) (by omega), j3 396 14 (by omega) (by omega)]; exact ⟨rfl, rfl, rfl⟩⟩⟩⟩, by rw [j2]; exact tiv_jnS t gX gk, by rw [j2]; exact up.1, by rw [j2]; exact up.2, fun U _ p r => by rw [j2]; exact jnS_le.mpr ⟨p, r⟩, cgt_of (fun j => j3 470 j (by omega) (by omega)) (fun j => j3 467 j (by omega) (by omega)) (fun a j ha => j3 a j (by unfold za at ha; omega) (by unfold za at ha; omega)), fun j => j3 471 j (by omega) (by omega)⟩
  by_cases pq : p = q
  · subst pq
    refine ⟨j5.1, ?_⟩
    by_cases z : hv h' 458 p = 1
    · exact Or.inl z
    · right; rw [j6 (by omega)]; exact ⟨fun _ => rfl, rfl⟩
  · rw [j4 p pq]
    exact ⟨fun x => x, Or.inr ⟨fun s => (e2 p s pq).1, (e2 p 0 pq).2⟩⟩
/-- the work's own slots are as they were -/
def wsm (h h' : MH) : Prop := ∀ a j, ((499 ≤ a ∧ a ≤ 502) ∨ a = 396) → hv h' a j = hv h a j
theorem wsm_cur {L : PG} {m : Int} {h h' : MH} (w : wsm h h') {X : Int → FA} {lk : FA} {d : Int} (c : cur L m h X lk d) : cur L m h' X lk d := by
  refine ⟨fun j hj => ?_, ?_, ?_⟩
  · rw [← c.1 j hj]; unfold cX
    rw [w 499 _ (by omega), w 500 _ (by omega), w 501 _ (by omega), w 502 _ (by omega)]
  · rw [← c.2.1]; unfold lkc_; rw [w 396 _ (by omega), w 396 _ (by omega)]
  · rw [w 396 _ (by omega)]; exact c.2.2
theorem Flow_eq {L : PG} {U : TB} {q : Int} {X Y : Int → FA} {lk : FA} (e : ∀ s, rel L q s → X s = Y s) (h : Flow L U q X lk) : Flow L U q Y lk :=
  ⟨fun s hs => by rw [← e s hs]; exact h.1 s hs, h.2⟩
theorem t_takeFacts {l : Launch} {G : JG} (hG : gO G = true) {h : MH} {L : PG} (tf : TF h L) (w : WF L) {k : Int} (k0 : 0 ≤ k) (k1 : k < pNp L) (hr : hv h 460 k = 1) {Q : Int → MH → Prop} {E : Nat → Int → MH → Prop}
    (hQ : ∀ h', same h h' → cur L (pMo L k) h' (tT h L 0 k) (tT h L 6 k 0) (pDp L k) → (∀ j, (j < 61 ∨ 63 < j) → hv h' 396 j = hv h 396 j) → Q 0 h') : S_X9_takeFacts l G [(2009, 396), (0, k)] h Q E := by
  have nn := w.n
  unfold WFn at nn
  obtain ⟨mk, -⟩ := w.k k0 k1
  obtain ⟨-, -, -, -, -, -, -, -, lc0, lc1, -⟩ := w.m mk.1 mk.2.1
  obtain ⟨-, -, -, -, -, -, -, -, -, -, -, -, -, -, -, -, -, -, -, dp, -⟩ := w.k k0 k1
  refine s_X9_takeFacts rfl fun K ki => r_X9_takeFacts_0 ki hG ?_
  intro i0 ei0
  have key : ∀ n : Nat, ∀ i : Int, ∀ g : MH, (16 - i).toNat ≤ n → 0 ≤ i → i ≤ 16 → same h g → (∀ j, 0 ≤ j → j < i → cX g j = row h (16 * k + j)) → (∀ j, hv g 396 j = hv h 396 j) → JW K 2 [(2009, 396), (0, k), (0, i), (5000, 0)] [] g := by
    have fin : ∀ g : MH, same h g → (∀ j, 0 ≤ j → j < 16 → cX g j = row h (16 * k + j)) → (∀ j, hv g 396 j = hv h 396 j) → ∀ i : Int, i = 16 → JW K 2 [(2009, 396), (0, k), (0, i), (5000, 0)] [] g := by
      intro g s1 s2 s3 i ei
      have tg : TF g L := frA_TF s1.1 tf
      refine r_X9_takeFacts_2 ki hG ⟨fun _ => ⟨tg.ne, k0, by omega, ?_⟩, fun q => by omega⟩
      intro h1 e1
      rw [tg.dp] at e1
      refine ⟨k0, by omega, ?_⟩
      intro h2 e2
      refine ⟨k0, by omega, ?_⟩
      intro h3 e3
      have sg : same g h3 := by rw [e3, e2, e1]; exact same_tr (same_tr (same_set (by omega)) (same_set (by omega))) (same_set (by omega))
      refine hQ h3 (same_tr s1 sg) ⟨fun j hj => ?_, ?_, ?_⟩ (fun j hj => ?_)
      · have r : rel L k j := hj
        have rg := rel_rng w k0 k1 r
        show _ = t0 h L k j
        unfold t0
        rw [iff_p ⟨⟨k0, k1⟩, hr, r⟩, ← s2 j rg.1 rg.2, e3, e2, e1]; unfold cX; simp [hv_set]
      · show _ = t6 h L k 0
        unfold t6 lkc_
        rw [iff_p ⟨⟨k0, k1⟩, rfl, hr⟩]
        rw [e3, eq_a, ne_k (by omega), e2, eq_a, e1, ne_a (by omega), ne_a (by omega), ne_a (by omega), s1.2.1 465 k (by omega) (by omega), s1.2.1 466 k (by omega) (by omega)]
      · rw [e3, ne_k (by omega), e2, ne_k (by omega), e1, eq_a]
      · rw [e3, ne_k (by omega), e2, ne_k (by omega), e1, ne_k (by omega), s3]
    intro n
    induction n with
    | zero => intro i g b0 b1 b2 s1 s2 s3; exact fin g s1 (fun j j0 j1 => s2 j j0 (by omega)) s3 i (by omega)
    | succ n ih =>
      intro i g b0 b1 b2 s1 s2 s3
      by_cases e : i = 16
      · exact fin g s1 (fun j j0 j1 => s2 j j0 (by omega)) s3 i e
      · refine r_X9_takeFacts_2 ki hG ⟨fun q => by omega, fun _ => ?_⟩
        intro x ex
        rw [w32_i (z := 16 * k) (by omega) (by omega), w32_i (by omega) (by omega)] at ex
        refine ⟨by omega, by omega, by omega, by omega, by omega, by omega, by omega, by omega, ?_⟩
        refine t_setSlot hG (by omega) (by omega) ?_
        intro i' ei
        rw [w32_i (by omega) (by omega)] at ei
        subst ei
        refine ih _ _ (by omega) (by omega) (by omega) (same_tr s1 (slt_same _ _ _ _ _ _)) (fun j j0 j1 => ?_) (fun j => by rw [slt_396]; exact s3 j)
        rw [slt_cX]
        unfold ux
        by_cases ej : j = i
        · rw [if_pos ej, ej, ← ex, s1.2.1 461 x (by omega) (by omega), s1.2.1 462 x (by omega) (by omega), s1.2.1 463 x (by omega) (by omega), s1.2.1 464 x (by omega) (by omega)]; rfl
        · rw [if_neg ej]; exact s2 j j0 (by omega)
  subst ei0
  exact key _ 0 h (Nat.le_refl _) (by omega) (by omega) (same_rfl h) (fun j j0 j1 => by omega) (fun _ => rfl)
theorem and63 : ∀ i : Fin 128, i_and (i.val : Int) 63 = (i.val : Int) % 64 := by decide +kernel
theorem and_63 {i : Int} (h0 : 0 ≤ i) (h1 : i < 128) : i_and i 63 = i % 64 := by
  have := and63 ⟨i.toNat, by omega⟩
  simp only [show ((i.toNat : Nat) : Int) = i by omega] at this
  exact this
theorem shr_6 {i : Int} (h0 : 0 ≤ i) (h1 : i < 128) : i_shr i 6 = i / 64 := by
  rw [i_shr_d (by unfold c32; omega) (by omega) (by omega), show (2 : Int) ^ (6 : Int).toNat = 64 by decide]
theorem fj_00 : fjoin (fs 0) (fs 0) = fs 0 := by
  have := fjoin_fv 0 0 0 0 0 0 0 0
  rw [show i_or 0 0 = 0 by decide, show l_or 0 0 = 0 by decide] at this
  exact this
/-- a place is noted that facts go on to -/
theorem go_T {h : MH} {L : PG} {k i : Int} (hk : inP L k) (i0 : 0 ≤ i) (i1 : i < 128) : tT (hset h 469 (2 * k + i / 64) (l_or (hv h 469 (2 * k + i / 64)) (l_shl 1 (i % 64)))) L = tj (tT h L) 11 k i (fs 0) := by
  funext a b c
  unfold tj
  by_cases a11 : a = 11
  · subst a11
    have eT : ∀ g, tT g L 11 b c = t11 g L b c := fun g => rfl
    rw [eT, eT]
    by_cases e : b = k ∧ c = i
    · obtain ⟨rfl, rfl⟩ := e
      rw [if_pos ⟨rfl, rfl, rfl⟩]
      unfold t11
      rw [iff_p ⟨hk, i0, i1, by rw [eq_a, bl_or, bl_shl (by omega) (by omega) (by omega)]; simp⟩]
      by_cases z : inP L b ∧ 0 ≤ c ∧ c < 128 ∧ bl (hv h 469 (2 * b + c / 64)) (c % 64) = true
      · rw [iff_p z, fj_00]
      · rw [iff_n z, fjoin_zv rfl]
    · rw [if_neg (fun y => e y.2)]
      unfold t11
      refine iff_c ?_ (fun _ => rfl)
      by_cases z : inP L b ∧ 0 ≤ c ∧ c < 128
      · have key : bl (hv (hset h 469 (2 * k + i / 64) (l_or (hv h 469 (2 * k + i / 64)) (l_shl 1 (i % 64)))) 469 (2 * b + c / 64)) (c % 64) = bl (hv h 469 (2 * b + c / 64)) (c % 64) := by
          rw [hv_set]
          by_cases y : 2 * b + c / 64 = 2 * k + i / 64
          · rw [if_pos ⟨rfl, y⟩, bl_or, bl_shl (by omega) (by omega) (by omega), y]
            have : ¬ (c % 64 = i % 64) := fun x => e ⟨by omega, by omega⟩
            simp [this]
          · rw [if_neg (fun x => y x.2)]
        rw [key]
      · constructor
        · intro x; exact absurd ⟨x.1, x.2.1, x.2.2.1⟩ z
        · intro x; exact absurd ⟨x.1, x.2.1, x.2.2.1⟩ z
  · rw [if_neg (fun y => a11 y.1)]
    have hh : ∀ a' j, a' ≠ 469 → hv (hset h 469 (2 * k + i / 64) (l_or (hv h 469 (2 * k + i / 64)) (l_shl 1 (i % 64)))) a' j = hv h a' j := fun a' j q => ne_a q
    simp only [tT, if_neg a11, t0, t1, t2, t3, t4, t5, t6, t7, t8, t9, t10, t14, t15, row]
    simp only [hh 460 _ (by decide), hh 461 _ (by decide), hh 462 _ (by decide), hh 463 _ (by decide), hh 464 _ (by decide), hh 465 _ (by decide), hh 466 _ (by decide), hh 467 _ (by decide), hh 468 _ (by decide), hh 472 _ (by decide), hh 473 _ (by decide), hh 474 _ (by decide), hh 475 _ (by decide), hh 476 _ (by decide), hh 477 _ (by decide), hh 478 _ (by decide), hh 479 _ (by decide), hh 480 _ (by decide), hh 481 _ (by decide), hh 482 _ (by decide), hh 483 _ (by decide), hh 484 _ (by decide), hh 485 _ (by decide), hh 486 _ (by decide), hh 487 _ (by decide), hh 488 _ (by decide), hh 489 _ (by decide), hh 490 _ (by decide), hh 491 _ (by decide), hh 492 _ (by decide), hh 493 _ (by decide), hh 494 _ (by decide), hh 495 _ (by decide), hh 496 _ (by decide), hh 497 _ (by decide), hh 498 _ (by decide)]
theorem fgd_s0 (L : PG) (T : TB) : fgd L T (fs 0) := ⟨fok_fs (by unfold c64; omega), (fun s _ q => by rw [show ast (fs 0) = 0 from rfl, bl_zero] at q; cases q), ⟨⟨mk_0 L, su8_0⟩, mk_0 L⟩, rfl⟩
theorem Adv_go {h : MH} {L : PG} (t : tiv L (tT h L)) {k i : Int} (hk : inP L k) (i0 : 0 ≤ i) (i1 : i < 128) : Adv L h (hset h 469 (2 * k + i / 64) (l_or (hv h 469 (2 * k + i / 64)) (l_shl 1 (i % 64)))) (fun U => fle (fs 0) (U 11 k i)) (fun U => fle (fs 0) (U 11 k i)) := by
  have e := go_T (h := h) hk i0 i1
  have le := tj_le.mp (tle_rfl (tj (tT h L) 11 k i (fs 0)))
  have ee : ∀ a b c, a ≠ 11 → tj (tT h L) 11 k i (fs 0) a b c = tT h L a b c := fun a b c ha => by unfold tj; rw [if_neg (fun y => ha y.1)]
  refine ⟨frA_set (by omega), ?_, by rw [e]; exact tiv_tj t (by omega) (fgd_s0 _ _), by rw [e]; exact le.1, by rw [e]; exact le.2, fun U _ p q => by rw [e]; exact tj_le.mpr ⟨p, q⟩, cgt_of (fun j => ne_a (by omega)) (fun j => ne_a (by omega)) (fun a j ha => ne_a (by unfold za at ha; omega)), fun j => ne_a (by omega)⟩
  unfold flg
  rw [e]
  refine ⟨fun q _ => ⟨fun x => by rw [ne_a (by omega)]; exact x, Or.inr ⟨fun s => ee _ _ _ (by omega), ee _ _ _ (by omega)⟩⟩, fun s _ => ⟨fun x => by rw [ne_a (by omega)]; exact x, Or.inr ⟨fun f => ee _ _ _ (by omega), ee _ _ _ (by omega)⟩⟩, fun j _ _ => ⟨fun x => by rw [ne_a (by omega)]; exact x, Or.inr (ee _ _ _ (by omega))⟩, fun m _ => ⟨fun x => by rw [ne_a (by omega)]; exact x, Or.inr fun a ha => ee _ _ _ (by omega)⟩, qui_of (fun j => ne_a (by omega)) (fun j => ne_a (by omega)) (fun j _ _ => ne_a (by omega))⟩
theorem t_flow {l : Launch} {G : JG} (hG : gO G = true) {h : MH} {L : PG} (tf : TF h L) (w : WF L) (t : tiv L (tT h L)) {k i : Int} (k0 : 0 ≤ k) (k1 : k < pNp L) (i0 : 0 ≤ i) (i1 : i < pCo L (pMo L k)) {X : Int → FA} {lk : FA} {d : Int}
    (cu : cur L (pMo L k) h X lk d) (hd : pDp L (pFi L (pMo L k) + i) = d) (gX : ∀ s, vld L (pMo L k) d s → fgd L (tT h L) (X s)) (gk : fgd L (tT h L) lk) {Q : Int → MH → Prop} {E : Nat → Int → MH → Prop}
    (hQ : ∀ h', Adv L h h' (fun U => GT L U k i X lk) (fun U => GT L U k i X lk) → wsm h h' → Q 0 h') : S_X9_flow l G [(2009, 396), (0, k), (0, i)] h Q E := by
  have nn := w.n
  unfold WFn at nn
  obtain ⟨mk, -⟩ := w.k k0 k1
  obtain ⟨-, -, -, -, -, -, -, -, -, -, -, -, -, -, -, co0, co1, fi0, fi1, pm, -⟩ := w.m mk.1 mk.2.1
  refine s_X9_flow rfl fun K ki => r_X9_flow_0 ki hG ?_
  rw [shr_6 i0 (by omega), and_63 i0 (by omega), w32_i (z := 2 * k) (by omega) (by omega), w32_i (z := 2 * k + i / 64) (by omega) (by omega)]
  refine ⟨by omega, by omega, by omega, by omega, ?_⟩
  intro h1 e1
  have a1 := Adv_go t (k := k) (i := i) ⟨k0, k1⟩ i0 (by omega)
  rw [← e1] at a1
  have tf1 := frA_TF a1.1 tf
  have mo : pMo L (pFi L (pMo L k) + i) = pMo L k := pm i i0 i1
  refine ⟨tf1.ne, tf1.ne, k0, by omega, ?_⟩
  rw [tf1.mo, tf1.fi]
  refine ⟨mk.1, by omega, ?_⟩
  rw [w32_i (by omega) (by omega)]
  have ws1 : wsm h h1 := fun a j ha => by rw [e1, ne_a (by omega)]
  have cu1 := wsm_cur ws1 cu
  have relv : ∀ s, rel L (pFi L (pMo L k) + i) s ↔ vld L (pMo L k) d s := by
    intro s; unfold rel vld; rw [mo, hd]
  refine t_joinTo hG tf1 w (by omega) (by omega) fun h2 j2 => ?_
  have gX1 : ∀ s, rel L (pFi L (pMo L k) + i) s → fgd L (tT h1 L) (cX h1 s) := fun s hs => by
    rw [cu1.1 s ((relv s).mp hs)]; exact fgd_le a1.2.2.2.1 (gX s ((relv s).mp hs))
  have gk1 : fgd L (tT h1 L) (lkc_ h1) := by rw [cu1.2.1]; exact fgd_le a1.2.2.2.1 gk
  have a2 := Adv_join (q := pFi L (pMo L k) + i) ⟨by omega, by omega⟩ a1.2.2.1 j2 gX1 gk1
  have a12 := Adv_tr a1 a2 (fun U V p q => fle_trans q (p _ _ _))
  refine hQ h2 (Adv_w a12 (fun _ p => ⟨p.1, Flow_eq (fun s hs => cu1.1 s ((relv s).mp hs)) (by have := p.2; rw [cu1.2.1] at this; exact this)⟩) (fun U _ _ p => ⟨p.1, Flow_eq (fun s hs => (cu1.1 s ((relv s).mp hs)).symm) (by rw [cu1.2.1]; exact p.2)⟩)) (fun a j ha => ?_)
  rw [j2.2.2.1 a j (by omega) (by omega)]; exact ws1 a j ha
theorem t_flowOn {l : Launch} {G : JG} (hG : gO G = true) {h : MH} {L : PG} (tf : TF h L) (w : WF L) (t : tiv L (tT h L)) {k : Int} (k0 : 0 ≤ k) (k1 : k < pNp L) (o1 : pOp L k ≠ 15) (o2 : pOp L k ≠ 31) (o3 : pOp L k ≠ 32) {X : Int → FA} {lk : FA} {d : Int}
    (cu : cur L (pMo L k) h X lk d) (hd : pDp L k - ppo L k + ppu L k = d) (gX : ∀ s, vld L (pMo L k) d s → fgd L (tT h L) (X s)) (gk : fgd L (tT h L) lk) {Q : Int → MH → Prop} {E : Nat → Int → MH → Prop}
    (hQ : ∀ h', Adv L h h' (fun U => GT L U k (nx L k) X lk) (fun U => GT L U k (nx L k) X lk) → wsm h h' → Q 0 h') : S_X9_flowOn l G [(2009, 396), (0, k)] h Q E := by
  have nn := w.n
  unfold WFn at nn
  obtain ⟨mk, -⟩ := w.k k0 k1
  obtain ⟨-, -, -, -, -, -, -, -, -, -, -, -, -, -, -, co0, co1, fi0, fi1, pm, -⟩ := w.m mk.1 mk.2.1
  obtain ⟨-, -, -, -, -, -, -, -, -, -, -, -, -, -, -, -, -, -, -, dp, fall⟩ := w.k k0 k1
  have fl := fall o1 o2 o3
  refine s_X9_flowOn rfl fun K ki => r_X9_flowOn_0 ki hG ⟨tf.ne, tf.ne, k0, by omega, ?_⟩
  rw [tf.mo, tf.fi]
  refine ⟨mk.1, by omega, ?_⟩
  rw [w32_i (z := k - pFi L (pMo L k)) (by omega) (by omega), w32_i (by omega) (by omega)]
  refine t_flow hG tf w t k0 k1 (by omega) (by omega) cu ?_ gX gk hQ
  rw [show pFi L (pMo L k) + (k - pFi L (pMo L k) + 1) = k + 1 by omega, fl.2, hd]
