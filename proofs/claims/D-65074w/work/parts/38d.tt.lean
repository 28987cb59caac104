/-! Part 38d: the twin's tables as a table; joinTo -/
/-- a value of one of the twin's arrays that are laid for good -/
theorem tw_ok {G : JG} {h : MH} (H : HOK G h) (hG : gO G = true) (o : okv h (2009, 396)) (k : Nat) {off : Int} {n t e : Nat} (e1 : kof 9 k = (off, n)) (h0 : 0 ≤ off) (e2 : fty 9 k = t + 4) (h100 : 100 ≤ t) (e3 : ety t = e) {j : Int} (j0 : 0 ≤ j) (j1 : j < n) : okf h e (hv h (396 + off) j) := by
  have o' : 1 ≤ (396 : Int) ∧ (396 : Int) ≤ hz h ∧ ht h 396 = 9 := by
    unfold okv at o
    simp at o
    exact ⟨by omega, o.1, o.2⟩
  have kf := H.2.2.2.2 hG 396 (by omega) o'.2.1 k
  rw [o'.2.2, e1] at kf
  have kf' := kf h0
  simp only at kf'
  obtain ⟨k1, k2, k3, k4, k5⟩ := kf'
  rw [k1] at k2 k3 k4 k5
  rw [e2] at k4 k5
  have k6 := k5 (by omega)
  rw [← e3]
  exact hok_arr H k2 k3 (by rw [k4]; omega) h100 j0 (by rw [k6]; exact j1)
theorem tw_fl {G : JG} {h : MH} (H : HOK G h) (o : okv h (2009, 396)) (k : Nat) {e : Nat} (e1 : fty 9 k = e) (hk : k < (nft 9).length) : okf h e (hv h 396 k) := by
  have o' : 1 ≤ (396 : Int) ∧ (396 : Int) ≤ hz h ∧ ht h 396 = 9 := by
    unfold okv at o
    simp at o
    exact ⟨by omega, o.1, o.2⟩
  rw [← e1]
  exact hok_fld H o'.1 o'.2.1 o'.2.2 (by decide) k hk
theorem fjoin_fv (l h b s l' h' b' s' : Int) : fjoin (fv l h b s) (fv l' h' b' s') = fv (min l l') (max h h') (i_or b b') (l_or s s') := by
  unfold fjoin
  rw [if_neg (show ¬ ath (fv l' h' b' s') = 0 from (by decide : ¬ (1 : Int) = 0)), if_neg (show ¬ ath (fv l h b s) = 0 from (by decide : ¬ (1 : Int) = 0))]
  show (1, min l l', max h h', i_or b b', l_or s s', i_and 0 0) = fv _ _ _ _
  rw [show i_and 0 0 = 0 by decide]; rfl
theorem fjoin_fk (a b a' b' : Int) : fjoin (fk a b) (fk a' b') = fk (i_and a a') (i_or b b') := by
  unfold fjoin
  rw [if_neg (show ¬ ath (fk a' b') = 0 from (by decide : ¬ (1 : Int) = 0)), if_neg (show ¬ ath (fk a b) = 0 from (by decide : ¬ (1 : Int) = 0))]
  show (1, min 0 0, max 0 0, i_or b b', l_or 0 0, i_and a a') = fk _ _
  rw [show l_or 0 0 = 0 by decide]; rfl
theorem fjoin_zv {v : FA} (h : ath v = 1) : fjoin fz v = v := by
  unfold fjoin
  rw [if_neg (by omega), if_pos (show ath fz = 0 from rfl)]
def fb (x : Int) : FA := if x = 0 then fz else fs x
def fbi (x : Int) : FA := if x = 0 then fz else fv 0 0 x 0
def row (h : MH) (i : Int) : FA := fv (hv h 461 i) (hv h 462 i) (hv h 463 i) (hv h 464 i)
def cX (h : MH) (s : Int) : FA := fv (hv h 499 s) (hv h 500 s) (hv h 501 s) (hv h 502 s)
def lkc_ (h : MH) : FA := fk (hv h 396 62) (hv h 396 63)
def nfs (L : PG) (s : Int) : Int := if pSc L s < 0 then 1 else pFc L (pSc L s)
def inP (L : PG) (q : Int) : Prop := 0 ≤ q ∧ q < pNp L
def inM (L : PG) (m : Int) : Prop := 0 ≤ m ∧ m < pNm L
def inS (L : PG) (s : Int) : Prop := 7 ≤ s ∧ s < pNt L
noncomputable def iff_ (P : Prop) (v : FA) : FA := @ite FA P (Classical.propDecidable P) v fz
theorem iff_p {P : Prop} {v : FA} (h : P) : iff_ P v = v := if_pos h
theorem iff_n {P : Prop} {v : FA} (h : ¬ P) : iff_ P v = fz := if_neg h
theorem iff_c {P P' : Prop} {v v' : FA} (h : P ↔ P') (e : P → v = v') : iff_ P v = iff_ P' v' := by
  by_cases c : P
  · rw [iff_p c, iff_p (h.mp c), e c]
  · rw [iff_n c, iff_n (fun q => c (h.mpr q))]
noncomputable def t0 (h : MH) (L : PG) (q s : Int) : FA := iff_ (inP L q ∧ hv h 460 q = 1 ∧ rel L q s) (row h (16 * q + s))
noncomputable def t1 (h : MH) (L : PG) (s f : Int) : FA := iff_ (inS L s ∧ hv h 472 s = 1 ∧ 0 ≤ f ∧ f < nfs L s) (fv (hv h 473 (8 * s + f)) (hv h 474 (8 * s + f)) (hv h 475 (8 * s + f)) (hv h 476 (8 * s + f)))
noncomputable def t2 (h : MH) (L : PG) (s j : Int) : FA := iff_ (inS L s ∧ j = 0 ∧ hv h 479 s = 1) (fv (hv h 477 s) (hv h 478 s) 0 0)
noncomputable def t3 (h : MH) (L : PG) (i j : Int) : FA := iff_ (0 ≤ i ∧ i < pNs L ∧ j = 0) (fv (hv h 480 i) (hv h 481 i) (hv h 482 i) (hv h 483 i))
noncomputable def t4 (h : MH) (i j : Int) : FA := iff_ (0 ≤ i ∧ i < 8 ∧ j = 0 ∧ hv h 484 i = 1) (fv (hv h 485 i) (hv h 486 i) (hv h 487 i) 0)
noncomputable def t5 (h : MH) (L : PG) (m j : Int) : FA := iff_ (inM L m ∧ j = 0 ∧ hv h 488 m = 1) (fv (hv h 489 m) (hv h 490 m) (hv h 491 m) (hv h 492 m))
noncomputable def t6 (h : MH) (L : PG) (q j : Int) : FA := iff_ (inP L q ∧ j = 0 ∧ hv h 460 q = 1) (fk (hv h 465 q) (hv h 466 q))
noncomputable def t7 (h : MH) (L : PG) (m j : Int) : FA := iff_ (inM L m ∧ j = 0 ∧ hv h 488 m = 1) (fk (hv h 493 m) (hv h 494 m))
noncomputable def t8 (h : MH) (L : PG) (m j : Int) : FA := iff_ (inM L m ∧ j = 0 ∧ hv h 495 m ≠ 0) (fk (hv h 496 m) (hv h 497 m))
noncomputable def t9 (h : MH) (L : PG) (q j : Int) : FA := iff_ (inP L q ∧ j = 0) (fb (hv h 467 q))
noncomputable def t10 (h : MH) (L : PG) (q j : Int) : FA := iff_ (inP L q ∧ 0 ≤ j ∧ j < 64 ∧ bl (hv h 468 q) j = true) (fs 0)
noncomputable def t11 (h : MH) (L : PG) (q i : Int) : FA := iff_ (inP L q ∧ 0 ≤ i ∧ i < 128 ∧ bl (hv h 469 (2 * q + i / 64)) (i % 64) = true) (fs 0)
noncomputable def t14 (h : MH) (L : PG) (m j : Int) : FA := iff_ (inM L m ∧ j = 0) (fb (hv h 495 m))
noncomputable def t15 (h : MH) (L : PG) (m j : Int) : FA := iff_ (inM L m ∧ j = 0) (fbi (hv h 498 m))
/-- THE TWIN's TABLE -/
noncomputable def tT (h : MH) (L : PG) : TB := fun a i j =>
  if a = 0 then t0 h L i j else if a = 1 then t1 h L i j else if a = 2 then t2 h L i j else if a = 3 then t3 h L i j else if a = 4 then t4 h i j else if a = 5 then t5 h L i j
  else if a = 6 then t6 h L i j else if a = 7 then t7 h L i j else if a = 8 then t8 h L i j else if a = 9 then t9 h L i j else if a = 10 then t10 h L i j else if a = 11 then t11 h L i j
  else if a = 14 then t14 h L i j else if a = 15 then t15 h L i j else fz
theorem tT_eq' {h h' : MH} {L : PG} (e : ∀ a j, 460 ≤ a → a ≤ 498 → a ≠ 470 → a ≠ 471 → hv h' a j = hv h a j) : tT h' L = tT h L := by
  have e460 := fun j => e 460 j (by omega) (by omega) (by omega) (by omega)
  have e461 := fun j => e 461 j (by omega) (by omega) (by omega) (by omega)
  have e462 := fun j => e 462 j (by omega) (by omega) (by omega) (by omega)
  have e463 := fun j => e 463 j (by omega) (by omega) (by omega) (by omega)
  have e464 := fun j => e 464 j (by omega) (by omega) (by omega) (by omega)
  have e465 := fun j => e 465 j (by omega) (by omega) (by omega) (by omega)
  have e466 := fun j => e 466 j (by omega) (by omega) (by omega) (by omega)
  have e467 := fun j => e 467 j (by omega) (by omega) (by omega) (by omega)
  have e468 := fun j => e 468 j (by omega) (by omega) (by omega) (by omega)
  have e469 := fun j => e 469 j (by omega) (by omega) (by omega) (by omega)
  have e472 := fun j => e 472 j (by omega) (by omega) (by omega) (by omega)
  have e473 := fun j => e 473 j (by omega) (by omega) (by omega) (by omega)
  have e474 := fun j => e 474 j (by omega) (by omega) (by omega) (by omega)
  have e475 := fun j => e 475 j (by omega) (by omega) (by omega) (by omega)
  have e476 := fun j => e 476 j (by omega) (by omega) (by omega) (by omega)
  have e477 := fun j => e 477 j (by omega) (by omega) (by omega) (by omega)
  have e478 := fun j => e 478 j (by omega) (by omega) (by omega) (by omega)
  have e479 := fun j => e 479 j (by omega) (by omega) (by omega) (by omega)
  have e480 := fun j => e 480 j (by omega) (by omega) (by omega) (by omega)
  have e481 := fun j => e 481 j (by omega) (by omega) (by omega) (by omega)
  have e482 := fun j => e 482 j (by omega) (by omega) (by omega) (by omega)
  have e483 := fun j => e 483 j (by omega) (by omega) (by omega) (by omega)
  have e484 := fun j => e 484 j (by omega) (by omega) (by omega) (by omega)
  have e485 := fun j => e 485 j (by omega) (by omega) (by omega) (by omega)
  have e486 := fun j => e 486 j (by omega) (by omega) (by omega) (by omega)
  have e487 := fun j => e 487 j (by omega) (by omega) (by omega) (by omega)
  have e488 := fun j => e 488 j (by omega) (by omega) (by omega) (by omega)
  have e489 := fun j => e 489 j (by omega) (by omega) (by omega) (by omega)
  have e490 := fun j => e 490 j (by omega) (by omega) (by omega) (by omega)
  have e491 := fun j => e 491 j (by omega) (by omega) (by omega) (by omega)
  have e492 := fun j => e 492 j (by omega) (by omega) (by omega) (by omega)
  have e493 := fun j => e 493 j (by omega) (by omega) (by omega) (by omega)
  have e494 := fun j => e 494 j (by omega) (by omega) (by omega) (by omega)
  have e495 := fun j => e 495 j (by omega) (by omega) (by omega) (by omega)
  have e496 := fun j => e 496 j (by omega) (by omega) (by omega) (by omega)
  have e497 := fun j => e 497 j (by omega) (by omega) (by omega) (by omega)
  have e498 := fun j => e 498 j (by omega) (by omega) (by omega) (by omega)
  funext a i j
  simp only [tT, t0, t1, t2, t3, t4, t5, t6, t7, t8, t9, t10, t11, t14, t15, row, e460, e461, e462, e463, e464, e465, e466, e467, e468, e469, e472, e473, e474, e475, e476, e477, e478, e479, e480, e481, e482, e483, e484, e485, e486, e487, e488, e489, e490, e491, e492, e493, e494, e495, e496, e497, e498]
theorem tT_eq {h h' : MH} {L : PG} (e : ∀ a j, 460 ≤ a → a ≤ 498 → hv h' a j = hv h a j) : tT h' L = tT h L := tT_eq' (fun a j p q _ _ => e a j p q)
/-- facts are joined to a place -/
noncomputable def jnS (L : PG) (T : TB) (q : Int) (X : Int → FA) (lk : FA) : TB := fun a i j =>
  @ite FA (a = 0 ∧ i = q ∧ rel L q j) (Classical.propDecidable _) (fjoin (T a i j) (X j)) (if a = 6 ∧ i = q ∧ j = 0 then fjoin (T a i j) lk else T a i j)
theorem jnS_le {L : PG} {T U : TB} {q : Int} {X : Int → FA} {lk : FA} : tle (jnS L T q X lk) U ↔ tle T U ∧ Flow L U q X lk := by
  constructor
  · intro p
    refine ⟨fun a i j => ?_, fun s hs => ?_, ?_⟩
    · have := p a i j
      unfold jnS at this
      by_cases c : a = 0 ∧ i = q ∧ rel L q j
      · rw [if_pos c] at this; exact (fjoin_le.mp this).1
      · rw [if_neg c] at this
        by_cases d : a = 6 ∧ i = q ∧ j = 0
        · rw [if_pos d] at this; exact (fjoin_le.mp this).1
        · rw [if_neg d] at this; exact this
    · have := p 0 q s
      unfold jnS at this
      rw [if_pos ⟨rfl, rfl, hs⟩] at this
      exact (fjoin_le.mp this).2
    · have := p 6 q 0
      unfold jnS at this
      rw [if_neg (fun z => by have := z.1; omega), if_pos ⟨rfl, rfl, rfl⟩] at this
      exact (fjoin_le.mp this).2
  · rintro ⟨p, r1, r2⟩ a i j
    unfold jnS
    by_cases c : a = 0 ∧ i = q ∧ rel L q j
    · rw [if_pos c]
      obtain ⟨rfl, rfl, c3⟩ := c
      exact fjoin_le.mpr ⟨p _ _ _, r1 j c3⟩
    · rw [if_neg c]
      by_cases d : a = 6 ∧ i = q ∧ j = 0
      · rw [if_pos d]
        obtain ⟨rfl, rfl, rfl⟩ := d
        exact fjoin_le.mpr ⟨p _ _ _, r2⟩
      · rw [if_neg d]; exact p _ _ _
theorem jnS_ok {L : PG} {T : TB} {q : Int} {X : Int → FA} {lk : FA} (oT : tbok T) (oX : ∀ s, rel L q s → fok (X s)) (ok : fok lk) : tbok (jnS L T q X lk) := by
  intro a i j
  unfold jnS
  by_cases c : a = 0 ∧ i = q ∧ rel L q j
  · rw [if_pos c]; exact fjoin_ok (oT _ _ _) (oX j c.2.2)
  · rw [if_neg c]
    split
    · exact fjoin_ok (oT _ _ _) ok
    · exact oT _ _ _
/-- what the twin's analysis may change: all but this is as it was -/
def frA (h h' : MH) : Prop := h'.2 = h.2 ∧ ∀ a j, ¬ (458 ≤ a ∧ a ≤ 502 ∧ a ≠ 459) → ¬ (a = 396 ∧ ((12 ≤ j ∧ j ≤ 14) ∨ (61 ≤ j ∧ j ≤ 67) ∨ j = 72)) → hv h' a j = hv h a j
theorem frA_rfl (h : MH) : frA h h := ⟨rfl, fun _ _ _ _ => rfl⟩
theorem frA_tr {h1 h2 h3 : MH} (a : frA h1 h2) (b : frA h2 h3) : frA h1 h3 := ⟨b.1.trans a.1, fun x j p q => (b.2 x j p q).trans (a.2 x j p q)⟩
theorem frA_set {h : MH} {a k x : Int} (c : (458 ≤ a ∧ a ≤ 502 ∧ a ≠ 459) ∨ (a = 396 ∧ ((12 ≤ k ∧ k ≤ 14) ∨ (61 ≤ k ∧ k ≤ 67) ∨ k = 72))) : frA h (hset h a k x) := by
  refine ⟨rfl, fun b j p q => ?_⟩
  rw [hv_set, if_neg]
  rintro ⟨rfl, rfl⟩
  rcases c with c | c
  · exact p c
  · exact q c
theorem frA_TF {h h' : MH} {L : PG} (f : frA h h') (t : TF h L) : TF h' L := t.of (f.2 _ _ (by omega) (by omega)) (fun a j h1 h2 => f.2 a j (by omega) (by omega))
theorem frA_MK {h h' : MH} {L : PG} (f : frA h h') (t : MK h L) : MK h' L := t.of (f.2 _ _ (by omega) (by omega)) (fun j => f.2 459 j (by omega) (by omega))
theorem iff_b {P : Prop} {v : FA} (h : ath (iff_ P v) ≠ 0) : P := by
  apply Classical.byContradiction
  intro c
  rw [iff_n c] at h
  exact h rfl
