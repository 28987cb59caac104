/-! Part 38f: how the twin's analysis goes forward; small steps of its work -/
/-! rows of methods -/
theorem rw_5 {g : MH} {L : PG} {c : Int} (hc : inM L c) : ath (tT g L 5 c 0) ≠ 0 ↔ hv g 488 c = 1 := by
  show ath (t5 g L c 0) ≠ 0 ↔ _
  unfold t5
  by_cases z : hv g 488 c = 1
  · rw [iff_p ⟨hc, rfl, z⟩]; exact ⟨fun _ => z, fun _ => (by decide : (1 : Int) ≠ 0)⟩
  · rw [iff_n (fun y => z y.2.2)]; exact ⟨fun y => absurd rfl y, fun y => absurd y z⟩
theorem rw_5v {g : MH} {L : PG} {c : Int} (hc : inM L c) (z : hv g 488 c = 1) : tT g L 5 c 0 = fv (hv g 489 c) (hv g 490 c) (hv g 491 c) (hv g 492 c) := by
  show t5 g L c 0 = _
  unfold t5
  rw [iff_p ⟨hc, rfl, z⟩]
theorem rw_7 {g : MH} {L : PG} {c : Int} (hc : inM L c) (z : hv g 488 c = 1) : tT g L 7 c 0 = fk (hv g 493 c) (hv g 494 c) := by
  show t7 g L c 0 = _
  unfold t7
  rw [iff_p ⟨hc, rfl, z⟩]
theorem rw_14 {g : MH} {L : PG} {c : Int} (hc : inM L c) : tT g L 14 c 0 = fb (hv g 495 c) := by
  show t14 g L c 0 = _
  unfold t14
  rw [iff_p ⟨hc, rfl⟩]
theorem rw_8 {g : MH} {L : PG} {c : Int} (hc : inM L c) (z : hv g 495 c ≠ 0) : tT g L 8 c 0 = fk (hv g 496 c) (hv g 497 c) := by
  show t8 g L c 0 = _
  unfold t8
  rw [iff_p ⟨hc, rfl, z⟩]
theorem rw_15 {g : MH} {L : PG} {c : Int} (hc : inM L c) : tT g L 15 c 0 = fbi (hv g 498 c) := by
  show t15 g L c 0 = _
  unfold t15
  rw [iff_p ⟨hc, rfl⟩]
theorem rw_15a {g : MH} {L : PG} {c : Int} (hc : inM L c) : alb (tT g L 15 c 0) = hv g 498 c := by
  rw [rw_15 hc]
  unfold fbi
  by_cases z : hv g 498 c = 0
  · rw [if_pos z, z]; rfl
  · rw [if_neg z]; rfl
theorem rw_6 {g : MH} {L : PG} {k : Int} (hk : inP L k) (z : hv g 460 k = 1) : tT g L 6 k 0 = fk (hv g 465 k) (hv g 466 k) := by
  show t6 g L k 0 = _
  unfold t6
  rw [iff_p ⟨hk, rfl, z⟩]
theorem fb_ast (x : Int) : ast (fb x) = x := by
  unfold fb
  split
  · rename_i z; rw [z]; rfl
  · rfl
theorem c32_alb {a : FA} (h : fok a) : c32 (alb a) := by
  rcases h with h | h
  · rw [h]; exact (by unfold c32; omega : c32 (0 : Int))
  · exact h.2.2.2.1
theorem bi_some {b : Int} (cb : c32 b) (nz : b ≠ 0) : ∃ x : Int, bi b x = true := by
  apply Classical.byContradiction
  intro no
  apply nz
  refine bi_ext cb (by unfold c32; omega) (fun x _ _ => ?_)
  rw [bi_zero]
  cases r : bi b x
  · rfl
  · exact absurd ⟨x, r⟩ no
/-- nothing is flagged when no table grows and nothing is made -/
def qui (h h' : MH) (L : PG) : Prop := (∀ s, hv h 472 s = 1 → hv h' 472 s = 1) ∧ (tT h' L = tT h L → (∀ s, 0 ≤ s → s < 63 → hv h' 472 s = 1 → hv h 472 s = 1) → (∀ j, hv h' 458 j = hv h 458 j) ∧ ∀ s, 0 ≤ s → bl (hv h' 396 12) s = bl (hv h 396 12) s ∧ bi (hv h' 396 13) s = bi (hv h 396 13) s ∧ bl (hv h' 396 14) s = bl (hv h 396 14) s)
theorem qui_of {h h' : MH} {L : PG} (e1 : ∀ j, hv h' 458 j = hv h 458 j) (e2 : ∀ j, hv h' 472 j = hv h 472 j) (e3 : ∀ j, 12 ≤ j → j ≤ 14 → hv h' 396 j = hv h 396 j) : qui h h' L :=
  ⟨fun s q => by rw [e2]; exact q, fun _ _ => ⟨e1, fun s _ => by rw [e3 12 (by omega) (by omega), e3 13 (by omega) (by omega), e3 14 (by omega) (by omega)]; exact ⟨rfl, rfl, rfl⟩⟩⟩
theorem qui_12 {h h' : MH} {L : PG} (e1 : ∀ j, hv h' 458 j = hv h 458 j) (e2 : ∀ j, hv h' 472 j = hv h 472 j) (e13 : hv h' 396 13 = hv h 396 13) (e14 : hv h' 396 14 = hv h 396 14) (f : tT h' L = tT h L → ∀ s, 0 ≤ s → bl (hv h' 396 12) s = bl (hv h 396 12) s) : qui h h' L :=
  ⟨fun s q => by rw [e2]; exact q, fun eT _ => ⟨e1, fun s s0 => ⟨f eT s s0, by rw [e13], by rw [e14]⟩⟩⟩
theorem qui_13 {h h' : MH} {L : PG} (e1 : ∀ j, hv h' 458 j = hv h 458 j) (e2 : ∀ j, hv h' 472 j = hv h 472 j) (e12 : hv h' 396 12 = hv h 396 12) (e14 : hv h' 396 14 = hv h 396 14) (f : tT h' L = tT h L → ∀ s, 0 ≤ s → bi (hv h' 396 13) s = bi (hv h 396 13) s) : qui h h' L :=
  ⟨fun s q => by rw [e2]; exact q, fun eT _ => ⟨e1, fun s s0 => ⟨by rw [e12], f eT s s0, by rw [e14]⟩⟩⟩
theorem qui_14 {h h' : MH} {L : PG} (e1 : ∀ j, hv h' 458 j = hv h 458 j) (e2 : ∀ j, hv h' 472 j = hv h 472 j) (e12 : hv h' 396 12 = hv h 396 12) (e13 : hv h' 396 13 = hv h 396 13) (f : tT h' L = tT h L → ∀ s, 0 ≤ s → bl (hv h' 396 14) s = bl (hv h 396 14) s) : qui h h' L :=
  ⟨fun s q => by rw [e2]; exact q, fun eT _ => ⟨e1, fun s s0 => ⟨by rw [e12], by rw [e13], f eT s s0⟩⟩⟩
theorem bl_or0 {a x b s : Int} (z : x = 0) : bl (l_or a (if x = 0 then 0 else b)) s = bl a s := by rw [if_pos z, bl_or, bl_zero]; simp
theorem bi_or0 {a x b s : Int} (z : x = 0) : bi (i_or a (if x = 0 then 0 else b)) s = bi a s := by rw [if_pos z, bi_or, bi_zero]; simp
theorem or_andn {a b : Int} (h : i_or a b = a) : i_and b (i_xor a (-1)) = 0 := by
  refine bi_ext (c32_i_and _ _) (by unfold c32; omega) (fun x _ _ => ?_)
  rw [bi_andn, bi_zero]
  have := congrArg (fun z => bi z x) h
  simp only [bi_or] at this
  cases hb : bi b x
  · rfl
  · rw [hb] at this; simp at this; rw [this]; rfl
theorem or_andnl {a b : Int} (h : l_or a b = a) : l_and b (l_xor a (-1)) = 0 := by
  refine bl_ext (c64_l_and _ _) (by unfold c64; omega) (fun x _ _ => ?_)
  rw [bl_andn, bl_zero]
  have := congrArg (fun z => bl z x) h
  simp only [bl_or] at this
  cases hb : bl b x
  · rfl
  · rw [hb] at this; simp at this; rw [this]; rfl
theorem qui_tr {h1 h2 h3 : MH} {L : PG} (a : qui h1 h2 L) (b : qui h2 h3 L) (p : tle (tT h1 L) (tT h2 L)) (p' : tle (tT h2 L) (tT h3 L)) (o2 : tbok (tT h2 L)) (o3 : tbok (tT h3 L)) : qui h1 h3 L := by
  refine ⟨fun s q => b.1 s (a.1 s q), fun eT e7 => ?_⟩
  have o1 : tbok (tT h1 L) := by rw [← eT]; exact o3
  have e12 : tT h2 L = tT h1 L := tle_anti o2 o1 (by rw [← eT]; exact p') p
  have e23 : tT h3 L = tT h2 L := by rw [eT, e12]
  have A := a.2 e12 (fun s s0 s1 q => e7 s s0 s1 (b.1 s q))
  have B := b.2 e23 (fun s s0 s1 q => a.1 s (e7 s s0 s1 q))
  exact ⟨fun j => (B.1 j).trans (A.1 j), fun s s0 => ⟨(B.2 s s0).1.trans (A.2 s s0).1, (B.2 s s0).2.1.trans (A.2 s s0).2.1, (B.2 s s0).2.2.trans (A.2 s s0).2.2⟩⟩
/-- what is flagged when a table grows: all that grows is flagged; flags stay -/
def flg (h h' : MH) (L : PG) : Prop :=
  (∀ q, inP L q → (hv h 458 q = 1 → hv h' 458 q = 1) ∧ (hv h' 458 q = 1 ∨ ((∀ s, tT h' L 0 q s = tT h L 0 q s) ∧ tT h' L 6 q 0 = tT h L 6 q 0))) ∧
  (∀ s, inS L s → (bl (hv h 396 12) s = true → bl (hv h' 396 12) s = true) ∧ (bl (hv h' 396 12) s = true ∨ ((∀ f, tT h' L 1 s f = tT h L 1 s f) ∧ tT h' L 2 s 0 = tT h L 2 s 0))) ∧
  (∀ i, 0 ≤ i → i < pNs L → (bi (hv h 396 13) i = true → bi (hv h' 396 13) i = true) ∧ (bi (hv h' 396 13) i = true ∨ tT h' L 3 i 0 = tT h L 3 i 0)) ∧
  (∀ m, inM L m → (bl (hv h 396 14) m = true → bl (hv h' 396 14) m = true) ∧ (bl (hv h' 396 14) m = true ∨ ∀ a, (a = 5 ∨ a = 7 ∨ a = 8 ∨ a = 14 ∨ a = 15) → tT h' L a m 0 = tT h L a m 0)) ∧ qui h h' L
theorem flg_rfl (h : MH) (L : PG) : flg h h L := ⟨fun _ _ => ⟨fun x => x, Or.inr ⟨fun _ => rfl, rfl⟩⟩, fun _ _ => ⟨fun x => x, Or.inr ⟨fun _ => rfl, rfl⟩⟩, fun _ _ _ => ⟨fun x => x, Or.inr rfl⟩, fun _ _ => ⟨fun x => x, Or.inr fun _ _ => rfl⟩, qui_of (fun _ => rfl) (fun _ => rfl) (fun _ _ _ => rfl)⟩
theorem flg_tr {h1 h2 h3 : MH} {L : PG} (a : flg h1 h2 L) (b : flg h2 h3 L) (p : tle (tT h1 L) (tT h2 L)) (p' : tle (tT h2 L) (tT h3 L)) (o2 : tbok (tT h2 L)) (o3 : tbok (tT h3 L)) : flg h1 h3 L := by
  refine ⟨fun q hq => ⟨fun x => (b.1 q hq).1 ((a.1 q hq).1 x), ?_⟩, fun s hs => ⟨fun x => (b.2.1 s hs).1 ((a.2.1 s hs).1 x), ?_⟩, fun i i0 i1 => ⟨fun x => (b.2.2.1 i i0 i1).1 ((a.2.2.1 i i0 i1).1 x), ?_⟩, fun m hm => ⟨fun x => (b.2.2.2.1 m hm).1 ((a.2.2.2.1 m hm).1 x), ?_⟩, qui_tr a.2.2.2.2 b.2.2.2.2 p p' o2 o3⟩
  · rcases (b.1 q hq).2 with y | y
    · exact Or.inl y
    · rcases (a.1 q hq).2 with z | z
      · exact Or.inl ((b.1 q hq).1 z)
      · exact Or.inr ⟨fun s => (y.1 s).trans (z.1 s), y.2.trans z.2⟩
  · rcases (b.2.1 s hs).2 with y | y
    · exact Or.inl y
    · rcases (a.2.1 s hs).2 with z | z
      · exact Or.inl ((b.2.1 s hs).1 z)
      · exact Or.inr ⟨fun f => (y.1 f).trans (z.1 f), y.2.trans z.2⟩
  · rcases (b.2.2.1 i i0 i1).2 with y | y
    · exact Or.inl y
    · rcases (a.2.2.1 i i0 i1).2 with z | z
      · exact Or.inl ((b.2.2.1 i i0 i1).1 z)
      · exact Or.inr (y.trans z)
  · rcases (b.2.2.2.1 m hm).2 with y | y
    · exact Or.inl y
    · rcases (a.2.2.2.1 m hm).2 with z | z
      · exact Or.inl ((b.2.2.2.1 m hm).1 z)
      · exact Or.inr fun c hc => (y c hc).trans (z c hc)
/-- sites in a fact are made (or the machine's, or null) -/
def mkd (L : PG) (T : TB) (s : Int) : Prop := s < 7 ∨ (inS L s ∧ (∀ f, 0 ≤ f → f < nfs L s → ath (T 1 s f) ≠ 0) ∧ (pSc L s < 0 → ath (T 2 s 0) ≠ 0))
def fmk (L : PG) (T : TB) (v : FA) : Prop := ∀ s, 0 ≤ s → bl (ast v) s = true → mkd L T s
theorem mkd_le {L : PG} {T U : TB} (p : tle T U) {s : Int} (h : mkd L T s) : mkd L U s := by
  rcases h with h | ⟨h1, h2, h3⟩
  · exact Or.inl h
  · exact Or.inr ⟨h1, fun f f0 f1 => ath_le (p _ _ _) (h2 f f0 f1), fun q => ath_le (p _ _ _) (h3 q)⟩
theorem fmk_le {L : PG} {T U : TB} (p : tle T U) {v : FA} (h : fmk L T v) : fmk L U v := fun s s0 q => mkd_le p (h s s0 q)
/-- there are eight locks -/
def su8 (a : Int) : Prop := ∀ x : Int, 8 ≤ x → bi a x = false
theorem su8_0 : su8 0 := fun x _ => bi_zero x
/-- spans end at marks -/
def fmr (L : PG) (v : FA) : Prop := (isMk L (alo v) ∧ su8 (asu v)) ∧ isMk L (ahi v)
/-- what the tables have at any time: facts are sound things, their sites are made, their spans end at marks -/
def tiv (L : PG) (T : TB) : Prop := tbok T ∧ (∀ a i j, fmk L T (T a i j)) ∧ (∀ a i j, fmr L (T a i j)) ∧ (∀ c, ath (T 5 c 0) ≠ 0 ↔ ath (T 7 c 0) ≠ 0) ∧ (∀ c, (ath (T 14 c 0) ≠ 0 ↔ ath (T 8 c 0) ≠ 0) ∧ bl (ast (T 14 c 0)) 0 = false) ∧ (∀ q s, ath (T 6 q 0) ≠ 0 → rel L q s → ath (T 0 q s) ≠ 0)
/-- as a fact that is joined must be -/
def fgd (L : PG) (T : TB) (v : FA) : Prop := fok v ∧ fmk L T v ∧ fmr L v ∧ ath v = 1
theorem mk_0 (L : PG) : isMk L 0 := Or.inr (Or.inr (Or.inr (Or.inl rfl)))
theorem fmr_join {L : PG} {a b : FA} (ha : fmr L a) (hb : fmr L b) : fmr L (fjoin a b) := by
  unfold fjoin
  split
  · exact ha
  · split
    · exact hb
    · refine ⟨⟨?_, ?_⟩, ?_⟩
      · show isMk L (min (alo a) (alo b))
        by_cases c : alo a ≤ alo b
        · rw [show min (alo a) (alo b) = alo a by omega]; exact ha.1.1
        · rw [show min (alo a) (alo b) = alo b by omega]; exact hb.1.1
      · intro x hx
        show bi (i_and (asu a) (asu b)) x = false
        rw [bi_and, ha.1.2 x hx]; rfl
      · show isMk L (max (ahi a) (ahi b))
        by_cases c : ahi a ≤ ahi b
        · rw [show max (ahi a) (ahi b) = ahi b by omega]; exact hb.2
        · rw [show max (ahi a) (ahi b) = ahi a by omega]; exact ha.2
theorem fmk_join {L : PG} {T : TB} {a b : FA} (ha : fmk L T a) (hb : fmk L T b) : fmk L T (fjoin a b) := by
  unfold fjoin
  split
  · exact ha
  · split
    · exact hb
    · intro s s0 q
      have : bl (l_or (ast a) (ast b)) s = true := q
      rw [bl_or] at this
      simp at this
      rcases this with y | y
      · exact ha s s0 y
      · exact hb s s0 y
theorem ath_join {a b : FA} : ath (fjoin a b) ≠ 0 ↔ ath a ≠ 0 ∨ ath b ≠ 0 := by
  unfold fjoin
  by_cases hb : ath b = 0
  · rw [if_pos hb]; simp [hb]
  · rw [if_neg hb]
    by_cases ha : ath a = 0
    · rw [if_pos ha]; simp [hb]
    · rw [if_neg ha]
      constructor
      · intro _; exact Or.inl ha
      · intro _; exact (by decide : (1 : Int) ≠ 0)
/-- rows that nothing was joined to are empty -/
def za (a : Int) : Prop := a = 472 ∨ a = 475 ∨ a = 476 ∨ (477 ≤ a ∧ a ≤ 479) ∨ (488 ≤ a ∧ a ≤ 492)
def zi (h : MH) : Prop := (∀ s f, 0 ≤ s → s < 63 → 0 ≤ f → f < 8 → hv h 472 s ≠ 1 → hv h 475 (8 * s + f) = 0 ∧ hv h 476 (8 * s + f) = 0) ∧ (∀ m, 0 ≤ m → m < 40 → hv h 488 m ≠ 1 → hv h 491 m = 0 ∧ hv h 492 m = 0) ∧ (∀ s, 0 ≤ s → s < 63 → hv h 479 s ≠ 1 → hv h 477 s = 0 ∧ hv h 478 s = 0) ∧ (∀ m, 0 ≤ m → m < 40 → hv h 488 m ≠ 1 → hv h 489 m = 0 ∧ hv h 490 m = 0)
theorem zi_of {h h' : MH} (e : ∀ a j, za a → hv h' a j = hv h a j) (z : zi h) : zi h' := by
  refine ⟨fun s f s0 s1 f0 f1 q => ?_, fun m m0 m1 q => ?_, fun s s0 s1 q => ?_, fun m m0 m1 q => ?_⟩
  · rw [e 475 _ (by unfold za; omega), e 476 _ (by unfold za; omega)]
    exact z.1 s f s0 s1 f0 f1 (by rw [e 472 _ (by unfold za; omega)] at q; exact q)
  · rw [e 491 _ (by unfold za; omega), e 492 _ (by unfold za; omega)]
    exact z.2.1 m m0 m1 (by rw [e 488 _ (by unfold za; omega)] at q; exact q)
  · rw [e 477 _ (by unfold za; omega), e 478 _ (by unfold za; omega)]
    exact z.2.2.1 s s0 s1 (by rw [e 479 _ (by unfold za; omega)] at q; exact q)
  · rw [e 489 _ (by unfold za; omega), e 490 _ (by unfold za; omega)]
    exact z.2.2.2 m m0 m1 (by rw [e 488 _ (by unfold za; omega)] at q; exact q)
/-- what is noted as caught is what is thrown and has a handler -/
def cgt0 (h : MH) (L : PG) : Prop := ∀ k i, inP L k → 0 ≤ i → i < 128 → (bl (hv h 470 (2 * k + i / 64)) (i % 64) = true ↔ ∃ s, 1 ≤ s ∧ s < 63 ∧ bl (hv h 467 k) s = true ∧ 0 ≤ hnd L k s ∧ pHa L (pMo L k) (hnd L k s) 2 = i)
def cgt (h : MH) (L : PG) : Prop := cgt0 h L ∧ zi h
theorem cgt_of {h h' : MH} {L : PG} (e : ∀ j, hv h' 470 j = hv h 470 j) (e2 : ∀ j, hv h' 467 j = hv h 467 j) (e3 : ∀ a j, za a → hv h' a j = hv h a j) (c : cgt h L) : cgt h' L := by
  refine ⟨fun k i hk i0 i1 => ?_, zi_of e3 c.2⟩
  rw [e, e2]; exact c.1 k i hk i0 i1
/-- THE TWIN GOES FORWARD: from h to h', having brought about P (given at T'), needing no more than A -/
def Adv (L : PG) (h h' : MH) (P A : TB → Prop) : Prop := frA h h' ∧ flg h h' L ∧ tiv L (tT h' L) ∧ tle (tT h L) (tT h' L) ∧ P (tT h' L) ∧ (∀ U, tbok U → tle (tT h L) U → A U → tle (tT h' L) U) ∧ (cgt h L → cgt h' L) ∧ (∀ j, hv h' 471 j = hv h 471 j)
theorem Adv_tr {L : PG} {h1 h2 h3 : MH} {P A P' A' : TB → Prop} (a : Adv L h1 h2 P A) (b : Adv L h2 h3 P' A') (up : ∀ U V, tle U V → P U → P V) : Adv L h1 h3 (fun U => P U ∧ P' U) (fun U => A U ∧ A' U) := by
  obtain ⟨a1, a2, a3, a4, a5, a6, a7, a8⟩ := a
  obtain ⟨b1', b2, b3, b4, b5, b6, b7, b8⟩ := b
  exact ⟨frA_tr a1 b1', flg_tr a2 b2 a4 b4 a3.1 b3.1, b3, tle_trans a4 b4, ⟨up _ _ b4 a5, b5⟩, fun U oU p q => b6 U oU (a6 U oU p q.1) q.2, fun c => b7 (a7 c), fun j => (b8 j).trans (a8 j)⟩
theorem Adv_w {L : PG} {h h' : MH} {P A P' A' : TB → Prop} (a : Adv L h h' P A) (hP : tle (tT h L) (tT h' L) → P (tT h' L) → P' (tT h' L)) (hA : ∀ U, tbok U → tle (tT h L) U → A' U → A U) : Adv L h h' P' A' := by
  obtain ⟨a1, a2, a3, a4, a5, a6, a7, a8⟩ := a
  exact ⟨a1, a2, a3, a4, hP a4 a5, fun U oU p q => a6 U oU p (hA U oU p q), a7, a8⟩
/-- nothing of the tables is changed -/
def same (h h' : MH) : Prop := frA h h' ∧ (∀ a j, 458 ≤ a → a ≤ 498 → hv h' a j = hv h a j) ∧ (∀ j, 12 ≤ j → j ≤ 14 → hv h' 396 j = hv h 396 j)
theorem same_T {h h' : MH} {L : PG} (s : same h h') : tT h' L = tT h L := tT_eq' (fun a j p q _ _ => s.2.1 a j (by omega) q)
theorem same_Adv {L : PG} {h h' : MH} (s : same h h') (t : tiv L (tT h L)) : Adv L h h' (fun _ => True) (fun _ => True) := by
  have e := same_T (L := L) s
  refine ⟨s.1, ⟨fun q _ => ⟨fun x => by rw [s.2.1 458 q (by omega) (by omega)]; exact x, Or.inr ⟨fun _ => by rw [e], by rw [e]⟩⟩, fun q _ => ⟨fun x => by rw [s.2.2 12 (by omega) (by omega)]; exact x, Or.inr ⟨fun _ => by rw [e], by rw [e]⟩⟩, fun q _ _ => ⟨fun x => by rw [s.2.2 13 (by omega) (by omega)]; exact x, Or.inr (by rw [e])⟩, fun q _ => ⟨fun x => by rw [s.2.2 14 (by omega) (by omega)]; exact x, Or.inr (fun _ _ => by rw [e])⟩, qui_of (fun j => s.2.1 458 j (by omega) (by omega)) (fun j => s.2.1 472 j (by omega) (by omega)) s.2.2⟩, by rw [e]; exact t, by rw [e]; exact tle_rfl _, trivial, fun U _ p _ => by rw [e]; exact p, cgt_of (fun j => s.2.1 470 j (by omega) (by omega)) (fun j => s.2.1 467 j (by omega) (by omega)) (fun a j ha => s.2.1 a j (by unfold za at ha; omega) (by unfold za at ha; omega)), fun j => s.2.1 471 j (by omega) (by omega)⟩
theorem same_rfl (h : MH) : same h h := ⟨frA_rfl h, fun _ _ _ _ => rfl, fun _ _ _ => rfl⟩
theorem same_tr {h1 h2 h3 : MH} (a : same h1 h2) (b : same h2 h3) : same h1 h3 := ⟨frA_tr a.1 b.1, fun x j p q => (b.2.1 x j p q).trans (a.2.1 x j p q), fun j p q => (b.2.2 j p q).trans (a.2.2 j p q)⟩
theorem same_set {h : MH} {a k x : Int} (c : (499 ≤ a ∧ a ≤ 502) ∨ (a = 396 ∧ ((61 ≤ k ∧ k ≤ 67) ∨ k = 72))) : same h (hset h a k x) := by
  refine ⟨frA_set (by omega), fun b j p q => ne_a (by omega), fun j p q => ?_⟩
  rw [hv_set, if_neg (by omega)]
/-! what the work's own slots are after its small steps -/
def slt (h : MH) (k l hh b s : Int) : MH := hset (hset (hset (hset h 499 k l) 500 k hh) 501 k b) 502 k s
theorem slt_same (h : MH) (k l hh b s : Int) : same h (slt h k l hh b s) :=
  same_tr (same_tr (same_tr (same_set (by omega)) (same_set (by omega))) (same_set (by omega))) (same_set (by omega))
theorem slt_cX (h : MH) (k l hh b s : Int) : cX (slt h k l hh b s) = ux (cX h) k (fv l hh b s) := by
  funext j
  unfold slt cX ux
  by_cases e : j = k
  · subst e; simp [hv_set]
  · simp [hv_set, e]
theorem slt_396 (h : MH) (k l hh b s j : Int) : hv (slt h k l hh b s) 396 j = hv h 396 j := by
  unfold slt; simp [hv_set]
theorem t_setSlot {l : Launch} {G : JG} (hG : gO G = true) {h : MH} {k a b c d : Int} (h0 : 0 ≤ k) (h1 : k < 16) {Q : Int → MH → Prop} {E : Nat → Int → MH → Prop} (hQ : Q 0 (slt h k a b c d)) : S_X9_setSlot l G [(2009, 396), (0, k), (0, a), (0, b), (0, c), (1, d)] h Q E := by
  refine s_X9_setSlot rfl fun K ki => r_X9_setSlot_0 ki hG ⟨h0, h1, fun _ e1 => ⟨h0, h1, fun _ e2 => ⟨h0, h1, fun _ e3 => ⟨h0, h1, fun _ e4 => ?_⟩⟩⟩⟩
  subst e1; subst e2; subst e3; subst e4
  exact hQ
/-- the work's slots and locks are X, lk, its depth is d -/
def vld (L : PG) (m d j : Int) : Prop := (0 ≤ j ∧ j < pLc L m) ∨ (8 ≤ j ∧ j < 8 + d)
def cur (L : PG) (m : Int) (h : MH) (X : Int → FA) (lk : FA) (d : Int) : Prop := (∀ j, vld L m d j → cX h j = X j) ∧ lkc_ h = lk ∧ hv h 396 61 = d
theorem cur_set {L : PG} {m : Int} {h : MH} {X : Int → FA} {lk : FA} {d k l hh b s : Int} (c : cur L m h X lk d) : cur L m (slt h k l hh b s) (ux X k (fv l hh b s)) lk d := by
  refine ⟨fun j j0 => ?_, ?_, ?_⟩
  · rw [slt_cX]; unfold ux; split
    · rfl
    · exact c.1 j j0
  · unfold lkc_; rw [slt_396, slt_396]; exact c.2.1
  · rw [slt_396]; exact c.2.2
theorem t_lay3 {l : Launch} {G : JG} (hG : gO G = true) {L : PG} {m : Int} {h : MH} {a b c d : Int} {X : Int → FA} {lk : FA} {dp : Int} (cu : cur L m h X lk dp) (h0 : 0 ≤ dp) (h1 : dp < 8) {Q : Int → MH → Prop} {E : Nat → Int → MH → Prop} (hQ : ∀ h', same h h' → cur L m h' (ux X (8 + dp) (fv a b c d)) lk (dp + 1) → (∀ j, j ≠ 61 → hv h' 396 j = hv h 396 j) → Q 0 h') : S_X9_lay_2 l G [(2009, 396), (0, a), (0, b), (0, c), (1, d)] h Q E := by
  refine s_X9_lay_2 rfl fun K ki => r_X9_lay_2_0 ki hG ?_
  rw [cu.2.2, w32_i (by omega) (by omega)]
  refine t_setSlot hG (by omega) (by omega) fun h3 e3 => ?_
  have cs := cur_set (k := 8 + dp) (l := a) (hh := b) (b := c) (s := d) cu
  rw [cs.2.2, w32_i (by omega) (by omega)] at e3
  subst e3
  refine hQ _ (same_tr (slt_same _ _ _ _ _ _) (same_set (by omega))) ⟨fun j j0 => ?_, ?_, eq_a⟩ (fun j hj => by rw [ne_k hj, slt_396])
  · by_cases e : j = 8 + dp
    · subst e
      have : cX (slt h (8 + dp) a b c d) (8 + dp) = ux X (8 + dp) (fv a b c d) (8 + dp) := by
        rw [slt_cX]; unfold ux; simp
      rw [← this]; unfold cX; simp [hv_set]
    · rw [← cs.1 j (by unfold vld at *; omega)]; unfold cX; simp [hv_set]
  · rw [← cs.2.1]; unfold lkc_; simp [hv_set]
theorem t_lay2 {l : Launch} {G : JG} (hG : gO G = true) {L : PG} {m : Int} {h : MH} {a b c d : Int} {X : Int → FA} {lk : FA} {dp : Int} (cu : cur L m h X lk dp) (h0 : 0 ≤ dp) (h1 : dp < 8) {Q : Int → MH → Prop} {E : Nat → Int → MH → Prop} (hQ : ∀ h', same h h' → cur L m h' (ux X (8 + dp) (fv a b c d)) lk (dp + 1) → Q 0 h') : S_X9_lay_2 l G [(2009, 396), (0, a), (0, b), (0, c), (1, d)] h Q E :=
  t_lay3 hG cu h0 h1 (fun h' a b _ => hQ h' a b)
/-- what was pulled -/
def pld (h : MH) : FA := fv (hv h 396 64) (hv h 396 65) (hv h 396 66) (hv h 396 67)
theorem t_pull {l : Launch} {G : JG} (hG : gO G = true) {L : PG} {m : Int} {h : MH} {X : Int → FA} {lk : FA} {dp : Int} (cu : cur L m h X lk dp) (h0 : 1 ≤ dp) (h1 : dp ≤ 8) {Q : Int → MH → Prop} {E : Nat → Int → MH → Prop} (hQ : ∀ h', same h h' → cur L m h' X lk (dp - 1) → pld h' = X (7 + dp) → hv h' 396 72 = hv h 396 72 → Q 0 h') : S_X9_pull_2 l G [(2009, 396)] h Q E := by
  refine s_X9_pull_2 rfl fun K ki => r_X9_pull_2_0 ki hG ?_
  intro h1' e1
  rw [cu.2.2, w32_i (by omega) (by omega)] at e1
  have d1 : hv h1' 396 61 = dp - 1 := by rw [e1]; exact eq_a
  rw [d1, w32_i (z := 8 + (dp - 1)) (by omega) (by omega)]
  refine ⟨by omega, by omega, ?_⟩
  intro h2 e2
  have d2 : hv h2 396 61 = dp - 1 := by rw [e2, ne_k (by omega)]; exact d1
  rw [d2, w32_i (z := 8 + (dp - 1)) (by omega) (by omega)]
  refine ⟨by omega, by omega, ?_⟩
  intro h3 e3
  have d3 : hv h3 396 61 = dp - 1 := by rw [e3, ne_k (by omega)]; exact d2
  rw [d3, w32_i (z := 8 + (dp - 1)) (by omega) (by omega)]
  refine ⟨by omega, by omega, ?_⟩
  intro h4 e4
  have d4 : hv h4 396 61 = dp - 1 := by rw [e4, ne_k (by omega)]; exact d3
  rw [d4, w32_i (z := 8 + (dp - 1)) (by omega) (by omega)]
  refine ⟨by omega, by omega, ?_⟩
  intro h5 e5
  have x := cu.1 (7 + dp) (Or.inr ⟨by omega, by omega⟩)
  refine hQ h5 ?_ ⟨fun j j0 => ?_, ?_, ?_⟩ ?_ ?_
  · rw [e5, e4, e3, e2, e1]
    exact same_tr (same_tr (same_tr (same_tr (same_set (by omega)) (same_set (by omega))) (same_set (by omega))) (same_set (by omega))) (same_set (by omega))
  · rw [← cu.1 j (by unfold vld at *; omega), e5, e4, e3, e2, e1]; unfold cX; simp [hv_set]
  · rw [← cu.2.1, e5, e4, e3, e2, e1]; unfold lkc_; simp [hv_set]
  · rw [e5, ne_k (by omega)]; exact d4
  · rw [← x, show 7 + dp = 8 + (dp - 1) by omega]
    unfold pld cX
    rw [e5, e4, e3, e2, e1]; simp [hv_set]
  · rw [e5, e4, e3, e2, e1]; simp [hv_set]
