/-! Part 51b: how the component's analysis goes forward -/
/-- places that are noted as resting on something are places -/
def UB (h : MH) (L : PG) : Prop := ∀ a i j, udom L a i j → ∀ p, 0 ≤ p → p < 1536 → ubt h (uad h a i j) p = true → p < pNp L
/-- what was not reached is empty -/
def zC (h : MH) (L : PG) : Prop := (∀ q, inP L q → hv h (hv h 4 q) 0 = 1 ∨ (hv h (hv h 4 q) 0 = 0 ∧ ∀ s, 0 ≤ s → s < 16 → fo h (hv h 4 q + 2 + s) = fz)) ∧
  (∀ m, inM L m → hv h (144 + 3 * m) 0 = 1 ∨ (hv h (144 + 3 * m) 0 = 0 ∧ fo h (145 + 3 * m) = fz)) ∧ (∀ i, 0 ≤ i → i < 8 → hv h (288 + i) 0 = 0 ∨ hv h (288 + i) 0 = 1)
def STc (h : MH) (L : PG) : Prop := CW h L ∧ QI h (pNp L) ∧ UB h L ∧ tiv L (cT h L) ∧ zC h L
/-- who is awake, who is noted as resting on something, was reached -/
def RWx (h : MH) (L : PG) : Prop := (∀ p, inP L p → hv h 79 p ≠ 0 → rch (cT h L) p) ∧ ∀ a i j, udom L a i j → ∀ p, inP L p → ubt h (uad h a i j) p = true → rch (cT h L) p
/-- who rests on what has changed is awake -/
def wkdC (h h' : MH) (L : PG) : Prop := (∀ j, hv h 79 j ≠ 0 → hv h' 79 j ≠ 0) ∧
  (∀ q, inP L q → hv h' 79 q ≠ 0 ∨ ((∀ s, cT h' L 0 q s = cT h L 0 q s) ∧ cT h' L 6 q 0 = cT h L 6 q 0)) ∧
  (∀ a i j, udom L a i j → cT h' L a i j = cT h L a i j ∨ ∀ p, inP L p → ubt h (uad h a i j) p = true → hv h' 79 p ≠ 0) ∧
  (∀ a i j, udom L a i j → ∀ p, inP L p → ubt h (uad h a i j) p = true → ubt h' (uad h' a i j) p = true) ∧ (RWx h L → RWx h' L)
theorem wkdC_rfl (h : MH) (L : PG) : wkdC h h L := ⟨fun _ x => x, fun _ _ => Or.inr ⟨fun _ => rfl, rfl⟩, fun _ _ _ _ => Or.inl rfl, fun _ _ _ _ _ _ x => x, fun x => x⟩
theorem wkdC_tr {h1 h2 h3 : MH} {L : PG} (a : wkdC h1 h2 L) (b : wkdC h2 h3 L) : wkdC h1 h3 L := by
  obtain ⟨a1, a2, a3, a4, a5⟩ := a
  obtain ⟨b1', b2, b3, b4, b5⟩ := b
  refine ⟨fun j x => b1' j (a1 j x), fun q hq => ?_, fun a i j d => ?_, fun a i j d p hp u => b4 a i j d p hp (a4 a i j d p hp u), fun r => b5 (a5 r)⟩
  · rcases b2 q hq with y | y
    · exact Or.inl y
    · rcases a2 q hq with z | z
      · exact Or.inl (b1' q z)
      · exact Or.inr ⟨fun s => (y.1 s).trans (z.1 s), y.2.trans z.2⟩
  · rcases b3 a i j d with y | y
    · rcases a3 a i j d with z | z
      · exact Or.inl (y.trans z)
      · exact Or.inr fun p hp u => b1' p (z p hp u)
    · exact Or.inr fun p hp u => y p hp (a4 a i j d p hp u)
/-- THE COMPONENT GOES FORWARD: from h to h', having brought about P, needing no more than A -/
def AdK (L : PG) (h h' : MH) (P A : TB → Prop) : Prop := frC h h' ∧ STc h' L ∧ wkdC h h' L ∧ (∀ j, hv h' 77 j = hv h 77 j) ∧ tle (cT h L) (cT h' L) ∧ P (cT h' L) ∧ (∀ U, tbok U → tle (cT h L) U → A U → tle (cT h' L) U) ∧ (cT h' L = cT h L → ∀ j, hv h' 79 j ≠ 0 → hv h 79 j ≠ 0)
theorem qui_C {L : PG} {h1 h2 h3 : MH} (a5 : tle (cT h1 L) (cT h2 L)) (b5 : tle (cT h2 L) (cT h3 L)) (a2 : STc h2 L) (b2 : STc h3 L) (a8 : cT h2 L = cT h1 L → ∀ j, hv h2 79 j ≠ 0 → hv h1 79 j ≠ 0) (b8 : cT h3 L = cT h2 L → ∀ j, hv h3 79 j ≠ 0 → hv h2 79 j ≠ 0) : cT h3 L = cT h1 L → ∀ j, hv h3 79 j ≠ 0 → hv h1 79 j ≠ 0 := by
  intro e
  have o1 : tbok (cT h1 L) := by rw [← e]; exact b2.2.2.2.1.1
  have e12 : cT h2 L = cT h1 L := tle_anti a2.2.2.2.1.1 o1 (by rw [← e]; exact b5) a5
  exact fun j hj => a8 e12 j (b8 (by rw [e, e12]) j hj)
theorem AdK_tr {L : PG} {h1 h2 h3 : MH} {P A P' A' : TB → Prop} (a : AdK L h1 h2 P A) (b : AdK L h2 h3 P' A') (up : ∀ U V, tle U V → P U → P V) : AdK L h1 h3 (fun U => P U ∧ P' U) (fun U => A U ∧ A' U) := by
  obtain ⟨a1, a2, a3, a4, a5, a6, a7, a8⟩ := a
  obtain ⟨b1', b2, b3, b4, b5, b6, b7, b8⟩ := b
  exact ⟨frC_tr a1 b1', b2, wkdC_tr a3 b3, fun j => (b4 j).trans (a4 j), tle_trans a5 b5, ⟨up _ _ b5 a6, b6⟩, fun U oU p q => b7 U oU (a7 U oU p q.1) q.2, qui_C a5 b5 a2 b2 a8 b8⟩
theorem AdK_w {L : PG} {h h' : MH} {P A P' A' : TB → Prop} (a : AdK L h h' P A) (hP : tle (cT h L) (cT h' L) → P (cT h' L) → P' (cT h' L)) (hA : ∀ U, tbok U → tle (cT h L) U → A' U → A U) : AdK L h h' P' A' := by
  obtain ⟨a1, a2, a3, a4, a5, a6, a7, a8⟩ := a
  exact ⟨a1, a2, a3, a4, a5, hP a5 a6, fun U oU p q => a7 U oU p (hA U oU p q), a8⟩
/-! pieces of memory that do not meet -/
section DIS
variable {h : MH} {L : PG}
theorem dSC {s c : Int} (ss : stO h s) (cc : clO h c) : ¬ (s + 2 ≤ c + 1 ∧ c + 1 < s + 18) ∧ c + 1 ≠ s ∧ ¬ (s + 2 ≤ c + 2 ∧ c + 2 < s + 18) ∧ c + 2 ≠ s := by
  obtain ⟨s1, s2, s3, s4, s5, s6, s7⟩ := ss
  obtain ⟨c1, c2, c3, c4, c5, c6, c7, c8⟩ := cc
  have n3 : ∀ b : Int, ht h b ≠ 4 → ¬ (s + 2 ≤ b ∧ b < s + 18) := by
    intro b hb q
    have := (s7 (b - s - 2) (by omega) (by omega)).2
    rw [show s + 2 + (b - s - 2) = b by omega] at this
    exact hb this
  refine ⟨fun q => ?_, fun q => ?_, n3 _ (by rw [c7]; decide), fun q => ?_⟩
  · by_cases e : c = s + 1
    · rw [e, s5] at c3; cases c3
    · exact n3 c (by rw [c3]; decide) ⟨by omega, by omega⟩
  · rw [q, s3] at c5; cases c5
  · rw [q, s3] at c7; cases c7
theorem uad_ty (w : WF L) (c : CW h L) {a i j : Int} (d : udom L a i j) : ht h (uad h a i j) = 101 ∧ hn h (uad h a i j) = 24 ∧ (523 ≤ uad h a i j ∨ (144 ≤ uad h a i j ∧ uad h a i j < 288 ∧ uad h a i j % 3 = 2)) := by
  have nn := w.n
  unfold WFn at nn
  obtain ⟨-, -, -, -, c7, -, c9, -, -⟩ := c
  unfold uad
  rcases d with d | ⟨o, d, -⟩
  · have e : a = 1 ∨ a = 2 ∨ a = 3 := by unfold cdom at d; omega
    rw [if_pos e]
    obtain ⟨cl, r⟩ := c7 a i j d
    exact ⟨cl.2.2.2.2.2.2.1, cl.2.2.2.2.2.2.2, by omega⟩
  · have e : ¬ (a = 1 ∨ a = 2 ∨ a = 3) := by unfold oca at o; omega
    rw [if_neg e]
    unfold inM at d
    have oo := c9 i d.1 (by omega)
    exact ⟨oo.2.2.2.2.2.1, oo.2.2.2.2.2.2, by omega⟩
theorem frC_uad {h' : MH} (f : frC h h') (w : WF L) {a i j : Int} (d : udom L a i j) : uad h' a i j = uad h a i j := by
  unfold uad
  rcases d with d | ⟨o, d, -⟩
  · have e : a = 1 ∨ a = 2 ∨ a = 3 := by unfold cdom at d; omega
    rw [if_pos e, if_pos e, frC_cad f w d]
  · have e : ¬ (a = 1 ∨ a = 2 ∨ a = 3) := by unfold oca at o; omega
    rw [if_neg e, if_neg e]
theorem vq_of {h' : MH} {q : Int} (e4 : hv h' 4 q = hv h 4 q) (e : ∀ b j, (b = hv h 4 q ∧ j ≠ 1) ∨ (hv h 4 q + 2 ≤ b ∧ b < hv h 4 q + 18) → hv h' b j = hv h b j) : vq h h' q := by
  unfold vq
  rw [e4]
  exact ⟨e _ _ (Or.inl ⟨rfl, by decide⟩), e _ _ (Or.inl ⟨rfl, by decide⟩), e _ _ (Or.inl ⟨rfl, by decide⟩), fun s s0 s1 => fo_eq (fun j => e _ _ (Or.inr ⟨by omega, by omega⟩))⟩
theorem vc_of {h' : MH} {a i j : Int} (e4 : cad h' a i j = cad h a i j) (e : ∀ k, hv h' (cad h a i j + 1) k = hv h (cad h a i j + 1) k) : vc h h' a i j := by
  unfold vc
  rw [e4]
  exact fo_eq e
end DIS
/-! steps in the work's own room -/
def scw (b j : Int) : Prop := (b = 3 ∧ ((16 ≤ j ∧ j ≤ 18) ∨ j = 25)) ∨ ((b = 80 ∨ b = 98 ∨ b = 116) ∧ (j = 0 ∨ j = 2 ∨ j = 3)) ∨ (82 ≤ b ∧ b ≤ 97) ∨ (100 ≤ b ∧ b ≤ 115) ∨ (118 ≤ b ∧ b ≤ 137) ∨ (139 ≤ b ∧ b ≤ 143)
def smC (h h' : MH) : Prop := h'.2 = h.2 ∧ ∀ b j, ¬ scw b j → hv h' b j = hv h b j
theorem smC_rfl (h : MH) : smC h h := ⟨rfl, fun _ _ _ => rfl⟩
theorem smC_tr {h g k : MH} (p : smC h g) (q : smC g k) : smC h k := ⟨q.1.trans p.1, fun b j x => (q.2 b j x).trans (p.2 b j x)⟩
theorem smC_set {h : MH} {a k x : Int} (c : scw a k) : smC h (hset h a k x) := ⟨rfl, fun b j p => by rw [hv_set, if_neg]; rintro ⟨rfl, rfl⟩; exact p c⟩
theorem smC_fw {h : MH} {a : Int} {f : FA} (c : (82 ≤ a ∧ a ≤ 97) ∨ (100 ≤ a ∧ a ≤ 115) ∨ (118 ≤ a ∧ a ≤ 137) ∨ (139 ≤ a ∧ a ≤ 142)) : smC h (fw h a f) := ⟨rfl, fun b j p => fw_ne (fun e => p (by unfold scw; omega))⟩
theorem smC_ons {h h' : MH} {s : Int} (c : s = 80 ∨ s = 98 ∨ s = 116) (o : ons s h h') : smC h h' := ⟨o.1, fun b j p => o.2 b j (fun z => p (by unfold scw; omega)) (fun z => p (by unfold scw; omega))⟩
theorem smC_fr {h h' : MH} (s : smC h h') : frC h h' := ⟨s.1, fun b j p _ => s.2 b j (fun z => p (by unfold scw at z; unfold wlo; omega))⟩
theorem smC_hi {h h' : MH} (s : smC h h') {b : Int} (hb : 144 ≤ b ∨ (4 ≤ b ∧ b ≤ 79)) (j : Int) : hv h' b j = hv h b j := s.2 b j (fun z => by unfold scw at z; omega)
theorem smC_ext {h h' : MH} {L : PG} (w : WF L) (c : CW h L) (s : smC h h') : cT h' L = cT h L := by
  have f := smC_fr s
  refine cT_eq w (fun q hq => vq_of (frC_4 f q) (fun b j hb => smC_hi s (by have := (c.2.1 q hq).2; omega) j)) (fun a i j d => vc_of (frC_cad f w d) (fun k => smC_hi s (by have := (c.2.2.2.2.1 a i j d).2; omega) k)) (fun i i0 i1 => fo_eq (fun j => smC_hi s (by omega) j)) (fun m hm => ⟨fun j _ _ => smC_hi s (by unfold inM at hm; omega) j, fo_eq (fun j => smC_hi s (by unfold inM at hm; omega) j)⟩) (fun q hq => ⟨smC_hi s (by omega) q, smC_hi s (by omega) q, smC_hi s (by omega) q, smC_hi s (by omega) q⟩)
theorem zC_eq {h h' : MH} {L : PG} (e0 : ∀ q, inP L q → vq h h' q) (e4 : ∀ i, 0 ≤ i → i < 8 → hv h' (288 + i) 0 = hv h (288 + i) 0) (eo : ∀ m, inM L m → vo h h' m) (z : zC h L) : zC h' L := by
  refine ⟨fun q hq => ?_, fun m hm => ?_, fun i i0 i1 => by rw [e4 i i0 i1]; exact z.2.2 i i0 i1⟩
  · obtain ⟨x0, -, -, xs⟩ := e0 q hq
    rw [x0]
    rcases z.1 q hq with y | ⟨y, y2⟩
    · exact Or.inl y
    · exact Or.inr ⟨y, fun s s0 s1 => by rw [xs s s0 s1]; exact y2 s s0 s1⟩
  · obtain ⟨x0, x1⟩ := eo m hm
    rw [x0 0 (by decide) (by decide), x1]
    exact z.2.1 m hm
theorem smC_z {h h' : MH} {L : PG} (c : CW h L) (s : smC h h') (z : zC h L) : zC h' L :=
  zC_eq (fun q hq => vq_of (frC_4 (smC_fr s) q) (fun b j hb => smC_hi s (by have := (c.2.1 q hq).2; omega) j)) (fun i i0 i1 => smC_hi s (by omega) 0) (fun m hm => ⟨fun j _ _ => smC_hi s (by unfold inM at hm; omega) j, fo_eq (fun j => smC_hi s (by unfold inM at hm; omega) j)⟩) z
/-- users as they were -/
theorem UB_eq {h h' : MH} {L : PG} (w : WF L) (f : frC h h') (e : ∀ a i j, udom L a i j → ∀ k, hv h' (uad h a i j) k = hv h (uad h a i j) k) (u : UB h L) : UB h' L := by
  intro a i j d p p0 p1 x
  rw [frC_uad f w d, ubt_ne (e a i j d)] at x
  exact u a i j d p p0 p1 x
theorem smC_ST {h h' : MH} {L : PG} (w : WF L) (t : STc h L) (s : smC h h') : STc h' L := by
  obtain ⟨c, q, u, tv, z⟩ := t
  have f := smC_fr s
  refine ⟨frC_CW f w c, QI_of q (s.2 3 14 (fun z => by unfold scw at z; omega)) (s.2 3 15 (fun z => by unfold scw at z; omega)) (fun j => smC_hi s (by omega) j) (fun j => smC_hi s (by omega) j), UB_eq w f (fun a i j d k => smC_hi s (by have := (uad_ty w c d).2.2; omega) k) u, by rw [smC_ext w c s]; exact tv, smC_z c s z⟩
theorem smC_wkd {h h' : MH} {L : PG} (w : WF L) (c : CW h L) (s : smC h h') : wkdC h h' L := by
  have f := smC_fr s
  have e := smC_ext w c s
  have us : ∀ a i j, udom L a i j → ∀ p, ubt h' (uad h' a i j) p = ubt h (uad h a i j) p := fun a i j d p => by
    rw [frC_uad f w d]
    exact ubt_ne (fun k => smC_hi s (by have := (uad_ty w c d).2.2; omega) k)
  refine ⟨fun j x => by rw [smC_hi s (by omega) j]; exact x, fun q _ => Or.inr ⟨fun _ => by rw [e], by rw [e]⟩, fun a i j _ => Or.inl (by rw [e]), fun a i j d p _ x => by rw [us a i j d p]; exact x, fun r => ⟨fun p hp x => by rw [e]; rw [smC_hi s (by omega) p] at x; exact r.1 p hp x, fun a i j d p hp x => by rw [e]; rw [us a i j d p] at x; exact r.2 a i j d p hp x⟩⟩
theorem smC_A {h h' : MH} {L : PG} (w : WF L) (t : STc h L) (s : smC h h') : AdK L h h' (fun _ => True) (fun _ => True) := by
  have e := smC_ext w t.1 s
  exact ⟨smC_fr s, smC_ST w t s, smC_wkd w t.1 s, fun j => smC_hi s (by omega) j, by rw [e]; exact tle_rfl _, trivial, fun U _ p _ => by rw [e]; exact p, fun _ j hj => by rw [smC_hi s (by omega) j] at hj; exact hj⟩
/-- a step of the work's own room behind, ahead of what goes forward -/
theorem AdK_sm {h g h' : MH} {L : PG} {P A : TB → Prop} (w : WF L) (t : STc h L) (s : smC h g) (a : AdK L g h' P A) : AdK L h h' P A :=
  AdK_w (AdK_tr (smC_A w t s) a (fun _ _ _ x => x)) (fun _ p => p.2) (fun _ _ _ x => ⟨trivial, x⟩)
theorem AdK_ms {h g h' : MH} {L : PG} {P A : TB → Prop} (w : WF L) (a : AdK L h g P A) (s : smC g h') : AdK L h h' P A := by
  have e := smC_ext w a.2.1.1 s
  have b := smC_A w a.2.1 s
  obtain ⟨a1, a2, a3, a4, a5, a6, a7, a8⟩ := a
  refine ⟨frC_tr a1 b.1, b.2.1, wkdC_tr a3 b.2.2.1, fun j => (b.2.2.2.1 j).trans (a4 j), by rw [e]; exact a5, by rw [e]; exact a6, fun U oU p q => by rw [e]; exact a7 U oU p q, qui_C a5 (by rw [e]; exact tle_rfl _) a2 b.2.1 a8 b.2.2.2.2.2.2.2⟩
/-- a place is noted as one that rests on an entry -/
theorem urs_ST {h : MH} {L : PG} (w : WF L) (t : STc h L) {a i j p : Int} (d : udom L a i j) (hp : inP L p) (hrp : rch (cT h L) p) :
    AdK L h (urs h (uad h a i j) p) (fun _ => True) (fun _ => True) ∧ ubt (urs h (uad h a i j) p) (uad (urs h (uad h a i j) p) a i j) p = true ∧ cT (urs h (uad h a i j) p) L = cT h L := by
  obtain ⟨c, q, u, tv, z⟩ := t
  have nn := w.n
  unfold WFn at nn
  obtain ⟨y1, y2, y3⟩ := uad_ty w c d
  have f : frC h (urs h (uad h a i j) p) := ⟨rfl, fun b k p1 p2 => urs_ne (fun e => by
    rw [e] at p1 p2
    rcases y3 with y | y
    · exact p2 ⟨y, Or.inr (Or.inl y1)⟩
    · exact p1 (by unfold wlo; omega))⟩
  have ex := frC_uad f w d
  have o : ∀ b k, (ht h b ≠ 101 ∨ (b < 523 ∧ (b < 144 ∨ 288 ≤ b ∨ b % 3 ≠ 2))) → hv (urs h (uad h a i j) p) b k = hv h b k := fun b k hb => urs_ne (fun e => by
    rw [e] at hb
    rcases hb with x | x
    · exact x y1
    · omega)
  have e0 : ∀ q, inP L q → vq h (urs h (uad h a i j) p) q := fun q hq => vq_of (frC_4 f q) (fun b k hb => o b k (Or.inl (by
    obtain ⟨⟨s1, s2, s3, s4, s5, s6, s7⟩, -⟩ := c.2.1 q hq
    rcases hb with hb | hb
    · rw [hb.1, s3]; decide
    · have := (s7 (b - hv h 4 q - 2) (by omega) (by omega)).2
      rw [show hv h 4 q + 2 + (b - hv h 4 q - 2) = b by omega] at this
      rw [this]; decide)))
  have eo : ∀ m, inM L m → vo h (urs h (uad h a i j) p) m := fun m hm => ⟨fun j _ _ => o _ _ (Or.inr (by unfold inM at hm; omega)), fo_eq (fun j => o _ _ (Or.inr (by unfold inM at hm; omega)))⟩
  have eT : cT (urs h (uad h a i j) p) L = cT h L := by
    refine cT_eq w e0 (fun a' i' j' d' => vc_of (frC_cad f w d') (fun k => o _ k (Or.inl ?_))) (fun i i0 i1 => fo_eq (fun j => o _ _ (Or.inr (by omega)))) eo (fun q hq => ⟨o _ _ (Or.inr (by omega)), o _ _ (Or.inr (by omega)), o _ _ (Or.inr (by omega)), o _ _ (Or.inr (by omega))⟩)
    obtain ⟨cl, -⟩ := c.2.2.2.2.1 a' i' j' d'
    rw [cl.2.2.2.2.1]; decide
  have gro : ∀ a' i' j', udom L a' i' j' → ∀ p', 0 ≤ p' → ubt (urs h (uad h a i j) p) (uad h a' i' j') p' = true → ubt h (uad h a' i' j') p' = true ∨ p' = p := by
    intro a' i' j' d' p' p0 x
    by_cases e : uad h a' i' j' = uad h a i j
    · rw [e] at x ⊢
      rw [ubt_urs hp.1 p0] at x
      simp at x
      exact x
    · rw [ubt_ne (fun k => urs_ne e)] at x
      exact Or.inl x
  have kee : ∀ a' i' j', udom L a' i' j' → ∀ p', 0 ≤ p' → ubt h (uad h a' i' j') p' = true → ubt (urs h (uad h a i j) p) (uad h a' i' j') p' = true := by
    intro a' i' j' d' p' p0 x
    by_cases e : uad h a' i' j' = uad h a i j
    · rw [e] at x ⊢
      rw [ubt_urs hp.1 p0, x]; rfl
    · rw [ubt_ne (fun k => urs_ne e)]
      exact x
  refine ⟨⟨f, ⟨frC_CW f w c, QI_of q (o 3 14 (Or.inr (by omega))) (o 3 15 (Or.inr (by omega))) (fun j => o 78 j (Or.inr (by omega))) (fun j => o 79 j (Or.inr (by omega))), fun a' i' j' d' p' p0 p1 x => ?_, by rw [eT]; exact tv, zC_eq e0 (fun i i0 i1 => o _ _ (Or.inr (by omega))) eo z⟩, ⟨fun j x => by rw [o 79 j (Or.inr (by omega))]; exact x, fun q _ => Or.inr ⟨fun _ => by rw [eT], by rw [eT]⟩, fun a i j _ => Or.inl (by rw [eT]), fun a' i' j' d' p' hp' x => ?_, fun r => ⟨fun p' hp' x => by rw [eT]; rw [o 79 p' (Or.inr (by omega))] at x; exact r.1 p' hp' x, fun a' i' j' d' p' hp' x => by
    rw [eT]
    rw [frC_uad f w d'] at x
    rcases gro a' i' j' d' p' hp'.1 x with y | y
    · exact r.2 a' i' j' d' p' hp' y
    · rw [y]; exact hrp⟩⟩, fun j => o 77 j (Or.inr (by omega)), by rw [eT]; exact tle_rfl _, trivial, fun U _ p _ => by rw [eT]; exact p, fun _ j hj => by rw [o 79 j (Or.inr (by omega))] at hj; exact hj⟩, ?_, eT⟩
  · rw [frC_uad f w d'] at x
    rcases gro a' i' j' d' p' p0 x with y | y
    · exact u a' i' j' d' p' p0 p1 y
    · rw [y]; exact hp.2
  · rw [frC_uad f w d']
    exact kee a' i' j' d' p' hp'.1 x
  · rw [ex, ubt_urs hp.1 hp.1]; simp
