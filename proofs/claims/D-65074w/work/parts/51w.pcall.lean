/-! Part 51w: what a call reads of methods (plain) -/
/-- a table with what was read of outcomes -/
def RTb (T : TB) (f : Int → Int → FA) : TB := fun a i j => if (a = 5 ∨ a = 7 ∨ a = 8 ∨ a = 14 ∨ a = 15) ∧ j = 0 then f a i else T a i j
theorem RTb_o (T : TB) (f : Int → Int → FA) {a : Int} (i : Int) (o : oca a) : RTb T f a i 0 = f a i := by
  unfold RTb
  rw [if_pos ⟨o, rfl⟩]
theorem RTb_n (T : TB) (f : Int → Int → FA) {a : Int} (i j : Int) (o : ¬ oca a) : RTb T f a i j = T a i j := by
  unfold RTb
  rw [if_neg (fun y => o y.1)]
theorem RTb_0 (T : TB) (f : Int → Int → FA) (k : Int) : RTb T f 0 k = T 0 k := funext fun j => RTb_n T f k j (by unfold oca; omega)
theorem RTb_6 (T : TB) (f : Int → Int → FA) (k : Int) : RTb T f 6 k 0 = T 6 k 0 := RTb_n T f k 0 (by unfold oca; omega)
/-- what was read lies between the first table and the one now -/
def RIx (T V : TB) (f : Int → Int → FA) : Prop := ∀ c, (∀ a, oca a → fok (f a c) ∧ fle (T a c 0) (f a c) ∧ fle (f a c) (V a c 0)) ∧ (ath (f 5 c) ≠ 0 → ath (f 7 c) ≠ 0) ∧ (ath (f 14 c) ≠ 0 → ath (f 8 c) ≠ 0)
theorem RIx_up {T V V' : TB} {f : Int → Int → FA} (p : tle V V') (h : RIx T V f) : RIx T V' f := fun c => ⟨fun a o => ⟨((h c).1 a o).1, ((h c).1 a o).2.1, fle_trans ((h c).1 a o).2.2 (p _ _ _)⟩, (h c).2⟩
theorem RIx_0 {L : PG} {T : TB} (t : tiv L T) : RIx T T (fun a c => T a c 0) := fun c => ⟨fun a o => ⟨t.1 _ _ _, fle_rfl _, fle_rfl _⟩, (t.2.2.2.1 c).mp, (t.2.2.2.2.1 c).1.mp⟩
/-- one method's entries are read anew -/
def fup (f : Int → Int → FA) (n : Int) (S : Int → Bool) (V : TB) : Int → Int → FA := fun a c => if c = n ∧ S a = true then V a n 0 else f a c
def S1x (a : Int) : Bool := decide (a = 14 ∨ a = 8 ∨ a = 15)
def S2x (a : Int) : Bool := decide (a = 5 ∨ a = 7)
theorem fup_ne {f : Int → Int → FA} {n : Int} {S : Int → Bool} {V : TB} {a c : Int} (h : c ≠ n) : fup f n S V a c = f a c := by
  unfold fup
  rw [if_neg (fun y => h y.1)]
theorem fup_y {f : Int → Int → FA} {n : Int} {S : Int → Bool} {V : TB} {a : Int} (h : S a = true) : fup f n S V a n = V a n 0 := by
  unfold fup
  rw [if_pos ⟨rfl, h⟩]
theorem fup_n {f : Int → Int → FA} {n : Int} {S : Int → Bool} {V : TB} {a : Int} (h : S a = false) (c : Int) : fup f n S V a c = f a c := by
  unfold fup
  rw [if_neg (fun y => by rw [h] at y; cases y.2)]
theorem RIx_fup {L : PG} {T V : TB} {f : Int → Int → FA} {n : Int} {S : Int → Bool} (tV : tiv L V) (p : tle T V) (hS : S = S1x ∨ S = S2x) (h : RIx T V f) : RIx T V (fup f n S V) := by
  intro c
  by_cases e : c = n
  · subst e
    refine ⟨fun a o => ?_, ?_, ?_⟩
    · cases s : S a
      · rw [fup_n s]; exact (h c).1 a o
      · rw [fup_y s]; exact ⟨tV.1 _ _ _, p _ _ _, fle_rfl _⟩
    · rcases hS with rfl | rfl
      · rw [fup_n (by decide), fup_n (by decide)]; exact (h c).2.1
      · rw [fup_y (by decide), fup_y (by decide)]; exact (tV.2.2.2.1 c).mp
    · rcases hS with rfl | rfl
      · rw [fup_y (by decide), fup_y (by decide)]; exact (tV.2.2.2.2.1 c).1.mp
      · rw [fup_n (by decide), fup_n (by decide)]; exact (h c).2.2
  · refine ⟨fun a o => by rw [fup_ne e]; exact (h c).1 a o, ?_, ?_⟩
    · rw [fup_ne e, fup_ne e]; exact (h c).2.1
    · rw [fup_ne e, fup_ne e]; exact (h c).2.2
theorem RTb_ok {T V : TB} {f : Int → Int → FA} (oT : tbok T) (h : RIx T V f) : tbok (RTb T f) := by
  intro a i j
  by_cases o : oca a ∧ j = 0
  · rw [o.2, RTb_o T f i o.1]; exact ((h i).1 a o.1).1
  · unfold RTb
    unfold oca at o
    rw [if_neg o]; exact oT _ _ _
theorem RTb_le {T V : TB} {f : Int → Int → FA} (p : tle T V) (h : RIx T V f) : tle (RTb T f) V := by
  intro a i j
  by_cases o : oca a ∧ j = 0
  · rw [o.2, RTb_o T f i o.1]; exact ((h i).1 a o.1).2.2
  · unfold RTb
    unfold oca at o
    rw [if_neg o]; exact p _ _ _
/-- what a closed table asks, seen from what was read -/
theorem RTb_dn {L : PG} {T V U : TB} {f : Int → Int → FA} {k : Int} (t : tiv L T) (hr : rch T k) (p : tle T V) (h : RIx T V f) (q : tle V U) (c : CLz L U U k) : CLz L (RTb T f) U k := by
  refine CL_le (RTb_ok t.1 h) (tle_trans (RTb_le p h) q) (by unfold rch; rw [RTb_6]; exact hr) (fun c y => ?_) (fun c s y => ?_) (tle_rfl U) c
  · rw [RTb_o T f c (by unfold oca; omega)] at y ⊢
    exact (h c).2.1 y
  · rw [RTb_o T f c (by unfold oca; omega)] at y ⊢
    refine (h c).2.2 (fun e => ?_)
    have := y.2.2
    rcases ((h c).1 14 (by unfold oca; omega)).1 with z | z
    · rw [z, show ast fz = 0 from rfl, bl_zero] at this; cases this
    · omega
theorem CD_R {L : PG} {T : TB} {f : Int → Int → FA} {k c : Int} : CD L (RTb T f) k c ↔ CD L T k c := by
  unfold CD
  rw [RTb_0]
/-- methods so far that give back -/
def cIx (L : PG) (T : TB) (k : Int) (f : Int → Int → FA) (n c : Int) : Prop := 0 ≤ c ∧ c < n ∧ CD L T k c ∧ ath (f 5 c) ≠ 0
/-- what was put together of the first n methods -/
def cGx (L : PG) (T : TB) (k : Int) (f : Int → Int → FA) (n v5 v6 v7 v8 : Int) : Prop := (v5 ≠ 0 ↔ ∃ c, cIx L T k f n c) ∧ (∀ x : Int, bi v6 x = true ↔ ∃ c, 0 ≤ c ∧ c < n ∧ CD L T k c ∧ bi (alb (f 15 c)) x = true) ∧
  (∀ x : Int, x < 32 → (bi v7 x = true ↔ ∀ c, cIx L T k f n c → bi (asu (f 7 c)) x = true)) ∧ (∀ x : Int, bi v8 x = true ↔ ∃ c, cIx L T k f n c ∧ bi (alb (f 7 c)) x = true) ∧ c32 v6 ∧ c32 v7 ∧ c32 v8
theorem cGx_0 {L : PG} {T : TB} {k : Int} {f : Int → Int → FA} : cGx L T k f 0 0 0 (-1) 0 := by
  refine ⟨⟨fun y => absurd rfl y, fun ⟨c, hc⟩ => ?_⟩, fun x => ⟨fun y => ?_, fun ⟨c, c0, c1, _⟩ => ?_⟩, fun x hx => ⟨fun _ c hc => ?_, fun _ => bi_m1 hx⟩, fun x => ⟨fun y => ?_, fun ⟨c, hc, _⟩ => ?_⟩, ?_, ?_, ?_⟩
  · have := hc.1; have := hc.2.1; omega
  · rw [bi_zero] at y; cases y
  · omega
  · have := hc.1; have := hc.2.1; omega
  · rw [bi_zero] at y; cases y
  · have := hc.1; have := hc.2.1; omega
  · unfold c32; omega
  · unfold c32; omega
  · unfold c32; omega
/-- what was read of methods not yet met does not matter -/
theorem cIx_eq {L : PG} {T : TB} {k n : Int} {f f' : Int → Int → FA} (e : ∀ a c, c < n → f' a c = f a c) (c : Int) : cIx L T k f' n c ↔ cIx L T k f n c := by
  unfold cIx
  constructor
  · rintro ⟨y1, y2, y3, y4⟩; rw [e 5 c y2] at y4; exact ⟨y1, y2, y3, y4⟩
  · rintro ⟨y1, y2, y3, y4⟩; rw [← e 5 c y2] at y4; exact ⟨y1, y2, y3, y4⟩
theorem cGx_eq {L : PG} {T : TB} {k n v5 v6 v7 v8 : Int} {f f' : Int → Int → FA} (e : ∀ a c, c < n → f' a c = f a c) (g : cGx L T k f n v5 v6 v7 v8) : cGx L T k f' n v5 v6 v7 v8 := by
  obtain ⟨g1, g2, g3, g4, g5⟩ := g
  refine ⟨?_, fun x => ?_, fun x hx => ?_, fun x => ?_, g5⟩
  · rw [g1]
    exact ⟨fun ⟨c, hc⟩ => ⟨c, (cIx_eq e c).mpr hc⟩, fun ⟨c, hc⟩ => ⟨c, (cIx_eq e c).mp hc⟩⟩
  · rw [g2 x]
    exact ⟨fun ⟨c, c0, c1, c2, c3⟩ => ⟨c, c0, c1, c2, by rw [e 15 c c1]; exact c3⟩, fun ⟨c, c0, c1, c2, c3⟩ => ⟨c, c0, c1, c2, by rw [← e 15 c c1]; exact c3⟩⟩
  · rw [g3 x hx]
    exact ⟨fun y c hc => by rw [e 7 c hc.2.1]; exact y c ((cIx_eq e c).mp hc), fun y c hc => by rw [← e 7 c hc.2.1]; exact y c ((cIx_eq e c).mpr hc)⟩
  · rw [g4 x]
    exact ⟨fun ⟨c, hc, b⟩ => ⟨c, (cIx_eq e c).mpr hc, by rw [e 7 c hc.2.1]; exact b⟩, fun ⟨c, hc, b⟩ => ⟨c, (cIx_eq e c).mp hc, by rw [← e 7 c hc.2.1]; exact b⟩⟩
theorem cGx_no {L : PG} {T : TB} {k n v5 v6 v7 v8 : Int} {f : Int → Int → FA} (nd : ¬ CD L T k n) (g : cGx L T k f n v5 v6 v7 v8) : cGx L T k f (n + 1) v5 v6 v7 v8 := by
  have ci : ∀ c, cIx L T k f (n + 1) c ↔ cIx L T k f n c := by
    intro c
    unfold cIx
    constructor
    · rintro ⟨y1, y2, y3, y4⟩
      have : c ≠ n := fun e => nd (by rw [← e]; exact y3)
      exact ⟨y1, by omega, y3, y4⟩
    · rintro ⟨y1, y2, y3, y4⟩; exact ⟨y1, by omega, y3, y4⟩
  obtain ⟨g1, g2, g3, g4, g5⟩ := g
  refine ⟨?_, fun x => ?_, fun x hx => ?_, fun x => ?_, g5⟩
  · rw [g1]
    exact ⟨fun ⟨c, hc⟩ => ⟨c, (ci c).mpr hc⟩, fun ⟨c, hc⟩ => ⟨c, (ci c).mp hc⟩⟩
  · rw [g2 x]
    constructor
    · rintro ⟨c, c0, c1, c2, c3⟩; exact ⟨c, c0, by omega, c2, c3⟩
    · rintro ⟨c, c0, c1, c2, c3⟩
      have : c ≠ n := fun e => nd (by rw [← e]; exact c2)
      exact ⟨c, c0, by omega, c2, c3⟩
  · rw [g3 x hx]
    exact ⟨fun y c hc => y c ((ci c).mp hc), fun y c hc => y c ((ci c).mpr hc)⟩
  · rw [g4 x]
    exact ⟨fun ⟨c, hc, b⟩ => ⟨c, (ci c).mpr hc, b⟩, fun ⟨c, hc, b⟩ => ⟨c, (ci c).mp hc, b⟩⟩
/-- a method that is called: with what it gives back, or without -/
theorem cGx_yes {L : PG} {T : TB} {k n v5 v6 v7 v8 w5 w7 w8 : Int} {f : Int → Int → FA} (n0 : 0 ≤ n) (cd : CD L T k n) (g : cGx L T k f n v5 v6 v7 v8)
    (h : (ath (f 5 n) ≠ 0 ∧ w5 = 1 ∧ w7 = i_and v7 (asu (f 7 n)) ∧ w8 = i_or v8 (alb (f 7 n))) ∨ (ath (f 5 n) = 0 ∧ w5 = v5 ∧ w7 = v7 ∧ w8 = v8)) : cGx L T k f (n + 1) w5 (i_or v6 (alb (f 15 n))) w7 w8 := by
  obtain ⟨g1, g2, g3, g4, g5, g6, g7⟩ := g
  have ci : ∀ c, cIx L T k f (n + 1) c ↔ (cIx L T k f n c ∨ (c = n ∧ ath (f 5 n) ≠ 0)) := by
    intro c
    unfold cIx
    constructor
    · rintro ⟨y1, y2, y3, y4⟩
      by_cases e : c = n
      · rw [e] at y4; exact Or.inr ⟨e, y4⟩
      · exact Or.inl ⟨y1, by omega, y3, y4⟩
    · rintro (⟨y1, y2, y3, y4⟩ | ⟨e, y⟩)
      · exact ⟨y1, by omega, y3, y4⟩
      · rw [e]; exact ⟨n0, by omega, cd, y⟩
  have un : ∀ x : Int, bi (i_or v6 (alb (f 15 n))) x = true ↔ ∃ c, 0 ≤ c ∧ c < n + 1 ∧ CD L T k c ∧ bi (alb (f 15 c)) x = true := by
    intro x
    rw [bi_or]
    simp only [Bool.or_eq_true]
    rw [g2 x]
    constructor
    · rintro (⟨c, c0, c1, c2, c3⟩ | y)
      · exact ⟨c, c0, by omega, c2, c3⟩
      · exact ⟨n, n0, by omega, cd, y⟩
    · rintro ⟨c, c0, c1, c2, c3⟩
      by_cases e : c = n
      · rw [e] at c3; exact Or.inr c3
      · exact Or.inl ⟨c, c0, by omega, c2, c3⟩
  rcases h with ⟨y, rfl, rfl, rfl⟩ | ⟨y, rfl, rfl, rfl⟩
  · refine ⟨⟨fun _ => ⟨n, (ci n).mpr (Or.inr ⟨rfl, y⟩)⟩, fun _ => by decide⟩, un, fun x hx => ?_, fun x => ?_, c32_i_or _ _, c32_i_and _ _, c32_i_or _ _⟩
    · rw [bi_and]
      simp only [Bool.and_eq_true]
      rw [g3 x hx]
      constructor
      · rintro ⟨z1, z2⟩ c hc
        rcases (ci c).mp hc with q | ⟨q, -⟩
        · exact z1 c q
        · rw [q]; exact z2
      · intro z
        exact ⟨fun c hc => z c ((ci c).mpr (Or.inl hc)), z n ((ci n).mpr (Or.inr ⟨rfl, y⟩))⟩
    · rw [bi_or]
      simp only [Bool.or_eq_true]
      rw [g4 x]
      constructor
      · rintro (⟨c, hc, b⟩ | z)
        · exact ⟨c, (ci c).mpr (Or.inl hc), b⟩
        · exact ⟨n, (ci n).mpr (Or.inr ⟨rfl, y⟩), z⟩
      · rintro ⟨c, hc, b⟩
        rcases (ci c).mp hc with q | ⟨q, -⟩
        · exact Or.inl ⟨c, q, b⟩
        · rw [q] at b; exact Or.inr b
  · have ci' : ∀ c, cIx L T k f (n + 1) c ↔ cIx L T k f n c := fun c => by
      rw [ci c]
      exact ⟨fun q => q.elim id (fun q => absurd y q.2), Or.inl⟩
    refine ⟨?_, un, fun x hx => ?_, fun x => ?_, c32_i_or _ _, g6, g7⟩
    · rw [g1]
      exact ⟨fun ⟨c, hc⟩ => ⟨c, (ci' c).mpr hc⟩, fun ⟨c, hc⟩ => ⟨c, (ci' c).mp hc⟩⟩
    · rw [g3 x hx]
      exact ⟨fun z c hc => z c ((ci' c).mp hc), fun z c hc => z c ((ci' c).mpr hc)⟩
    · rw [g4 x]
      exact ⟨fun ⟨c, hc, b⟩ => ⟨c, (ci' c).mpr hc, b⟩, fun ⟨c, hc, b⟩ => ⟨c, (ci' c).mp hc, b⟩⟩
/-- locks behind a call stand for those behind each method -/
theorem lub_lk {L : PG} {T : TB} {k v5 v6 v7 v8 : Int} {f : Int → Int → FA} (nm0 : 0 ≤ pNm L) (g : cGx L T k f (pNm L) v5 v6 v7 v8) (nz : v5 ≠ 0) : lub (fk (i_or v7 (i_and (asu (T 6 k 0)) (i_xor v6 (-1)))) v8) (cIx L T k f (pNm L)) (lkr L (RTb T f) k) := by
  obtain ⟨g1, g2, g3, g4, -⟩ := g
  obtain ⟨cc, hcc⟩ := g1.mp nz
  have un : ∀ x : Int, bi (und L (RTb T f) k) x = bi v6 x := by
    intro x
    have a := und_bit (L := L) (T := RTb T f) (k := k) (pNm L).toNat x
    have e : bi (und L (RTb T f) k) x = true ↔ bi v6 x = true := by
      rw [show und L (RTb T f) k = undI L (RTb T f) k (pNm L).toNat from rfl, a, g2 x]
      constructor
      · rintro ⟨c, c0, c1, c2, c3⟩
        rw [RTb_o T f c (by unfold oca; omega)] at c3
        exact ⟨c, c0, by omega, CD_R.mp c2, c3⟩
      · rintro ⟨c, c0, c1, c2, c3⟩
        exact ⟨c, c0, by omega, CD_R.mpr c2, by rw [RTb_o T f c (by unfold oca; omega)]; exact c3⟩
    cases p : bi v6 x
    · cases q : bi (und L (RTb T f) k) x
      · rfl
      · rw [p] at e; exact absurd (e.mp q) (by decide)
    · exact e.mpr p
  have el : ∀ c, lkr L (RTb T f) k c = fk (i_or (asu (f 7 c)) (i_and (asu (T 6 k 0)) (i_xor (und L (RTb T f) k) (-1)))) (alb (f 7 c)) := by
    intro c
    unfold lkr
    rw [RTb_6, RTb_o T f c (by unfold oca; omega)]
  intro u
  constructor
  · intro p c hc
    rw [el c]
    obtain ⟨p1, p2, p3, p4, p5⟩ := fk_le.mp p
    refine fk_le.mpr ⟨p1, p2, p3, fun x hx => p4 x ((g4 x).mpr ⟨c, hc, hx⟩), fun x hx => ?_⟩
    have q := p5 x hx
    rw [bi_or, bi_andn] at q ⊢
    simp only [Bool.or_eq_true, Bool.and_eq_true] at q ⊢
    rcases q with q | ⟨q1, q2⟩
    · by_cases x32 : x < 32
      · exact Or.inl ((g3 x x32).mp q c hc)
      · rw [bi_hi (by omega)] at q; cases q
    · exact Or.inr ⟨q1, by rw [un x]; exact q2⟩
  · intro p
    have one := p cc hcc
    rw [el cc] at one
    obtain ⟨p1, p2, p3, -, -⟩ := fk_le.mp one
    refine fk_le.mpr ⟨p1, p2, p3, fun x hx => ?_, fun x hx => ?_⟩
    · obtain ⟨c, hc, b⟩ := (g4 x).mp hx
      have q := p c hc
      rw [el c] at q
      exact (fk_le.mp q).2.2.2.1 x b
    · rw [bi_or, bi_andn]
      simp only [Bool.or_eq_true, Bool.and_eq_true]
      by_cases y : bi (asu (T 6 k 0)) x = true ∧ (!bi v6 x) = true
      · exact Or.inr y
      · left
        have x32 : x < 32 := by
          apply Classical.byContradiction
          intro z
          rw [bi_hi (by omega)] at hx; cases hx
        rw [g3 x x32]
        intro c hc
        have q := p c hc
        rw [el c] at q
        have q2 := (fk_le.mp q).2.2.2.2 x hx
        rw [bi_or, bi_andn, un x] at q2
        simp only [Bool.or_eq_true, Bool.and_eq_true] at q2
        rcases q2 with z | z
        · exact z
        · exact absurd z y
/-- a flow with facts that stand for several is a flow with each -/
theorem GT_lub2 {L : PG} {U : TB} {k i x : Int} {X : Int → FA} {lk v : FA} {I : Int → Prop} {f g : Int → FA} (hv : lub v I f) (hl : lub lk I g) (ne : ∃ s, I s) : GT L U k i (ux X x v) lk ↔ ∀ s, I s → GT L U k i (ux X x (f s)) (g s) := by
  constructor
  · intro p s hs
    exact GT_le (ux_le (fun _ => fle_rfl _) ((hv v).mp (fle_rfl v) s hs)) ((hl lk).mp (fle_rfl lk) s hs) (tle_rfl _) p
  · intro p
    obtain ⟨s0, h0⟩ := ne
    refine ⟨(p s0 h0).1, fun j hj => ?_, (hl _).mpr (fun s hs => (p s hs).2.2)⟩
    unfold ux
    by_cases jx : j = x
    · rw [if_pos jx]
      refine (hv _).mpr (fun s hs => ?_)
      have := (p s hs).2.1 j hj
      unfold ux at this
      rw [if_pos jx] at this
      exact this
    · rw [if_neg jx]
      have := (p s0 h0).2.1 j hj
      unfold ux at this
      rw [if_neg jx] at this
      exact this
theorem GT_lub1 {L : PG} {U : TB} {k i : Int} {X : Int → FA} {lk : FA} {I : Int → Prop} {g : Int → FA} (hl : lub lk I g) (ne : ∃ s, I s) : GT L U k i X lk ↔ ∀ s, I s → GT L U k i X (g s) := by
  constructor
  · intro p s hs
    exact GT_le (fun _ => fle_rfl _) ((hl lk).mp (fle_rfl lk) s hs) (tle_rfl _) p
  · intro p
    obtain ⟨s0, h0⟩ := ne
    exact ⟨(p s0 h0).1, (p s0 h0).2.1, (hl _).mpr (fun s hs => (p s hs).2.2)⟩
/-- unlocks of a call stand for those of each method -/
theorem unl_all {L : PG} {T : TB} {k v5 v6 v7 v8 : Int} {f : Int → Int → FA} {u : FA} (g : cGx L T k f (pNm L) v5 v6 v7 v8) (of : ∀ c, f 15 c = fbi (alb (f 15 c)) ∧ c32 (alb (f 15 c))) : fle (fbi v6) u ↔ ∀ c, 0 ≤ c → c < pNm L → CD L T k c → fle (f 15 c) u := by
  obtain ⟨-, g2, -, -, c6, -⟩ := g
  constructor
  · intro p c c0 c1 cd
    refine fle_trans ?_ p
    rw [(of c).1]
    unfold fbi
    by_cases z : alb (f 15 c) = 0
    · rw [if_pos z]; exact fle_fz _
    · rw [if_neg z]
      by_cases z6 : v6 = 0
      · exfalso
        have ok : ∀ x : Int, bi (alb (f 15 c)) x = false := fun x => by
          cases q : bi (alb (f 15 c)) x
          · rfl
          · have := (g2 x).mpr ⟨c, c0, c1, cd, q⟩
            rw [z6, bi_zero] at this; cases this
        obtain ⟨x, hx⟩ := bi_some (of c).2 z
        rw [ok x] at hx; cases hx
      · rw [if_neg z6]
        exact fle_fv (Int.le_refl _) (Int.le_refl _) (fun x hx => (g2 x).mpr ⟨c, c0, c1, cd, hx⟩) (fun _ y => y)
  · intro p
    unfold fbi
    by_cases z6 : v6 = 0
    · rw [if_pos z6]; exact fle_fz _
    · rw [if_neg z6]
      intro _
      obtain ⟨x, hx⟩ := bi_some c6 z6
      have sub : ∀ x : Int, bi v6 x = true → ath u ≠ 0 ∧ alo u ≤ 0 ∧ 0 ≤ ahi u ∧ bi (alb u) x = true ∧ (∀ y : Int, bi (asu u) y = true → bi 0 y = true) := by
        intro x hx
        obtain ⟨c, c0, c1, cd, b⟩ := (g2 x).mp hx
        have q := p c c0 c1 cd
        rw [(of c).1] at q
        unfold fbi at q
        rw [if_neg (fun z => by rw [z, bi_zero] at b; cases b)] at q
        obtain ⟨q0, q1, q2, q3, -, q5⟩ := q (by decide : (1 : Int) ≠ 0)
        exact ⟨q0, q1, q2, q3 x b, q5⟩
      obtain ⟨q0, q1, q2, -, q5⟩ := sub x hx
      exact ⟨q0, q1, q2, fun y hy => (sub y hy).2.2.2.1, (fun y hy => by rw [show ast (fv 0 0 v6 0) = 0 from rfl, bl_zero] at hy; cases hy), q5⟩
