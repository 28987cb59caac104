/-! Part 40: facts as a lattice (plain) -/
abbrev FA : Type := Int × Int × Int × Int × Int × Int
/-- whether it is there; the span; labels (or locks that are perhaps held); sites; locks that are surely held -/
def ath (a : FA) : Int := a.1
def alo (a : FA) : Int := a.2.1
def ahi (a : FA) : Int := a.2.2.1
def alb (a : FA) : Int := a.2.2.2.1
def ast (a : FA) : Int := a.2.2.2.2.1
def asu (a : FA) : Int := a.2.2.2.2.2
def fz : FA := (0, 0, 0, 0, 0, 0)
/-- of a span, labels, sites -/
def fv (l h b s : Int) : FA := (1, l, h, b, s, 0)
/-- of locks -/
def fk (su pe : Int) : FA := (1, 0, 0, pe, 0, su)
/-- of sites alone -/
def fs (s : Int) : FA := (1, 0, 0, 0, s, 0)
def fle (a b : FA) : Prop := ath a ≠ 0 → ath b ≠ 0 ∧ alo b ≤ alo a ∧ ahi a ≤ ahi b ∧ (∀ s : Int, bi (alb a) s = true → bi (alb b) s = true) ∧
  (∀ s : Int, bl (ast a) s = true → bl (ast b) s = true) ∧ (∀ s : Int, bi (asu b) s = true → bi (asu a) s = true)
def fjoin (a b : FA) : FA := if ath b = 0 then a else if ath a = 0 then b else (1, min (alo a) (alo b), max (ahi a) (ahi b), i_or (alb a) (alb b), l_or (ast a) (ast b), i_and (asu a) (asu b))
/-- as facts in tables are -/
def fok (a : FA) : Prop := a = fz ∨ (ath a = 1 ∧ c32 (alo a) ∧ (c32 (ahi a) ∧ alo a ≤ ahi a) ∧ c32 (alb a) ∧ c64 (ast a) ∧ c32 (asu a))
theorem fle_rfl (a : FA) : fle a a := fun h => ⟨h, Int.le_refl _, Int.le_refl _, fun _ x => x, fun _ x => x, fun _ x => x⟩
theorem fle_trans {a b c : FA} (p : fle a b) (q : fle b c) : fle a c := by
  intro h
  obtain ⟨p0, p1, p2, p3, p4, p5⟩ := p h
  obtain ⟨q0, q1, q2, q3, q4, q5⟩ := q p0
  exact ⟨q0, Int.le_trans q1 p1, Int.le_trans p2 q2, fun s x => q3 s (p3 s x), fun s x => q4 s (p4 s x), fun s x => p5 s (q5 s x)⟩
theorem fle_fz (a : FA) : fle fz a := fun h => absurd rfl h
theorem fok_fz : fok fz := Or.inl rfl
theorem fle_anti {a b : FA} (ha : fok a) (hb : fok b) (p : fle a b) (q : fle b a) : a = b := by
  rcases ha with ha | ⟨ha0, ha1, ha2, ha3, ha4, ha5⟩
  · rcases hb with hb | ⟨hb0, _⟩
    · rw [ha, hb]
    · have := (q (by omega)).1
      rw [ha] at this
      exact absurd rfl this
  · obtain ⟨p0, p1, p2, p3, p4, p5⟩ := p (by omega)
    obtain ⟨q0, q1, q2, q3, q4, q5⟩ := q p0
    rcases hb with hb | ⟨hb0, hb1, hb2, hb3, hb4, hb5⟩
    · rw [hb] at p0; exact absurd rfl p0
    · have e1 : alb a = alb b := bi_ext ha3 hb3 (fun s _ _ => by
        have := p3 s; have := q3 s
        cases h1 : bi (alb a) s <;> cases h2 : bi (alb b) s <;> simp_all)
      have e2 : ast a = ast b := bl_ext ha4 hb4 (fun s _ _ => by
        have := p4 s; have := q4 s
        cases h1 : bl (ast a) s <;> cases h2 : bl (ast b) s <;> simp_all)
      have e3 : asu a = asu b := bi_ext ha5 hb5 (fun s _ _ => by
        have := p5 s; have := q5 s
        cases h1 : bi (asu a) s <;> cases h2 : bi (asu b) s <;> simp_all)
      obtain ⟨x0, x1, x2, x3, x4, x5⟩ := a
      obtain ⟨y0, y1, y2, y3, y4, y5⟩ := b
      simp only [ath, alo, ahi, alb, ast, asu] at *
      have : x1 = y1 := by omega
      have : x2 = y2 := by omega
      have : x0 = y0 := by omega
      simp_all
theorem fjoin_le {a b u : FA} : fle (fjoin a b) u ↔ fle a u ∧ fle b u := by
  unfold fjoin
  by_cases hb : ath b = 0
  · rw [if_pos hb]
    exact ⟨fun p => ⟨p, fun q => absurd hb q⟩, fun p => p.1⟩
  · rw [if_neg hb]
    by_cases ha : ath a = 0
    · rw [if_pos ha]
      exact ⟨fun p => ⟨fun q => absurd ha q, p⟩, fun p => p.2⟩
    · rw [if_neg ha]
      constructor
      · intro p
        obtain ⟨p0, p1, p2, p3, p4, p5⟩ := p (show (1 : Int) ≠ 0 by decide)
        simp only [alo, ahi, alb, ast, asu] at p1 p2 p3 p4 p5
        refine ⟨fun _ => ⟨p0, ?_, ?_, fun s x => ?_, fun s x => ?_, fun s x => ?_⟩, fun _ => ⟨p0, ?_, ?_, fun s x => ?_, fun s x => ?_, fun s x => ?_⟩⟩
        · simp only [alo]; omega
        · simp only [ahi]; omega
        · exact p3 s (by rw [bi_or]; simp only [alb] at x; rw [x]; rfl)
        · exact p4 s (by rw [bl_or]; simp only [ast] at x; rw [x]; rfl)
        · have := p5 s x; rw [bi_and] at this; simp at this; exact this.1
        · simp only [alo]; omega
        · simp only [ahi]; omega
        · exact p3 s (by rw [bi_or]; simp only [alb] at x; rw [x]; simp)
        · exact p4 s (by rw [bl_or]; simp only [ast] at x; rw [x]; simp)
        · have := p5 s x; rw [bi_and] at this; simp at this; exact this.2
      · rintro ⟨p, q⟩ _
        obtain ⟨p0, p1, p2, p3, p4, p5⟩ := p ha
        obtain ⟨q0, q1, q2, q3, q4, q5⟩ := q hb
        refine ⟨p0, ?_, ?_, fun s x => ?_, fun s x => ?_, fun s x => ?_⟩
        · simp only [alo] at *; omega
        · simp only [ahi] at *; omega
        · simp only [alb] at x; rw [bi_or] at x; simp at x
          rcases x with x | x
          · exact p3 s x
          · exact q3 s x
        · simp only [ast] at x; rw [bl_or] at x; simp at x
          rcases x with x | x
          · exact p4 s x
          · exact q4 s x
        · simp only [asu]; rw [bi_and]; simp
          exact ⟨p5 s x, q5 s x⟩
theorem fjoin_l (a b : FA) : fle a (fjoin a b) := (fjoin_le.mp (fle_rfl _)).1
theorem fjoin_r (a b : FA) : fle b (fjoin a b) := (fjoin_le.mp (fle_rfl _)).2
theorem fjoin_ok {a b : FA} (ha : fok a) (hb : fok b) : fok (fjoin a b) := by
  unfold fjoin
  by_cases e : ath b = 0
  · rw [if_pos e]; exact ha
  · rw [if_neg e]
    by_cases d : ath a = 0
    · rw [if_pos d]; exact hb
    · rw [if_neg d]
      rcases ha with ha | ⟨ha0, ha1, ha2, ha3, ha4, ha5⟩
      · rw [ha] at d; exact absurd rfl d
      · rcases hb with hb | ⟨hb0, hb1, hb2, hb3, hb4, hb5⟩
        · rw [hb] at e; exact absurd rfl e
        · refine Or.inr ⟨rfl, ?_, ?_, c32_i_or _ _, c64_l_or _ _, c32_i_and _ _⟩
          · simp only [alo] at *; unfold c32 at *; omega
          · simp only [ahi, alo] at *; unfold c32 at *; omega
theorem fjoin_of_le {a b : FA} (ha : fok a) (hb : fok b) (p : fle b a) : fjoin a b = a :=
  fle_anti (fjoin_ok ha hb) ha (fjoin_le.mpr ⟨fle_rfl a, p⟩) (fjoin_l a b)
theorem fjoin_eq {a b : FA} (e : fjoin a b = a) : fle b a := by
  have := fjoin_r a b; rw [e] at this; exact this
theorem fjoin_fz (b : FA) (hb : fok b) : fjoin fz b = b := by
  unfold fjoin
  by_cases e : ath b = 0
  · rw [if_pos e]
    rcases hb with hb | hb
    · exact hb.symm
    · omega
  · rw [if_neg e, if_pos (show ath fz = 0 from rfl)]
theorem fjoin_z (a : FA) : fjoin a fz = a := by unfold fjoin; rw [if_pos (show ath fz = 0 from rfl)]
theorem fok_fv {l h b s : Int} (h1 : c32 l) (h2 : c32 h) (hl : l ≤ h) (h3 : c32 b) (h4 : c64 s) : fok (fv l h b s) := Or.inr ⟨rfl, h1, ⟨h2, hl⟩, h3, h4, c32_0⟩
theorem fok_fk {a b : Int} (h1 : c32 a) (h2 : c32 b) : fok (fk a b) := Or.inr ⟨rfl, c32_0, ⟨c32_0, Int.le_refl _⟩, h2, (show c64 0 by unfold c64; decide), h1⟩
theorem fok_fs {a : Int} (h1 : c64 a) : fok (fs a) := Or.inr ⟨rfl, c32_0, ⟨c32_0, Int.le_refl _⟩, c32_0, h1, c32_0⟩
/-! tables -/
/-- kinds: 0 slots of places, 1 what sites hold, 2 lengths, 3 statics, 4 sinks, 5 what methods give, 6 locks of places, 7 of returns, 8 of escapes, 9 thrown, 10 called, 11 goes on to, 14 escapes, 15 unlocks -/
abbrev TB : Type := Int → Int → Int → FA
def tle (T U : TB) : Prop := ∀ a i j, fle (T a i j) (U a i j)
def tbok (T : TB) : Prop := ∀ a i j, fok (T a i j)
theorem tle_rfl (T : TB) : tle T T := fun _ _ _ => fle_rfl _
theorem tle_trans {T U V : TB} (p : tle T U) (q : tle U V) : tle T V := fun a i j => fle_trans (p a i j) (q a i j)
theorem tle_anti {T U : TB} (hT : tbok T) (hU : tbok U) (p : tle T U) (q : tle U T) : T = U := by
  funext a i j; exact fle_anti (hT a i j) (hU a i j) (p a i j) (q a i j)
/-- one entry is joined with a fact -/
def tj (T : TB) (a i j : Int) (v : FA) : TB := fun b k m => if b = a ∧ k = i ∧ m = j then fjoin (T b k m) v else T b k m
theorem tj_le {T U : TB} {a i j : Int} {v : FA} : tle (tj T a i j v) U ↔ tle T U ∧ fle v (U a i j) := by
  constructor
  · intro p
    refine ⟨fun b k m => ?_, ?_⟩
    · have := p b k m
      unfold tj at this
      by_cases c : b = a ∧ k = i ∧ m = j
      · rw [if_pos c] at this; exact (fjoin_le.mp this).1
      · rw [if_neg c] at this; exact this
    · have := p a i j
      unfold tj at this
      rw [if_pos ⟨rfl, rfl, rfl⟩] at this
      exact (fjoin_le.mp this).2
  · rintro ⟨p, q⟩ b k m
    unfold tj
    by_cases c : b = a ∧ k = i ∧ m = j
    · rw [if_pos c]
      obtain ⟨rfl, rfl, rfl⟩ := c
      exact fjoin_le.mpr ⟨p _ _ _, q⟩
    · rw [if_neg c]; exact p b k m
theorem tj_ok {T : TB} {a i j : Int} {v : FA} (hT : tbok T) (hv : fok v) : tbok (tj T a i j v) := by
  intro b k m
  unfold tj
  split
  · exact fjoin_ok (hT _ _ _) hv
  · exact hT _ _ _
theorem tj_ge (T : TB) (a i j : Int) (v : FA) : tle T (tj T a i j v) := (tj_le.mp (tle_rfl _)).1
theorem bi_neg {x s : Int} (h : s < 0) : bi x s = bi x 0 := by unfold bi; rw [show s.toNat = (0 : Int).toNat by omega]
theorem bl_neg {x s : Int} (h : s < 0) : bl x s = bl x 0 := by unfold bl; rw [show s.toNat = (0 : Int).toNat by omega]
/-! sums, and how much a table can still grow -/
def sm (n : Nat) (f : Nat → Nat) : Nat := match n with
  | 0 => 0
  | n + 1 => sm n f + f n
theorem sm_le {n : Nat} {f g : Nat → Nat} (h : ∀ i, i < n → f i ≤ g i) : sm n f ≤ sm n g := by
  induction n with
  | zero => exact Nat.le_refl _
  | succ n ih =>
    have h1 := ih (fun i hi => h i (by omega))
    have h2 := h n (by omega)
    show sm n f + f n ≤ sm n g + g n
    omega
theorem sm_eq {n : Nat} {f g : Nat → Nat} (h : ∀ i, i < n → f i ≤ g i) (e : sm n f = sm n g) : ∀ i, i < n → f i = g i := by
  induction n with
  | zero => intro i hi; omega
  | succ n ih =>
    have e' : sm n f + f n = sm n g + g n := e
    have h1 := sm_le (n := n) (f := f) (g := g) (fun i hi => h i (by omega))
    have h2 := h n (by omega)
    intro i hi
    by_cases c : i = n
    · subst c; omega
    · exact ih (fun i hi => h i (by omega)) (by omega) i (by omega)
theorem sm_bd {n k : Nat} {f : Nat → Nat} (h : ∀ i, i < n → f i ≤ k) : sm n f ≤ n * k := by
  induction n with
  | zero => simp [sm]
  | succ n ih =>
    have h1 := ih (fun i hi => h i (by omega))
    have h2 := h n (by omega)
    show sm n f + f n ≤ (n + 1) * k
    rw [Nat.add_mul]; omega
def wb (b : Bool) : Nat := if b then 0 else 1
def wt (a : FA) : Nat := if ath a = 0 then 20000000000 else
  (alo a + 2147483648).toNat + (2147483647 - ahi a).toNat + (sm 32 (fun s => wb (bi (alb a) s)) + (sm 64 (fun s => wb (bl (ast a) s)) + sm 32 (fun s => wb (!bi (asu a) s))))
theorem wb_le (b : Bool) : wb b ≤ 1 := by cases b <;> decide
theorem wb_mono {a b : Bool} (h : a = true → b = true) : wb b ≤ wb a := by
  cases a <;> cases b <;> simp_all [wb]
theorem wb_eq {a b : Bool} (h : wb a = wb b) : a = b := by
  cases a <;> cases b <;> simp_all [wb]
theorem wt_there {a : FA} (ha : fok a) (h : ath a ≠ 0) : wt a < 20000000000 := by
  rcases ha with ha | ⟨ha0, ha1, ha2, ha3, ha4, ha5⟩
  · rw [ha] at h; exact absurd rfl h
  · unfold wt
    rw [if_neg h]
    have h1 := sm_bd (n := 32) (k := 1) (f := fun s => wb (bi (alb a) s)) (fun i _ => wb_le _)
    have h2 := sm_bd (n := 64) (k := 1) (f := fun s => wb (bl (ast a) s)) (fun i _ => wb_le _)
    have h3 := sm_bd (n := 32) (k := 1) (f := fun s => wb (!bi (asu a) s)) (fun i _ => wb_le _)
    unfold c32 at ha1 ha2
    omega
theorem wt_mono {a b : FA} (ha : fok a) (hb : fok b) (p : fle a b) : wt b ≤ wt a ∧ (wt b = wt a → a = b) := by
  by_cases h : ath a = 0
  · have ea : a = fz := by rcases ha with q | q; exact q; omega
    by_cases h' : ath b = 0
    · have eb : b = fz := by rcases hb with q | q; exact q; omega
      rw [ea, eb]; exact ⟨Nat.le_refl _, fun _ => rfl⟩
    · have := wt_there hb h'
      have e : wt a = 20000000000 := by unfold wt; rw [if_pos h]
      exact ⟨by omega, fun q => by omega⟩
  · obtain ⟨p0, p1, p2, p3, p4, p5⟩ := p h
    have ha' := ha
    have hb' := hb
    rcases ha with ha | ⟨ha0, ha1, ha2, ha3, ha4, ha5⟩
    · rw [ha] at h; exact absurd rfl h
    · rcases hb with hb | ⟨hb0, hb1, hb2, hb3, hb4, hb5⟩
      · rw [hb] at p0; exact absurd rfl p0
      · have h1 := sm_le (n := 32) (f := fun s => wb (bi (alb b) s)) (g := fun s => wb (bi (alb a) s)) (fun i _ => wb_mono (p3 _))
        have h2 := sm_le (n := 64) (f := fun s => wb (bl (ast b) s)) (g := fun s => wb (bl (ast a) s)) (fun i _ => wb_mono (p4 _))
        have h3 := sm_le (n := 32) (f := fun s => wb (!bi (asu b) s)) (g := fun s => wb (!bi (asu a) s)) (fun i _ => wb_mono (fun q => by
          have := p5 i
          cases h1 : bi (asu a) i <;> cases h2 : bi (asu b) i <;> simp_all))
        unfold wt
        rw [if_neg h, if_neg p0]
        unfold c32 at ha1 ha2 hb1 hb2
        refine ⟨by omega, fun q => ?_⟩
        have e1 := sm_eq (n := 32) (f := fun s => wb (bi (alb b) s)) (g := fun s => wb (bi (alb a) s)) (fun i _ => wb_mono (p3 _)) (by omega)
        have e2 := sm_eq (n := 64) (f := fun s => wb (bl (ast b) s)) (g := fun s => wb (bl (ast a) s)) (fun i _ => wb_mono (p4 _)) (by omega)
        have e3 := sm_eq (n := 32) (f := fun s => wb (!bi (asu b) s)) (g := fun s => wb (!bi (asu a) s)) (fun i _ => wb_mono (fun q => by
          have := p5 i
          cases h1 : bi (asu a) i <;> cases h2 : bi (asu b) i <;> simp_all)) (by omega)
        refine fle_anti ha' hb' p (fun _ => ⟨h, by omega, by omega, fun s x => ?_, fun s x => ?_, fun s x => ?_⟩)
        · by_cases c : 0 ≤ s ∧ s < 32
          · have := wb_eq (e1 s.toNat (by omega))
            rw [show ((s.toNat : Nat) : Int) = s by omega] at this
            rw [← this]; exact x
          · by_cases c2 : s < 0
            · have := wb_eq (e1 0 (by omega))
              rw [bi_neg c2] at x ⊢
              exact this ▸ x
            · rw [bi_hi (by omega)] at x; cases x
        · by_cases c : 0 ≤ s ∧ s < 64
          · have := wb_eq (e2 s.toNat (by omega))
            rw [show ((s.toNat : Nat) : Int) = s by omega] at this
            rw [← this]; exact x
          · by_cases c2 : s < 0
            · have := wb_eq (e2 0 (by omega))
              rw [bl_neg c2] at x ⊢
              exact this ▸ x
            · rw [bl_hi (by omega)] at x; cases x
        · by_cases c : 0 ≤ s ∧ s < 32
          · have := wb_eq (e3 s.toNat (by omega))
            rw [show ((s.toNat : Nat) : Int) = s by omega] at this
            simp at this
            rw [this]; exact x
          · by_cases c2 : s < 0
            · have := wb_eq (e3 0 (by omega))
              rw [bi_neg c2] at x ⊢
              have t : bi (asu b) 0 = bi (asu a) 0 := Bool.not_inj this
              rw [t]; exact x
            · rw [bi_hi (by omega)] at x; cases x
/-- how much a table can grow on its finite part -/
def mt (T : TB) : Nat := sm 16 (fun a => sm 1500 (fun i => sm 128 (fun j => wt (T a i j))))
def tdom (a i j : Int) : Prop := 0 ≤ a ∧ a < 16 ∧ 0 ≤ i ∧ i < 1500 ∧ 0 ≤ j ∧ j < 128
theorem mt_le {T U : TB} (hT : tbok T) (hU : tbok U) (p : tle T U) : mt U ≤ mt T :=
  sm_le (fun a _ => sm_le (fun i _ => sm_le (fun j _ => (wt_mono (hT _ _ _) (hU _ _ _) (p _ _ _)).1)))
theorem mt_eq {T U : TB} (hT : tbok T) (hU : tbok U) (p : tle T U) (e : mt U = mt T) {a i j : Int} (d : tdom a i j) : T a i j = U a i j := by
  obtain ⟨d1, d2, d3, d4, d5, d6⟩ := d
  have e1 := sm_eq (fun a _ => sm_le (fun i _ => sm_le (fun j _ => (wt_mono (hT _ _ _) (hU _ _ _) (p _ _ _)).1))) e a.toNat (by omega)
  have e2 := sm_eq (fun i _ => sm_le (fun j _ => (wt_mono (hT _ _ _) (hU _ _ _) (p _ _ _)).1)) e1 i.toNat (by omega)
  have e3 := sm_eq (fun j _ => (wt_mono (hT _ _ _) (hU _ _ _) (p _ _ _)).1) e2 j.toNat (by omega)
  rw [show ((a.toNat : Nat) : Int) = a by omega, show ((i.toNat : Nat) : Int) = i by omega, show ((j.toNat : Nat) : Int) = j by omega] at e3
  exact (wt_mono (hT _ _ _) (hU _ _ _) (p _ _ _)).2 e3
