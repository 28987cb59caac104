/-! Part 38ze: methods that are called in turn; origins of threads; what may run apart -/
set_option maxRecDepth 100000
/-- a set of methods is closed under calls -/
def ccl (L : PG) (T : TB) (S : Int → Prop) : Prop := ∀ k c, inP L k → rch T k → pOp L k ≠ 36 → S (pMo L k) → 0 ≤ c → c < 64 → ath (T 10 k c) ≠ 0 → S c
/-- METHODS CALLED IN TURN -/
def CLO (L : PG) (T : TB) (A : Int → Prop) (m : Int) : Prop := ∀ S : Int → Prop, (∀ c, A c → S c) → ccl L T S → S m
theorem CLO_in {L : PG} {T : TB} {A : Int → Prop} {k c : Int} (hk : inP L k) (r : rch T k) (o : pOp L k ≠ 36) (h : CLO L T A (pMo L k)) (c0 : 0 ≤ c) (c1 : c < 64) (a : ath (T 10 k c) ≠ 0) : CLO L T A c :=
  fun S s1 s2 => s2 k c hk r o (h S s1 s2) c0 c1 a
def bls (v c : Int) : Prop := 0 ≤ c ∧ c < 64 ∧ bl v c = true
/-- bits of a long that are not set -/
def mbl (v : Int) : Nat := sm 64 (fun s => wb (bl v (s : Nat)))
theorem mbl_or {v u : Int} (h : ∃ s, 0 ≤ s ∧ s < 64 ∧ bl u s = true ∧ bl v s = false) : mbl (l_or v u) < mbl v := by
  have hle : ∀ i : Nat, i < 64 → wb (bl (l_or v u) (i : Nat)) ≤ wb (bl v (i : Nat)) := fun i _ => wb_mono (fun q => by rw [bl_or, q]; rfl)
  have h1 : mbl (l_or v u) ≤ mbl v := sm_le hle
  apply Classical.byContradiction
  intro no
  obtain ⟨s, s0, s1, a, b⟩ := h
  have := wb_eq (sm_eq hle (show mbl (l_or v u) = mbl v by omega) s.toNat (by omega))
  rw [show ((s.toNat : Nat) : Int) = s by omega, bl_or, a, b] at this
  cases this
theorem t_closed {l : Launch} {G : JG} (hG : gO G = true) {h : MH} {L : PG} (tf : TF h L) (w : WF L) {v : Int} {Q : Int → MH → Prop} {E : Nat → Int → MH → Prop}
    (hQ : ∀ z, (∀ m, 0 ≤ m → m < 64 → (bl z m = true ↔ CLO L (tT h L) (bls v) m)) → Q z h) : S_X9_closed l G [(2009, 396), (1, v)] h Q E := by
  have nn := w.n
  unfold WFn at nn
  refine s_X9_closed rfl fun K ki => r_X9_closed_0 ki hG ?_
  intro x3 e3 x5 e5
  have outer : ∀ N : Nat, ∀ a : Int, mbl a ≤ N → (∀ m, bls v m → bls a m) → (∀ m, bls a m → CLO L (tT h L) (bls v) m) → JW K 5 [(2009, 396), (1, v), (5000, 0), (1, a), (5000, 0), (0, 1), (5000, 0), (5000, 0)] [] h := by
    intro N
    induction N using Nat.strongRecOn with
    | ind N ih =>
      intro a0 ms sub snd
      refine r_X9_closed_5 ki hG ⟨fun z => by omega, fun _ => ?_⟩
      intro y5 f5 y6 f6
      have inner : ∀ M : Nat, ∀ n q a : Int, (pNp L - n).toNat ≤ M → 0 ≤ n → n ≤ pNp L → (q = 0 ∨ q = 1) → (∀ m, bls v m → bls a m) → (∀ m, bls a m → CLO L (tT h L) (bls v) m) →
          (q = 0 → a = a0 ∧ ∀ k, 0 ≤ k → k < n → rch (tT h L) k → pOp L k ≠ 36 → bls a (pMo L k) → ∀ c, 0 ≤ c → c < 64 → ath (tT h L 10 k c) ≠ 0 → bls a c) → (q = 1 → mbl a < mbl a0) →
          JW K 16 [(2009, 396), (1, v), (5000, 0), (1, a), (5000, 0), (0, q), (0, n), (5000, 0)] [] h := by
        have fin : ∀ q a : Int, (q = 0 ∨ q = 1) → (∀ m, bls v m → bls a m) → (∀ m, bls a m → CLO L (tT h L) (bls v) m) →
            (q = 0 → a = a0 ∧ ∀ k, 0 ≤ k → k < pNp L → rch (tT h L) k → pOp L k ≠ 36 → bls a (pMo L k) → ∀ c, 0 ≤ c → c < 64 → ath (tT h L 10 k c) ≠ 0 → bls a c) → (q = 1 → mbl a < mbl a0) →
            JW K 16 [(2009, 396), (1, v), (5000, 0), (1, a), (5000, 0), (0, q), (0, pNp L), (5000, 0)] [] h := by
          intro q a q01 sub snd z0 z1
          refine r_X9_closed_16 ki hG ⟨tf.ne, fun _ => ?_, fun z => by rw [tf.nnp] at z; omega⟩
          by_cases e : q = 0
          · subst e
            refine r_X9_closed_5 ki hG ⟨fun _ => hQ a (fun m m0 m1 => ⟨fun y => snd m ⟨m0, m1, y⟩, fun y => ?_⟩), fun z => absurd rfl z⟩
            exact (y (bls a) sub (fun k c hk r o s c0 c1 t => (z0 rfl).2 k hk.1 hk.2 r o s c c0 c1 t)).2.2
          · have q1 : q = 1 := by omega
            subst q1
            exact ih (mbl a) (by have := z1 rfl; omega) a (Nat.le_refl _) sub snd
        intro M
        induction M with
        | zero =>
          intro n q a m1 m2 m3 q01 sub snd z0 z1
          have en : n = pNp L := by omega
          subst en
          exact fin q a q01 sub snd z0 z1
        | succ M ihM =>
          intro n q a m1 m2 m3 q01 sub snd z0 z1
          by_cases en : n = pNp L
          · subst en; exact fin q a q01 sub snd z0 z1
          have hn : inP L n := ⟨m2, by omega⟩
          have wj := w.k hn.1 hn.2
          have mo0 := wj.1.1
          have mo1 := wj.1.2.1
          refine JW_hyp fun Hg okg _ => ?_
          have hG' : gO (kG K) = true := by rw [ki.2.2.1]; exact hG
          have z460 : hv h 460 n = 0 ∨ hv h 460 n = 1 := okf_z (tw_ok Hg hG' (okg _ List.mem_cons_self) 18 (off := 64) (n := 1500) (t := 102) (e := 2) (by decide) (by decide) (by decide) (by decide) (by decide) hn.1 (by omega))
          refine r_X9_closed_16 ki hG ⟨tf.ne, fun z => by rw [tf.nnp] at z; omega, fun z => ⟨m2, by omega, fun _ => ⟨tf.ne, m2, by omega, fun _ => ⟨tf.ne, m2, by omega⟩⟩, ?_⟩⟩
          rw [tf.op, tf.mo]
          intro x7 e7
          have e7' : ¬ x7 = 0 ↔ rch (tT h L) n ∧ pOp L n ≠ 36 ∧ bls a (pMo L n) := by
            rw [rch_iff hn, e7]
            by_cases c1 : hv h 460 n = 0
            · rw [if_pos c1]
              exact ⟨fun y => absurd rfl y, fun y => by have := y.1; omega⟩
            · rw [if_neg c1]
              by_cases c2 : pOp L n = 36
              · rw [if_pos c2]
                exact ⟨fun y => absurd rfl y, fun y => absurd c2 y.2.1⟩
              · rw [if_neg c2, lc_if, l_bit (by omega) (by omega)]
                unfold bls
                by_cases c3 : bl a (pMo L n) = true
                · rw [if_pos c3, if_pos rfl]
                  exact ⟨fun _ => ⟨by omega, c2, by omega, by omega, c3⟩, fun _ => by decide⟩
                · rw [if_neg c3, if_neg (by decide)]
                  exact ⟨fun y => absurd rfl y, fun y => absurd y.2.2.2.2 c3⟩
          refine ⟨fun _ => ⟨m2, by omega⟩, fun y => ⟨m2, by omega, ?_⟩, fun y => ?_⟩
          · intro a' ea' q' eq' n' en'
            rw [w32_i (by omega) (by omega)] at en'
            subst en'; subst eq'
            obtain ⟨y1, y2⟩ := y
            rw [lc_eq] at y2
            obtain ⟨s, s0, s1, s2, s3⟩ := l_and_ne.mp y2
            rw [bl_not s1] at s3
            have r7 := e7'.mp y1
            have ml : mbl a' < mbl a := by
              rw [ea']
              exact mbl_or ⟨s, s0, s1, s2, by cases r : bl a s <;> simp_all⟩
            have sup : ∀ m, bls a m → bls a' m := fun m hm => ⟨hm.1, hm.2.1, by rw [ea', bl_or, hm.2.2]; rfl⟩
            refine ihM (n + 1) 1 a' (by omega) (by omega) (by omega) (Or.inr rfl) (fun m hm => sup m (sub m hm)) (fun m hm => ?_) (fun e => by omega) (fun _ => ?_)
            · obtain ⟨m0', m1', m2'⟩ := hm
              rw [ea', bl_or, Bool.or_eq_true] at m2'
              rcases m2' with y3 | y3
              · exact snd m ⟨m0', m1', y3⟩
              · exact CLO_in hn r7.1 r7.2.1 (snd _ r7.2.2) m0' m1' ((rw_10 hn m0' m1').mpr y3)
            · by_cases c : q = 0
              · rw [(z0 c).1] at ml; exact ml
              · have := z1 (by omega); omega
          · intro n' en'
            rw [w32_i (by omega) (by omega)] at en'
            subst en'
            refine ihM (n + 1) q a (by omega) (by omega) (by omega) q01 sub snd (fun e => ⟨(z0 e).1, fun k k0 k1 r o s c c0 c1 t => ?_⟩) z1
            by_cases ek : k = n
            · subst ek
              have hx : ¬ x7 = 0 := e7'.mpr ⟨r, o, s⟩
              have y2 : lc (l_and (hv h 468 k) (l_xor a (-1))) 0 = 0 := by
                apply Classical.byContradiction
                intro y2
                exact y ⟨hx, y2⟩
              rw [lc_eq] at y2
              refine ⟨c0, c1, ?_⟩
              apply Classical.byContradiction
              intro y3
              refine l_and_ne.mpr ⟨c, c0, c1, (rw_10 hn c0 c1).mp t, ?_⟩ y2
              rw [bl_not c1]
              cases r2 : bl a c
              · rfl
              · exact absurd r2 y3
            · exact (z0 e).2 k k0 (by omega) r o s c c0 c1 t
      subst f5; subst f6
      exact inner _ 0 0 a0 (Nat.le_refl _) (by omega) (by omega) (Or.inl rfl) sub snd (fun _ => ⟨rfl, fun k k0 k1 => by omega⟩) (fun e => by omega)
  subst e3; subst e5
  exact outer _ x3 (Nat.le_refl _) (fun _ q => q) (fun m hm S s1 _ => s1 m hm)
/-! origins -/
noncomputable def cnt (p : Int → Prop) : Nat → Int
  | 0 => 0
  | n + 1 => cnt p n + @ite Int (p n) (Classical.propDecidable _) 1 0
theorem cnt_y {p : Int → Prop} {n : Nat} (h : p n) : cnt p (n + 1) = cnt p n + 1 := by
  show cnt p n + @ite Int (p n) (Classical.propDecidable _) 1 0 = _
  rw [if_pos h]
theorem cnt_n {p : Int → Prop} {n : Nat} (h : ¬ p n) : cnt p (n + 1) = cnt p n := by
  show cnt p n + @ite Int (p n) (Classical.propDecidable _) 1 0 = _
  rw [if_neg h]; omega
theorem cnt_b (p : Int → Prop) (n : Nat) : 0 ≤ cnt p n ∧ cnt p n ≤ n := by
  induction n with
  | zero => exact ⟨Int.le_refl _, Int.le_refl _⟩
  | succ n ih =>
    by_cases h : p n
    · rw [cnt_y h]; omega
    · rw [cnt_n h]; omega
theorem cnt_m (p : Int → Prop) {a b : Nat} (h : a ≤ b) : cnt p a ≤ cnt p b := by
  induction b with
  | zero => rw [show a = 0 by omega]; exact Int.le_refl _
  | succ b ih =>
    by_cases e : a = b + 1
    · rw [e]; exact Int.le_refl _
    · have := ih (by omega)
      by_cases q : p b
      · rw [cnt_y q]; omega
      · rw [cnt_n q]; omega
/-- a place that starts a thread; the o-th one -/
def stp (L : PG) (T : TB) (k : Int) : Prop := inP L k ∧ rch T k ∧ pOp L k = 36
def sta (L : PG) (T : TB) (o k : Int) : Prop := stp L T k ∧ o = 1 + cnt (stp L T) k.toNat
theorem sta_one {L : PG} {T : TB} {o k k' : Int} (a : sta L T o k) (b : sta L T o k') : k = k' := by
  have key : ∀ x y : Int, sta L T o x → sta L T o y → ¬ x < y := by
    intro x y hx hy h
    have x0 := hx.1.1.1
    have e1 : cnt (stp L T) (x.toNat + 1) = cnt (stp L T) x.toNat + 1 := cnt_y (by rw [show ((x.toNat : Nat) : Int) = x by omega]; exact hx.1)
    have e2 := cnt_m (stp L T) (show x.toNat + 1 ≤ y.toNat by omega)
    have := hx.2
    have := hy.2
    omega
  have := key k k' a b
  have := key k' k b a
  omega
/-- what an origin runs -/
def rns (L : PG) (T : TB) (R : Int → Prop) (o m : Int) : Prop := (o = 0 ∧ CLO L T (fun c => inM L c ∧ R c) m) ∨ (1 ≤ o ∧ ∃ k, sta L T o k ∧ CLO L T (fun c => 0 ≤ c ∧ c < 64 ∧ ath (T 10 k c) ≠ 0) m)
noncomputable def nor (L : PG) (T : TB) : Int := 1 + cnt (stp L T) (pNp L).toNat
/-- two methods may run apart -/
def apt (L : PG) (T : TB) (R : Int → Prop) (a b : Int) : Prop := ∃ o q, 0 ≤ o ∧ o < nor L T ∧ 0 ≤ q ∧ q < nor L T ∧ (o ≠ q ∨ 0 < o) ∧ rns L T R o a ∧ rns L T R q b
/-- ORIGINS ARE FOUND -/
def OR0 (L : PG) (R : Int → Prop) (h : MH) : Prop := hv h 396 74 = nor L (tT h L) ∧ (∀ o m, 0 ≤ o → o < nor L (tT h L) → 0 ≤ m → m < 64 → (bl (hv h 505 o) m = true ↔ rns L (tT h L) R o m)) ∧ (∀ o, 1 ≤ o → o < nor L (tT h L) → sta L (tT h L) o (hv h 504 o))
def ORG (L : PG) (R : Int → Prop) (h : MH) : Prop := OR0 L R h ∧ ∀ a b, inM L a → inM L b → (hv h 506 (40 * a + b) = 0 ∨ hv h 506 (40 * a + b) = 1) ∧ (hv h 506 (40 * a + b) = 1 ↔ apt L (tT h L) R a b)
def frO (h h' : MH) : Prop := h'.2 = h.2 ∧ ∀ a j, ¬ (504 ≤ a ∧ a ≤ 506) → ¬ (a = 396 ∧ j = 74) → hv h' a j = hv h a j
theorem frO_rfl (h : MH) : frO h h := ⟨rfl, fun _ _ _ _ => rfl⟩
theorem frO_tr {h1 h2 h3 : MH} (a : frO h1 h2) (b : frO h2 h3) : frO h1 h3 := ⟨b.1.trans a.1, fun x j p q => (b.2 x j p q).trans (a.2 x j p q)⟩
theorem frO_set {h : MH} {a k x : Int} (c : (504 ≤ a ∧ a ≤ 506) ∨ (a = 396 ∧ k = 74)) : frO h (hset h a k x) := by
  refine ⟨rfl, fun b j p q => ?_⟩
  rw [hv_set, if_neg]
  rintro ⟨rfl, rfl⟩
  rcases c with c | c
  · exact p c
  · exact q c
theorem frO_TF {h h' : MH} {L : PG} (f : frO h h') (t : TF h L) : TF h' L := t.of (f.2 _ _ (by omega) (by omega)) (fun a j h1 h2 => f.2 a j (by omega) (by omega))
theorem frO_T {h h' : MH} {L : PG} (f : frO h h') : tT h' L = tT h L := tT_eq' (fun a j _ _ _ _ => f.2 a j (by omega) (by omega))
theorem CLO_eq {L : PG} {T : TB} {A B : Int → Prop} (e : ∀ c, A c ↔ B c) (m : Int) : CLO L T A m ↔ CLO L T B m :=
  ⟨fun h S s1 s2 => h S (fun c a => s1 c ((e c).mp a)) s2, fun h S s1 s2 => h S (fun c b => s1 c ((e c).mpr b)) s2⟩
/-- counts of the runs up to o: of a, of b, of one of them, of both in a thread -/
def ct4 (r : Int → Int → Prop) (a b o v5 v6 v7 v8 : Int) : Prop :=
  (0 ≤ v5 ∧ v5 ≤ o ∧ (0 < v5 ↔ ∃ q, 0 ≤ q ∧ q < o ∧ r q a)) ∧ (0 ≤ v6 ∧ v6 ≤ o ∧ (0 < v6 ↔ ∃ q, 0 ≤ q ∧ q < o ∧ r q b)) ∧
  (0 ≤ v7 ∧ v7 ≤ o ∧ (0 < v7 ↔ ∃ q, 0 ≤ q ∧ q < o ∧ (r q a ∨ r q b)) ∧ (1 < v7 ↔ ∃ p q, 0 ≤ p ∧ p < q ∧ q < o ∧ (r p a ∨ r p b) ∧ (r q a ∨ r q b))) ∧ ((v8 = 0 ∨ v8 = 1) ∧ (¬ v8 = 0 ↔ ∃ q, 0 < q ∧ q < o ∧ r q a ∧ r q b))
theorem ct4_0 (r : Int → Int → Prop) (a b : Int) : ct4 r a b 0 0 0 0 0 := by
  refine ⟨⟨by omega, by omega, ⟨fun y => by omega, ?_⟩⟩, ⟨by omega, by omega, ⟨fun y => by omega, ?_⟩⟩, ⟨by omega, by omega, ⟨fun y => by omega, ?_⟩, ⟨fun y => by omega, ?_⟩⟩, Or.inl rfl, ⟨fun y => absurd rfl y, ?_⟩⟩
  · rintro ⟨q, q0, q1, -⟩; omega
  · rintro ⟨q, q0, q1, -⟩; omega
  · rintro ⟨q, q0, q1, -⟩; omega
  · rintro ⟨p, q, p0, q0, q1, -⟩; omega
  · rintro ⟨q, q0, q1, -⟩; omega
theorem ct4_s {r : Int → Int → Prop} {a b o v5 v6 v7 v8 x y : Int} (o0 : 0 ≤ o) (c : ct4 r a b o v5 v6 v7 v8) (hx : ¬ x = 0 ↔ r o a) (hy : ¬ y = 0 ↔ r o b) :
    ct4 r a b (o + 1) (if x = 0 then v5 else v5 + 1) (if y = 0 then v6 else v6 + 1) (if x = 0 then (if y = 0 then v7 else v7 + 1) else v7 + 1) (if v8 = 0 then (if 0 < o then (if x = 0 then 0 else (if y = 0 then 0 else 1)) else 0) else 1) := by
  obtain ⟨⟨a1, a2, a3⟩, ⟨b1', b2, b3⟩, ⟨c1, c2, c3, c4⟩, ⟨d1, d2⟩⟩ := c
  have E1 : ∀ (P : Int → Prop), (∃ q, 0 ≤ q ∧ q < o + 1 ∧ P q) ↔ (∃ q, 0 ≤ q ∧ q < o ∧ P q) ∨ P o := by
    intro P
    constructor
    · rintro ⟨q, q0, q1, hq⟩
      by_cases e : q = o
      · rw [e] at hq; exact Or.inr hq
      · exact Or.inl ⟨q, q0, by omega, hq⟩
    · rintro (⟨q, q0, q1, hq⟩ | hq)
      · exact ⟨q, q0, by omega, hq⟩
      · exact ⟨o, o0, by omega, hq⟩
  refine ⟨?_, ?_, ?_, ?_⟩
  · rw [E1 (fun q => r q a), ← a3, ← hx]
    by_cases e : x = 0
    · rw [if_pos e]
      exact ⟨a1, by omega, fun y => Or.inl y, fun y => by rcases y with y | y; exact y; exact absurd e y⟩
    · rw [if_neg e]
      exact ⟨by omega, by omega, fun _ => Or.inr e, fun _ => by omega⟩
  · rw [E1 (fun q => r q b), ← b3, ← hy]
    by_cases e : y = 0
    · rw [if_pos e]
      exact ⟨b1', by omega, fun y => Or.inl y, fun y => by rcases y with y | y; exact y; exact absurd e y⟩
    · rw [if_neg e]
      exact ⟨by omega, by omega, fun _ => Or.inr e, fun _ => by omega⟩
  · have E2 : (∃ p q, 0 ≤ p ∧ p < q ∧ q < o + 1 ∧ (r p a ∨ r p b) ∧ (r q a ∨ r q b)) ↔ 1 < v7 ∨ (0 < v7 ∧ (r o a ∨ r o b)) := by
      rw [c4, c3]
      constructor
      · rintro ⟨p, q, p0, pq, q1, hp, hq⟩
        by_cases e : q = o
        · rw [e] at hq pq; exact Or.inr ⟨⟨p, p0, pq, hp⟩, hq⟩
        · exact Or.inl ⟨p, q, p0, pq, by omega, hp, hq⟩
      · rintro (⟨p, q, p0, pq, q1, hp, hq⟩ | ⟨⟨p, p0, pq, hp⟩, hq⟩)
        · exact ⟨p, q, p0, pq, by omega, hp, hq⟩
        · exact ⟨p, o, p0, pq, by omega, hp, hq⟩
    rw [E1 (fun q => r q a ∨ r q b), E2, ← c3, ← hx, ← hy]
    by_cases e : x = 0
    · by_cases e2 : y = 0
      · rw [if_pos e, if_pos e2]
        exact ⟨c1, by omega, ⟨fun y => Or.inl y, fun y => by rcases y with y | y | y; exact y; exact absurd e y; exact absurd e2 y⟩, ⟨fun y => Or.inl y, fun y => by rcases y with y | ⟨-, y | y⟩; exact y; exact absurd e y; exact absurd e2 y⟩⟩
      · rw [if_pos e, if_neg e2]
        exact ⟨by omega, by omega, ⟨fun _ => Or.inr (Or.inr e2), fun _ => by omega⟩, ⟨fun y => Or.inr ⟨by omega, Or.inr e2⟩, fun y => by rcases y with y | y; omega; have := y.1; omega⟩⟩
    · rw [if_neg e]
      exact ⟨by omega, by omega, ⟨fun _ => Or.inr (Or.inl e), fun _ => by omega⟩, ⟨fun y => Or.inr ⟨by omega, Or.inl e⟩, fun y => by rcases y with y | y; omega; have := y.1; omega⟩⟩
  · have E3 : (∃ q, 0 < q ∧ q < o + 1 ∧ r q a ∧ r q b) ↔ ¬ v8 = 0 ∨ (0 < o ∧ r o a ∧ r o b) := by
      rw [d2]
      constructor
      · rintro ⟨q, q0, q1, hq⟩
        by_cases e : q = o
        · rw [e] at hq q0; exact Or.inr ⟨q0, hq⟩
        · exact Or.inl ⟨q, q0, by omega, hq⟩
      · rintro (⟨q, q0, q1, hq⟩ | ⟨q0, hq⟩)
        · exact ⟨q, q0, by omega, hq⟩
        · exact ⟨o, q0, by omega, hq⟩
    rw [E3, ← hx, ← hy]
    by_cases e : v8 = 0
    · rw [if_pos e]
      by_cases e1 : 0 < o
      · rw [if_pos e1]
        by_cases e2 : x = 0
        · rw [if_pos e2]
          exact ⟨Or.inl rfl, fun z => absurd rfl z, fun z => by rcases z with z | z; exact absurd e z; exact absurd e2 z.2.1⟩
        · rw [if_neg e2]
          by_cases e3 : y = 0
          · rw [if_pos e3]
            exact ⟨Or.inl rfl, fun z => absurd rfl z, fun z => by rcases z with z | z; exact absurd e z; exact absurd e3 z.2.2⟩
          · rw [if_neg e3]
            exact ⟨Or.inr rfl, fun _ => Or.inr ⟨e1, e2, e3⟩, fun _ => by decide⟩
      · rw [if_neg e1]
        exact ⟨Or.inl rfl, fun z => absurd rfl z, fun z => by rcases z with z | z; exact absurd e z; exact absurd z.1 e1⟩
    · rw [if_neg e]
      exact ⟨Or.inr rfl, fun _ => Or.inl e, fun _ => by decide⟩
theorem ct4_e {r : Int → Int → Prop} {a b n v5 v6 v7 v8 : Int} (c : ct4 r a b n v5 v6 v7 v8) : (if v8 = 0 then (if 0 < v5 then (if 0 < v6 then (if 1 < v7 then 1 else 0) else 0) else 0) else 1 : Int) = 1 ↔ ∃ o q, 0 ≤ o ∧ o < n ∧ 0 ≤ q ∧ q < n ∧ (o ≠ q ∨ 0 < o) ∧ r o a ∧ r q b := by
  obtain ⟨⟨a1, a2, a3⟩, ⟨b1', b2, b3⟩, ⟨c1, c2, c3, c4⟩, ⟨d1, d2⟩⟩ := c
  have e1 : (if v8 = 0 then (if 0 < v5 then (if 0 < v6 then (if 1 < v7 then 1 else 0) else 0) else 0) else 1 : Int) = 1 ↔ ¬ v8 = 0 ∨ (0 < v5 ∧ 0 < v6 ∧ 1 < v7) := by
    by_cases e : v8 = 0
    · rw [if_pos e]
      by_cases f : 0 < v5
      · rw [if_pos f]
        by_cases f2 : 0 < v6
        · rw [if_pos f2]
          by_cases f3 : 1 < v7
          · rw [if_pos f3]; exact ⟨fun _ => Or.inr ⟨f, f2, f3⟩, fun _ => rfl⟩
          · rw [if_neg f3]; exact ⟨fun y => by omega, fun y => by rcases y with y | y; exact absurd e y; exact absurd y.2.2 f3⟩
        · rw [if_neg f2]; exact ⟨fun y => by omega, fun y => by rcases y with y | y; exact absurd e y; exact absurd y.2.1 f2⟩
      · rw [if_neg f]; exact ⟨fun y => by omega, fun y => by rcases y with y | y; exact absurd e y; exact absurd y.1 f⟩
    · rw [if_neg e]; exact ⟨fun _ => Or.inl e, fun _ => rfl⟩
  rw [e1, d2, a3, b3, c4]
  constructor
  · rintro (⟨q, q0, q1, ha, hb⟩ | ⟨⟨o, o0, o1, ha⟩, ⟨q, q0, q1, hb⟩, ⟨x, y, x0, xy, y1, hx, hy⟩⟩)
    · exact ⟨q, q, by omega, q1, by omega, q1, Or.inr q0, ha, hb⟩
    · by_cases e : o = q
      · subst e
        by_cases f : x = o
        · subst f
          rcases hy with hy | hy
          · exact ⟨y, x, by omega, by omega, by omega, by omega, Or.inl (by omega), hy, hb⟩
          · exact ⟨x, y, by omega, by omega, by omega, by omega, Or.inl (by omega), ha, hy⟩
        · rcases hx with hx | hx
          · exact ⟨x, o, by omega, by omega, by omega, by omega, Or.inl f, hx, hb⟩
          · exact ⟨o, x, by omega, by omega, by omega, by omega, Or.inl (by omega), ha, hx⟩
      · exact ⟨o, q, o0, o1, q0, q1, Or.inl e, ha, hb⟩
  · rintro ⟨o, q, o0, o1, q0, q1, e, ha, hb⟩
    by_cases f : o = q
    · subst f
      exact Or.inl ⟨o, by omega, o1, ha, hb⟩
    · refine Or.inr ⟨⟨o, o0, o1, ha⟩, ⟨q, q0, q1, hb⟩, ?_⟩
      by_cases g : o < q
      · exact ⟨o, q, o0, g, q1, Or.inl ha, Or.inr hb⟩
      · exact ⟨q, o, q0, by omega, o1, Or.inr hb, Or.inl ha⟩
/-- words are words -/
def CKN (h : MH) : Prop := (∀ k, 0 ≤ k → k < 1500 → c32 (hv h 503 k) ∧ c64 (hv h 468 k)) ∧ (∀ o, 0 ≤ o → o < 1501 → c64 (hv h 505 o)) ∧ (∀ k, 0 ≤ k → k < 1500 → hv h 460 k = 0 ∨ hv h 460 k = 1) ∧
  (∀ k, 0 ≤ k → k < 63 → hv h 472 k = 0 ∨ hv h 472 k = 1) ∧ (∀ k, 0 ≤ k → k < 8 → hv h 484 k = 0 ∨ hv h 484 k = 1) ∧ (∀ k, 0 ≤ k → k < 40 → hv h 488 k = 0 ∨ hv h 488 k = 1)
theorem t_findOrigins {l : Launch} {G : JG} (hG : gO G = true) {h : MH} {L : PG} {R : Int → Prop} (tf : TF h L) (w : WF L) (hR : ∀ m, inM L m → (¬ hv h 457 m = 0 ↔ R m)) {Q : Int → MH → Prop} {E : Nat → Int → MH → Prop}
    (hQ : ∀ h', frO h h' → ORG L R h' → CKN h' → Q 0 h') : S_X9_findOrigins l G [(2009, 396)] h Q E := by
  have nn := w.n
  unfold WFn at nn
  refine s_X9_findOrigins rfl fun K ki => r_X9_findOrigins_0 ki hG ?_
  intro x1 e1 x3 e3
  have cb : 1 ≤ nor L (tT h L) ∧ nor L (tT h L) ≤ 1501 := by
    have := cnt_b (stp L (tT h L)) (pNp L).toNat
    unfold nor; omega
  -- which methods may run apart
  have rows : ∀ N : Nat, ∀ a v : Int, ∀ g : MH, (pNm L - a).toNat ≤ N → 0 ≤ a → a ≤ pNm L → frO h g → OR0 L R g → (∀ x y, 0 ≤ x → x < a → inM L y → (hv g 506 (40 * x + y) = 0 ∨ hv g 506 (40 * x + y) = 1) ∧ (hv g 506 (40 * x + y) = 1 ↔ apt L (tT g L) R x y)) →
      JW K 142 [(2009, 396), (1, v), (5000, 0), (0, a), (5000, 0), (5000, 0), (5000, 0), (5000, 0), (5000, 0), (5000, 0), (5000, 0), (5000, 0)] [] g := by
    intro N
    induction N with
    | zero =>
      intro a v g b1' b2 b3 fg org iv
      have ea : a = pNm L := by omega
      subst ea
      have tg := frO_TF fg tf
      refine JW_hyp fun Hg okg _ => ?_
      have hG' : gO (kG K) = true := by rw [ki.2.2.1]; exact hG
      have og := okg _ List.mem_cons_self
      have ck : CKN g := ⟨fun k k0 k1 => ⟨okf_i (tw_ok Hg hG' og 73 (off := 107) (n := 1500) (t := 100) (e := 0) (by decide) (by decide) (by decide) (by decide) (by decide) k0 (by omega)), okf_l (tw_ok Hg hG' og 26 (off := 72) (n := 1500) (t := 101) (e := 1) (by decide) (by decide) (by decide) (by decide) (by decide) k0 (by omega))⟩,
        fun o o0 o1 => okf_l (tw_ok Hg hG' og 76 (off := 109) (n := 1501) (t := 101) (e := 1) (by decide) (by decide) (by decide) (by decide) (by decide) o0 (by omega)),
        fun o o0 o1 => okf_z (tw_ok Hg hG' og 18 (off := 64) (n := 1500) (t := 102) (e := 2) (by decide) (by decide) (by decide) (by decide) (by decide) o0 (by omega)),
        fun o o0 o1 => okf_z (tw_ok Hg hG' og 30 (off := 76) (n := 63) (t := 102) (e := 2) (by decide) (by decide) (by decide) (by decide) (by decide) o0 (by omega)),
        fun o o0 o1 => okf_z (tw_ok Hg hG' og 42 (off := 88) (n := 8) (t := 102) (e := 2) (by decide) (by decide) (by decide) (by decide) (by decide) o0 (by omega)),
        fun o o0 o1 => okf_z (tw_ok Hg hG' og 46 (off := 92) (n := 40) (t := 102) (e := 2) (by decide) (by decide) (by decide) (by decide) (by decide) o0 (by omega))⟩
      exact r_X9_findOrigins_142 ki hG ⟨tg.ne, fun _ => hQ g fg ⟨org, fun x y hx hy => iv x y hx.1 hx.2 hy⟩ ck, fun z => by rw [tg.nnm] at z; omega⟩
    | succ N ih =>
      intro a v g b1' b2 b3 fg org iv
      by_cases ea : a = pNm L
      · exact ih a v g (by omega) b2 b3 fg org iv
      have tg := frO_TF fg tf
      refine r_X9_findOrigins_142 ki hG ⟨tg.ne, fun z => by rw [tg.nnm] at z; omega, fun z => ?_⟩
      intro x4 e4
      have cols : ∀ M : Nat, ∀ b : Int, ∀ g : MH, (pNm L - b).toNat ≤ M → 0 ≤ b → b ≤ pNm L → frO h g → OR0 L R g → (∀ x y, 0 ≤ x → (x < a ∨ (x = a ∧ y < b)) → inM L y → (hv g 506 (40 * x + y) = 0 ∨ hv g 506 (40 * x + y) = 1) ∧ (hv g 506 (40 * x + y) = 1 ↔ apt L (tT g L) R x y)) →
          JW K 156 [(2009, 396), (1, v), (5000, 0), (0, a), (0, b), (5000, 0), (5000, 0), (5000, 0), (5000, 0), (5000, 0), (5000, 0), (5000, 0)] [] g := by
        have fin : ∀ g : MH, frO h g → OR0 L R g → (∀ x y, 0 ≤ x → (x < a ∨ (x = a ∧ y < pNm L)) → inM L y → (hv g 506 (40 * x + y) = 0 ∨ hv g 506 (40 * x + y) = 1) ∧ (hv g 506 (40 * x + y) = 1 ↔ apt L (tT g L) R x y)) →
            JW K 156 [(2009, 396), (1, v), (5000, 0), (0, a), (0, pNm L), (5000, 0), (5000, 0), (5000, 0), (5000, 0), (5000, 0), (5000, 0), (5000, 0)] [] g := by
          intro g fg org iv
          have tg := frO_TF fg tf
          refine r_X9_findOrigins_156 ki hG ⟨tg.ne, fun _ => ?_, fun z => by rw [tg.nnm] at z; omega⟩
          intro x ex
          rw [w32_i (by omega) (by omega)] at ex
          subst ex
          exact ih (a + 1) v g (by omega) (by omega) (by omega) fg org (fun x y x0 x1 hy => iv x y x0 (by have := hy.2; omega) hy)
        intro M
        induction M with
        | zero =>
          intro b g m1 m2 m3 fg org iv
          have eb : b = pNm L := by omega
          subst eb
          exact fin g fg org iv
        | succ M ihM =>
          intro b g m1 m2 m3 fg org iv
          by_cases eb : b = pNm L
          · subst eb; exact fin g fg org iv
          have tg := frO_TF fg tf
          have eT := frO_T (L := L) fg
          refine r_X9_findOrigins_156 ki hG ⟨tg.ne, fun z => by rw [tg.nnm] at z; omega, fun z => ?_⟩
          intro y5 f5 y6 f6 y7 f7 y8 f8 y9 f9
          have hc := org.1
          have hc2 : 1 ≤ hv g 396 74 ∧ hv g 396 74 ≤ 1501 := by rw [hc, eT]; exact cb
          have hbit : ∀ o m, 0 ≤ o → o < hv g 396 74 → 0 ≤ m → m < 40 → (¬ (if lc (l_and (l_shr (hv g 505 o) m) 1) 1 = 0 then 1 else 0 : Int) = 0 ↔ rns L (tT g L) R o m) := by
            intro o m o0 o1 m0 m1
            rw [lc_if, l_bit (by omega) (by omega), ← org.2.1 o m o0 (by omega) m0 (by omega)]
            by_cases q : bl (hv g 505 o) m = true
            · rw [if_pos q, if_pos rfl]; exact ⟨fun _ => q, fun _ => by decide⟩
            · rw [if_neg q, if_neg (by decide)]; exact ⟨fun y => absurd rfl y, fun y => absurd y q⟩
          have cells : ∀ P : Nat, ∀ o v5 v6 v7 v8 : Int, (hv g 396 74 - o).toNat ≤ P → 0 ≤ o → o ≤ hv g 396 74 → ct4 (rns L (tT g L) R) a b o v5 v6 v7 v8 →
              JW K 183 [(2009, 396), (1, v), (5000, 0), (0, a), (0, b), (0, v5), (0, v6), (0, v7), (0, v8), (0, o), (5000, 0), (5000, 0)] [] g := by
            intro P
            induction P with
            | zero =>
              intro o v5 v6 v7 v8 p1 p2 p3 c
              have eo : o = hv g 396 74 := by omega
              have ce := ct4_e (n := o) c
              refine r_X9_findOrigins_183 ki hG ⟨fun _ => ?_, fun z => by omega⟩
              rw [w32_i (z := 40 * a) (by omega) (by omega), w32_i (z := 40 * a + b) (by omega) (by omega)]
              refine ⟨by omega, by omega, ?_, ?_⟩
              · split
                · split
                  · split
                    · split <;> simp
                    · simp
                  · simp
                · simp
              · intro g' eg' x ex
                rw [w32_i (by omega) (by omega)] at ex
                subst ex
                have fg' : frO g g' := by rw [eg']; exact frO_set (by omega)
                have eT' := frO_T (L := L) fg'
                refine ihM (b + 1) g' (by omega) (by omega) (by omega) (frO_tr fg fg') ⟨?_, ?_, ?_⟩ (fun x y x0 x1 hy => ?_)
                · rw [eT', eg', ne_a (by omega)]; exact org.1
                · rw [eT', eg']
                  intro o m
                  rw [ne_a (by omega)]; exact org.2.1 o m
                · rw [eT', eg']
                  intro o
                  rw [ne_a (by omega)]; exact org.2.2 o
                · rw [eT', eg']
                  have y0 := hy.1
                  have y1 := hy.2
                  by_cases e : x = a ∧ y = b
                  · obtain ⟨rfl, rfl⟩ := e
                    rw [eq_a]
                    refine ⟨?_, ?_⟩
                    · split
                      · split
                        · split
                          · split <;> simp
                          · simp
                        · simp
                      · simp
                    · rw [ce, eo, hc]; exact Iff.rfl
                  · rw [ne_k (by omega)]
                    exact iv x y x0 (by omega) hy
            | succ P ihP =>
              intro o v5 v6 v7 v8 p1 p2 p3 c
              by_cases eo : o = hv g 396 74
              · exact ihP o v5 v6 v7 v8 (by omega) p2 p3 c
              refine r_X9_findOrigins_183 ki hG ⟨fun z => by omega, fun z => ⟨p2, by omega, ?_⟩⟩
              intro xa ea
              refine ⟨p2, by omega, ?_⟩
              intro xb eb' u5 q5 u6 q6 u7 q7 u8 q8 u9 q9
              have := c.1.1
              have := c.1.2.1
              have := c.2.1.1
              have := c.2.1.2.1
              have := c.2.2.1.1
              have := c.2.2.1.2.1
              rw [w32_i (by omega) (by omega)] at q9
              rw [w32_i (z := v5 + 1) (by omega) (by omega)] at q5
              rw [w32_i (z := v6 + 1) (by omega) (by omega)] at q6
              rw [w32_i (z := v7 + 1) (by omega) (by omega)] at q7
              have c' := ct4_s (x := xa) (y := xb) p2 c (by rw [ea]; exact hbit o a p2 (by omega) b2 (by omega)) (by rw [eb']; exact hbit o b p2 (by omega) m2 (by omega))
              rw [← q5, ← q6, ← q7, ← q8] at c'
              subst q9
              exact ihP (o + 1) u5 u6 u7 u8 (by omega) (by omega) (by omega) c'
          subst f5; subst f6; subst f7; subst f8; subst f9
          exact cells _ 0 0 0 0 0 (Nat.le_refl _) (by omega) (by omega) (ct4_0 _ a b)
      subst e4
      exact cols _ 0 g (Nat.le_refl _) (by omega) (by omega) fg org (fun x y x0 x1 hy => iv x y x0 (by have := hy.1; omega) hy)
  -- the places that start threads
  have starts : ∀ N : Nat, ∀ n v : Int, ∀ g : MH, (pNp L - n).toNat ≤ N → 0 ≤ n → n ≤ pNp L → frO h g → hv g 396 74 = 1 + cnt (stp L (tT h L)) n.toNat → (∀ m, 0 ≤ m → m < 64 → (bl (hv g 505 0) m = true ↔ CLO L (tT h L) (fun c => inM L c ∧ R c) m)) →
      (∀ o, 1 ≤ o → o < hv g 396 74 → sta L (tT h L) o (hv g 504 o) ∧ ∀ m, 0 ≤ m → m < 64 → (bl (hv g 505 o) m = true ↔ CLO L (tT h L) (fun c => 0 ≤ c ∧ c < 64 ∧ ath (tT h L 10 (hv g 504 o) c) ≠ 0) m)) →
      JW K 58 [(2009, 396), (1, v), (5000, 0), (0, n), (5000, 0), (5000, 0), (5000, 0), (5000, 0), (5000, 0), (5000, 0), (5000, 0), (5000, 0)] [] g := by
    intro N
    induction N with
    | zero =>
      intro n v g b1' b2 b3 fg c0 r0 r1
      have en : n = pNp L := by omega
      subst en
      have tg := frO_TF fg tf
      have eT := frO_T (L := L) fg
      refine r_X9_findOrigins_58 ki hG ⟨tg.ne, fun _ => ?_, fun z => by rw [tg.nnp] at z; omega⟩
      intro x ex
      subst ex
      have c0' : hv g 396 74 = nor L (tT h L) := c0
      refine rows _ 0 v g (Nat.le_refl _) (by omega) (by omega) fg ⟨by rw [eT]; exact c0', ?_, ?_⟩ (fun x y x0 x1 => by omega)
      · rw [eT]
        intro o m o0 o1 m0 m1
        by_cases e : o = 0
        · subst e
          rw [r0 m m0 m1]
          constructor
          · intro y; exact Or.inl ⟨rfl, y⟩
          · rintro (y | y)
            · exact y.2
            · have := y.1; omega
        · have q := r1 o (by omega) (by omega)
          rw [q.2 m m0 m1]
          constructor
          · intro y; exact Or.inr ⟨by omega, _, q.1, y⟩
          · rintro (y | ⟨-, k, y1, y2⟩)
            · exact absurd y.1 e
            · rw [sta_one q.1 y1]; exact y2
      · rw [eT]
        intro o o0 o1
        exact (r1 o o0 (by omega)).1
    | succ N ih =>
      intro n v g b1' b2 b3 fg c0 r0 r1
      by_cases en : n = pNp L
      · exact ih n v g (by omega) b2 b3 fg c0 r0 r1
      have tg := frO_TF fg tf
      have eT := frO_T (L := L) fg
      have hn : inP L n := ⟨b2, by omega⟩
      have nt : ((n.toNat : Nat) : Int) = n := by omega
      have n1 : (n + 1).toNat = n.toNat + 1 := by omega
      have cb' := cnt_b (stp L (tT h L)) n.toNat
      refine JW_hyp fun Hg okg _ => ?_
      have hG' : gO (kG K) = true := by rw [ki.2.2.1]; exact hG
      have z460 : hv g 460 n = 0 ∨ hv g 460 n = 1 := okf_z (tw_ok Hg hG' (okg _ List.mem_cons_self) 18 (off := 64) (n := 1500) (t := 102) (e := 2) (by decide) (by decide) (by decide) (by decide) (by decide) hn.1 (by omega))
      have rc : rch (tT h L) n ↔ hv g 460 n = 1 := by rw [← eT]; exact rch_iff hn
      have skip : ¬ stp L (tT h L) n → ∀ x : Int, x = w32 (n + 1) → JW K 58 [(2009, 396), (1, v), (5000, 0), (0, x), (5000, 0), (5000, 0), (5000, 0), (5000, 0), (5000, 0), (5000, 0), (5000, 0), (5000, 0)] [] g := by
        intro ns x ex
        rw [w32_i (by omega) (by omega)] at ex
        subst ex
        refine ih (n + 1) v g (by omega) (by omega) (by omega) fg ?_ r0 r1
        rw [n1, cnt_n (by rw [nt]; exact ns)]; exact c0
      refine r_X9_findOrigins_58 ki hG ⟨tg.ne, fun z => by rw [tg.nnp] at z; omega, fun z => ⟨b2, by omega, fun y => skip (fun s => by have := rc.mp s.2.1; omega), fun y => ⟨tg.ne, b2, by omega, fun y2 => ?_, fun y2 => skip (fun s => by rw [tg.op] at y2; exact y2 s.2.2)⟩⟩⟩
      rw [tg.op] at y2
      have sn : stp L (tT h L) n := ⟨hn, rc.mpr (by omega), y2⟩
      refine ⟨by omega, by omega, ?_⟩
      intro g3 e3'
      have f3 : frO g g3 := by rw [e3']; exact frO_set (by omega)
      have eT3 := frO_T (L := L) f3
      have h74 : hv g3 396 74 = hv g 396 74 := by rw [e3', ne_a (by omega)]
      refine ⟨b2, by omega, t_closed hG (frO_TF f3 tg) w fun z4 hz4 => ?_⟩
      rw [h74]
      refine ⟨by omega, by omega, ?_⟩
      intro g6 e6 g7 e7 x ex
      rw [w32_i (by omega) (by omega)] at ex
      have h746 : hv g6 396 74 = hv g 396 74 := by rw [e6, ne_a (by omega)]; exact h74
      rw [h746, w32_i (by omega) (by omega)] at e7
      have h747 : hv g7 396 74 = hv g 396 74 + 1 := by rw [e7, eq_a]
      have f7 : frO g g7 := by
        rw [e7, e6]
        exact frO_tr (frO_tr f3 (frO_set (by omega))) (frO_set (by omega))
      subst ex
      have a504 : ∀ o, hv g7 504 o = if o = hv g 396 74 then n else hv g 504 o := by
        intro o
        rw [e7, ne_a (by omega), e6, ne_a (by omega), e3', hv_set]
        by_cases q : o = hv g 396 74
        · rw [if_pos ⟨rfl, q⟩, if_pos q]
        · rw [if_neg (fun z => q z.2), if_neg q]
      have a505 : ∀ o, hv g7 505 o = if o = hv g 396 74 then z4 else hv g 505 o := by
        intro o
        rw [e7, ne_a (by omega), e6, hv_set]
        by_cases q : o = hv g 396 74
        · rw [if_pos ⟨rfl, q⟩, if_pos q]
        · rw [if_neg (fun z => q z.2), if_neg q, e3', ne_a (by omega)]
      refine ih (n + 1) v g7 (by omega) (by omega) (by omega) (frO_tr fg f7) ?_ ?_ (fun o o0 o1 => ?_)
      · rw [h747, n1, cnt_y (by rw [nt]; exact sn), c0]; omega
      · rw [a505 0, if_neg (by omega)]; exact r0
      · rw [a504 o, a505 o]
        by_cases q : o = hv g 396 74
        · rw [if_pos q, if_pos q]
          refine ⟨⟨sn, by rw [q, c0]⟩, fun m m0 m1 => ?_⟩
          rw [hz4 m m0 m1, eT3, eT]
          refine CLO_eq (fun c => ?_) m
          unfold bls
          constructor
          · rintro ⟨c0', c1, y3⟩
            refine ⟨c0', c1, ?_⟩
            rw [← eT, ← eT3]; exact (rw_10 hn c0' c1).mpr y3
          · rintro ⟨c0', c1, y3⟩
            refine ⟨c0', c1, ?_⟩
            rw [← eT, ← eT3] at y3; exact (rw_10 hn c0' c1).mp y3
        · rw [if_neg q, if_neg q]
          exact r1 o o0 (by omega)
  have roots : ∀ N : Nat, ∀ n v : Int, (pNm L - n).toNat ≤ N → 0 ≤ n → n ≤ pNm L → (∀ m, 0 ≤ m → m < 64 → (bl v m = true ↔ m < n ∧ R m)) →
      JW K 4 [(2009, 396), (1, v), (5000, 0), (0, n), (5000, 0), (5000, 0), (5000, 0), (5000, 0), (5000, 0), (5000, 0), (5000, 0), (5000, 0)] [] h := by
    intro N
    induction N with
    | zero =>
      intro n v b1' b2 b3 iv
      have en : n = pNm L := by omega
      subst en
      refine r_X9_findOrigins_4 ki hG ⟨tf.ne, fun _ => ?_, fun z => by rw [tf.nnm] at z; omega⟩
      refine t_closed hG tf w fun z1 hz1 => ?_
      refine ⟨by omega, by omega, ?_⟩
      intro g3 e3' g4 e4 x ex
      subst ex
      have f4 : frO h g4 := by
        rw [e4, e3']
        exact frO_tr (frO_set (by omega)) (frO_set (by omega))
      have h74 : hv g4 396 74 = 1 := by rw [e4, eq_a]
      refine starts _ 0 v g4 (Nat.le_refl _) (by omega) (by omega) f4 (by rw [h74]; rfl) (fun m m0 m1 => ?_) (fun o o0 o1 => by omega)
      rw [e4, ne_a (by omega), e3', eq_a, hz1 m m0 m1]
      refine CLO_eq (fun c => ?_) m
      unfold bls inM
      constructor
      · rintro ⟨c0', c1, y3⟩
        have := (iv c c0' c1).mp y3
        exact ⟨⟨c0', this.1⟩, this.2⟩
      · rintro ⟨⟨c0', c1⟩, y3⟩
        exact ⟨c0', by omega, (iv c c0' (by omega)).mpr ⟨c1, y3⟩⟩
    | succ N ih =>
      intro n v b1' b2 b3 iv
      by_cases en : n = pNm L
      · exact ih n v (by omega) b2 b3 iv
      refine r_X9_findOrigins_4 ki hG ⟨tf.ne, fun z => by rw [tf.nnm] at z; omega, fun z => ⟨b2, by omega, ?_⟩⟩
      intro v' ev x ex
      rw [w32_i (by omega) (by omega)] at ex
      subst ex
      refine ih (n + 1) v' (by omega) (by omega) (by omega) (fun m m0 m1 => ?_)
      rw [ev, bl_or, Bool.or_eq_true, iv m m0 m1]
      have hr := hR n ⟨b2, by omega⟩
      by_cases c : hv h 457 n = 0
      · rw [if_pos c, bl_zero]
        constructor
        · rintro (y | y)
          · exact ⟨by omega, y.2⟩
          · cases y
        · rintro ⟨y1, y2⟩
          by_cases e : m = n
          · subst e; exact absurd c (hr.mpr y2)
          · exact Or.inl ⟨by omega, y2⟩
      · rw [if_neg c, bl_shl b2 (by omega) m0]
        constructor
        · rintro (y | y)
          · exact ⟨by omega, y.2⟩
          · have e : m = n := of_decide_eq_true y
            subst e
            exact ⟨by omega, hr.mp c⟩
        · rintro ⟨y1, y2⟩
          by_cases e : m = n
          · exact Or.inr (decide_eq_true e)
          · exact Or.inl ⟨by omega, y2⟩
  subst e1; subst e3
  refine roots _ 0 0 (Nat.le_refl _) (by omega) (by omega) (fun m m0 m1 => ?_)
  rw [bl_zero]
  constructor
  · intro y; cases y
  · rintro ⟨y, -⟩; omega
