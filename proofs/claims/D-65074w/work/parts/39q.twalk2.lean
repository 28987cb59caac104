/-! Part 39q: the twin walks: turns -/
set_option maxRecDepth 100000
noncomputable def endN (A : MA) : Int := cnt (fun t => A 508 t ≠ 0) (bgn A).toNat
def stk (L : PG) (A : MA) : Prop := ∀ t, 0 ≤ t → t < bgn A → A 508 t ≠ 0 ∨ wtg L A t
theorem cnt_c {p q : Int → Prop} (e : ∀ x, p x ↔ q x) (n : Nat) : cnt p n = cnt q n := by
  have : p = q := funext fun x => propext (e x)
  rw [this]
theorem wtg_c {L : PG} {A B : MA} (e : eqm A B) (t : Int) : wtg L A t ↔ wtg L B t := by
  unfold wtg
  rw [fA_c e, e.a (a := 511) (by decide) (by decide), e.a (a := 514) (by decide) (by decide)]
theorem endN_c {A B : MA} (e : eqm A B) : endN A = endN B := by
  unfold endN
  rw [bgn_c e]
  exact cnt_c (fun x => by rw [e.a (a := 508) (by decide) (by decide)]) _
theorem stk_c {L : PG} {A B : MA} (e : eqm A B) : stk L A ↔ stk L B := by
  unfold stk
  rw [bgn_c e]
  refine forall_congr' fun t => ?_
  rw [wtg_c e, e.a (a := 508) (by decide) (by decide)]
theorem ac_c {L : PG} {A B : MA} (e : eqm A B) (t : Int) : eqm (acA L A t) (acA L B t) := by
  unfold acA
  have d : eqm (doA L (mset A 396 102 0) t (A 511 (fA A t))) (doA L (mset B 396 102 0) t (B 511 (fA B t))) := by
    rw [fA_c e, e.a (a := 511) (by decide) (by decide)]
    exact doA_c (mset_c e)
  rw [d.s (j := 103) (by decide) (by decide), d.s (j := 95) (by decide) (by decide)]
  exact ite_c (fun _ => mset_c d) (fun _ => d)
theorem t_endedThreads {l : Launch} {G : JG} (hG : gO G = true) {h : MH} (b0 : 0 ≤ bgn (hv h)) (b8 : bgn (hv h) ≤ 8) {Q : Int → MH → Prop} {E : Nat → Int → MH → Prop} (hQ : Q (endN (hv h)) h) : S_X9_endedThreads l G [(2009, 396)] h Q E := by
  have hb : hv h 396 83 = bgn (hv h) := rfl
  refine s_X9_endedThreads rfl fun K ki => r_X9_endedThreads_0 ki hG ?_
  intro x1 e1 x2 e2
  have key : ∀ N : Nat, ∀ n : Int, (bgn (hv h) - n).toNat ≤ N → 0 ≤ n → n ≤ bgn (hv h) → JW K 4 [(2009, 396), (0, cnt (fun t => hv h 508 t ≠ 0) n.toNat), (0, n)] [] h := by
    intro N
    induction N with
    | zero =>
      intro n a b c
      have en : n = bgn (hv h) := by omega
      subst en
      exact r_X9_endedThreads_4 ki hG ⟨fun _ => hQ, fun z => by omega⟩
    | succ N ih =>
      intro n a b c
      by_cases en : n = bgn (hv h)
      · exact ih n (by omega) b c
      have cb := cnt_b (fun t => hv h 508 t ≠ 0) n.toNat
      have nt : ((n.toNat : Nat) : Int) = n := by omega
      refine r_X9_endedThreads_4 ki hG ⟨fun z => by omega, fun z => ⟨b, by omega, ?_⟩⟩
      intro v ev x ex
      rw [w32_i (by omega) (by omega)] at ex
      subst ex
      have e : v = cnt (fun t => hv h 508 t ≠ 0) (n + 1).toNat := by
        rw [show (n + 1).toNat = n.toNat + 1 by omega]
        by_cases q : hv h 508 n = 0
        · rw [if_pos q] at ev
          rw [cnt_n (by rw [nt]; exact fun y => y q)]; exact ev
        · rw [if_neg q, w32_i (by omega) (by omega)] at ev
          rw [cnt_y (by rw [nt]; exact q)]; exact ev
      subst e
      exact ih (n + 1) (by omega) (by omega) (by omega)
  subst e1; subst e2
  exact key _ 0 (Nat.le_refl _) (by omega) (by omega)
theorem STR.f {L : PG} {A : MA} (s : STR L A) {t : Int} (t0 : 0 ≤ t) (t1 : t < bgn A) (lv : A 508 t = 0) : frk A t ∧ inP L (A 511 (fA A t)) := by
  have q := (s.2 t t0 t1).2 lv
  have := s.1.2
  exact ⟨⟨⟨t0, by omega⟩, q.1⟩, q.2⟩
theorem t_isStuck {l : Launch} {G : JG} (hG : gO G = true) {h : MH} {L : PG} (tf : TF h L) (w : WF L) (st : STR L (hv h)) {Q : Int → MH → Prop} {E : Nat → Int → MH → Prop} (hQ : ∀ z, (z = 0 ∨ z = 1) → (¬ z = 0 ↔ stk L (hv h)) → Q z h) : S_X9_isStuck l G [(2009, 396)] h Q E := by
  have hb : hv h 396 83 = bgn (hv h) := rfl
  have b0 := st.1.1
  have b8 := st.1.2
  refine s_X9_isStuck rfl fun K ki => r_X9_isStuck_0 ki hG ?_
  intro x1 e1 x2 e2
  have key : ∀ N : Nat, ∀ n v : Int, (bgn (hv h) - n).toNat ≤ N → 0 ≤ n → n ≤ bgn (hv h) → (v = 0 ∨ v = 1) → (¬ v = 0 ↔ ∀ t, 0 ≤ t → t < n → hv h 508 t ≠ 0 ∨ wtg L (hv h) t) → JW K 4 [(2009, 396), (0, v), (0, n)] [] h := by
    intro N
    induction N with
    | zero =>
      intro n v a b c v01 iv
      have en : n = bgn (hv h) := by omega
      subst en
      exact r_X9_isStuck_4 ki hG ⟨fun _ => ⟨v01, hQ v v01 iv⟩, fun z => by omega⟩
    | succ N ih =>
      intro n v a b c v01 iv
      by_cases en : n = bgn (hv h)
      · exact ih n v (by omega) b c v01 iv
      have step : ∀ v' : Int, (v' = 0 ∨ v' = 1) → (¬ v' = 0 ↔ ¬ v = 0 ∧ (hv h 508 n ≠ 0 ∨ wtg L (hv h) n)) → ∀ x : Int, x = w32 (n + 1) → JW K 4 [(2009, 396), (0, v'), (0, x)] [] h := by
        intro v' v01' hv' x ex
        rw [w32_i (by omega) (by omega)] at ex
        subst ex
        refine ih (n + 1) v' (by omega) (by omega) (by omega) v01' ?_
        rw [hv', iv]
        constructor
        · rintro ⟨p, q⟩ t t0 t1
          by_cases e : t = n
          · rw [e]; exact q
          · exact p t t0 (by omega)
        · intro p
          exact ⟨fun t t0 t1 => p t t0 (by omega), p n b (by omega)⟩
      refine r_X9_isStuck_4 ki hG ⟨fun z => by omega, fun z => ⟨fun y => ?_, fun y => ⟨b, by omega, fun y2 => ?_, fun y2 => ?_⟩⟩⟩
      · intro v' ev
        exact step v' (Or.inl ev) ⟨fun q => absurd ev q, fun q => absurd y q.1⟩
      · intro v' ev
        exact step v' (Or.inr ev) ⟨fun _ => ⟨y, Or.inl y2⟩, fun _ => by omega⟩
      · have q := st.f b (by omega) y2
        refine t_isWaiting hG tf w q.1 q.2 fun z5 z01 hz => ?_
        intro v' ev
        refine step v' (by rw [ev]; exact zo1 _) ?_
        rw [ev]
        by_cases c5 : z5 = 0
        · rw [if_pos c5]
          refine ⟨fun p => absurd rfl p, fun p => ?_⟩
          rcases p.2 with p2 | p2
          · exact absurd y2 p2
          · exact absurd c5 (hz.mpr p2)
        · rw [if_neg c5]
          exact ⟨fun _ => ⟨y, Or.inr (hz.mp c5)⟩, fun _ => by decide⟩
  subst e1; subst e2
  refine key _ 0 1 (Nat.le_refl _) (by omega) (by omega) (Or.inr rfl) ⟨fun _ t t0 t1 => by omega, fun _ => by decide⟩
/-! turns -/
abbrev WS : Type := MA × Int × Int × Int
/-- a thread may go on -/
def rnb (L : PG) (A : MA) (t : Int) : Prop := A 508 t = 0 ∧ ¬ wtg L A t
def nxT (A : MA) (t : Int) : Int := if t + 1 < bgn A then t + 1 else 0
noncomputable def wnx (L : PG) (turn most : Int) (s : WS) : WS :=
  cif (s.2.2.2 < turn ∧ s.2.1 = -1 ∧ rnb L s.1 s.2.2.1)
    (if s.1 396 95 = most then (s.1, (if endN s.1 = bgn s.1 then 0 else 1), s.2.2.1, s.2.2.2 + 1)
     else (acA L s.1 s.2.2.1, (if endN (acA L s.1 s.2.2.1) = bgn (acA L s.1 s.2.2.1) then 0 else if acA L s.1 s.2.2.1 396 103 = 0 then -1 else 3), s.2.2.1, s.2.2.2 + 1))
    (s.1, cif (s.2.1 = -1 ∧ stk L s.1) (if s.1 396 95 = most then 1 else 2) s.2.1, nxT s.1 s.2.2.1, 0)
noncomputable def itr (L : PG) (turn most : Int) : Nat → WS → WS
  | 0, s => s
  | n + 1, s => itr L turn most n (wnx L turn most s)
/-- how a walk ends -/
def wres (L : PG) (turn most : Int) (s : WS) (A : MA) (how : Int) : Prop := ∃ n, (itr L turn most n s).1 = A ∧ (itr L turn most n s).2.1 = how ∧ how ≠ -1
theorem wres_s {L : PG} {turn most : Int} {s : WS} {A : MA} {how : Int} (h : wres L turn most (wnx L turn most s) A how) : wres L turn most s A how := by
  obtain ⟨n, h⟩ := h
  exact ⟨n + 1, h⟩
theorem wres_0 {L : PG} {turn most : Int} {A : MA} {how t j : Int} (h : how ≠ -1) : wres L turn most (A, how, t, j) A how := ⟨0, rfl, rfl, h⟩
/-- once it has ended it stays so -/
theorem itr_end {L : PG} {turn most : Int} : ∀ (n : Nat) (s : WS), s.2.1 ≠ -1 → (itr L turn most n s).1 = s.1 ∧ (itr L turn most n s).2.1 = s.2.1
  | 0, s, _ => ⟨rfl, rfl⟩
  | n + 1, s, h => by
    have e : wnx L turn most s = (s.1, s.2.1, nxT s.1 s.2.2.1, 0) := by
      unfold wnx
      rw [cif_n (fun y => h y.2.1), cif_n (fun y => h y.1)]
    show (itr L turn most n (wnx L turn most s)).1 = s.1 ∧ (itr L turn most n (wnx L turn most s)).2.1 = s.2.1
    rw [e]
    exact itr_end n (s.1, s.2.1, nxT s.1 s.2.2.1, 0) h
theorem itr_add {L : PG} {turn most : Int} : ∀ (n m : Nat) (s : WS), itr L turn most (n + m) s = itr L turn most m (itr L turn most n s)
  | 0, m, s => by rw [Nat.zero_add]; rfl
  | n + 1, m, s => by
    rw [show n + 1 + m = (n + m) + 1 by omega]
    exact itr_add n m (wnx L turn most s)
theorem wres_one {L : PG} {turn most : Int} {s : WS} {A B : MA} {x y : Int} (a : wres L turn most s A x) (b : wres L turn most s B y) : A = B ∧ x = y := by
  obtain ⟨n, a1, a2, a3⟩ := a
  obtain ⟨m, b1', b2, b3⟩ := b
  by_cases c : n ≤ m
  · have e := itr_add (L := L) (turn := turn) (most := most) n (m - n) s
    rw [show n + (m - n) = m by omega] at e
    have q := itr_end (L := L) (turn := turn) (most := most) (m - n) (itr L turn most n s) (by rw [a2]; exact a3)
    rw [← e, a1, a2, b1', b2] at q
    exact ⟨q.1.symm, q.2.symm⟩
  · have e := itr_add (L := L) (turn := turn) (most := most) m (n - m) s
    rw [show m + (n - m) = n by omega] at e
    have q := itr_end (L := L) (turn := turn) (most := most) (n - m) (itr L turn most m s) (by rw [b2]; exact b3)
    rw [← e, a1, a2, b1', b2] at q
    exact ⟨q.1, q.2⟩
/-- threads come in turn -/
def adv (b : Int) : Nat → Int → Int
  | 0, t => t
  | n + 1, t => adv b n (if t + 1 < b then t + 1 else 0)
theorem adv_up {b : Int} : ∀ (n : Nat) (t : Int), t + n < b → adv b n t = t + n
  | 0, t, _ => by show t = t + (0 : Nat); omega
  | n + 1, t, h => by
    show adv b n (if t + 1 < b then t + 1 else 0) = _
    rw [if_pos (by omega), adv_up n (t + 1) (by omega)]
    omega
theorem adv_add {b : Int} : ∀ (n m : Nat) (t : Int), adv b (n + m) t = adv b m (adv b n t)
  | 0, m, t => by rw [Nat.zero_add]; rfl
  | n + 1, m, t => by
    rw [show n + 1 + m = (n + m) + 1 by omega]
    exact adv_add n m _
theorem adv_ex {b t u : Int} (t0 : 0 ≤ t) (t1 : t < b) (u0 : 0 ≤ u) (u1 : u < b) : ∃ n, adv b n t = u := by
  refine ⟨(b - 1 - t).toNat + (1 + u.toNat), ?_⟩
  have e0 : adv b (b - 1 - t).toNat t = t + ((b - 1 - t).toNat : Nat) := adv_up _ _ (by omega)
  rw [adv_add, e0, adv_add]
  have e : adv b 1 (t + ((b - 1 - t).toNat : Nat)) = 0 := by
    show (if t + ((b - 1 - t).toNat : Nat) + 1 < b then _ else _) = (0 : Int)
    rw [if_neg (by omega)]
  rw [e, adv_up _ _ (by omega)]
  omega
