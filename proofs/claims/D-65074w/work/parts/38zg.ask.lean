/-! Part 38zg: the twin is asked (a file is there) -/
set_option maxRecDepth 100000
noncomputable def cif {α : Type} (P : Prop) (a b : α) : α := @ite α P (Classical.propDecidable P) a b
theorem cif_p {α : Type} {P : Prop} {a b : α} (h : P) : cif P a b = a := if_pos h
theorem cif_n {α : Type} {P : Prop} {a b : α} (h : ¬ P) : cif P a b = b := if_neg h
/-- the long, the int of some bits -/
noncomputable def lof (P : Int → Prop) : Int := Classical.epsilon (fun z => c64 z ∧ ∀ s, 0 ≤ s → s < 64 → (bl z s = true ↔ P s))
noncomputable def iof (P : Int → Prop) : Int := Classical.epsilon (fun z => c32 z ∧ ∀ s, 0 ≤ s → s < 32 → (bi z s = true ↔ P s))
theorem beq_iff {a b : Bool} {P : Prop} (ha : a = true ↔ P) (hb : b = true ↔ P) : a = b := by
  cases a <;> cases b
  · rfl
  · exact absurd (ha.mpr (hb.mp rfl)) (by decide)
  · exact absurd (hb.mpr (ha.mp rfl)) (by decide)
  · rfl
theorem lof_eq {P : Int → Prop} {z : Int} (c : c64 z) (h : ∀ s, 0 ≤ s → s < 64 → (bl z s = true ↔ P s)) : lof P = z := by
  have q := Classical.epsilon_spec (p := fun z => c64 z ∧ ∀ s, 0 ≤ s → s < 64 → (bl z s = true ↔ P s)) ⟨z, c, h⟩
  exact bl_ext q.1 c (fun s s0 s1 => beq_iff (q.2 s s0 s1) (h s s0 s1))
theorem iof_eq {P : Int → Prop} {z : Int} (c : c32 z) (h : ∀ s, 0 ≤ s → s < 32 → (bi z s = true ↔ P s)) : iof P = z := by
  have q := Classical.epsilon_spec (p := fun z => c32 z ∧ ∀ s, 0 ≤ s → s < 32 → (bi z s = true ↔ P s)) ⟨z, c, h⟩
  exact bi_ext q.1 c (fun s s0 s1 => beq_iff (q.2 s s0 s1) (h s s0 s1))
/-- THE LEAST CLOSED TABLE -/
def LST (L : PG) (R : Int → Prop) (T : TB) : Prop := tbok T ∧ closedz L R T ∧ ∀ U, tbok U → closedz L R U → tle T U
theorem LST_one {L : PG} {R : Int → Prop} {T U : TB} (a : LST L R T) (b : LST L R U) : T = U := tle_anti a.1 b.1 (a.2.2 U b.1 b.2.1) (b.2.2 T a.1 a.2.1)
theorem KN.l {L : PG} {R : Int → Prop} {h : MH} (k : KN L R h) : LST L R (tT h L) := ⟨k.1.1.1.1, k.1.c, k.1.1.2.2.2⟩
/-- THE TWIN HAS A FILE -/
def TW (L : PG) (R : Int → Prop) (h : MH) : Prop := TF h L ∧ WF L ∧ ¬ L 99 0 = 1 ∧ (∀ m, inM L m → (¬ hv h 457 m = 0 ↔ R m)) ∧ (¬ hv h 396 11 = 0 → KN L R h)
def fq (j : Int) : Prop := j = 0 ∨ (11 ≤ j ∧ j ≤ 14) ∨ j = 16 ∨ (61 ≤ j ∧ j ≤ 67) ∨ j = 72 ∨ j = 74 ∨ j = 78 ∨ j = 79
def frQ (h h' : MH) : Prop := h'.2 = h.2 ∧ ∀ a j, ¬ (458 ≤ a ∧ a ≤ 506) → ¬ (a = 396 ∧ fq j) → hv h' a j = hv h a j
theorem frQ_rfl (h : MH) : frQ h h := ⟨rfl, fun _ _ _ _ => rfl⟩
theorem frQ_tr {h1 h2 h3 : MH} (a : frQ h1 h2) (b : frQ h2 h3) : frQ h1 h3 := ⟨b.1.trans a.1, fun x j p q => (b.2 x j p q).trans (a.2 x j p q)⟩
theorem frQ_K {h h' : MH} (a : frK h h') : frQ h h' := ⟨a.1, fun x j p q => a.2 x j p (by unfold fq at q; omega)⟩
theorem frQ_set {h : MH} {k x : Int} (c : fq k) : frQ h (hset h 396 k x) := ⟨rfl, fun a j _ q => by rw [hv_set, if_neg (fun z => q ⟨z.1, by rw [z.2]; exact c⟩)]⟩
/-- what thrown is, and what was found before, may be set -/
theorem TW_set {L : PG} {R : Int → Prop} {h : MH} {k x : Int} (c : k = 0 ∨ k = 78 ∨ k = 79) (t : TW L R h) : TW L R (hset h 396 k x) := by
  obtain ⟨t1, t2, t3, t4, t5⟩ := t
  refine ⟨t1.of (ne_k (by omega)) (fun a j h1 h2 => ne_a (by omega)), t2, t3, fun m hm => by rw [ne_a (by omega)]; exact t4 m hm, fun y => KN_of (fun a j h1 h2 => ne_a (by omega)) (ne_k (by omega)) (ne_k (by omega)) (t5 (by rw [ne_k (by omega)] at y; exact y))⟩
theorem TW.tf {L : PG} {R : Int → Prop} {h : MH} (t : TW L R h) : TF h L := t.1
theorem TW.w {L : PG} {R : Int → Prop} {h : MH} (t : TW L R h) : WF L := t.2.1
theorem t_kff {l : Launch} {G : JG} (hG : gO G = true) {h : MH} {L : PG} {R : Int → Prop} (t : TW L R h) {Q : Int → MH → Prop} {E : Nat → Int → MH → Prop}
    (hQ : ∀ h', frQ h h' → TW L R h' → KN L R h' → hv h' 396 0 = hv h 396 0 → Q 0 h') : S_X9_findFacts l G [(2009, 396)] h Q E := by
  obtain ⟨t1, t2, t3, t4, t5⟩ := t
  refine t_findFacts hG t3 t1 t2 t4 t5 fun h' f k11 kn => ?_
  exact hQ h' (frQ_K f) ⟨frK_TF f t1, t2, t3, fun m hm => by rw [f.2 457 m (by omega) (by omega)]; exact t4 m hm, fun _ => kn⟩ kn (f.2 396 0 (by omega) (by omega))
/-- an answer -/
def ans (L : PG) (R : Int → Prop) (h h' : MH) (z : Int) (f : TB → Int × Int) : Prop := frQ h h' ∧ TW L R h' ∧ ∀ T, LST L R T → hv h' 396 0 = (f T).1 ∧ z = (f T).2
theorem ans_c {L : PG} {R : Int → Prop} {h h' : MH} {z : Int} {f : TB → Int × Int} {u v : Int} (fr : frQ h h') (t : TW L R h') (e : hv h' 396 0 = u) (ez : z = v) (q : ∀ T, f T = (u, v)) : ans L R h h' z f :=
  ⟨fr, t, fun T _ => by rw [q T]; exact ⟨e, ez⟩⟩
theorem ans_k {L : PG} {R : Int → Prop} {h h' : MH} {z : Int} {f : TB → Int × Int} (fr : frQ h h') (t : TW L R h') (k : KN L R h') (e : hv h' 396 0 = (f (tT h' L)).1) (ez : z = (f (tT h' L)).2) : ans L R h h' z f :=
  ⟨fr, t, fun T lT => by rw [LST_one lT k.l]; exact ⟨e, ez⟩⟩
theorem isin_z {v a b : Int} : isin v a b = 0 ↔ ¬ (a ≤ v ∧ v ≤ b) := by unfold isin; split <;> simp_all
theorem fv_nz {l h b s : Int} : ath (fv l h b s) ≠ 0 := (by decide : (1 : Int) ≠ 0)
theorem t_hasMethod {l : Launch} {G : JG} (hG : gO G = true) {h : MH} {L : PG} {R : Int → Prop} (t : TW L R h) {m : Int} {Q : Int → MH → Prop} {E : Nat → Int → MH → Prop}
    (h1 : inM L m → ∀ h', frQ h h' → TW L R h' → hv h' 396 0 = 0 → Q 1 h') (h2 : ¬ inM L m → ∀ h', frQ h h' → TW L R h' → hv h' 396 0 = 2 → Q 0 h') : S_X9_hasMethod l G [(2009, 396), (0, m)] h Q E := by
  have nn := t.w.n
  unfold WFn at nn
  refine s_X9_hasMethod rfl fun K ki => r_X9_hasMethod_0 ki hG ⟨fun _ => t.tf.ne, ?_⟩
  rw [if_neg t.tf.ne, t.tf.nnm, w32_i (by omega) (by omega)]
  intro g eg
  have fg : frQ h g := by rw [eg]; exact frQ_set (Or.inl rfl)
  have tg : TW L R g := by rw [eg]; exact TW_set (Or.inl rfl) t
  by_cases c : inM L m
  · have e0 : hv g 396 0 = 0 := by rw [eg, eq_a, if_neg]; rw [isin_z]; intro y; have := c.1; have := c.2; omega
    rw [e0, if_pos rfl]
    exact ⟨Or.inr rfl, h1 c g fg tg e0⟩
  · have e0 : hv g 396 0 = 2 := by rw [eg, eq_a, if_pos]; rw [isin_z]; intro y; exact c ⟨by omega, by omega⟩
    rw [e0, if_neg (by decide)]
    exact ⟨Or.inl rfl, h2 c g fg tg e0⟩
/-- there is such a place -/
def pOK (L : PG) (m i : Int) : Prop := inM L m ∧ 0 ≤ i ∧ i < pCo L m
theorem pOK_in {L : PG} (w : WF L) {m i : Int} (p : pOK L m i) : inP L (pFi L m + i) ∧ pMo L (pFi L m + i) = m := by
  obtain ⟨-, -, -, -, -, -, -, -, -, -, -, -, -, -, -, -, -, fi0, fi1, fim, -⟩ := w.m p.1.1 p.1.2
  have := p.2.1
  have := p.2.2
  exact ⟨⟨by omega, by omega⟩, fim i p.2.1 p.2.2⟩
theorem t_placeOf {l : Launch} {G : JG} (hG : gO G = true) {h : MH} {L : PG} {R : Int → Prop} (t : TW L R h) {m i : Int} {Q : Int → MH → Prop} {E : Nat → Int → MH → Prop}
    (h1 : pOK L m i → ∀ h', frQ h h' → TW L R h' → hv h' 396 0 = 0 → Q (pFi L m + i) h') (h2 : ¬ pOK L m i → ∀ h', frQ h h' → TW L R h' → hv h' 396 0 = 2 → Q (-1) h') : S_X9_placeOf l G [(2009, 396), (0, m), (0, i)] h Q E := by
  have nn := t.w.n
  unfold WFn at nn
  refine s_X9_placeOf rfl fun K ki => r_X9_placeOf_0 ki hG ?_
  refine t_hasMethod hG t (fun c g fg tg e0 => ⟨fun _ => ?_, fun y => absurd y (by decide)⟩) (fun c g fg tg e0 => ⟨fun y => absurd rfl y, fun _ => h2 (fun p => c p.1) g fg tg e0⟩)
  have m0 := c.1
  have m1 := c.2
  obtain ⟨-, -, -, -, -, -, -, -, -, -, -, -, -, -, -, co1, co2, fi0, fi1, -⟩ := t.w.m m0 m1
  refine ⟨tg.tf.ne, m0, by omega, ?_⟩
  rw [tg.tf.co, w32_i (by omega) (by omega)]
  intro g3 e3
  have f3 : frQ h g3 := by rw [e3]; exact frQ_tr fg (frQ_set (Or.inl rfl))
  have t3 : TW L R g3 := by rw [e3]; exact TW_set (Or.inl rfl) tg
  refine ⟨fun _ => ⟨t3.tf.ne, m0, by omega⟩, ?_⟩
  by_cases d : 0 ≤ i ∧ i < pCo L m
  · have z0 : hv g3 396 0 = 0 := by rw [e3, eq_a, if_neg]; rw [isin_z]; omega
    rw [z0, if_neg (by decide), t3.tf.fi, w32_i (by omega) (by omega)]
    exact h1 ⟨c, d⟩ g3 f3 t3 z0
  · have z0 : hv g3 396 0 = 2 := by rw [e3, eq_a, if_pos]; rw [isin_z]; omega
    rw [z0, if_pos (by decide)]
    exact h2 (fun p => d p.2) g3 f3 t3 z0
noncomputable def q_depth (L : PG) (m i : Int) (_ : TB) : Int × Int := cif (pOK L m i) (0, pDp L (pFi L m + i)) (2, 0)
theorem t_depth {l : Launch} {G : JG} (hG : gO G = true) {h : MH} {L : PG} {R : Int → Prop} (t : TW L R h) {m i : Int} {Q : Int → MH → Prop} {E : Nat → Int → MH → Prop}
    (hQ : ∀ z h', ans L R h h' z (q_depth L m i) → Q z h') : S_X9_depth l G [(2009, 396), (0, m), (0, i)] h Q E := by
  have nn := t.w.n
  unfold WFn at nn
  refine s_X9_depth rfl fun K ki => r_X9_depth_0 ki hG ?_
  refine t_placeOf hG t (fun c g fg tg e0 => ?_) (fun c g fg tg e0 => ?_)
  · have ip := (pOK_in t.w c).1
    have i0 := ip.1
    have i1 := ip.2
    intro x ex
    subst ex
    refine ⟨fun _ => ⟨tg.tf.ne, i0, by omega⟩, ?_⟩
    rw [if_neg (by omega), tg.tf.dp]
    exact hQ _ g (ans_c fg tg e0 rfl (fun T => cif_p c))
  · intro x ex
    subst ex
    refine ⟨fun y => by omega, ?_⟩
    rw [if_pos (by decide)]
    exact hQ _ g (ans_c fg tg e0 rfl (fun T => cif_n c))
noncomputable def q_reach (L : PG) (m i : Int) (T : TB) : Int × Int := cif (pOK L m i) (0, cif (rch T (pFi L m + i)) 1 0) (2, 0)
theorem t_reach {l : Launch} {G : JG} (hG : gO G = true) {h : MH} {L : PG} {R : Int → Prop} (t : TW L R h) {m i : Int} {Q : Int → MH → Prop} {E : Nat → Int → MH → Prop}
    (hQ : ∀ z h', (z = 0 ∨ z = 1) → ans L R h h' z (q_reach L m i) → Q z h') : S_X9_reach l G [(2009, 396), (0, m), (0, i)] h Q E := by
  have nn := t.w.n
  unfold WFn at nn
  refine s_X9_reach rfl fun K ki => r_X9_reach_0 ki hG ?_
  refine t_placeOf hG t (fun c g fg tg e0 => ?_) (fun c g fg tg e0 => ?_)
  · have ip := (pOK_in t.w c).1
    have i0 := ip.1
    have i1 := ip.2
    intro x ex
    subst ex
    refine ⟨fun _ => ?_, fun y => by omega⟩
    refine t_kff hG tg fun g2 f2 t2 k2 z2 => ⟨i0, by omega, ?_⟩
    have rb : hv g2 460 (pFi L m + i) = 0 ∨ hv g2 460 (pFi L m + i) = 1 := k2.2.2.2.2.2.2.1 _ i0 (by omega)
    refine ⟨rb, hQ _ g2 rb (ans_k (frQ_tr fg f2) t2 k2 ?_ ?_)⟩
    · unfold q_reach; rw [cif_p c, z2, e0]
    · unfold q_reach; rw [cif_p c]
      show _ = cif _ _ _
      by_cases y : rch (tT g2 L) (pFi L m + i)
      · rw [cif_p y]; exact (rch_iff ip).mp y
      · rw [cif_n y]
        rcases rb with rb | rb
        · exact rb
        · exact absurd ((rch_iff ip).mpr rb) y
  · intro x ex
    subst ex
    refine ⟨fun y => by omega, fun _ => ⟨Or.inl rfl, hQ 0 g (Or.inl rfl) (ans_c fg tg e0 rfl (fun T => cif_n c))⟩⟩
theorem KN_set {L : PG} {R : Int → Prop} {h : MH} {k x : Int} (c : k = 0 ∨ k = 78 ∨ k = 79) (t : KN L R h) : KN L R (hset h 396 k x) := KN_of (fun a j h1 h2 => ne_a (by omega)) (ne_k (by omega)) (ne_k (by omega)) t
theorem rw_0r {g : MH} {L : PG} {k j : Int} (hk : inP L k) (z : rch (tT g L) k) (r : rel L k j) : tT g L 0 k j = row g (16 * k + j) := by
  show t0 g L k j = _
  unfold t0
  rw [iff_p ⟨hk, (rch_iff hk).mp z, r⟩]
/-- a part of a fact -/
def selF (f : FA) (wt : Int) : Int := if wt = 0 then alo f else if wt = 1 then ahi f else if wt = 2 then alb f else ast f
noncomputable def q_value (L : PG) (m i wh wt : Int) (T : TB) : Int × Int := cif (pOK L m i) (cif (rel L (pFi L m + i) wh ∧ 0 ≤ wt ∧ wt ≤ 3) (cif (rch T (pFi L m + i)) (0, selF (T 0 (pFi L m + i) wh) wt) (1, 0)) (2, 0)) (2, 0)
theorem t_value {l : Launch} {G : JG} (hG : gO G = true) {h : MH} {L : PG} {R : Int → Prop} (t : TW L R h) {m i wh wt : Int} {Q : Int → MH → Prop} {E : Nat → Int → MH → Prop}
    (hQ : ∀ z h', ans L R h h' z (q_value L m i wh wt) → Q z h') : S_X9_value l G [(2009, 396), (0, m), (0, i), (0, wh), (0, wt)] h Q E := by
  have nn := t.w.n
  unfold WFn at nn
  refine s_X9_value rfl fun K ki => r_X9_value_0 ki hG ?_
  refine t_placeOf hG t (fun c g fg tg e0 => ?_) (fun c g fg tg e0 => ?_)
  · have ip := (pOK_in t.w c).1
    have mk := (pOK_in t.w c).2
    have i0 := ip.1
    have i1 := ip.2
    have m0 := c.1.1
    have m1 := c.1.2
    obtain ⟨-, -, -, ar0, ar1, -, -, -, alc, lc8, -⟩ := t.w.m m0 m1
    obtain ⟨-, -, -, -, -, -, -, -, -, -, -, -, -, -, -, -, -, -, -, dp, -⟩ := t.w.k i0 i1
    intro x ex
    subst ex
    refine ⟨fun _ => ⟨tg.tf.ne, m0, by omega, fun _ => ⟨tg.tf.ne, i0, by omega⟩, ?_⟩, fun y => by omega⟩
    rw [tg.tf.lc, tg.tf.dp, w32_i (z := pLc L m - 1) (by omega) (by omega), w32_i (z := 7 + pDp L (pFi L m + i)) (by omega) (by omega)]
    intro x6 e6
    have e6' : x6 = 0 ↔ ¬ rel L (pFi L m + i) wh := by
      unfold rel
      rw [mk, e6]
      by_cases d : isin wh 0 (pLc L m - 1) = 0
      · rw [if_pos d]
        rw [isin_z] at d
        by_cases d2 : isin wh 8 (7 + pDp L (pFi L m + i)) = 0
        · rw [if_pos d2]
          rw [isin_z] at d2
          exact ⟨fun _ y => by omega, fun _ => rfl⟩
        · rw [if_neg d2]
          rw [isin_z] at d2
          exact ⟨fun y => by omega, fun y => by omega⟩
      · rw [if_neg d]
        rw [isin_z] at d
        exact ⟨fun y => by omega, fun y => by omega⟩
    refine t_kff hG tg fun g2 f2 t2 k2 z2 => ⟨fun _ _ => ⟨i0, by omega⟩, ?_⟩
    intro g3 e3
    have f3 : frQ h g3 := by rw [e3]; exact frQ_tr (frQ_tr fg f2) (frQ_set (Or.inl rfl))
    have t3 : TW L R g3 := by rw [e3]; exact TW_set (Or.inl rfl) t2
    have k3 : KN L R g3 := by rw [e3]; exact KN_set (Or.inl rfl) k2
    have s460 : hv g3 460 (pFi L m + i) = hv g2 460 (pFi L m + i) := by rw [e3, ne_a (by omega)]
    have v0 : hv g3 396 0 = if x6 = 0 then 2 else if isin wt 0 3 = 0 then 2 else if hv g2 460 (pFi L m + i) = 0 then 1 else 0 := by rw [e3, eq_a]
    have rb : hv g2 460 (pFi L m + i) = 0 ∨ hv g2 460 (pFi L m + i) = 1 := k2.2.2.2.2.2.2.1 _ i0 (by omega)
    by_cases r1 : rel L (pFi L m + i) wh ∧ 0 ≤ wt ∧ wt ≤ 3
    · rw [if_neg (fun y => e6'.mp y r1.1), if_neg (fun y => isin_z.mp y r1.2)] at v0
      by_cases r2 : rch (tT g3 L) (pFi L m + i)
      · have r3 := (rch_iff ip).mp r2
        rw [s460] at r3
        rw [if_neg (by omega)] at v0
        refine ⟨fun _ => ?_, fun y => by omega⟩
        rw [w32_i (z := 16 * (pFi L m + i)) (by omega) (by omega)]
        have rg := rel_rng t.w i0 i1 r1.1
        rw [w32_i (z := 16 * (pFi L m + i) + wh) (by omega) (by omega)]
        intro x7 e7
        subst e7
        refine ⟨fun _ => ⟨fun _ => ⟨fun _ => ⟨by omega, by omega⟩, fun _ => ⟨by omega, by omega⟩⟩, fun _ => ⟨by omega, by omega⟩⟩, fun _ => ⟨by omega, by omega⟩, ?_⟩
        refine hQ _ g3 (ans_k f3 t3 k3 ?_ ?_)
        · unfold q_value; rw [cif_p c, cif_p r1, cif_p r2]; exact v0
        · unfold q_value; rw [cif_p c, cif_p r1, cif_p r2, rw_0r ip r2 r1.1]; rfl
      · have r3 : hv g2 460 (pFi L m + i) = 0 := by
          rcases rb with y | y
          · exact y
          · exact absurd ((rch_iff ip).mpr (by rw [s460]; exact y)) r2
        rw [if_pos r3] at v0
        refine ⟨fun y => by omega, fun _ => hQ _ g3 (ans_k f3 t3 k3 ?_ ?_)⟩
        · unfold q_value; rw [cif_p c, cif_p r1, cif_n r2]; exact v0
        · unfold q_value; rw [cif_p c, cif_p r1, cif_n r2]
    · have v2 : hv g3 396 0 = 2 := by
        rw [v0]
        by_cases y : x6 = 0
        · rw [if_pos y]
        · rw [if_neg y, if_pos]
          rw [isin_z]
          intro z
          apply r1
          refine ⟨?_, z⟩
          apply Classical.byContradiction
          intro z2
          exact y (e6'.mpr z2)
      refine ⟨fun y => by omega, fun _ => hQ _ g3 (ans_c f3 t3 v2 rfl (fun T => ?_))⟩
      unfold q_value; rw [cif_p c, cif_n r1]
  · intro x ex
    subst ex
    exact ⟨fun y => by omega, fun _ => hQ 0 g (ans_c fg tg e0 rfl (fun T => cif_n c))⟩
noncomputable def q_locks (L : PG) (m i wt : Int) (T : TB) : Int × Int := cif (pOK L m i) (cif (0 ≤ wt ∧ wt ≤ 1) (cif (rch T (pFi L m + i)) (0, if wt = 0 then asu (T 6 (pFi L m + i) 0) else alb (T 6 (pFi L m + i) 0)) (1, 0)) (2, 0)) (2, 0)
theorem t_locks {l : Launch} {G : JG} (hG : gO G = true) {h : MH} {L : PG} {R : Int → Prop} (t : TW L R h) {m i wt : Int} {Q : Int → MH → Prop} {E : Nat → Int → MH → Prop}
    (hQ : ∀ z h', ans L R h h' z (q_locks L m i wt) → Q z h') : S_X9_locks l G [(2009, 396), (0, m), (0, i), (0, wt)] h Q E := by
  have nn := t.w.n
  unfold WFn at nn
  refine s_X9_locks rfl fun K ki => r_X9_locks_0 ki hG ?_
  refine t_placeOf hG t (fun c g fg tg e0 => ?_) (fun c g fg tg e0 => ?_)
  · have ip := (pOK_in t.w c).1
    have i0 := ip.1
    have i1 := ip.2
    intro x ex
    subst ex
    refine ⟨fun _ => ?_, fun y => by omega⟩
    refine t_kff hG tg fun g2 f2 t2 k2 z2 => ⟨fun _ => ⟨i0, by omega⟩, ?_⟩
    intro g3 e3
    have f3 : frQ h g3 := by rw [e3]; exact frQ_tr (frQ_tr fg f2) (frQ_set (Or.inl rfl))
    have t3 : TW L R g3 := by rw [e3]; exact TW_set (Or.inl rfl) t2
    have k3 : KN L R g3 := by rw [e3]; exact KN_set (Or.inl rfl) k2
    have s460 : hv g3 460 (pFi L m + i) = hv g2 460 (pFi L m + i) := by rw [e3, ne_a (by omega)]
    have v0 : hv g3 396 0 = if isin wt 0 1 = 0 then 2 else if hv g2 460 (pFi L m + i) = 0 then 1 else 0 := by rw [e3, eq_a]
    have rb : hv g2 460 (pFi L m + i) = 0 ∨ hv g2 460 (pFi L m + i) = 1 := k2.2.2.2.2.2.2.1 _ i0 (by omega)
    refine ⟨fun _ => ⟨fun _ => ⟨i0, by omega⟩, fun _ => ⟨i0, by omega⟩⟩, ?_⟩
    by_cases r1 : 0 ≤ wt ∧ wt ≤ 1
    · rw [if_neg (fun y => isin_z.mp y r1)] at v0
      by_cases r2 : rch (tT g3 L) (pFi L m + i)
      · have r3 := (rch_iff ip).mp r2
        have r4 := r3
        rw [s460] at r4
        rw [if_neg (by omega)] at v0
        rw [v0, if_neg (by decide)]
        refine hQ _ g3 (ans_k f3 t3 k3 ?_ ?_)
        · unfold q_locks; rw [cif_p c, cif_p r1, cif_p r2]; exact v0
        · unfold q_locks; rw [cif_p c, cif_p r1, cif_p r2, rw_6 ip r3]; rfl
      · have r3 : hv g2 460 (pFi L m + i) = 0 := by
          rcases rb with y | y
          · exact y
          · exact absurd ((rch_iff ip).mpr (by rw [s460]; exact y)) r2
        rw [if_pos r3] at v0
        rw [v0, if_pos (by decide)]
        refine hQ _ g3 (ans_k f3 t3 k3 ?_ ?_)
        · unfold q_locks; rw [cif_p c, cif_p r1, cif_n r2]; exact v0
        · unfold q_locks; rw [cif_p c, cif_p r1, cif_n r2]
    · have v2 : hv g3 396 0 = 2 := by rw [v0, if_pos (isin_z.mpr r1)]
      rw [v2, if_pos (by decide)]
      refine hQ _ g3 (ans_c f3 t3 v2 rfl (fun T => ?_))
      unfold q_locks; rw [cif_p c, cif_n r1]
  · intro x ex
    subst ex
    exact ⟨fun y => by omega, fun _ => hQ 0 g (ans_c fg tg e0 rfl (fun T => cif_n c))⟩
noncomputable def q_throwsAt (L : PG) (m i : Int) (T : TB) : Int × Int := cif (pOK L m i) (0, ast (T 9 (pFi L m + i) 0)) (2, 0)
theorem t_throwsAt {l : Launch} {G : JG} (hG : gO G = true) {h : MH} {L : PG} {R : Int → Prop} (t : TW L R h) {m i : Int} {Q : Int → MH → Prop} {E : Nat → Int → MH → Prop}
    (hQ : ∀ z h', ans L R h h' z (q_throwsAt L m i) → Q z h') : S_X9_throwsAt l G [(2009, 396), (0, m), (0, i)] h Q E := by
  have nn := t.w.n
  unfold WFn at nn
  refine s_X9_throwsAt rfl fun K ki => r_X9_throwsAt_0 ki hG ?_
  refine t_placeOf hG t (fun c g fg tg e0 => ?_) (fun c g fg tg e0 => ?_)
  · have ip := (pOK_in t.w c).1
    have i0 := ip.1
    have i1 := ip.2
    intro x ex
    subst ex
    refine ⟨fun _ => ?_, fun y => by omega⟩
    refine t_kff hG tg fun g2 f2 t2 k2 z2 => ⟨i0, by omega, hQ _ g2 (ans_k (frQ_tr fg f2) t2 k2 ?_ ?_)⟩
    · unfold q_throwsAt; rw [cif_p c, z2, e0]
    · unfold q_throwsAt; rw [cif_p c, rw_9 ip]
  · intro x ex
    subst ex
    exact ⟨fun y => by omega, fun _ => hQ 0 g (ans_c fg tg e0 rfl (fun T => cif_n c))⟩
noncomputable def q_calls (L : PG) (m i : Int) (T : TB) : Int × Int := cif (pOK L m i) (0, lof (fun c => ath (T 10 (pFi L m + i) c) ≠ 0)) (2, 0)
theorem t_calls {l : Launch} {G : JG} (hG : gO G = true) {h : MH} {L : PG} {R : Int → Prop} (t : TW L R h) {m i : Int} {Q : Int → MH → Prop} {E : Nat → Int → MH → Prop}
    (hQ : ∀ z h', ans L R h h' z (q_calls L m i) → Q z h') : S_X9_calls l G [(2009, 396), (0, m), (0, i)] h Q E := by
  have nn := t.w.n
  unfold WFn at nn
  refine s_X9_calls rfl fun K ki => r_X9_calls_0 ki hG ?_
  refine t_placeOf hG t (fun c g fg tg e0 => ?_) (fun c g fg tg e0 => ?_)
  · have ip := (pOK_in t.w c).1
    have i0 := ip.1
    have i1 := ip.2
    intro x ex
    subst ex
    refine ⟨fun _ => ?_, fun y => by omega⟩
    refine t_kff hG tg fun g2 f2 t2 k2 z2 => ⟨i0, by omega, hQ _ g2 (ans_k (frQ_tr fg f2) t2 k2 ?_ ?_)⟩
    · unfold q_calls; rw [cif_p c, z2, e0]
    · unfold q_calls; rw [cif_p c]
      exact (lof_eq (k2.2.2.2.2.1 _ i0 (by omega)).2 (fun s s0 s1 => (rw_10 ip s0 s1).symm)).symm
  · intro x ex
    subst ex
    exact ⟨fun y => by omega, fun _ => hQ 0 g (ans_c fg tg e0 rfl (fun T => cif_n c))⟩
noncomputable def q_live (L : PG) (m i : Int) (T : TB) : Int × Int := cif (pOK L m i) (0, iof (LVE L T (pFi L m + i))) (2, 0)
theorem t_live {l : Launch} {G : JG} (hG : gO G = true) {h : MH} {L : PG} {R : Int → Prop} (t : TW L R h) {m i : Int} {Q : Int → MH → Prop} {E : Nat → Int → MH → Prop}
    (hQ : ∀ z h', ans L R h h' z (q_live L m i) → Q z h') : S_X9_live l G [(2009, 396), (0, m), (0, i)] h Q E := by
  have nn := t.w.n
  unfold WFn at nn
  refine s_X9_live rfl fun K ki => r_X9_live_0 ki hG ?_
  refine t_placeOf hG t (fun c g fg tg e0 => ?_) (fun c g fg tg e0 => ?_)
  · have ip := (pOK_in t.w c).1
    have i0 := ip.1
    have i1 := ip.2
    intro x ex
    subst ex
    refine ⟨fun _ => ?_, fun y => by omega⟩
    refine t_kff hG tg fun g2 f2 t2 k2 z2 => ⟨i0, by omega, hQ _ g2 (ans_k (frQ_tr fg f2) t2 k2 ?_ ?_)⟩
    · unfold q_live; rw [cif_p c, z2, e0]
    · unfold q_live; rw [cif_p c]
      exact (iof_eq (k2.2.2.2.2.1 _ i0 (by omega)).1 (fun s s0 s1 => k2.2.1 _ s ip s0 s1)).symm
  · intro x ex
    subst ex
    exact ⟨fun y => by omega, fun _ => hQ 0 g (ans_c fg tg e0 rfl (fun T => cif_n c))⟩
noncomputable def q_outcome (L : PG) (m wt : Int) (T : TB) : Int × Int := cif (inM L m) (cif (0 ≤ wt ∧ wt ≤ 6) (0, if wt = 0 then cif (ath (T 5 m 0) ≠ 0) 1 0 else if wt = 1 then alo (T 5 m 0) else if wt = 2 then ahi (T 5 m 0) else if wt = 3 then alb (T 5 m 0) else if wt = 4 then ast (T 5 m 0) else if wt = 5 then ast (T 14 m 0) else alb (T 15 m 0)) (2, 0)) (2, 0)
/-- what a method gives, with nothing where it gives nothing -/
theorem rw_5z {L : PG} {R : Int → Prop} {g : MH} (k : KN L R g) {m : Int} (hm : inM L m) (m40 : m < 40) : alo (tT g L 5 m 0) = hv g 489 m ∧ ahi (tT g L 5 m 0) = hv g 490 m ∧ alb (tT g L 5 m 0) = hv g 491 m ∧ ast (tT g L 5 m 0) = hv g 492 m := by
  by_cases z : hv g 488 m = 1
  · rw [rw_5v hm z]; exact ⟨rfl, rfl, rfl, rfl⟩
  · have e : tT g L 5 m 0 = fz := by
      show t5 g L m 0 = _
      unfold t5; exact iff_n (fun y => z y.2.2)
    have zz := k.1.1.2.1.2
    have a := zz.2.1 m hm.1 m40 z
    have b := zz.2.2.2 m hm.1 m40 z
    rw [e, a.1, a.2, b.1, b.2]; exact ⟨rfl, rfl, rfl, rfl⟩
theorem t_outcome {l : Launch} {G : JG} (hG : gO G = true) {h : MH} {L : PG} {R : Int → Prop} (t : TW L R h) {m wt : Int} {Q : Int → MH → Prop} {E : Nat → Int → MH → Prop}
    (hQ : ∀ z h', ans L R h h' z (q_outcome L m wt) → Q z h') : S_X9_outcome l G [(2009, 396), (0, m), (0, wt)] h Q E := by
  have nn := t.w.n
  unfold WFn at nn
  refine s_X9_outcome rfl fun K ki => r_X9_outcome_0 ki hG ?_
  refine t_hasMethod hG t (fun c g fg tg e0 => ⟨fun _ => ?_, fun y => absurd y (by decide)⟩) (fun c g fg tg e0 => ⟨fun y => absurd rfl y, fun _ => hQ 0 g (ans_c fg tg e0 rfl (fun T => cif_n c))⟩)
  have m0 := c.1
  have m1 := c.2
  intro g3 e3
  have f3 : frQ h g3 := by rw [e3]; exact frQ_tr fg (frQ_set (Or.inl rfl))
  have t3 : TW L R g3 := by rw [e3]; exact TW_set (Or.inl rfl) tg
  by_cases r1 : 0 ≤ wt ∧ wt ≤ 6
  · have v0 : hv g3 396 0 = 0 := by rw [e3, eq_a, if_neg (fun y => isin_z.mp y r1)]
    refine ⟨fun _ => ?_, fun y => by omega⟩
    refine t_kff hG t3 fun g5 f5 t5' k5 z5 => ?_
    have zv := rw_5z k5 c (by omega)
    have b0 : hv g5 488 m = 0 ∨ hv g5 488 m = 1 := k5.2.2.2.2.2.2.2.2.2 m m0 (by omega)
    have key : ∀ z, z = (q_outcome L m wt (tT g5 L)).2 → Q z g5 := by
      intro z ez
      refine hQ z g5 (ans_k (frQ_tr f3 f5) t5' k5 ?_ ez)
      unfold q_outcome; rw [cif_p c, cif_p r1, z5, v0]
    have qv : (q_outcome L m wt (tT g5 L)).2 = if wt = 0 then cif (ath (tT g5 L 5 m 0) ≠ 0) 1 0 else if wt = 1 then hv g5 489 m else if wt = 2 then hv g5 490 m else if wt = 3 then hv g5 491 m else if wt = 4 then hv g5 492 m else if wt = 5 then hv g5 495 m else hv g5 498 m := by
      unfold q_outcome; rw [cif_p c, cif_p r1, zv.1, zv.2.1, zv.2.2.1, zv.2.2.2, rw_14 c, fb_ast, rw_15a c]
    refine ⟨⟨fun e => ⟨m0, by omega, key _ ?_⟩, fun e => ⟨m0, by omega, key _ ?_⟩, fun e => ⟨m0, by omega, key _ ?_⟩, fun e => ⟨m0, by omega, key _ ?_⟩, fun e => ⟨m0, by omega, key _ ?_⟩, fun e => ⟨m0, by omega, key _ ?_⟩, trivial⟩, fun e => ⟨m0, by omega, key _ ?_⟩⟩
    · rw [qv, if_pos e]
      by_cases y : ath (tT g5 L 5 m 0) ≠ 0
      · rw [cif_p y, if_neg]; have := (rw_5 c).mp y; omega
      · rw [cif_n y, if_pos]
        rcases b0 with b0 | b0
        · exact b0
        · exact absurd ((rw_5 c).mpr b0) y
    · rw [qv, if_neg (by omega), if_pos (by omega)]
    · rw [qv, if_neg (by omega), if_neg (by omega), if_pos (by omega)]
    · rw [qv, if_neg (by omega), if_neg (by omega), if_neg (by omega), if_pos (by omega)]
    · rw [qv, if_neg (by omega), if_neg (by omega), if_neg (by omega), if_neg (by omega), if_pos (by omega)]
    · rw [qv, if_neg (by omega), if_neg (by omega), if_neg (by omega), if_neg (by omega), if_neg (by omega), if_pos (by omega)]
    · rw [qv, if_neg (by omega), if_neg (by omega), if_neg (by omega), if_neg (by omega), if_neg (by omega), if_neg (by omega)]
  · have v0 : hv g3 396 0 = 2 := by rw [e3, eq_a, if_pos (isin_z.mpr r1)]
    refine ⟨fun y => by omega, fun _ => hQ 0 g3 (ans_c f3 t3 v0 rfl (fun T => ?_))⟩
    unfold q_outcome; rw [cif_p c, cif_n r1]
noncomputable def q_statics (L : PG) (i wt : Int) (T : TB) : Int × Int := cif ((0 ≤ i ∧ i < pNs L) ∧ 0 ≤ wt ∧ wt ≤ 3) (0, selF (T 3 i 0) wt) (2, 0)
theorem t_statics {l : Launch} {G : JG} (hG : gO G = true) {h : MH} {L : PG} {R : Int → Prop} (t : TW L R h) {i wt : Int} {Q : Int → MH → Prop} {E : Nat → Int → MH → Prop}
    (hQ : ∀ z h', ans L R h h' z (q_statics L i wt) → Q z h') : S_X9_statics l G [(2009, 396), (0, i), (0, wt)] h Q E := by
  have nn := t.w.n
  unfold WFn at nn
  refine s_X9_statics rfl fun K ki => r_X9_statics_0 ki hG ⟨fun _ => t.tf.ne, ?_⟩
  rw [if_neg t.tf.ne, t.tf.nns, w32_i (by omega) (by omega)]
  intro g eg
  have fg : frQ h g := by rw [eg]; exact frQ_set (Or.inl rfl)
  have tg : TW L R g := by rw [eg]; exact TW_set (Or.inl rfl) t
  by_cases c : (0 ≤ i ∧ i < pNs L) ∧ 0 ≤ wt ∧ wt ≤ 3
  · have v0 : hv g 396 0 = 0 := by rw [eg, eq_a, if_neg (fun y => isin_z.mp y (by omega)), if_neg (fun y => isin_z.mp y c.2)]
    refine ⟨fun _ => ?_, fun y => by omega⟩
    have i8 : i < 8 := by omega
    refine t_kff hG tg fun g5 f5 t5' k5 z5 => ⟨fun _ => ⟨fun _ => ⟨fun _ => ⟨c.1.1, i8⟩, fun _ => ⟨c.1.1, i8⟩⟩, fun _ => ⟨c.1.1, i8⟩⟩, fun _ => ⟨c.1.1, i8⟩, ?_⟩
    refine hQ _ g5 (ans_k (frQ_tr fg f5) t5' k5 ?_ ?_)
    · unfold q_statics; rw [cif_p c, z5, v0]
    · unfold q_statics; rw [cif_p c]
      have e : tT g5 L 3 i 0 = fv (hv g5 480 i) (hv g5 481 i) (hv g5 482 i) (hv g5 483 i) := by
        show t3 g5 L i 0 = _
        unfold t3; exact iff_p ⟨c.1.1, c.1.2, rfl⟩
      rw [e]; rfl
  · have v0 : hv g 396 0 = 2 := by
      rw [eg, eq_a]
      by_cases d : isin i 0 (pNs L - 1) = 0
      · rw [if_pos d]
      · rw [if_neg d, if_pos]
        rw [isin_z] at d ⊢
        omega
    refine ⟨fun y => by omega, fun _ => hQ 0 g (ans_c fg tg v0 rfl (fun T => cif_n c))⟩
noncomputable def q_sink (i wt : Int) (T : TB) : Int × Int := cif ((0 ≤ i ∧ i ≤ 7) ∧ 0 ≤ wt ∧ wt ≤ 3) (0, cif (ath (T 4 i 0) ≠ 0) (if wt = 0 then 1 else if wt = 1 then alo (T 4 i 0) else if wt = 2 then ahi (T 4 i 0) else alb (T 4 i 0)) 0) (2, 0)
theorem t_sink {l : Launch} {G : JG} (hG : gO G = true) {h : MH} {L : PG} {R : Int → Prop} (t : TW L R h) {i wt : Int} {Q : Int → MH → Prop} {E : Nat → Int → MH → Prop}
    (hQ : ∀ z h', ans L R h h' z (q_sink i wt) → Q z h') : S_X9_sink l G [(2009, 396), (0, i), (0, wt)] h Q E := by
  have nn := t.w.n
  unfold WFn at nn
  refine s_X9_sink rfl fun K ki => r_X9_sink_0 ki hG ?_
  rw [if_neg t.tf.ne]
  intro g eg
  have fg : frQ h g := by rw [eg]; exact frQ_set (Or.inl rfl)
  have tg : TW L R g := by rw [eg]; exact TW_set (Or.inl rfl) t
  by_cases c : (0 ≤ i ∧ i ≤ 7) ∧ 0 ≤ wt ∧ wt ≤ 3
  · have v0 : hv g 396 0 = 0 := by rw [eg, eq_a, if_neg (fun y => isin_z.mp y c.1), if_neg (fun y => isin_z.mp y c.2)]
    refine ⟨fun _ => ?_, fun y => by omega⟩
    have i0 : 0 ≤ i := c.1.1
    have i8 : i < 8 := by omega
    refine t_kff hG tg fun g5 f5 t5' k5 z5 => ⟨i0, i8, ?_⟩
    have b0 : hv g5 484 i = 0 ∨ hv g5 484 i = 1 := k5.2.2.2.2.2.2.2.2.1 i i0 i8
    have key : ∀ z, z = (q_sink i wt (tT g5 L)).2 → Q z g5 := by
      intro z ez
      refine hQ z g5 (ans_k (frQ_tr fg f5) t5' k5 ?_ ez)
      unfold q_sink; rw [cif_p c, z5, v0]
    refine ⟨fun y => ⟨fun _ => ⟨fun _ => ⟨fun _ => ⟨i0, i8⟩, fun _ => ⟨i0, i8⟩⟩, fun _ => ⟨i0, i8⟩⟩, key _ ?_⟩, fun y => key _ ?_⟩
    · have e : tT g5 L 4 i 0 = fv (hv g5 485 i) (hv g5 486 i) (hv g5 487 i) 0 := by
        show t4 g5 i 0 = _
        unfold t4; exact iff_p ⟨i0, i8, rfl, by omega⟩
      unfold q_sink; rw [cif_p c, e, cif_p fv_nz]; rfl
    · have e : tT g5 L 4 i 0 = fz := by
        show t4 g5 i 0 = _
        unfold t4; exact iff_n (fun z => by have := z.2.2.2; omega)
      unfold q_sink; rw [cif_p c, e, cif_n (fun z => z rfl)]
  · have v0 : hv g 396 0 = 2 := by
      rw [eg, eq_a]
      by_cases d : isin i 0 7 = 0
      · rw [if_pos d]
      · rw [if_neg d, if_pos]
        rw [isin_z] at d ⊢
        omega
    refine ⟨fun y => by omega, fun _ => hQ 0 g (ans_c fg tg v0 rfl (fun T => cif_n c))⟩
noncomputable def q_runs (L : PG) (R : Int → Prop) (o : Int) (T : TB) : Int × Int := cif (0 ≤ o ∧ o < nor L T) (0, lof (rns L T R o)) (2, 0)
theorem nor_b {L : PG} (w : WF L) (T : TB) : 1 ≤ nor L T ∧ nor L T ≤ 1501 := by
  have nn := w.n
  unfold WFn at nn
  have := cnt_b (stp L T) (pNp L).toNat
  unfold nor; omega
theorem t_runs {l : Launch} {G : JG} (hG : gO G = true) {h : MH} {L : PG} {R : Int → Prop} (t : TW L R h) {o : Int} {Q : Int → MH → Prop} {E : Nat → Int → MH → Prop}
    (hQ : ∀ z h', ans L R h h' z (q_runs L R o) → Q z h') : S_X9_runs l G [(2009, 396), (0, o)] h Q E := by
  refine s_X9_runs rfl fun K ki => r_X9_runs_0 ki hG ?_
  rw [if_neg t.tf.ne]
  intro g eg
  have fg : frQ h g := by rw [eg]; exact frQ_set (Or.inl rfl)
  have tg : TW L R g := by rw [eg]; exact TW_set (Or.inl rfl) t
  have v0 : hv g 396 0 = 0 := by rw [eg, eq_a]
  refine ⟨fun _ => ?_, fun y => by omega⟩
  refine t_kff hG tg fun g5 f5 t5' k5 z5 => ?_
  have nb := nor_b t.w (tT g5 L)
  have og := k5.2.2.1.1
  rw [og.1, w32_i (by omega) (by omega)]
  intro g6 e6
  have f6 : frQ h g6 := by rw [e6]; exact frQ_tr (frQ_tr fg f5) (frQ_set (Or.inl rfl))
  have t6' : TW L R g6 := by rw [e6]; exact TW_set (Or.inl rfl) t5'
  have k6 : KN L R g6 := by rw [e6]; exact KN_set (Or.inl rfl) k5
  have eT : tT g6 L = tT g5 L := by rw [e6]; exact tT_eq (fun a j h1 h2 => ne_a (by omega))
  by_cases c : 0 ≤ o ∧ o < nor L (tT g6 L)
  · have c' := c
    rw [eT] at c'
    have v6 : hv g6 396 0 = 0 := by rw [e6, eq_a, if_neg (fun y => isin_z.mp y (by omega))]
    refine ⟨fun _ => ⟨c.1, by omega⟩, ?_⟩
    rw [v6, if_neg (by decide)]
    refine hQ _ g6 (ans_k f6 t6' k6 ?_ ?_)
    · unfold q_runs; rw [cif_p c]; exact v6
    · unfold q_runs; rw [cif_p c]
      exact (lof_eq (k6.2.2.2.2.2.1 o c.1 (by omega)) (fun s s0 s1 => k6.2.2.1.1.2.1 o s c.1 c.2 s0 s1)).symm
  · have c' := c
    rw [eT] at c'
    have v6 : hv g6 396 0 = 2 := by rw [e6, eq_a, if_pos]; rw [isin_z]; omega
    refine ⟨fun y => by omega, ?_⟩
    rw [v6, if_pos (by decide)]
    refine hQ _ g6 (ans_k f6 t6' k6 ?_ ?_)
    · unfold q_runs; rw [cif_n c]; exact v6
    · unfold q_runs; rw [cif_n c]
noncomputable def q_held (L : PG) (s f wt : Int) (T : TB) : Int × Int := cif (1 ≤ s ∧ s < pNt L) (cif ((0 ≤ f ∧ f < nfs L s) ∧ 0 ≤ wt ∧ wt ≤ 5) (0, cif (ath (T 1 s f) ≠ 0) (if wt < 4 then selF (T 1 s f) wt else if wt = 4 then alo (T 2 s 0) else ahi (T 2 s 0)) 0) (2, 0)) (2, 0)
theorem t_hasSite {l : Launch} {G : JG} (hG : gO G = true) {h : MH} {L : PG} {R : Int → Prop} (t : TW L R h) {s : Int} {Q : Int → MH → Prop} {E : Nat → Int → MH → Prop}
    (h1 : 1 ≤ s ∧ s < pNt L → ∀ h', frQ h h' → TW L R h' → hv h' 396 0 = 0 → Q 1 h') (h2 : ¬ (1 ≤ s ∧ s < pNt L) → ∀ h', frQ h h' → TW L R h' → hv h' 396 0 = 2 → Q 0 h') : S_X9_hasSite l G [(2009, 396), (0, s)] h Q E := by
  have nn := t.w.n
  unfold WFn at nn
  refine s_X9_hasSite rfl fun K ki => r_X9_hasSite_0 ki hG ⟨fun _ => t.tf.ne, ?_⟩
  rw [if_neg t.tf.ne, t.tf.nnt, w32_i (by omega) (by omega)]
  intro g eg
  have fg : frQ h g := by rw [eg]; exact frQ_set (Or.inl rfl)
  have tg : TW L R g := by rw [eg]; exact TW_set (Or.inl rfl) t
  by_cases c : 1 ≤ s ∧ s < pNt L
  · have e0 : hv g 396 0 = 0 := by rw [eg, eq_a, if_neg]; rw [isin_z]; omega
    rw [e0, if_pos rfl]
    exact ⟨Or.inr rfl, h1 c g fg tg e0⟩
  · have e0 : hv g 396 0 = 2 := by rw [eg, eq_a, if_pos]; rw [isin_z]; omega
    rw [e0, if_neg (by decide)]
    exact ⟨Or.inl rfl, h2 c g fg tg e0⟩
theorem t_held {l : Launch} {G : JG} (hG : gO G = true) {h : MH} {L : PG} {R : Int → Prop} (t : TW L R h) {s f wt : Int} {Q : Int → MH → Prop} {E : Nat → Int → MH → Prop}
    (hQ : ∀ z h', ans L R h h' z (q_held L s f wt) → Q z h') : S_X9_held l G [(2009, 396), (0, s), (0, f), (0, wt)] h Q E := by
  have nn := t.w.n
  unfold WFn at nn
  refine s_X9_held rfl fun K ki => r_X9_held_0 ki hG ?_
  refine t_hasSite hG t (fun c g fg tg e0 => ⟨fun _ => ?_, fun y => absurd y (by decide)⟩) (fun c g fg tg e0 => ⟨fun y => absurd rfl y, fun _ => hQ 0 g (ans_c fg tg e0 rfl (fun T => cif_n c))⟩)
  have sc := t.w.sc c.1 c.2
  refine ⟨tg.tf.ne, by omega, by omega, ?_⟩
  rw [tg.tf.ss]
  intro x4 e4
  subst e4
  refine ⟨fun y => ⟨tg.tf.ne, y, sc.2⟩, ?_⟩
  rw [tg.tf.fc]
  intro x5 e5
  have e5' : x5 = nfs L s := e5
  subst e5'
  have nb : 0 ≤ nfs L s ∧ nfs L s ≤ 8 := by
    unfold nfs
    by_cases z : pSc L s < 0
    · rw [if_pos z]; omega
    · rw [if_neg z]; exact t.w.c.2.2.1 _ (by omega) (by omega)
  rw [w32_i (z := nfs L s - 1) (by omega) (by omega)]
  intro g5 e5''
  have f5 : frQ h g5 := by rw [e5'']; exact frQ_tr fg (frQ_set (Or.inl rfl))
  have t5' : TW L R g5 := by rw [e5'']; exact TW_set (Or.inl rfl) tg
  by_cases r1 : (0 ≤ f ∧ f < nfs L s) ∧ 0 ≤ wt ∧ wt ≤ 5
  · have v0 : hv g5 396 0 = 0 := by rw [e5'', eq_a, if_neg (fun y => isin_z.mp y (by omega)), if_neg (fun y => isin_z.mp y r1.2)]
    have hs : inS L s := by
      refine ⟨?_, c.2⟩
      apply Classical.byContradiction
      intro s7
      have e1 := t.w.s.1 s c.1 (by omega)
      have := t.w.c.2.2.2.1 (pSc L s) (by omega) (by omega)
      have r2 := r1.1.2
      unfold nfs at r2
      rw [if_neg (by omega)] at r2
      omega
    refine ⟨fun _ => ?_, fun y => by omega⟩
    refine t_kff hG t5' fun g7 f7 t7' k7 z7 => ⟨by omega, by omega, ?_⟩
    have b0 : hv g7 472 s = 0 ∨ hv g7 472 s = 1 := k7.2.2.2.2.2.2.2.1 s (by omega) (by omega)
    have key : ∀ z, z = (q_held L s f wt (tT g7 L)).2 → Q z g7 := by
      intro z ez
      refine hQ z g7 (ans_k (frQ_tr f5 f7) t7' k7 ?_ ez)
      unfold q_held; rw [cif_p c, cif_p r1, z7, v0]
    refine ⟨fun y => ?_, fun y => key 0 ?_⟩
    · have e : tT g7 L 1 s f = fv (hv g7 473 (8 * s + f)) (hv g7 474 (8 * s + f)) (hv g7 475 (8 * s + f)) (hv g7 476 (8 * s + f)) := by
        show t1 g7 L s f = _
        unfold t1; exact iff_p ⟨hs, by omega, r1.1.1, r1.1.2⟩
      have l2 : alo (tT g7 L 2 s 0) = hv g7 477 s ∧ ahi (tT g7 L 2 s 0) = hv g7 478 s := by
        by_cases z : hv g7 479 s = 1
        · have e2 : tT g7 L 2 s 0 = fv (hv g7 477 s) (hv g7 478 s) 0 0 := by
            show t2 g7 L s 0 = _
            unfold t2; exact iff_p ⟨hs, rfl, z⟩
          rw [e2]; exact ⟨rfl, rfl⟩
        · have e2 : tT g7 L 2 s 0 = fz := by
            show t2 g7 L s 0 = _
            unfold t2; exact iff_n (fun y2 => z y2.2.2)
          have a := k7.1.1.2.1.2.2.2.1 s (by omega) (by omega) z
          rw [e2, a.1, a.2]; exact ⟨rfl, rfl⟩
      have qv : (q_held L s f wt (tT g7 L)).2 = if wt < 4 then selF (tT g7 L 1 s f) wt else if wt = 4 then hv g7 477 s else hv g7 478 s := by
        unfold q_held; rw [cif_p c, cif_p r1, l2.1, l2.2, e, cif_p fv_nz]
      rw [w32_i (z := 8 * s) (by omega) (by omega), w32_i (z := 8 * s + f) (by omega) (by omega)]
      intro x6 e6
      subst e6
      refine ⟨⟨fun e7 => ⟨by omega, by omega, key _ ?_⟩, fun e7 => ⟨by omega, by omega, key _ ?_⟩, fun e7 => ⟨by omega, by omega, key _ ?_⟩, fun e7 => ⟨by omega, by omega, key _ ?_⟩, fun e7 => ⟨by omega, by omega, key _ ?_⟩, trivial⟩, fun e7 => ⟨by omega, by omega, key _ ?_⟩⟩
      · rw [qv, if_pos (by omega), e]; unfold selF; rw [if_pos (by omega)]; rfl
      · rw [qv, if_pos (by omega), e]; unfold selF; rw [if_neg (by omega), if_pos (by omega)]; rfl
      · rw [qv, if_pos (by omega), e]; unfold selF; rw [if_neg (by omega), if_neg (by omega), if_pos (by omega)]; rfl
      · rw [qv, if_pos (by omega), e]; unfold selF; rw [if_neg (by omega), if_neg (by omega), if_neg (by omega)]; rfl
      · rw [qv, if_neg (by omega), if_pos (by omega)]
      · rw [qv, if_neg (by omega), if_neg (by omega)]
    · have e : tT g7 L 1 s f = fz := by
        show t1 g7 L s f = _
        unfold t1; exact iff_n (fun z => by have := z.2.1; omega)
      unfold q_held; rw [cif_p c, cif_p r1, e, cif_n (fun z => z rfl)]
  · have v0 : hv g5 396 0 = 2 := by
      rw [e5'', eq_a]
      by_cases d : isin f 0 (nfs L s - 1) = 0
      · rw [if_pos d]
      · rw [if_neg d, if_pos]
        rw [isin_z] at d ⊢
        omega
    refine ⟨fun y => by omega, fun _ => hQ 0 g5 (ans_c f5 t5' v0 rfl (fun T => ?_))⟩
    unfold q_held; rw [cif_p c, cif_n r1]
noncomputable def q_classOf (L : PG) (s : Int) (_ : TB) : Int × Int := cif (1 ≤ s ∧ s < pNt L) (0, pSc L s) (2, 0)
theorem t_classOf {l : Launch} {G : JG} (hG : gO G = true) {h : MH} {L : PG} {R : Int → Prop} (t : TW L R h) {s : Int} {Q : Int → MH → Prop} {E : Nat → Int → MH → Prop}
    (hQ : ∀ z h', ans L R h h' z (q_classOf L s) → Q z h') : S_X9_classOf l G [(2009, 396), (0, s)] h Q E := by
  have nn := t.w.n
  unfold WFn at nn
  refine s_X9_classOf rfl fun K ki => r_X9_classOf_0 ki hG ?_
  refine t_hasSite hG t (fun c g fg tg e0 => ⟨fun _ => ⟨tg.tf.ne, by omega, by omega⟩, ?_⟩) (fun c g fg tg e0 => ⟨fun y => absurd rfl y, ?_⟩)
  · rw [if_neg (by decide), tg.tf.ss]
    exact hQ _ g (ans_c fg tg e0 rfl (fun T => cif_p c))
  · rw [if_pos rfl]
    exact hQ 0 g (ans_c fg tg e0 rfl (fun T => cif_n c))
