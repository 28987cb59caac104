/-! Part 38zj: the twin is asked for idle stores, methods, roots, numbers -/
set_option maxRecDepth 100000
/-- a local is live behind a place -/
def lvn (L : PG) (T : TB) (k x : Int) : Prop := ∃ i, 0 ≤ i ∧ i < pCo L (pMo L k) ∧ ath (T 11 k i) ≠ 0 ∧ LVE L T (pFi L (pMo L k) + i) x
/-- a store at a place that is read nowhere behind -/
def idl (L : PG) (T : TB) (k : Int) : Prop := rch T k ∧ pOp L k = 3 ∧ ¬ lvn L T k (pX L k)
noncomputable def q_idle (L : PG) (m : Int) (T : TB) : Int × Int := cif (inM L m) (0, cnt (fun k => pFi L m ≤ k ∧ idl L T k) (pFi L m + pCo L m).toNat) (2, 0)
theorem t_idle {l : Launch} {G : JG} (hG : gO G = true) {h : MH} {L : PG} {R : Int → Prop} (t : TW L R h) {m : Int} {Q : Int → MH → Prop} {E : Nat → Int → MH → Prop}
    (hQ : ∀ z h', ans L R h h' z (q_idle L m) → Q z h') : S_X9_idle l G [(2009, 396), (0, m)] h Q E := by
  have nn := t.w.n
  unfold WFn at nn
  refine s_X9_idle rfl fun K ki => r_X9_idle_0 ki hG ?_
  refine t_hasMethod hG t (fun c g fg tg e0 => ⟨fun _ => ?_, fun y => absurd y (by decide)⟩) (fun c g fg tg e0 => ⟨fun y => absurd rfl y, fun _ => hQ 0 g (ans_c fg tg e0 rfl (fun T => cif_n c))⟩)
  have m0 := c.1
  have m1 := c.2
  obtain ⟨-, -, -, -, -, -, -, -, -, -, -, -, -, -, -, co1, co2, fi0, fi1, fim, -⟩ := t.w.m m0 m1
  refine t_kff hG tg fun g4 f4 t4' k4 z4 => ?_
  have tf4 := t4'.tf
  intro x2 e2
  refine ⟨tf4.ne, m0, by omega, ?_⟩
  rw [tf4.fi]
  intro x3 e3
  have key : ∀ N : Nat, ∀ n : Int, (pFi L m + pCo L m - n).toNat ≤ N → pFi L m ≤ n → n ≤ pFi L m + pCo L m → JW K 26 [(2009, 396), (0, m), (0, cnt (fun k => pFi L m ≤ k ∧ idl L (tT g4 L) k) n.toNat), (0, n), (5000, 0)] [] g4 := by
    intro N
    induction N with
    | zero =>
      intro n b1' b2 b3
      have en : n = pFi L m + pCo L m := by omega
      subst en
      refine r_X9_idle_26 ki hG ⟨tf4.ne, m0, by omega, tf4.ne, m0, by omega, fun _ => ?_, fun z => by rw [tf4.fi, tf4.co, w32_i (by omega) (by omega)] at z; omega⟩
      refine hQ _ g4 (ans_k (frQ_tr fg f4) t4' k4 ?_ ?_)
      · unfold q_idle; rw [cif_p c, z4, e0]
      · unfold q_idle; rw [cif_p c]
    | succ N ih =>
      intro n b1' b2 b3
      by_cases en : n = pFi L m + pCo L m
      · exact ih n (by omega) b2 b3
      have hn : inP L n := ⟨by omega, by omega⟩
      have n0 := hn.1
      have n1 := hn.2
      have mn : pMo L n = m := by have := fim (n - pFi L m) (by omega) (by omega); rw [show pFi L m + (n - pFi L m) = n by omega] at this; exact this
      obtain ⟨-, -, xr, -, x2', -⟩ := t.w.k n0 n1
      obtain ⟨-, -, -, -, -, -, -, -, -, lc8, -⟩ := t.w.m m0 m1
      have z460 : hv g4 460 n = 0 ∨ hv g4 460 n = 1 := k4.2.2.2.2.2.2.1 n n0 (by omega)
      have cb := cnt_b (fun k => pFi L m ≤ k ∧ idl L (tT g4 L) k) n.toNat
      have nt : ((n.toNat : Nat) : Int) = n := by omega
      have ns : (n + 1).toNat = n.toNat + 1 := by omega
      refine r_X9_idle_26 ki hG ⟨tf4.ne, m0, by omega, tf4.ne, m0, by omega, fun z => by rw [tf4.fi, tf4.co, w32_i (by omega) (by omega)] at z; omega, fun z => ⟨n0, by omega, fun _ => ⟨tf4.ne, n0, by omega⟩, fun y => ?_, fun y => ?_⟩⟩
      · rw [tf4.op] at y
        have rn : rch (tT g4 L) n := (rch_iff hn).mpr (by omega)
        have := x2' (by omega)
        rw [mn] at this
        rw [w32_i (z := 2 * n) (by omega) (by omega), w32_i (z := 2 * n + 1) (by omega) (by omega)]
        refine ⟨by omega, by omega, by omega, by omega, t_liveOf hG tf4 t.w m0 m1 fun z1 hz1 => ?_⟩
        intro x4 e4
        subst e4
        refine ⟨tf4.ne, n0, by omega, ?_⟩
        rw [tf4.x, i_bit xr.1 (by omega)]
        intro x2 ex2 x3 ex3
        rw [w32_i (by omega) (by omega)] at ex3
        subst ex3
        have lv : bi x4 (pX L n) = true ↔ lvn L (tT g4 L) n (pX L n) := by
          rw [hz1 _ xr.1]
          unfold lvn
          rw [mn]
          constructor
          · rintro ⟨i, i0, i1, q1, q2⟩
            rw [bl2_at i0 (by omega)] at q1
            exact ⟨i, i0, i1, (rw_11 hn i0 (by omega)).mpr q1, (k4.2.1 _ _ ⟨by omega, by omega⟩ xr.1 (by omega)).mp q2⟩
          · rintro ⟨i, i0, i1, q1, q2⟩
            refine ⟨i, i0, i1, ?_, (k4.2.1 _ _ ⟨by omega, by omega⟩ xr.1 (by omega)).mpr q2⟩
            rw [bl2_at i0 (by omega)]
            exact (rw_11 hn i0 (by omega)).mp q1
        have e : x2 = cnt (fun k => pFi L m ≤ k ∧ idl L (tT g4 L) k) (n + 1).toNat := by
          rw [ns]
          by_cases q : bi x4 (pX L n) = true
          · rw [if_pos q, if_neg (by decide)] at ex2
            rw [cnt_n, ex2]
            rw [nt]
            exact fun y2 => y2.2.2.2 (lv.mp q)
          · rw [if_neg q, if_pos rfl, w32_i (by omega) (by omega)] at ex2
            rw [cnt_y, ex2]
            rw [nt]
            exact ⟨b2, rn, y.2, fun y2 => q (lv.mpr y2)⟩
        subst e
        exact ih (n + 1) (by omega) (by omega) (by omega)
      · rw [tf4.op] at y
        intro x3 ex3
        rw [w32_i (by omega) (by omega)] at ex3
        subst ex3
        have e : cnt (fun k => pFi L m ≤ k ∧ idl L (tT g4 L) k) (n + 1).toNat = cnt (fun k => pFi L m ≤ k ∧ idl L (tT g4 L) k) n.toNat := by
          rw [ns, cnt_n]
          rw [nt]
          intro y2
          have := (rch_iff hn).mp y2.2.1
          exact y ⟨by omega, y2.2.2.1⟩
        have := ih (n + 1) (by omega) (by omega) (by omega)
        rw [e] at this
        exact this
  subst e2; subst e3
  have e : cnt (fun k => pFi L m ≤ k ∧ idl L (tT g4 L) k) (pFi L m).toNat = 0 := cnt_z (fun k hk y => by have := y.1; omega)
  have := key _ (pFi L m) (Nat.le_refl _) (by omega) (by omega)
  rw [e] at this
  exact this
/-- METHODS THAT ARE TOUCHED -/
def TCH (L : PG) (T : TB) (C : Int → Prop) (m : Int) : Prop := ∀ S : Int → Prop, (∀ c, inM L c → C c → S c) → (∀ k c, inP L k → rch T k → 0 ≤ c → c < 64 → ath (T 10 k c) ≠ 0 → S c → S (pMo L k)) → S m
/-- a place calls one of some methods -/
def tcn (T : TB) (a k : Int) : Prop := ∃ c, bls a c ∧ ath (T 10 k c) ≠ 0
theorem t_isTouched {l : Launch} {G : JG} (hG : gO G = true) {h : MH} {L : PG} {R C : Int → Prop} (t : TW L R h) (hC : ∀ m, inM L m → (¬ hv h 456 m = 0 ↔ C m)) {m : Int} (hm : inM L m) {Q : Int → MH → Prop} {E : Nat → Int → MH → Prop}
    (hQ : ∀ z h', (z = 0 ∨ z = 1) → frQ h h' → TW L R h' → KN L R h' → hv h' 396 0 = hv h 396 0 → (¬ z = 0 ↔ TCH L (tT h' L) C m) → Q z h') : S_X9_isTouched l G [(2009, 396), (0, m)] h Q E := by
  have nn := t.w.n
  unfold WFn at nn
  have w := t.w
  refine s_X9_isTouched rfl fun K ki => r_X9_isTouched_0 ki hG ?_
  refine t_kff hG t fun g fg tg kg zg => ?_
  have tf := tg.tf
  have m0 := hm.1
  have m1 := hm.2
  intro x2 e2 x4 e4
  have outer : ∀ N : Nat, ∀ a : Int, mbl a ≤ N → (∀ c, inM L c → C c → bls a c) → (∀ c, bls a c → TCH L (tT g L) C c) → JW K 51 [(2009, 396), (0, m), (1, a), (5000, 0), (0, 1), (5000, 0), (5000, 0)] [] g := by
    intro N
    induction N using Nat.strongRecOn with
    | ind N ih =>
      intro a0 ms sub snd
      refine r_X9_isTouched_51 ki hG ⟨fun z => by omega, fun _ => ?_⟩
      intro y4 f4 y5 f5
      have inner : ∀ M : Nat, ∀ n q a : Int, (pNp L - n).toNat ≤ M → 0 ≤ n → n ≤ pNp L → (q = 0 ∨ q = 1) → (∀ c, inM L c → C c → bls a c) → (∀ c, bls a c → TCH L (tT g L) C c) →
          (q = 0 → (∀ s, bl a s = bl a0 s) ∧ ∀ k, 0 ≤ k → k < n → rch (tT g L) k → ∀ c, bls a c → ath (tT g L 10 k c) ≠ 0 → bls a (pMo L k)) → (q = 1 → mbl a < mbl a0) →
          JW K 62 [(2009, 396), (0, m), (1, a), (5000, 0), (0, q), (0, n), (5000, 0)] [] g := by
        have fin : ∀ q a : Int, (q = 0 ∨ q = 1) → (∀ c, inM L c → C c → bls a c) → (∀ c, bls a c → TCH L (tT g L) C c) →
            (q = 0 → (∀ s, bl a s = bl a0 s) ∧ ∀ k, 0 ≤ k → k < pNp L → rch (tT g L) k → ∀ c, bls a c → ath (tT g L 10 k c) ≠ 0 → bls a (pMo L k)) → (q = 1 → mbl a < mbl a0) →
            JW K 62 [(2009, 396), (0, m), (1, a), (5000, 0), (0, q), (0, pNp L), (5000, 0)] [] g := by
          intro q a q01 sub snd z0 z1
          refine r_X9_isTouched_62 ki hG ⟨tf.ne, fun _ => ?_, fun z => by rw [tf.nnp] at z; omega⟩
          by_cases e : q = 0
          · subst e
            refine r_X9_isTouched_51 ki hG ⟨fun _ => ⟨oz1 _, hQ _ g (oz1 _) fg tg kg zg ?_⟩, fun z => absurd rfl z⟩
            rw [lc_if, l_bit m0 (by omega)]
            have bb : bl a m = true ↔ TCH L (tT g L) C m := by
              constructor
              · intro y; exact snd m ⟨m0, by omega, y⟩
              · intro y
                exact (y (bls a) sub (fun k c hk r c0 c1 t s => (z0 rfl).2 k hk.1 hk.2 r c s t)).2.2
            by_cases y : bl a m = true
            · rw [if_pos y, if_pos rfl]; exact ⟨fun _ => bb.mp y, fun _ => by decide⟩
            · rw [if_neg y, if_neg (by decide)]; exact ⟨fun z => absurd rfl z, fun z => absurd (bb.mpr z) y⟩
          · have q1 : q = 1 := by omega
            subst q1
            exact ih (mbl a) (by have := z1 rfl; omega) a (Nat.le_refl _) sub snd
        intro M
        induction M with
        | zero =>
          intro n q a p1 p2 p3 q01 sub snd z0 z1
          have en : n = pNp L := by omega
          subst en
          exact fin q a q01 sub snd z0 z1
        | succ M ihM =>
          intro n q a p1 p2 p3 q01 sub snd z0 z1
          by_cases en : n = pNp L
          · subst en; exact fin q a q01 sub snd z0 z1
          have hn : inP L n := ⟨p2, by omega⟩
          have wj := w.k hn.1 hn.2
          have mo0 := wj.1.1
          have mo1 := wj.1.2.1
          have z460 : hv g 460 n = 0 ∨ hv g 460 n = 1 := kg.2.2.2.2.2.2.1 n p2 (by omega)
          refine r_X9_isTouched_62 ki hG ⟨tf.ne, fun z => by rw [tf.nnp] at z; omega, fun z => ⟨p2, by omega, fun _ => ⟨p2, by omega, fun _ => ⟨tf.ne, p2, by omega⟩⟩, ?_⟩⟩
          rw [tf.mo]
          intro x6 e6
          have e6' : ¬ x6 = 0 ↔ rch (tT g L) n ∧ tcn (tT g L) a n ∧ ¬ bls a (pMo L n) := by
            rw [rch_iff hn, e6]
            by_cases c1 : hv g 460 n = 0
            · rw [if_pos c1]
              exact ⟨fun y => absurd rfl y, fun y => by have := y.1; omega⟩
            · rw [if_neg c1, lc_if]
              have ce : l_and (hv g 468 n) a ≠ 0 ↔ tcn (tT g L) a n := by
                rw [l_and_ne]
                unfold tcn
                constructor
                · rintro ⟨s, s0, s1, p, r⟩; exact ⟨s, ⟨s0, s1, r⟩, (rw_10 hn s0 s1).mpr p⟩
                · rintro ⟨s, ⟨s0, s1, r⟩, p⟩; exact ⟨s, s0, s1, (rw_10 hn s0 s1).mp p, r⟩
              by_cases c2 : l_and (hv g 468 n) a = 0
              · rw [if_pos c2]
                exact ⟨fun y => absurd rfl y, fun y => absurd c2 (ce.mpr y.2.1)⟩
              · rw [if_neg c2, lc_if, l_bit (by omega) (by omega)]
                by_cases c3 : bl a (pMo L n) = true
                · rw [if_pos c3, if_neg (by decide)]
                  exact ⟨fun y => absurd rfl y, fun y => absurd ⟨by omega, by omega, c3⟩ y.2.2⟩
                · rw [if_neg c3, if_pos rfl]
                  exact ⟨fun _ => ⟨by omega, ce.mp c2, fun y => c3 y.2.2⟩, fun _ => by decide⟩
          refine ⟨fun _ => ⟨tf.ne, p2, by omega⟩, ?_⟩
          intro a' ea' q' eq' n' en'
          rw [w32_i (by omega) (by omega)] at en'
          subst en'
          by_cases c : x6 = 0
          · rw [if_pos c] at ea' eq'
            have aq : ∀ s, bl a' s = bl a s := fun s => by rw [ea', bl_or, bl_zero]; simp
            have ab : ∀ s, bls a' s ↔ bls a s := fun s => by unfold bls; rw [aq]
            have qe : q' = q := by
              rw [eq']
              rcases q01 with y | y
              · rw [if_pos y, y]
              · rw [if_neg (by omega), y]
            subst qe
            refine ihM (n + 1) q' a' (by omega) (by omega) (by omega) q01 (fun c hc y => (ab c).mpr (sub c hc y)) (fun c y => snd c ((ab c).mp y)) (fun e => ?_) (fun e => ?_)
            · refine ⟨fun s => (aq s).trans ((z0 e).1 s), fun k k0 k1 r d hd th => ?_⟩
              rw [ab] at hd ⊢
              by_cases ek : k = n
              · subst ek
                apply Classical.byContradiction
                intro y
                exact e6'.mpr ⟨r, ⟨d, hd, th⟩, y⟩ c
              · exact (z0 e).2 k k0 (by omega) r d hd th
            · have : mbl a' = mbl a := by unfold mbl; simp only [aq]
              have := z1 e
              omega
          · rw [if_neg c] at ea'
            have r7 := e6'.mp c
            have q1 : q' = 1 := by
              rw [eq']
              by_cases y : q = 0
              · rw [if_pos y, if_neg c]
              · rw [if_neg y]
            subst q1
            have nb : bl a (pMo L n) = false := by
              cases r : bl a (pMo L n)
              · rfl
              · exact absurd ⟨by omega, by omega, r⟩ r7.2.2
            have ml : mbl a' < mbl a := by
              rw [ea']
              exact mbl_or ⟨pMo L n, mo0, by omega, by rw [bl_shl mo0 (by omega) mo0]; simp, nb⟩
            refine ihM (n + 1) 1 a' (by omega) (by omega) (by omega) (Or.inr rfl) (fun c hc y => ?_) (fun c y => ?_) (fun e => by omega) (fun _ => ?_)
            · have := sub c hc y
              exact ⟨this.1, this.2.1, by rw [ea', bl_or, this.2.2]; rfl⟩
            · obtain ⟨c0, c1, c2⟩ := y
              rw [ea', bl_or, Bool.or_eq_true, bl_shl mo0 (by omega) c0] at c2
              rcases c2 with c2 | c2
              · exact snd c ⟨c0, c1, c2⟩
              · have e : c = pMo L n := of_decide_eq_true c2
                subst e
                obtain ⟨r1, ⟨d, d1, d2⟩, -⟩ := r7
                exact fun S s1 s2 => s2 n d hn r1 d1.1 d1.2.1 d2 (snd d d1 S s1 s2)
            · by_cases y : q = 0
              · have e3 : mbl a = mbl a0 := by unfold mbl; simp only [(z0 y).1]
                omega
              · have := z1 (by omega); omega
      subst f4; subst f5
      exact inner _ 0 0 a0 (Nat.le_refl _) (by omega) (by omega) (Or.inl rfl) sub snd (fun _ => ⟨fun _ => rfl, fun k k0 k1 => by omega⟩) (fun e => by omega)
  have first : ∀ N : Nat, ∀ n v : Int, (pNm L - n).toNat ≤ N → 0 ≤ n → n ≤ pNm L → (∀ c, 0 ≤ c → c < 64 → (bl v c = true ↔ c < n ∧ C c)) → JW K 9 [(2009, 396), (0, m), (1, v), (5000, 0), (0, n), (5000, 0), (5000, 0)] [] g := by
    intro N
    induction N with
    | zero =>
      intro n v b1' b2 b3 iv
      have en : n = pNm L := by omega
      subst en
      refine r_X9_isTouched_9 ki hG ⟨tf.ne, fun _ => ?_, fun z => by rw [tf.nnm] at z; omega⟩
      intro x ex
      subst ex
      refine outer _ v (Nat.le_refl _) (fun c hc y => ?_) (fun c y S s1 _ => ?_)
      · have c0 := hc.1
        have c1 := hc.2
        exact ⟨c0, by omega, (iv c c0 (by omega)).mpr ⟨c1, y⟩⟩
      · have := (iv c y.1 y.2.1).mp y.2.2
        exact s1 c ⟨y.1, this.1⟩ this.2
    | succ N ih =>
      intro n v b1' b2 b3 iv
      by_cases en : n = pNm L
      · exact ih n v (by omega) b2 b3 iv
      refine r_X9_isTouched_9 ki hG ⟨tf.ne, fun z => by rw [tf.nnm] at z; omega, fun z => ⟨b2, by omega, ?_⟩⟩
      intro v' ev x ex
      rw [w32_i (by omega) (by omega)] at ex
      subst ex
      refine ih (n + 1) v' (by omega) (by omega) (by omega) (fun c c0 c1 => ?_)
      rw [ev, bl_or, Bool.or_eq_true, iv c c0 c1]
      have hr := hC n ⟨b2, by omega⟩
      rw [← fg.2 456 n (by omega) (by omega)] at hr
      by_cases d : hv g 456 n = 0
      · rw [if_pos d, bl_zero]
        constructor
        · rintro (y | y)
          · exact ⟨by omega, y.2⟩
          · cases y
        · rintro ⟨y1, y2⟩
          by_cases e : c = n
          · subst e; exact absurd d (hr.mpr y2)
          · exact Or.inl ⟨by omega, y2⟩
      · rw [if_neg d, bl_shl b2 (by omega) c0]
        constructor
        · rintro (y | y)
          · exact ⟨by omega, y.2⟩
          · have e : c = n := of_decide_eq_true y
            subst e
            exact ⟨by omega, hr.mp d⟩
        · rintro ⟨y1, y2⟩
          by_cases e : c = n
          · exact Or.inr (decide_eq_true e)
          · exact Or.inl ⟨by omega, y2⟩
  subst e2; subst e4
  refine first _ 0 0 (Nat.le_refl _) (by omega) (by omega) (fun c c0 c1 => ?_)
  rw [bl_zero]
  exact ⟨fun y => (by cases y), fun y => by have := y.1; omega⟩
/-- a method's rows -/
noncomputable def q_method (L : PG) (R C : Int → Prop) (m wt : Int) (T : TB) : Int × Int := cif (inM L m) (cif (0 ≤ wt ∧ wt ≤ 9) (0, if wt = 0 then pOw L m else if wt = 1 then pNa L m else if wt = 2 then pAr L m else if wt = 3 then pGi L m else if wt = 4 then pLc L m else if wt = 5 then pCo L m else if wt = 6 then pHn L m else if wt = 7 then cif (R m) 1 0 else if wt = 8 then cif (C m) 1 0 else cif (TCH L T C m) 1 0) (2, 0)) (2, 0)
theorem t_method {l : Launch} {G : JG} (hG : gO G = true) {h : MH} {L : PG} {R C : Int → Prop} (t : TW L R h) (hC : ∀ m, inM L m → (¬ hv h 456 m = 0 ↔ C m)) {m wt : Int} {Q : Int → MH → Prop} {E : Nat → Int → MH → Prop}
    (hQ : ∀ z h', ans L R h h' z (q_method L R C m wt) → Q z h') : S_X9_method l G [(2009, 396), (0, m), (0, wt)] h Q E := by
  have nn := t.w.n
  unfold WFn at nn
  refine s_X9_method rfl fun K ki => r_X9_method_0 ki hG ?_
  refine t_hasMethod hG t (fun c g fg tg e0 => ⟨fun _ => ?_, fun y => absurd y (by decide)⟩) (fun c g fg tg e0 => ⟨fun y => absurd rfl y, fun _ => hQ 0 g (ans_c fg tg e0 rfl (fun T => cif_n c))⟩)
  have m0 := c.1
  have m1 := c.2
  intro g3 e3
  have f3 : frQ h g3 := by rw [e3]; exact frQ_tr fg (frQ_set (Or.inl rfl))
  have t3' : TW L R g3 := by rw [e3]; exact TW_set (Or.inl rfl) tg
  have tf := t3'.tf
  by_cases r1 : 0 ≤ wt ∧ wt ≤ 9
  · have v0 : hv g3 396 0 = 0 := by rw [e3, eq_a, if_neg (fun y => isin_z.mp y r1)]
    have qv : ∀ T, q_method L R C m wt T = (0, if wt = 0 then pOw L m else if wt = 1 then pNa L m else if wt = 2 then pAr L m else if wt = 3 then pGi L m else if wt = 4 then pLc L m else if wt = 5 then pCo L m else if wt = 6 then pHn L m else if wt = 7 then cif (R m) 1 0 else if wt = 8 then cif (C m) 1 0 else cif (TCH L T C m) 1 0) := fun T => by
      unfold q_method; rw [cif_p c, cif_p r1]
    have key : ∀ z, wt < 9 → (∀ T, (q_method L R C m wt T).2 = z) → Q z g3 := by
      intro z _ ez
      refine hQ z g3 ⟨f3, t3', fun T _ => ⟨?_, (ez T).symm⟩⟩
      rw [qv, v0]
    have hR := t3'.2.2.2.1 m c
    have hC' := hC m c
    rw [← f3.2 456 m (by omega) (by omega)] at hC'
    refine ⟨fun _ => ⟨⟨fun e => ?_, fun e => ?_, fun e => ?_, fun e => ?_, fun e => ?_, fun e => ?_, fun e => ?_, fun e => ?_, fun e => ?_, trivial⟩, fun e => ?_⟩, fun y => by omega⟩
    · rw [tf.ow]; exact ⟨tf.ne, m0, by omega, key _ (by omega) (fun T => by rw [qv]; show (if wt = 0 then _ else _) = _; rw [if_pos e])⟩
    · rw [tf.na]; exact ⟨tf.ne, m0, by omega, key _ (by omega) (fun T => by rw [qv]; show (if wt = 0 then _ else _) = _; rw [if_neg (by omega), if_pos (by omega)])⟩
    · rw [tf.ar]; exact ⟨tf.ne, m0, by omega, key _ (by omega) (fun T => by rw [qv]; show (if wt = 0 then _ else _) = _; rw [if_neg (by omega), if_neg (by omega), if_pos (by omega)])⟩
    · rw [tf.gi]; exact ⟨tf.ne, m0, by omega, key _ (by omega) (fun T => by rw [qv]; show (if wt = 0 then _ else _) = _; rw [if_neg (by omega), if_neg (by omega), if_neg (by omega), if_pos (by omega)])⟩
    · rw [tf.lc]; exact ⟨tf.ne, m0, by omega, key _ (by omega) (fun T => by rw [qv]; show (if wt = 0 then _ else _) = _; rw [if_neg (by omega), if_neg (by omega), if_neg (by omega), if_neg (by omega), if_pos (by omega)])⟩
    · rw [tf.co]; exact ⟨tf.ne, m0, by omega, key _ (by omega) (fun T => by rw [qv]; show (if wt = 0 then _ else _) = _; rw [if_neg (by omega), if_neg (by omega), if_neg (by omega), if_neg (by omega), if_neg (by omega), if_pos (by omega)])⟩
    · rw [tf.hn]; exact ⟨tf.ne, m0, by omega, key _ (by omega) (fun T => by rw [qv]; show (if wt = 0 then _ else _) = _; rw [if_neg (by omega), if_neg (by omega), if_neg (by omega), if_neg (by omega), if_neg (by omega), if_neg (by omega), if_pos (by omega)])⟩
    · refine ⟨m0, by omega, key _ (by omega) (fun T => ?_)⟩
      rw [qv]
      show (if wt = 0 then _ else _) = _
      rw [if_neg (by omega), if_neg (by omega), if_neg (by omega), if_neg (by omega), if_neg (by omega), if_neg (by omega), if_neg (by omega), if_pos (by omega)]
      by_cases y : R m
      · rw [cif_p y, if_neg (hR.mpr y)]
      · rw [cif_n y, if_pos]
        apply Classical.byContradiction
        intro z; exact y (hR.mp z)
    · refine ⟨m0, by omega, key _ (by omega) (fun T => ?_)⟩
      rw [qv]
      show (if wt = 0 then _ else _) = _
      rw [if_neg (by omega), if_neg (by omega), if_neg (by omega), if_neg (by omega), if_neg (by omega), if_neg (by omega), if_neg (by omega), if_neg (by omega), if_pos (by omega)]
      by_cases y : C m
      · rw [cif_p y, if_neg (hC'.mpr y)]
      · rw [cif_n y, if_pos]
        apply Classical.byContradiction
        intro z; exact y (hC'.mp z)
    · refine t_isTouched (C := C) hG t3' (fun m' hm' => by rw [f3.2 456 m' (by omega) (by omega)]; exact hC m' hm') c fun z g5 z01 f5 t5' k5 z5 hz => ?_
      refine hQ _ g5 (ans_k (frQ_tr f3 f5) t5' k5 ?_ ?_)
      · rw [qv, z5, v0]
      · have q9 : (q_method L R C m wt (tT g5 L)).2 = cif (TCH L (tT g5 L) C m) 1 0 := by
          rw [qv]
          show (if wt = 0 then _ else _) = _
          rw [if_neg (by omega), if_neg (by omega), if_neg (by omega), if_neg (by omega), if_neg (by omega), if_neg (by omega), if_neg (by omega), if_neg (by omega), if_neg (by omega)]
        rw [q9]
        by_cases y : TCH L (tT g5 L) C m
        · rw [cif_p y, if_neg (hz.mpr y)]
        · rw [cif_n y, if_pos]
          apply Classical.byContradiction
          intro y2; exact y (hz.mp y2)
  · have v0 : hv g3 396 0 = 2 := by rw [e3, eq_a, if_pos (isin_z.mpr r1)]
    refine ⟨fun y => by omega, fun _ => hQ 0 g3 (ans_c f3 t3' v0 rfl (fun T => ?_))⟩
    unfold q_method; rw [cif_p c, cif_n r1]
/-! roots and numbers -/
/-- an enumeration, by size, of a set -/
def enu (S : Int → Prop) (n : Int) (f : Int → Int) : Prop := 0 ≤ n ∧ (∀ i j, 0 ≤ i → i < j → j < n → f i < f j) ∧ (∀ i, 0 ≤ i → i < n → S (f i)) ∧ ∀ v, S v → ∃ i, 0 ≤ i ∧ i < n ∧ f i = v
theorem enu_eq {S : Int → Prop} {n m : Int} {f g : Int → Int} (a : enu S n f) (b : enu S m g) : ∀ N : Nat, ∀ i : Int, i.toNat ≤ N → 0 ≤ i → i < n → i < m → f i = g i := by
  intro N
  induction N using Nat.strongRecOn with
  | ind N ih =>
    intro i iN i0 i1 i2
    obtain ⟨j, j0, j1, ej⟩ := b.2.2.2 (f i) (a.2.2.1 i i0 i1)
    obtain ⟨k, k0, k1, ek⟩ := a.2.2.2 (g i) (b.2.2.1 i i0 i2)
    have h1 : i ≤ j := by
      apply Classical.byContradiction
      intro h
      have e := ih j.toNat (by omega) j (Nat.le_refl _) j0 (by omega) j1
      have := a.2.1 j i j0 (by omega) i1
      omega
    have h2 : i ≤ k := by
      apply Classical.byContradiction
      intro h
      have e := ih k.toNat (by omega) k (Nat.le_refl _) k0 k1 (by omega)
      have := b.2.1 k i k0 (by omega) i2
      omega
    have h3 : g i ≤ f i := by
      by_cases e : i = j
      · subst e; omega
      · have := b.2.1 i j i0 (by omega) j1; omega
    have h4 : f i ≤ g i := by
      by_cases e : i = k
      · subst e; omega
      · have := a.2.1 i k i0 (by omega) k1; omega
    omega
theorem enu_le {S : Int → Prop} {n m : Int} {f g : Int → Int} (a : enu S n f) (b : enu S m g) : m ≤ n := by
  apply Classical.byContradiction
  intro h
  have n0 := a.1
  obtain ⟨i, i0, i1, ei⟩ := a.2.2.2 (g n) (b.2.2.1 n n0 (by omega))
  have e := enu_eq a b _ i (Nat.le_refl _) i0 i1 (by omega)
  have := b.2.1 i n i0 i1 (by omega)
  omega
/-- how many marks there are -/
noncomputable def nmk (L : PG) : Int := Classical.epsilon (fun n => ∃ f, enu (isMk L) n f)
theorem MK.n {h : MH} {L : PG} (k : MK h L) : hv h 396 16 = nmk L := by
  have e : enu (isMk L) (hv h 396 16) (hv h 459) := ⟨by have := k.1; omega, k.2.2.1, k.2.2.2.1, k.2.2.2.2⟩
  obtain ⟨f, ef⟩ := Classical.epsilon_spec (p := fun n => ∃ f, enu (isMk L) n f) ⟨_, _, e⟩
  have a := enu_le e ef
  have b := enu_le ef e
  unfold nmk
  omega
theorem KN_marks {L : PG} {R : Int → Prop} {h h' : MH} (f : frM h h') (mk : MK h' L) (k : KN L R h) : KN L R h' := by
  have e : ∀ a j, 460 ≤ a → a ≤ 506 → hv h' a j = hv h a j := fun a j h1 h2 => f.2 a j (by omega) (by omega)
  have e74 : hv h' 396 74 = hv h 396 74 := f.2 _ _ (by omega) (by omega)
  have eT : tT h' L = tT h L := tT_eq (fun a j h1 h2 => e a j (by omega) (by omega))
  obtain ⟨k1, k2, ⟨⟨k3, k4, k5⟩, k6⟩, k7, k8⟩ := k
  refine ⟨FX_of (fun a j h1 h2 => e a j (by omega) (by omega)) k1, ?_, ⟨⟨?_, ?_, ?_⟩, ?_⟩, mk, fun k k0 k1 => by rw [e 503 k (by omega) (by omega), e 468 k (by omega) (by omega)]; exact k8.1 k k0 k1, fun o o0 o1 => by rw [e 505 o (by omega) (by omega)]; exact k8.2.1 o o0 o1, fun k k0 k1 => by rw [e 460 k (by omega) (by omega)]; exact k8.2.2.1 k k0 k1, fun k k0 k1 => by rw [e 472 k (by omega) (by omega)]; exact k8.2.2.2.1 k k0 k1, fun k k0 k1 => by rw [e 484 k (by omega) (by omega)]; exact k8.2.2.2.2.1 k k0 k1, fun k k0 k1 => by rw [e 488 k (by omega) (by omega)]; exact k8.2.2.2.2.2 k k0 k1⟩
  · unfold LIV at *
    rw [eT]
    intro x y a b c
    rw [e 503 x (by omega) (by omega)]; exact k2 x y a b c
  · rw [eT, e74]; exact k3
  · rw [eT]
    intro o m
    rw [e 505 o (by omega) (by omega)]; exact k4 o m
  · rw [eT]
    intro o
    rw [e 504 o (by omega) (by omega)]; exact k5 o
  · rw [eT]
    intro a b
    rw [e 506 _ (by omega) (by omega)]; exact k6 a b
theorem TW_marks {L : PG} {R : Int → Prop} {h h' : MH} (f : frM h h') (mk : MK h' L) (t : TW L R h) : TW L R h' := by
  obtain ⟨t1, t2, t3, t4, t5⟩ := t
  exact ⟨frM_TF f t1, t2, t3, fun m hm => by rw [f.2 457 m (by omega) (by omega)]; exact t4 m hm, fun y => KN_marks f mk (t5 (by rw [f.2 396 11 (by omega) (by omega)] at y; exact y))⟩
theorem frQ_M {h h' : MH} (f : frM h h') : frQ h h' := ⟨f.1, fun a j p q => f.2 a j (by omega) (by unfold fq at q; omega)⟩
/-- numbers that are told -/
noncomputable def q_told (L : PG) (h : MH) (wt : Int) : Int := if wt = 5 then hv h 396 80 else if wt = 6 then hv h 396 2 else if wt < 0 ∨ 7 < wt then -1 else if wt = 0 then pNm L else if wt = 1 then 8 + pCl L else if wt = 2 then pNt L - 7 else if wt = 3 then nmk L else if wt = 4 then hv h 396 8 else pNp L
theorem t_told {l : Launch} {G : JG} (hG : gO G = true) {h : MH} {L : PG} {R : Int → Prop} (t : TW L R h) {wt : Int} {Q : Int → MH → Prop} {E : Nat → Int → MH → Prop}
    (hQ : ∀ h', frQ h h' → TW L R h' → hv h' 396 0 = 0 → Q (q_told L h wt) h') : S_X9_told l G [(2009, 396), (0, wt)] h Q E := by
  have nn := t.w.n
  unfold WFn at nn
  refine s_X9_told rfl fun K ki => r_X9_told_0 ki hG ?_
  intro g eg
  have fg : frQ h g := by rw [eg]; exact frQ_set (Or.inl rfl)
  have tg : TW L R g := by rw [eg]; exact TW_set (Or.inl rfl) t
  have v0 : hv g 396 0 = 0 := by rw [eg, eq_a]
  have tf := tg.tf
  have key : ∀ z, z = q_told L h wt → Q z g := fun z ez => by rw [ez]; exact hQ g fg tg v0
  have e80 : hv g 396 80 = hv h 396 80 := by rw [eg, ne_k (by omega)]
  have e2 : hv g 396 2 = hv h 396 2 := by rw [eg, ne_k (by omega)]
  have e8 : hv g 396 8 = hv h 396 8 := by rw [eg, ne_k (by omega)]
  refine ⟨fun c5 => ⟨fun c6 => ⟨fun ci => ⟨fun _ => ⟨fun c3 => ⟨fun _ => ⟨fun _ => ⟨fun _ _ => tf.ne, fun _ => tf.ne⟩, fun _ => tf.ne⟩, fun _ => tf.ne, key _ ?_⟩, fun c3 => ?_⟩, fun z => absurd z tf.ne⟩, fun ci => key _ ?_⟩, fun c6 => key _ ?_⟩, fun c5 => key _ ?_⟩
  · rw [isin_z] at ci
    rw [tf.nnm, tf.ncl, tf.nnt, tf.nnp, w32_i (z := 8 + pCl L) (by omega) (by omega), w32_i (z := pNt L - 7) (by omega) (by omega), e8]
    have qt : q_told L h wt = if wt = 0 then pNm L else if wt = 1 then 8 + pCl L else if wt = 2 then pNt L - 7 else if wt = 3 then nmk L else if wt = 4 then hv h 396 8 else pNp L := by
      unfold q_told
      rw [if_neg c5, if_neg c6, if_neg (by omega)]
    rw [qt]
    by_cases d0 : wt = 0
    · rw [if_pos d0, if_pos d0]
    rw [if_neg d0, if_neg d0]
    by_cases d1 : wt = 1
    · rw [if_pos d1, if_pos d1]
    rw [if_neg d1, if_neg d1]
    by_cases d2 : wt = 2
    · rw [if_pos d2, if_pos d2]
    rw [if_neg d2, if_neg d2, if_neg c3]
  · refine t_findMarks hG tf t.w fun g3 f3 mk3 => ?_
    have e : hv g3 396 16 = q_told L h wt := by
      unfold q_told
      rw [if_neg c5, if_neg c6, if_neg (by omega), if_neg (by omega), if_neg (by omega), if_neg (by omega), if_pos c3]
      exact mk3.n
    rw [e]
    exact hQ g3 (frQ_tr fg (frQ_M f3)) (TW_marks f3 mk3 tg) (by rw [f3.2 396 0 (by omega) (by omega)]; exact v0)
  · rw [isin_z] at ci
    unfold q_told
    rw [if_neg c5, if_neg c6, if_pos (by omega)]
  · unfold q_told
    rw [if_neg c5, if_pos c6, e2]
  · unfold q_told
    rw [if_pos c5, e80]
/-- a root is added -/
def frR (h h' : MH) (m : Int) : Prop := h'.2 = h.2 ∧ ∀ a j, ¬ (a = 457 ∧ j = m) → ¬ (a = 396 ∧ (j = 0 ∨ j = 8 ∨ j = 11)) → hv h' a j = hv h a j
theorem t_root {l : Launch} {G : JG} (hG : gO G = true) {h : MH} {L : PG} {R : Int → Prop} (t : TW L R h) {m : Int} (r40 : 0 ≤ hv h 396 8 ∧ hv h 396 8 ≤ 1000) {Q : Int → MH → Prop} {E : Nat → Int → MH → Prop}
    (h1 : ¬ inM L m → ∀ h', frR h h' m → TW L R h' → hv h' 396 0 = 1 → hv h' 396 8 = hv h 396 8 → Q 0 h') (h2 : inM L m → pOw L m ≠ 255 → ∀ h', frR h h' m → TW L R h' → hv h' 396 0 = 2 → hv h' 396 8 = hv h 396 8 → Q 0 h')
    (h3 : inM L m → pOw L m = 255 → ∀ h', frR h h' m → TW L (fun c => R c ∨ c = m) h' → hv h' 396 0 = 0 → (R m → hv h' 396 8 = hv h 396 8) → (¬ R m → hv h' 396 8 = hv h 396 8 + 1) → Q (hv h' 396 8) h') : S_X9_root l G [(2009, 396), (0, m)] h Q E := by
  have nn := t.w.n
  unfold WFn at nn
  have tf := t.tf
  refine s_X9_root rfl fun K ki => r_X9_root_0 ki hG ⟨fun _ => tf.ne, ?_⟩
  rw [if_neg tf.ne, tf.nnm, w32_i (by omega) (by omega)]
  intro x2 e2
  have x2v : x2 = 0 ↔ ¬ inM L m := by
    rw [e2]
    unfold inM
    by_cases d : isin m 0 (pNm L - 1) = 0
    · rw [if_pos d]
      rw [isin_z] at d
      exact ⟨fun _ => by omega, fun _ => rfl⟩
    · rw [if_neg d]
      rw [isin_z] at d
      exact ⟨fun y => by omega, fun y => by omega⟩
  refine ⟨fun y => ?_, ?_⟩
  · have : inM L m := by
      apply Classical.byContradiction
      intro z; exact y (x2v.mpr z)
    exact ⟨tf.ne, this.1, by have := this.2; omega⟩
  rw [tf.ow]
  intro g eg
  have fr : frR h g m := ⟨by rw [eg]; rfl, fun a j _ q => by rw [eg, hv_set, if_neg (by omega)]⟩
  have tg : TW L R g := by rw [eg]; exact TW_set (Or.inl rfl) t
  have e8 : hv g 396 8 = hv h 396 8 := by rw [eg, ne_k (by omega)]
  by_cases c : inM L m
  · have x20 : ¬ x2 = 0 := fun y => x2v.mp y c
    have m0 := c.1
    have m1 := c.2
    by_cases d : pOw L m = 255
    · have v0 : hv g 396 0 = 0 := by rw [eg, eq_a, if_neg x20, if_pos d]
      have h7 : hv g 457 m = hv h 457 m := by rw [eg, ne_a (by omega)]
      have hR := t.2.2.2.1 m c
      refine ⟨fun _ => ⟨m0, by omega, fun y => ?_, fun y => ⟨m0, by omega, by decide, ?_⟩⟩, fun y => by omega⟩
      · have rm : R m := hR.mp (by rw [h7] at y; exact y)
        refine h3 c d g fr ?_ v0 (fun _ => e8) (fun z => absurd rm z)
        have er : (fun c => R c ∨ c = m) = R := by
          funext x
          exact propext ⟨fun z => by rcases z with z | z; exact z; rw [z]; exact rm, fun z => Or.inl z⟩
        rw [er]; exact tg
      · have rm : ¬ R m := fun z => hR.mpr z (by rw [h7] at y; exact y)
        intro g3 e3 g4 e4
        refine ⟨by decide, ?_⟩
        intro g5 e5
        have e38 : hv g3 396 8 = hv h 396 8 := by rw [e3, ne_a (by omega), e8]
        rw [e38, w32_i (by omega) (by omega)] at e4
        have v8 : hv g5 396 8 = hv h 396 8 + 1 := by rw [e5, ne_k (by omega), e4, eq_a]
        have oth : ∀ a j, ¬ (a = 457 ∧ j = m) → ¬ (a = 396 ∧ (j = 0 ∨ j = 8 ∨ j = 11)) → hv g5 a j = hv h a j := by
          intro a j p q
          rw [e5, hv_set, if_neg (by omega), e4, hv_set, if_neg (by omega), e3, hv_set, if_neg p]
          exact fr.2 a j p q
        have v11 : hv g5 396 11 = 0 := by rw [e5, eq_a]
        have v457 : hv g5 457 m = 1 := by rw [e5, ne_a (by omega), e4, ne_a (by omega), e3, eq_a]
        refine h3 c d g5 ⟨by rw [e5, e4, e3, eg]; rfl, oth⟩ ⟨tf.of (oth _ _ (by omega) (by omega)) (fun a j h1 h2 => oth a j (by omega) (by omega)), t.w, t.2.2.1, fun c' hc' => ?_, fun z => absurd v11 z⟩ ?_ (fun z => absurd z rm) (fun _ => v8)
        · by_cases e : c' = m
          · rw [e, v457]
            exact ⟨fun _ => Or.inr rfl, fun _ => by decide⟩
          · rw [oth 457 c' (fun z => e z.2) (by omega), t.2.2.2.1 c' hc']
            exact ⟨fun z => Or.inl z, fun z => by rcases z with z | z; exact z; exact absurd z e⟩
        · rw [e5, ne_k (by omega), e4, ne_k (by omega), e3, ne_a (by omega)]; exact v0
    · have v0 : hv g 396 0 = 2 := by rw [eg, eq_a, if_neg x20, if_neg d]
      exact ⟨fun y => by omega, fun _ => h2 c d g fr tg v0 e8⟩
  · have x20 : x2 = 0 := x2v.mpr c
    have v0 : hv g 396 0 = 1 := by rw [eg, eq_a, if_pos x20]
    exact ⟨fun y => by omega, fun _ => h1 c g fr tg v0 e8⟩
