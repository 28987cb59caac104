/-! Part 38zd: locals that are live -/
set_option maxRecDepth 100000
/-- a local is read at a place -/
def rdb (L : PG) (k x : Int) : Prop := ((pOp L k = 2 ∨ pOp L k = 18 ∨ pOp L k = 19) ∧ x = pX L k) ∨ (pOp L k = 17 ∧ x = pX L k % 8)
/-- what is thrown at a place goes on at i of its method -/
def cau (L : PG) (T : TB) (k i : Int) : Prop := ∃ s, 1 ≤ s ∧ s < 63 ∧ bl (ast (T 9 k 0)) s = true ∧ 0 ≤ hnd L k s ∧ pHa L (pMo L k) (hnd L k s) 2 = i
/-- one step back -/
def LF (L : PG) (T : TB) (S : Int → Int → Prop) (k x : Int) : Prop := rdb L k x ∨
  (¬ (pOp L k = 3 ∧ x = pX L k) ∧ ∃ i, 0 ≤ i ∧ i < pCo L (pMo L k) ∧ ath (T 11 k i) ≠ 0 ∧ S (pFi L (pMo L k) + i) x) ∨
  (∃ i, 0 ≤ i ∧ i < pCo L (pMo L k) ∧ cau L T k i ∧ S (pFi L (pMo L k) + i) x)
theorem LF_le {L : PG} {T : TB} {S S' : Int → Int → Prop} {k x : Int} (h : ∀ i, S i x → S' i x) (l : LF L T S k x) : LF L T S' k x := by
  rcases l with l | ⟨n, i, i0, i1, a, b⟩ | ⟨i, i0, i1, a, b⟩
  · exact Or.inl l
  · exact Or.inr (Or.inl ⟨n, i, i0, i1, a, h _ b⟩)
  · exact Or.inr (Or.inr ⟨i, i0, i1, a, h _ b⟩)
/-- LIVE: least of what is closed under steps back -/
def LVE (L : PG) (T : TB) (k x : Int) : Prop := ∀ S : Int → Int → Prop, (∀ j, inP L j → rch T j → LF L T S j x → S j x) → S k x
theorem LVE_in {L : PG} {T : TB} {k x : Int} (hk : inP L k) (r : rch T k) (h : LF L T (LVE L T) k x) : LVE L T k x :=
  fun S c => c k hk r (LF_le (fun i q => q S c) h)
theorem t_readBy {l : Launch} {G : JG} (hG : gO G = true) {h : MH} {L : PG} (tf : TF h L) (w : WF L) {k : Int} (k0 : 0 ≤ k) (k1 : k < pNp L) {Q : Int → MH → Prop} {E : Nat → Int → MH → Prop}
    (hQ : ∀ z, (∀ x, 0 ≤ x → (bi z x = true ↔ rdb L k x)) → Q z h) : S_X9_readBy l G [(2009, 396), (0, k)] h Q E := by
  have nn := w.n
  unfold WFn at nn
  obtain ⟨mo, ops, xr, yr, x2, x7, x5, x47, -⟩ := w.k k0 k1
  obtain ⟨-, -, -, -, -, -, -, -, arl, lc1, -⟩ := w.m mo.1 mo.2.1
  refine s_X9_readBy rfl fun K ki => r_X9_readBy_0 ki hG ⟨tf.ne, k0, by omega, ?_⟩
  rw [tf.op, tf.x]
  intro op eop
  subst eop
  refine ⟨fun e => ⟨tf.ne, k0, by omega, hQ _ (fun x x0 => ?_)⟩, fun e => ⟨fun _ => ⟨tf.ne, k0, by omega, by decide⟩, hQ _ (fun x x0 => ?_)⟩⟩
  · have := x2 (by omega)
    rw [bi_shl xr.1 (by omega) x0]
    unfold rdb
    constructor
    · intro y; exact Or.inl ⟨e, of_decide_eq_true y⟩
    · rintro (y | y)
      · exact decide_eq_true y.2
      · have := y.1; omega
  · by_cases e2 : pOp L k = 17
    · have := x47 e2
      rw [if_pos e2, (i_rem_8 xr.1 xr.2).1, bi_shl (by omega) (by omega) x0]
      unfold rdb
      constructor
      · intro y; exact Or.inr ⟨e2, of_decide_eq_true y⟩
      · rintro (y | y)
        · exact absurd y.1 e
        · exact decide_eq_true y.2
    · rw [if_neg e2, bi_zero]
      unfold rdb
      constructor
      · intro y; cases y
      · rintro (y | y)
        · exact absurd y.1 e
        · exact absurd y.1 e2
/-- a bit of two longs -/
def bl2 (a b i : Int) : Bool := if i < 64 then bl a i else bl b (i - 64)
theorem t_liveOf {l : Launch} {G : JG} (hG : gO G = true) {h : MH} {L : PG} (tf : TF h L) (w : WF L) {m a b : Int} (m0 : 0 ≤ m) (m1 : m < pNm L) {Q : Int → MH → Prop} {E : Nat → Int → MH → Prop}
    (hQ : ∀ z, (∀ x, 0 ≤ x → (bi z x = true ↔ ∃ i, 0 ≤ i ∧ i < pCo L m ∧ bl2 a b i = true ∧ bi (hv h 503 (pFi L m + i)) x = true)) → Q z h) : S_X9_liveOf l G [(2009, 396), (0, m), (1, a), (1, b)] h Q E := by
  have nn := w.n
  unfold WFn at nn
  obtain ⟨-, -, -, -, -, -, -, -, -, -, -, -, -, -, -, co1, co2, fi0, fi1, -⟩ := w.m m0 m1
  refine s_X9_liveOf rfl fun K ki => r_X9_liveOf_0 ki hG ?_
  intro x6 e6 x7 e7
  have key : ∀ N : Nat, ∀ n v : Int, (pCo L m - n).toNat ≤ N → 0 ≤ n → n ≤ pCo L m → (∀ x, 0 ≤ x → (bi v x = true ↔ ∃ i, 0 ≤ i ∧ i < n ∧ bl2 a b i = true ∧ bi (hv h 503 (pFi L m + i)) x = true)) →
      JW K 6 [(2009, 396), (0, m), (1, a), (5000, 0), (1, b), (5000, 0), (0, v), (0, n), (5000, 0)] [] h := by
    intro N
    induction N with
    | zero =>
      intro n v b1' b2 b3 inv
      have en : n = pCo L m := by omega
      subst en
      refine r_X9_liveOf_6 ki hG ⟨tf.ne, m0, by omega, fun _ => hQ v inv, fun z => by rw [tf.co] at z; omega⟩
    | succ N ih =>
      intro n v b1' b2 b3 inv
      by_cases en : n = pCo L m
      · exact ih n v (by omega) b2 b3 inv
      refine r_X9_liveOf_6 ki hG ⟨tf.ne, m0, by omega, fun z => by rw [tf.co] at z; omega, fun z => ?_⟩
      intro x8 e8
      have e8' : x8 = if bl2 a b n = true then 1 else 0 := by
        rw [e8]
        unfold bl2
        by_cases c : n < 64
        · rw [if_pos c, if_pos c, lc_if, l_bit (by omega) (by omega)]
          cases bl a n <;> simp
        · rw [if_neg c, if_neg c, w32_i (z := n - 64) (by omega) (by omega), lc_if, l_bit (by omega) (by omega)]
          cases bl b (n - 64) <;> simp
      rw [tf.fi, w32_i (z := pFi L m + n) (by omega) (by omega)]
      refine ⟨fun _ => ⟨tf.ne, m0, by omega, by omega, by omega⟩, ?_⟩
      intro x6' e6' x7' e7'
      rw [w32_i (by omega) (by omega)] at e7'
      subst e7'
      refine ih (n + 1) x6' (by omega) (by omega) (by omega) (fun x x0 => ?_)
      rw [e6', bi_or, Bool.or_eq_true, inv x x0]
      by_cases c : bl2 a b n = true
      · rw [if_pos c] at e8'
        rw [e8', if_neg (by decide)]
        constructor
        · rintro (⟨i, i0, i1, q⟩ | q)
          · exact ⟨i, i0, by omega, q⟩
          · exact ⟨n, b2, by omega, c, q⟩
        · rintro ⟨i, i0, i1, q1, q2⟩
          by_cases e : i = n
          · subst e; exact Or.inr q2
          · exact Or.inl ⟨i, i0, by omega, q1, q2⟩
      · rw [if_neg c] at e8'
        rw [e8', if_pos rfl, bi_zero]
        constructor
        · rintro (⟨i, i0, i1, q⟩ | q)
          · exact ⟨i, i0, by omega, q⟩
          · cases q
        · rintro ⟨i, i0, i1, q1, q2⟩
          by_cases e : i = n
          · subst e; exact absurd q1 c
          · exact Or.inl ⟨i, i0, by omega, q1, q2⟩
  subst e6; subst e7
  refine key _ 0 0 (Nat.le_refl _) (by omega) (by omega) (fun x x0 => ?_)
  rw [bi_zero]
  constructor
  · intro y; cases y
  · rintro ⟨i, i0, i1, -⟩; omega
theorem rw_11 {g : MH} {L : PG} {k i : Int} (hk : inP L k) (i0 : 0 ≤ i) (i1 : i < 128) : ath (tT g L 11 k i) ≠ 0 ↔ bl (hv g 469 (2 * k + i / 64)) (i % 64) = true := by
  show ath (t11 g L k i) ≠ 0 ↔ _
  unfold t11
  by_cases z : bl (hv g 469 (2 * k + i / 64)) (i % 64) = true
  · rw [iff_p ⟨hk, i0, i1, z⟩]; exact ⟨fun _ => z, fun _ => (by decide : (1 : Int) ≠ 0)⟩
  · rw [iff_n (fun y => z y.2.2.2)]; exact ⟨fun y => absurd rfl y, fun y => absurd y z⟩
theorem rw_9 {g : MH} {L : PG} {k : Int} (hk : inP L k) : ast (tT g L 9 k 0) = hv g 467 k := by
  show ast (t9 g L k 0) = _
  unfold t9
  rw [iff_p ⟨hk, rfl⟩, fb_ast]
theorem bl2_at {g : MH} {a k i : Int} (i0 : 0 ≤ i) (i1 : i < 128) : bl2 (hv g a (2 * k)) (hv g a (2 * k + 1)) i = bl (hv g a (2 * k + i / 64)) (i % 64) := by
  unfold bl2
  by_cases c : i < 64
  · rw [if_pos c, show i / 64 = 0 by omega, show i % 64 = i by omega, Int.add_zero]
  · rw [if_neg c, show i / 64 = 1 by omega, show i % 64 = i - 64 by omega]
theorem cau_at {g : MH} {L : PG} (c : cgt g L) {k i : Int} (hk : inP L k) (i0 : 0 ≤ i) (i1 : i < 128) : bl (hv g 470 (2 * k + i / 64)) (i % 64) = true ↔ cau L (tT g L) k i := by
  rw [c.1 k i hk i0 i1]
  unfold cau
  rw [rw_9 hk]
/-- how many bits of what is live are not set -/
def mlv (g : MH) : Nat := sm 1500 (fun k => sm 32 (fun x => wb (bi (hv g 503 (k : Nat)) (x : Nat))))
/-- all but what is live is as it was -/
def frL (h h' : MH) : Prop := h'.2 = h.2 ∧ ∀ a j, a ≠ 503 → hv h' a j = hv h a j
theorem frL_rfl (h : MH) : frL h h := ⟨rfl, fun _ _ _ => rfl⟩
theorem frL_tr {h1 h2 h3 : MH} (a : frL h1 h2) (b : frL h2 h3) : frL h1 h3 := ⟨b.1.trans a.1, fun x j p => (b.2 x j p).trans (a.2 x j p)⟩
theorem frL_set {h : MH} {k x : Int} : frL h (hset h 503 k x) := ⟨rfl, fun a j q => ne_a q⟩
theorem frL_TF {h h' : MH} {L : PG} (f : frL h h') (t : TF h L) : TF h' L := t.of (f.2 _ _ (by omega)) (fun a j h1 h2 => f.2 a j (by omega))
theorem frL_T {h h' : MH} {L : PG} (f : frL h h') : tT h' L = tT h L := tT_eq' (fun a j _ _ _ _ => f.2 a j (by omega))
theorem frL_cgt {h h' : MH} {L : PG} (f : frL h h') (c : cgt h L) : cgt h' L := cgt_of (fun j => f.2 _ j (by omega)) (fun j => f.2 _ j (by omega)) (fun a j ha => f.2 a j (by unfold za at ha; omega)) c
/-- what is live, as it stands -/
def lvb (g : MH) (k x : Int) : Prop := bi (hv g 503 k) x = true
theorem t_findLive {l : Launch} {G : JG} (hG : gO G = true) {h : MH} {L : PG} (tf : TF h L) (w : WF L) (cg : cgt h L) {Q : Int → MH → Prop} {E : Nat → Int → MH → Prop}
    (hQ : ∀ h', frL h h' → (∀ k x, inP L k → 0 ≤ x → x < 32 → (bi (hv h' 503 k) x = true ↔ LVE L (tT h L) k x)) → Q 0 h') : S_X9_findLive l G [(2009, 396)] h Q E := by
  have nn := w.n
  unfold WFn at nn
  refine s_X9_findLive rfl fun K ki => r_X9_findLive_0 ki hG ?_
  intro x0 ex0
  -- the state of the search
  have outer : ∀ N : Nat, ∀ g : MH, frL h g → mlv g ≤ N → (∀ k x, inP L k → 0 ≤ x → x < 32 → lvb g k x → rch (tT h L) k ∧ LF L (tT h L) (lvb g) k x ∧ LVE L (tT h L) k x) → JW K 28 [(2009, 396), (0, 1), (5000, 0), (5000, 0), (5000, 0), (5000, 0)] [] g := by
    intro N
    induction N using Nat.strongRecOn with
    | ind N ih =>
      intro b fb ms inv
      have tb := frL_TF fb tf
      refine r_X9_findLive_28 ki hG ⟨fun z => by omega, fun _ => ?_⟩
      intro x1 ex1
      refine ⟨tb.ne, ?_⟩
      rw [tb.nnp, w32_i (by omega) (by omega)]
      intro x2 ex2
      have inner : ∀ M : Nat, ∀ n v : Int, ∀ g : MH, (n + 1).toNat ≤ M → -1 ≤ n → n < pNp L → frL h g → (v = 0 ∨ v = 1) → (∀ k x, inP L k → 0 ≤ x → x < 32 → lvb g k x → rch (tT h L) k ∧ LF L (tT h L) (lvb g) k x ∧ LVE L (tT h L) k x) →
          (∀ k x, 0 ≤ x → x < 32 → lvb b k x → lvb g k x) → (v = 0 → (∀ k, hv g 503 k = hv b 503 k) ∧ ∀ k x, n < k → inP L k → rch (tT h L) k → 0 ≤ x → x < 32 → LF L (tT h L) (lvb g) k x → lvb g k x) → (v = 1 → mlv g < mlv b) →
          JW K 44 [(2009, 396), (0, v), (0, n), (5000, 0), (5000, 0), (5000, 0)] [] g := by
        have fin : ∀ v : Int, ∀ g : MH, frL h g → (v = 0 ∨ v = 1) → (∀ k x, inP L k → 0 ≤ x → x < 32 → lvb g k x → rch (tT h L) k ∧ LF L (tT h L) (lvb g) k x ∧ LVE L (tT h L) k x) →
            (v = 0 → (∀ k, hv g 503 k = hv b 503 k) ∧ ∀ k x, -1 < k → inP L k → rch (tT h L) k → 0 ≤ x → x < 32 → LF L (tT h L) (lvb g) k x → lvb g k x) → (v = 1 → mlv g < mlv b) →
            JW K 44 [(2009, 396), (0, v), (0, -1), (5000, 0), (5000, 0), (5000, 0)] [] g := by
          intro v g fg v01 iv z0 z1
          refine r_X9_findLive_44 ki hG ⟨fun _ => ?_, fun z => by omega⟩
          by_cases e : v = 0
          · subst e
            refine r_X9_findLive_28 ki hG ⟨fun _ => hQ g fg (fun k x hk x0 x1 => ⟨fun y => (iv k x hk x0 x1 y).2.2, fun y => ?_⟩), fun z => absurd rfl z⟩
            refine y (fun j x => inP L j → 0 ≤ x → x < 32 → lvb g j x) (fun j hj rj lf _ x0 x1 => ?_) hk x0 x1
            refine (z0 rfl).2 j x (by have := hj.1; omega) hj rj x0 x1 ?_
            rcases lf with lf | ⟨nk, i, i0, i1, a, q⟩ | ⟨i, i0, i1, a, q⟩
            · exact Or.inl lf
            · have wj := w.k hj.1 hj.2
              have wm := w.m wj.1.1 wj.1.2.1
              obtain ⟨-, -, -, -, -, -, -, -, -, -, -, -, -, -, -, -, -, fi0, fi1, -⟩ := wm
              exact Or.inr (Or.inl ⟨nk, i, i0, i1, a, q ⟨by omega, by omega⟩ x0 x1⟩)
            · have wj := w.k hj.1 hj.2
              have wm := w.m wj.1.1 wj.1.2.1
              obtain ⟨-, -, -, -, -, -, -, -, -, -, -, -, -, -, -, -, -, fi0, fi1, -⟩ := wm
              exact Or.inr (Or.inr ⟨i, i0, i1, a, q ⟨by omega, by omega⟩ x0 x1⟩)
          · have v1 : v = 1 := by omega
            subst v1
            exact ih (mlv g) (by have := z1 rfl; omega) g fg (Nat.le_refl _) iv
        intro M
        induction M with
        | zero =>
          intro n v g m1 m2 m3 fg v01 iv mono z0 z1
          have en : n = -1 := by omega
          subst en
          exact fin v g fg v01 iv z0 z1
        | succ M ihM =>
          intro n v g m1 m2 m3 fg v01 iv mono z0 z1
          by_cases en : n = -1
          · subst en; exact fin v g fg v01 iv z0 z1
          have tg := frL_TF fg tf
          have cgg := frL_cgt fg cg
          have eT := frL_T (L := L) fg
          have hn : inP L n := ⟨by omega, m3⟩
          refine JW_hyp fun Hg okg _ => ?_
          have hG' : gO (kG K) = true := by rw [ki.2.2.1]; exact hG
          have z460 : hv g 460 n = 0 ∨ hv g 460 n = 1 := okf_z (tw_ok Hg hG' (okg _ List.mem_cons_self) 18 (off := 64) (n := 1500) (t := 102) (e := 2) (by decide) (by decide) (by decide) (by decide) (by decide) hn.1 (by omega))
          have c503 : c32 (hv g 503 n) := okf_i (tw_ok Hg hG' (okg _ List.mem_cons_self) 73 (off := 107) (n := 1500) (t := 100) (e := 0) (by decide) (by decide) (by decide) (by decide) (by decide) hn.1 (by omega))
          have wj := w.k hn.1 hn.2
          have wm := w.m wj.1.1 wj.1.2.1
          obtain ⟨-, -, xr, -, x2', -⟩ := wj
          have wj := w.k hn.1 hn.2
          obtain ⟨-, -, -, -, -, -, -, -, -, lc8, -, -, -, -, -, co1, co2, fi0, fi1, -⟩ := wm
          refine r_X9_findLive_44 ki hG ⟨fun z => by omega, fun z => ⟨hn.1, by omega, fun y => ⟨tg.ne, hn.1, by omega, ?_⟩, fun y => ?_⟩⟩
          · rw [tg.mo]
            intro x3 e3
            subst e3
            refine ⟨tg.ne, hn.1, by omega, fun _ => ⟨tg.ne, hn.1, by omega⟩, ?_⟩
            rw [tg.op, tg.x]
            intro kept ek
            have rn : rch (tT h L) n := by rw [← eT]; exact (rch_iff hn).mpr (by omega)
            refine t_readBy hG tg w hn.1 hn.2 fun zr hzr => ?_
            rw [w32_i (z := 2 * n) (by omega) (by omega), w32_i (z := 2 * n + 1) (by omega) (by omega)]
            refine ⟨by omega, by omega, by omega, by omega, ?_⟩
            refine t_liveOf hG tg w wj.1.1 wj.1.2.1 fun za hza => ?_
            refine ⟨by omega, by omega, by omega, by omega, ?_⟩
            refine t_liveOf hG tg w wj.1.1 wj.1.2.1 fun zc hzc => ?_
            intro bits ebits
            have kb : ∀ x, 0 ≤ x → x < 32 → (bi kept x = true ↔ ¬ (pOp L n = 3 ∧ x = pX L n)) := by
              intro x x0 x1
              rw [ek]
              by_cases o3 : pOp L n = 3
              · have := x2' (by omega)
                rw [if_pos o3, bi_not x1, bi_shl xr.1 (by omega) x0]
                simp [o3]
              · rw [if_neg o3, bi_m1 x1]
                simp [o3]
            have hb : ∀ x, 0 ≤ x → x < 32 → (bi bits x = true ↔ LF L (tT h L) (lvb g) n x) := by
              intro x x0 x1
              rw [ebits, bi_or, bi_or, bi_and, Bool.or_eq_true, Bool.or_eq_true, Bool.and_eq_true, hzr x x0, hza x x0, hzc x x0, kb x x0 x1]
              unfold LF
              constructor
              · rintro ((q | ⟨⟨i, i0, i1, q1, q2⟩, q3⟩) | ⟨i, i0, i1, q1, q2⟩)
                · exact Or.inl q
                · rw [bl2_at i0 (by omega)] at q1
                  exact Or.inr (Or.inl ⟨q3, i, i0, i1, by rw [← eT]; exact (rw_11 hn i0 (by omega)).mpr q1, q2⟩)
                · rw [bl2_at i0 (by omega)] at q1
                  exact Or.inr (Or.inr ⟨i, i0, i1, by rw [← eT]; exact (cau_at cgg hn i0 (by omega)).mp q1, q2⟩)
              · rintro (q | ⟨q3, i, i0, i1, q1, q2⟩ | ⟨i, i0, i1, q1, q2⟩)
                · exact Or.inl (Or.inl q)
                · refine Or.inl (Or.inr ⟨⟨i, i0, i1, ?_, q2⟩, q3⟩)
                  rw [bl2_at i0 (by omega)]
                  rw [← eT] at q1
                  exact (rw_11 hn i0 (by omega)).mp q1
                · refine Or.inr ⟨i, i0, i1, ?_, q2⟩
                  rw [bl2_at i0 (by omega)]
                  rw [← eT] at q1
                  exact (cau_at cgg hn i0 (by omega)).mpr q1
            refine ⟨fun _ => ⟨hn.1, by omega⟩, ?_⟩
            intro v' ev'
            refine ⟨hn.1, by omega, ?_⟩
            intro g' eg' n' en'
            rw [w32_i (by omega) (by omega)] at en'
            have en2 : n' = n - 1 := by omega
            subst en2
            have fg' : frL h g' := by rw [eg']; exact frL_tr fg frL_set
            have up : ∀ k x, 0 ≤ x → x < 32 → lvb g k x → lvb g' k x := by
              intro k x x0 x1 q
              unfold lvb at *
              rw [eg']
              by_cases e : k = n
              · subst e
                rw [eq_a]
                exact (hb x x0 x1).mpr (iv k x hn x0 x1 q).2.1
              · rw [ne_k e]; exact q
            have iv' : ∀ k x, inP L k → 0 ≤ x → x < 32 → lvb g' k x → rch (tT h L) k ∧ LF L (tT h L) (lvb g') k x ∧ LVE L (tT h L) k x := by
              intro k x hk x0 x1 q
              by_cases e : k = n
              · subst e
                have q' : bi bits x = true := by unfold lvb at q; rw [eg', eq_a] at q; exact q
                have lf := (hb x x0 x1).mp q'
                refine ⟨rn, LF_le (fun i r => up i x x0 x1 r) lf, LVE_in hk rn ?_⟩
                rcases lf with lf | ⟨nk, i, i0, i1, a, r⟩ | ⟨i, i0, i1, a, r⟩
                · exact Or.inl lf
                · exact Or.inr (Or.inl ⟨nk, i, i0, i1, a, (iv _ x ⟨by omega, by omega⟩ x0 x1 r).2.2⟩)
                · exact Or.inr (Or.inr ⟨i, i0, i1, a, (iv _ x ⟨by omega, by omega⟩ x0 x1 r).2.2⟩)
              · have q' : lvb g k x := by unfold lvb at *; rw [eg', ne_k e] at q; exact q
                have := iv k x hk x0 x1 q'
                exact ⟨this.1, LF_le (fun i r => up i x x0 x1 r) this.2.1, this.2.2⟩
            have ml : mlv g' ≤ mlv g ∧ (bits ≠ hv g 503 n → mlv g' < mlv g) := by
              have hle : ∀ i : Nat, i < 1500 → sm 32 (fun x => wb (bi (hv g' 503 (i : Nat)) (x : Nat))) ≤ sm 32 (fun x => wb (bi (hv g 503 (i : Nat)) (x : Nat))) := fun i _ => sm_le (fun x hx => wb_mono (up _ _ (by omega) (by omega)))
              have h1 : mlv g' ≤ mlv g := sm_le hle
              refine ⟨h1, fun ne => ?_⟩
              apply Classical.byContradiction
              intro no
              apply ne
              have e1 := sm_eq hle (show mlv g' = mlv g by omega) n.toNat (by omega)
              rw [show ((n.toNat : Nat) : Int) = n by omega] at e1
              have e2 := sm_eq (fun x hx => wb_mono (up n (x : Nat) (by omega) (by omega))) e1
              refine bi_ext (by rw [ebits]; exact c32_i_or _ _) c503 (fun s s0 s1 => ?_)
              have := wb_eq (e2 s.toNat (by omega))
              rw [show ((s.toNat : Nat) : Int) = s by omega, eg', eq_a] at this
              exact this
            refine ihM (n - 1) v' g' (by omega) (by omega) (by omega) fg' ?_ iv' (fun k x x0 x1 q => up k x x0 x1 (mono k x x0 x1 q)) (fun e0 => ?_) (fun e1 => ?_)
            · rw [ev']
              by_cases c : v = 0
              · rw [if_pos c]; exact zo1 _
              · rw [if_neg c]; exact Or.inr rfl
            · have c : v = 0 := by
                apply Classical.byContradiction
                intro c
                rw [if_neg c] at ev'; omega
              rw [if_pos c] at ev'
              have c2 : bits = hv g 503 n := by
                apply Classical.byContradiction
                intro c2
                rw [if_neg c2] at ev'; omega
              have same' : ∀ k, hv g' 503 k = hv g 503 k := by
                intro k
                rw [eg']
                by_cases e : k = n
                · rw [e, eq_a]; exact c2
                · rw [ne_k e]
              have sl : lvb g' = lvb g := by funext k x; unfold lvb; rw [same' k]
              refine ⟨fun k => (same' k).trans ((z0 c).1 k), fun k x nk hk rk x0 x1 lf => ?_⟩
              rw [sl] at lf ⊢
              by_cases e : k = n
              · subst e
                show bi (hv g 503 k) x = true
                rw [← c2]; exact (hb x x0 x1).mpr lf
              · exact (z0 c).2 k x (by omega) hk rk x0 x1 lf
            · by_cases c : v = 0
              · rw [if_pos c] at ev'
                have c2 : bits ≠ hv g 503 n := fun c2 => by rw [if_pos c2] at ev'; omega
                have e3 : mlv g = mlv b := by unfold mlv; simp only [(z0 c).1]
                have := ml.2 c2
                omega
              · have := z1 (by omega)
                have := ml.1
                omega
          · intro n' en'
            rw [w32_i (by omega) (by omega)] at en'
            have en2 : n' = n - 1 := by omega
            subst en2
            refine ihM (n - 1) v g (by omega) (by omega) (by omega) fg v01 iv mono (fun e0 => ⟨(z0 e0).1, fun k x nk hk rk x0 x1 lf => ?_⟩) z1
            by_cases e : k = n
            · subst e
              rw [← eT, rch_iff hk] at rk
              omega
            · exact (z0 e0).2 k x (by omega) hk rk x0 x1 lf
      subst ex1; subst ex2
      exact inner _ _ 0 b (Nat.le_refl _) (by omega) (by omega) fb (Or.inl rfl) inv (fun _ _ _ _ q => q) (fun _ => ⟨fun _ => rfl, fun k x nk hk => by have := hk.2; omega⟩) (fun e => by omega)
  have clear : ∀ N : Nat, ∀ n : Int, ∀ g : MH, (pNp L - n).toNat ≤ N → 0 ≤ n → n ≤ pNp L → frL h g → clr 503 n g → JW K 2 [(2009, 396), (0, n), (5000, 0), (5000, 0), (5000, 0), (5000, 0)] [] g := by
    intro N
    induction N with
    | zero =>
      intro n g b1' b2 b3 fg c
      have en : n = pNp L := by omega
      subst en
      have tg := frL_TF fg tf
      refine r_X9_findLive_2 ki hG ⟨tg.ne, fun _ => ?_, fun z => by rw [tg.nnp] at z; omega⟩
      intro x ex
      subst ex
      refine outer _ g fg (Nat.le_refl _) (fun k x hk x0 x1 q => ?_)
      unfold lvb at q
      rw [c k hk.1 hk.2, bi_zero] at q; cases q
    | succ N ih =>
      intro n g b1' b2 b3 fg c
      by_cases en : n = pNp L
      · exact ih n g (by omega) b2 b3 fg c
      have tg := frL_TF fg tf
      refine r_X9_findLive_2 ki hG ⟨tg.ne, fun z => by rw [tg.nnp] at z; omega, fun z => ⟨b2, by omega, ?_⟩⟩
      intro g' eg x ex
      rw [w32_i (by omega) (by omega)] at ex
      subst ex; subst eg
      exact ih (n + 1) _ (by omega) (by omega) (by omega) (frL_tr fg frL_set) (clr_s rfl c)
  subst ex0
  exact clear _ 0 h (Nat.le_refl _) (by omega) (by omega) (frL_rfl h) (clr_0 _ _)
