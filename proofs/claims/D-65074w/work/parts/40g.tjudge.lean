/-! Part 40g: what a file has before it is judged; the twin judges: small steps -/
set_option maxRecDepth 100000
def WFmx (L : PG) (m : Int) : Prop := (pOw L m = 255 ∨ (0 ≤ pOw L m ∧ pOw L m < 8 + pCl L)) ∧ 0 ≤ pNa L m ∧ pNa L m ≤ 15 ∧ 0 ≤ pAr L m ∧ pAr L m ≤ 4 ∧ (pOw L m ≠ 255 → 1 ≤ pAr L m ∧ pLk L m 0 = 1) ∧
  0 ≤ pGi L m ∧ pGi L m ≤ 2 ∧ pAr L m ≤ pLc L m ∧ pLc L m ≤ 8 ∧ (∀ j, 0 ≤ j → j < pLc L m → pLk L m j = 0 ∨ pLk L m j = 1) ∧ 0 ≤ pDe L m ∧ pDe L m ≤ 8 ∧ 0 ≤ pHn L m ∧ pHn L m ≤ 4 ∧
  1 ≤ pCo L m ∧ pCo L m ≤ 120 ∧ 0 ≤ pFi L m ∧ pFi L m + pCo L m ≤ pNp L ∧ (∀ i, 0 ≤ i → i < pCo L m → pMo L (pFi L m + i) = m) ∧
  (∀ j, 0 ≤ j → j < pHn L m → 0 ≤ pHa L m j 0 ∧ pHa L m j 0 < pHa L m j 1 ∧ pHa L m j 1 ≤ pCo L m ∧ 0 ≤ pHa L m j 2 ∧ pHa L m j 2 < pCo L m ∧ 0 ≤ pHa L m j 3 ∧ pHa L m j 3 < 8 + pCl L)
def WFkx (L : PG) (k : Int) : Prop := (0 ≤ pMo L k ∧ pMo L k < pNm L ∧ pFi L (pMo L k) ≤ k ∧ k < pFi L (pMo L k) + pCo L (pMo L k)) ∧ (0 ≤ pOp L k ∧ pOp L k ≤ 36) ∧ (0 ≤ pX L k ∧ pX L k ≤ 255) ∧
  (-32768 ≤ pY L k ∧ pY L k ≤ 32767 ∧ -32768 ≤ pZ L k ∧ pZ L k ≤ 32767) ∧
  ((pOp L k = 2 ∨ pOp L k = 3 ∨ pOp L k = 18 ∨ pOp L k = 19) → pX L k < pLc L (pMo L k)) ∧
  ((pOp L k = 13 ∨ pOp L k = 14 ∨ pOp L k = 34 ∨ pOp L k = 35) → pX L k ≤ 7) ∧ (pOp L k = 16 → pX L k ≤ 5) ∧ (pOp L k = 17 → pX L k ≤ 47 ∧ pX L k % 8 < pLc L (pMo L k)) ∧
  ((pOp L k = 20 ∨ pOp L k = 25 ∨ pOp L k = 26 ∨ pOp L k = 33) → pX L k < 8 + pCl L) ∧ ((pOp L k = 21 ∨ pOp L k = 23 ∨ pOp L k = 24) → pX L k ≤ 1) ∧
  ((pOp L k = 27 ∨ pOp L k = 28) → pX L k < pNs L) ∧ (pOp L k = 19 → 0 ≤ pY L k ∧ pY L k < 8 + pCl L) ∧ ((pOp L k = 25 ∨ pOp L k = 26) → 0 ≤ pY L k ∧ pY L k < pFc L (pX L k)) ∧
  (pOp L k = 29 → 0 ≤ pY L k ∧ pY L k < pNm L) ∧ ((pOp L k = 30 ∨ pOp L k = 36) → pX L k ≤ 15) ∧ (pOp L k = 13 → pY L k ≤ pZ L k) ∧
  ((15 ≤ pOp L k ∧ pOp L k ≤ 19) → 0 ≤ pZ L k ∧ pZ L k < pCo L (pMo L k)) ∧
  ((pOp L k = 20 ∨ pOp L k = 21) → 7 ≤ pSi L k ∧ pSi L k < pNt L ∧ pSc L (pSi L k) = (if pOp L k = 20 then pX L k else -1 - pX L k))
def WFx (L : PG) : Prop := WFn L ∧ WFc L ∧ (∀ m, 0 ≤ m → m < pNm L → WFmx L m) ∧ WFl L ∧ (∀ k, 0 ≤ k → k < pNp L → WFkx L k) ∧ (∀ s, 7 ≤ s → s < pNt L → -2 ≤ pSc L s ∧ pSc L s < 8 + pCl L)
section
variable {l : Launch} {G : JG} {A n : Int} {B : Int → Int} {h0 h : MH} {p : Int} {L : PG} {E : Nat → Int → MH → Prop} {X : Int → Prop} {st : List Int} {m e : Int}
/-- the twin judges at a place: kinds at hand -/
def JDS (A n : Int) (h0 h : MH) (p : Int) (L : PG) (m e : Int) (st : List Int) : Prop := RDS A n h0 h p L ∧ (hv h 396 68 = st.length ∧ hv h 396 69 = ksO st ∧ hv h 396 70 = L 11 m ∧ hv h 396 71 = e) ∧ k01 st ∧ (st.length : Int) ≤ L 11 m ∧ L 11 m ≤ 8
theorem RDS.j {j v : Int} (r : RDS A n h0 h p L) (c : 68 ≤ j ∧ j ≤ 71) : RDS A n h0 (hset h 396 j v) p L := by
  obtain ⟨r1, r2, r3, r4, r5⟩ := r
  refine ⟨r1, r2, fun a j' x y => ?_, ⟨?_, r4.2⟩, fun o i a b => ?_⟩
  · rw [hv_set, if_neg (by omega)]; exact r3 a j' x y
  · rw [hv_set, if_neg (by omega)]; exact r4.1
  · rw [hv_set, if_neg (by omega)]; exact r5 o i a b
theorem t_wrongIf (hG : gO G = true) (r : RDS A n h0 h p L) (b : RDB B n h0) (z0 : 455 ≤ hz h0) (ec : hv h 396 71 = e) {v : Int} {Q : Int → MH → Prop} (hq : v = 0 → Q 0 h) (hx : ¬ v = 0 → ∀ a h', FLT A h0 h' a e → E 17 a h') : S_X9_wrongIf l G [(2009, 396), (0, v)] h Q E := by
  refine s_X9_wrongIf rfl fun K1 ki => r_X9_wrongIf_0 ki hG ⟨hq, fun c => ?_⟩
  have q := t_flt (l := l) hG r b z0 (e := e) (E := E) (hx c)
  refine ⟨q.1, q.2.1, fun h1 e1 => ?_⟩
  have ez := h2_hz r.2.1
  have e71 : hv h1 396 71 = e := by rw [e1, h9_new (by omega), ec]
  rw [e71]
  exact q.2.2 h1 e1
theorem t_jpull (hG : gO G = true) (J : JDS A n h0 h p L m e st) (b : RDB B n h0) (z0 : 455 ≤ hz h0) (hX : ∀ e, X e → ∀ a h', FLT A h0 h' a e → E 17 a h') {kind : Int} {k : List Int → JdR} {K : List Int → Prop} (hr : prj (pl e kind st k) K X) {Q : Int → MH → Prop}
    (hQ : ∀ r h', st = kind :: r → prj (k r) K X → JDS A n h0 h' p L m e r → Q 0 h') : S_X9_pull l G [(2009, 396), (0, kind)] h Q E := by
  obtain ⟨r, ⟨j68, j69, j70, j71⟩, jk, jl, jm⟩ := J
  refine s_X9_pull rfl fun K1 ki => r_X9_pull_0 ki hG ?_
  match st, hr, j68, j69, jk, jl, hQ with
  | [], hr, j68, j69, jk, jl, hQ =>
    rw [j68, if_pos (show ((([] : List Int).length : Nat) : Int) = 0 from rfl)]
    exact t_wrongIf hG r b z0 j71 (fun c => absurd c (by decide)) (fun _ => hX e hr)
  | x :: q, hr, j68, j69, jk, jl, hQ =>
    have hx := jk x List.mem_cons_self
    have l8 : (x :: q).length ≤ 8 := by omega
    have lq : ((x :: q).length : Int) = q.length + 1 := by simp
    rw [j68, j69, if_neg (by omega), w32_i (z := ((x :: q).length : Int) - 1) (by omega) (by omega), show ((x :: q).length : Int) - 1 = q.length by omega, ks_top hx l8]
    have hr' := prj_if hr
    refine t_wrongIf hG r b z0 j71 (fun c => ?_) (fun c => ?_)
    · have ex : x = kind := by
        apply Classical.byContradiction
        intro d
        rw [if_neg d] at c
        exact absurd c (by decide)
      intro h3 e3 h4 e4
      have r3 := r.j (j := 68) (v := w32 (hv h 396 68 - 1)) (by decide)
      rw [← e3] at r3
      have v68 : hv h3 396 68 = q.length := by rw [e3, eq_a, j68, w32_i (by omega) (by omega)]; omega
      have v69 : hv h3 396 69 = ksO (x :: q) := by rw [e3, ne_k (by decide), j69]
      rw [v68, v69, ks_pull l8] at e4
      have r4 := r3.j (j := 69) (v := ksO q) (by decide)
      rw [← e4] at r4
      refine hQ q h4 (by rw [ex]) (hr'.1 ex) ⟨r4, ⟨?_, ?_, ?_, ?_⟩, fun y hy => jk y (List.mem_cons_of_mem _ hy), by omega, jm⟩
      · rw [e4, ne_k (by decide)]; exact v68
      · rw [e4, eq_a]
      · rw [e4, ne_k (by decide), e3, ne_k (by decide)]; exact j70
      · rw [e4, ne_k (by decide), e3, ne_k (by decide)]; exact j71
    · have ex : ¬ x = kind := fun d => by rw [if_pos d] at c; exact c rfl
      exact hX e (hr'.2 ex)
theorem t_jpullAny (hG : gO G = true) (J : JDS A n h0 h p L m e st) (b : RDB B n h0) (z0 : 455 ≤ hz h0) (hX : ∀ e, X e → ∀ a h', FLT A h0 h' a e → E 17 a h') {k : Int → List Int → JdR} {K : List Int → Prop} (hr : prj (pla e st k) K X) {Q : Int → MH → Prop}
    (hQ : ∀ x r h', st = x :: r → (x = 0 ∨ x = 1) → prj (k x r) K X → JDS A n h0 h' p L m e r → Q x h') : S_X9_pullAny l G [(2009, 396)] h Q E := by
  have J' := J
  obtain ⟨r, ⟨j68, j69, j70, j71⟩, jk, jl, jm⟩ := J'
  refine s_X9_pullAny rfl fun K1 ki => r_X9_pullAny_0 ki hG ?_
  match st, hr, j68, j69, jk, jl, hQ, J with
  | [], hr, j68, j69, jk, jl, hQ, J =>
    rw [j68, if_pos (show ((([] : List Int).length : Nat) : Int) = 0 from rfl)]
    exact t_wrongIf hG r b z0 j71 (fun c => absurd c (by decide)) (fun _ => hX e hr)
  | x :: q, hr, j68, j69, jk, jl, hQ, J =>
    have hx := jk x List.mem_cons_self
    have l8 : (x :: q).length ≤ 8 := by omega
    have lq : ((x :: q).length : Int) = q.length + 1 := by simp
    rw [j68, if_neg (by omega)]
    refine t_wrongIf hG r b z0 j71 (fun c => ?_) (fun c => absurd rfl c)
    intro x1 e1
    rw [j68, j69, w32_i (z := ((x :: q).length : Int) - 1) (by omega) (by omega), show ((x :: q).length : Int) - 1 = q.length by omega, ks_top hx l8] at e1
    subst e1
    refine t_jpull (k := fun r => k x1 r) (K := K) (X := X) hG J b z0 hX ?_ fun r' h' es hk J2 => ?_
    · show prj (if x1 = x1 then k x1 q else .error e) K X
      rw [if_pos rfl]; exact hr
    · cases es
      exact hQ x1 _ h' rfl hx hk J2
theorem t_jlay (hG : gO G = true) (J : JDS A n h0 h p L m e st) (b : RDB B n h0) (z0 : 455 ≤ hz h0) (hX : ∀ e, X e → ∀ a h', FLT A h0 h' a e → E 17 a h') {kind : Int} (k2 : kind = 0 ∨ kind = 1) {k : List Int → JdR} {K : List Int → Prop} (hr : prj (ly e (L 11 m) kind st k) K X) {Q : Int → MH → Prop}
    (hQ : ∀ h', prj (k (kind :: st)) K X → JDS A n h0 h' p L m e (kind :: st) → Q 0 h') : S_X9_lay l G [(2009, 396), (0, kind)] h Q E := by
  obtain ⟨r, ⟨j68, j69, j70, j71⟩, jk, jl, jm⟩ := J
  refine s_X9_lay rfl fun K1 ki => r_X9_lay_0 ki hG ?_
  have hr' := prj_if hr
  rw [j68, j70]
  refine t_wrongIf hG r b z0 j71 (fun c => ?_) (fun c => ?_)
  · have ne : ¬ (st.length : Int) = L 11 m := fun d => by rw [if_pos d] at c; exact absurd c (by decide)
    intro h3 e3 h4 e4
    rw [j68, j69, ks_lay k2 (by omega)] at e3
    have r3 := r.j (j := 69) (v := ksO (kind :: st)) (by decide)
    rw [← e3] at r3
    have v68 : hv h3 396 68 = st.length := by rw [e3, ne_k (by decide), j68]
    rw [v68, w32_i (by omega) (by omega)] at e4
    have r4 := r3.j (j := 68) (v := (st.length : Int) + 1) (by decide)
    rw [← e4] at r4
    refine hQ h4 (hr'.2 ne) ⟨r4, ⟨?_, ?_, ?_, ?_⟩, fun y hy => ?_, ?_, jm⟩
    · rw [e4, eq_a]; simp
    · rw [e4, ne_k (by decide), e3, eq_a]
    · rw [e4, ne_k (by decide), e3, ne_k (by decide)]; exact j70
    · rw [e4, ne_k (by decide), e3, ne_k (by decide)]; exact j71
    · rcases List.mem_cons.mp hy with q | q
      · rw [q]; exact k2
      · exact jk y q
    · have : ((kind :: st).length : Int) = st.length + 1 := by simp
      omega
  · have ne : (st.length : Int) = L 11 m := by
      apply Classical.byContradiction
      intro d
      rw [if_neg d] at c
      exact c rfl
    exact hX e (hr'.1 ne)
theorem t_jnil (hG : gO G = true) (J : JDS A n h0 h p L m e st) (b : RDB B n h0) (z0 : 455 ≤ hz h0) (hX : ∀ e, X e → ∀ a h', FLT A h0 h' a e → E 17 a h') {K : List Int → Prop} {P : Prop} [Decidable P] (hr : prj (if P then nl0 e st else .error e) K X) {v : Int} (hv0 : v = 0 ↔ (P ∧ ¬ 0 < hv h 396 68)) {Q : Int → MH → Prop}
    (hQ : K st → JDS A n h0 h p L m e st → Q 0 h) : S_X9_wrongIf l G [(2009, 396), (0, v)] h Q E := by
  have J' := J
  obtain ⟨r, ⟨j68, j69, j70, j71⟩, jk, jl, jm⟩ := J'
  have hr' := prj_if hr
  refine t_wrongIf hG r b z0 j71 (fun c => ?_) (fun c => ?_)
  · have q := hv0.mp c
    have s0 : st = [] := by
      rw [j68] at q
      match st, q with
      | [], _ => rfl
      | x :: t, q => exact absurd q.2 (by simp)
    have := hr'.1 q.1
    unfold nl0 at this
    rw [if_pos s0] at this
    exact hQ this J
  · by_cases d : P
    · have q : ¬ ¬ 0 < hv h 396 68 := fun w => c (hv0.mpr ⟨d, w⟩)
      have s0 : ¬ st = [] := fun w => q (by rw [j68, w]; decide)
      have := hr'.1 d
      unfold nl0 at this
      rw [if_neg s0] at this
      exact hX e this
    · exact hX e (hr'.2 d)
theorem t_pullArguments (hG : gO G = true) {c : Int} (b : RDB B n h0) (z0 : 455 ≤ hz h0) (hX : ∀ e, X e → ∀ a h', FLT A h0 h' a e → E 17 a h') (c0 : 0 ≤ c) (c1 : c < 40) (a0 : 0 ≤ L 7 c) (a1 : L 7 c ≤ 8) {k : List Int → JdR} {K : List Int → Prop} (J : JDS A n h0 h p L m e st) (hr : prj (plA L e c (L 7 c).toNat st k) K X) {Q : Int → MH → Prop}
    (hQ : ∀ r h', prj (k r) K X → JDS A n h0 h' p L m e r → Q 0 h') : S_X9_pullArguments l G [(2009, 396), (14, A), (0, c)] h Q E := by
  have ne := J.1.ne
  refine s_X9_pullArguments rfl fun K1 ki => r_X9_pullArguments_0 ki hG ⟨ne, c0, c1, fun x ex => ?_⟩
  rw [J.1.at 7 c (by decide) (by decide), w32_i (by omega) (by omega)] at ex
  have key : ∀ N : Nat, ∀ (st : List Int) (h : MH), N ≤ 8 → JDS A n h0 h p L m e st → prj (plA L e c N st k) K X → JW K1 9 [(2009, 396), (14, A), (0, c), (0, (N : Int) - 1)] [] h := by
    intro N
    induction N with
    | zero =>
      intro st h _ J hr
      refine r_X9_pullArguments_9 ki hG ⟨fun _ => hQ st h hr J, fun y => ?_⟩
      exact absurd y (by decide)
    | succ N ih =>
      intro st h hN J hr
      have ei : ((N + 1 : Nat) : Int) - 1 = N := by omega
      rw [ei]
      refine r_X9_pullArguments_9 ki hG ⟨fun y => by omega, fun y => ?_⟩
      have w8 : w32 (w32 (8 * c) + (N : Int)) = 8 * c + N := by rw [w32_i (z := 8 * c) (by omega) (by omega), w32_i (by omega) (by omega)]
      rw [w8, J.1.at 10 _ (by decide) (by decide)]
      refine ⟨ne, by omega, by omega, ?_⟩
      refine t_jpull hG J b z0 hX hr fun r' h' es hk J2 x3 e3 => ?_
      rw [w32_i (by omega) (by omega)] at e3
      rw [e3, show (N : Int) + -1 = (N : Int) - 1 by omega]
      exact ih r' h' (by omega) J2 hk
  have en : (((L 7 c).toNat : Nat) : Int) - 1 = x := by omega
  rw [← en]
  exact key _ st h (by omega) J hr
theorem t_isHandler (hG : gO G = true) {i : Int} (r : RDS A n h0 h p L) (m0 : 0 ≤ m ∧ m < 40) (l12 : 0 ≤ L 12 m ∧ L 12 m ≤ 4) {Q : Int → MH → Prop} (hQ : ∀ z, (z = 0 ∨ z = 1) → (¬ z = 0 ↔ hdlT L m i) → Q z h) : S_X9_isHandler l G [(14, A), (0, m), (0, i)] h Q E := by
  have ne := r.ne
  refine s_X9_isHandler rfl fun K1 ki => r_X9_isHandler_0 ki hG ?_
  intro x3 e3 x4 e4
  subst e3; subst e4
  have key : ∀ N : Nat, ∀ v j : Int, (L 12 m - j).toNat ≤ N → 0 ≤ j → j ≤ L 12 m → (v = 0 ∨ v = 1) → (¬ v = 0 ↔ ∃ k, 0 ≤ k ∧ k < j ∧ L 13 (16 * m + 4 * k + 2) = i) → JW K1 5 [(14, A), (0, m), (0, i), (0, v), (0, j)] [] h := by
    intro N
    induction N with
    | zero =>
      intro v j hN j0 j1 v01 iv
      have ej : j = L 12 m := by omega
      rw [ej] at iv
      refine r_X9_isHandler_5 ki hG ⟨ne, m0.1, m0.2, fun _ => ⟨v01, hQ v v01 iv⟩, fun y => ?_⟩
      rw [r.at 12 m (by decide) (by decide)] at y; omega
    | succ N ih =>
      intro v j hN j0 j1 v01 iv
      by_cases ej : j = L 12 m
      · exact ih v j (by omega) j0 j1 v01 iv
      refine r_X9_isHandler_5 ki hG ⟨ne, m0.1, m0.2, fun y => ?_, fun y => ?_⟩
      · rw [r.at 12 m (by decide) (by decide)] at y; omega
      have w : w32 (w32 (w32 (16 * m) + w32 (4 * j)) + 2) = 16 * m + 4 * j + 2 := by
        rw [w32_i (z := 16 * m) (by omega) (by omega), w32_i (z := 4 * j) (by omega) (by omega), w32_i (z := 16 * m + 4 * j) (by omega) (by omega), w32_i (by omega) (by omega)]
      rw [w, r.at 13 _ (by decide) (by decide)]
      refine ⟨fun _ => ⟨ne, by omega, by omega⟩, fun x3 e3 x4 e4 => ?_⟩
      rw [w32_i (by omega) (by omega)] at e4
      subst e4
      refine ih x3 (j + 1) (by clear iv e3; omega) (by clear iv e3; omega) (by clear iv e3; omega) ?_ ?_
      · rw [e3]; split
        · split
          · exact Or.inr rfl
          · exact Or.inl rfl
        · exact Or.inr rfl
      · rw [e3]
        by_cases c : v = 0
        · rw [if_pos c]
          by_cases d : L 13 (16 * m + 4 * j + 2) = i
          · rw [if_pos d]
            exact ⟨fun _ => ⟨j, j0, by omega, d⟩, fun _ => by decide⟩
          · rw [if_neg d]
            refine ⟨fun q => absurd rfl q, fun q => ?_⟩
            obtain ⟨k, k0, k1, k2⟩ := q
            by_cases ek : k = j
            · rw [ek] at k2; exact absurd k2 d
            · exact absurd c (iv.mpr ⟨k, k0, by omega, k2⟩)
        · rw [if_neg c]
          obtain ⟨k, k0, k1, k2⟩ := iv.mp c
          exact ⟨fun _ => ⟨k, k0, by omega, k2⟩, fun _ => by decide⟩
  refine key _ 0 0 (Nat.le_refl _) (by decide) l12.1 (Or.inl rfl) ⟨fun q => absurd rfl q, fun q => ?_⟩
  obtain ⟨k, k0, k1, -⟩ := q
  omega
theorem t_isJumpedTo (hG : gO G = true) {i : Int} (r : RDS A n h0 h p L) (m0 : 0 ≤ m ∧ m < 40) (l14 : 0 ≤ L 15 m ∧ 0 ≤ L 14 m ∧ L 15 m + L 14 m ≤ 1500) {Q : Int → MH → Prop} (hQ : ∀ z, (z = 0 ∨ z = 1) → (¬ z = 0 ↔ jmpT L m i) → Q z h) : S_X9_isJumpedTo l G [(14, A), (0, m), (0, i)] h Q E := by
  have ne := r.ne
  obtain ⟨q15, q14, qs⟩ := l14
  refine s_X9_isJumpedTo rfl fun K1 ki => r_X9_isJumpedTo_0 ki hG ?_
  intro x3 e3
  refine ⟨ne, m0.1, m0.2, fun x4 e4 => ?_⟩
  rw [r.at 15 m (by decide) (by decide)] at e4
  subst e3; subst e4
  have key : ∀ N : Nat, ∀ v j : Int, (L 15 m + L 14 m - j).toNat ≤ N → L 15 m ≤ j → j ≤ L 15 m + L 14 m → (v = 0 ∨ v = 1) → (¬ v = 0 ↔ ∃ k, L 15 m ≤ k ∧ k < j ∧ 15 ≤ L 19 k ∧ L 19 k ≤ 19 ∧ L 22 k = i) → JW K1 10 [(14, A), (0, m), (0, i), (0, v), (0, j)] [] h := by
    intro N
    induction N with
    | zero =>
      intro v j hN j0 j1 v01 iv
      have ej : j = L 15 m + L 14 m := by omega
      rw [ej] at iv
      refine r_X9_isJumpedTo_10 ki hG ⟨ne, m0.1, m0.2, ne, m0.1, m0.2, fun _ => ⟨v01, hQ v v01 iv⟩, fun y => ?_⟩
      rw [r.at 15 m (by decide) (by decide), r.at 14 m (by decide) (by decide), w32_i (by omega) (by omega)] at y; omega
    | succ N ih =>
      intro v j hN j0 j1 v01 iv
      by_cases ej : j = L 15 m + L 14 m
      · exact ih v j (by omega) j0 j1 v01 iv
      refine r_X9_isJumpedTo_10 ki hG ⟨ne, m0.1, m0.2, ne, m0.1, m0.2, fun y => ?_, fun y => ?_⟩
      · rw [r.at 15 m (by decide) (by decide), r.at 14 m (by decide) (by decide), w32_i (by omega) (by omega)] at y; omega
      rw [r.at 19 _ (by decide) (by decide), r.at 22 _ (by decide) (by decide)]
      refine ⟨fun _ => ⟨ne, by omega, by omega, fun _ => ⟨ne, by omega, by omega, fun _ => ⟨ne, by omega, by omega⟩⟩⟩, fun x3 e3 x4 e4 => ?_⟩
      rw [w32_i (by omega) (by omega)] at e4
      subst e4
      have e3' : x3 = if v = 0 then (if 15 ≤ L 19 j ∧ L 19 j ≤ 19 ∧ L 22 j = i then 1 else 0) else 1 := by
        rw [e3]
        by_cases c : v = 0
        · rw [if_pos c, if_pos c]
          by_cases d1 : L 19 j < 15
          · rw [if_pos d1, if_neg (by omega)]
          · rw [if_neg d1]
            by_cases d2 : 19 < L 19 j
            · rw [if_pos d2, if_neg (by omega)]
            · rw [if_neg d2]
              by_cases d3 : L 22 j = i
              · rw [if_pos d3, if_pos ⟨by omega, by omega, d3⟩]
              · rw [if_neg d3, if_neg (fun w => d3 w.2.2)]
        · rw [if_neg c, if_neg c]
      refine ih x3 (j + 1) (by clear iv e3; omega) (by clear iv e3; omega) (by clear iv e3; omega) ?_ ?_
      · rw [e3']; split
        · split
          · exact Or.inr rfl
          · exact Or.inl rfl
        · exact Or.inr rfl
      · rw [e3']
        by_cases c : v = 0
        · rw [if_pos c]
          by_cases d : 15 ≤ L 19 j ∧ L 19 j ≤ 19 ∧ L 22 j = i
          · rw [if_pos d]
            exact ⟨fun _ => ⟨j, j0, by omega, d⟩, fun _ => by decide⟩
          · rw [if_neg d]
            refine ⟨fun q => absurd rfl q, fun q => ?_⟩
            obtain ⟨k, k0, k1, k2⟩ := q
            by_cases ek : k = j
            · rw [ek] at k2; exact absurd k2 d
            · exact absurd c (iv.mpr ⟨k, k0, by omega, k2⟩)
        · rw [if_neg c]
          obtain ⟨k, k0, k1, k2⟩ := iv.mp c
          exact ⟨fun _ => ⟨k, k0, by omega, k2⟩, fun _ => by decide⟩
  refine key _ 0 (L 15 m) (Nat.le_refl _) (Int.le_refl _) (by omega) (Or.inl rfl) ⟨fun q => absurd rfl q, fun q => ?_⟩
  obtain ⟨k, k0, k1, -⟩ := q
  omega
end
