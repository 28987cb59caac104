/-! Part 38c: the twin's file; contracts of what it looks up -/
def TF (h : MH) (L : PG) : Prop := (hv h 396 3 = 398 ∨ hv h 396 3 = 427) ∧ ∀ o i, 0 ≤ o → o ≤ 28 → hv h (hv h 396 3 + o) i = L o i
theorem TF.ne {h : MH} {L : PG} (t : TF h L) : hv h 396 3 ≠ 0 := by rcases t.1 with e | e <;> rw [e] <;> decide
theorem TF.at {h : MH} {L : PG} (t : TF h L) (o i : Int) (h0 : 0 ≤ o) (h1 : o ≤ 28) : hv h (hv h 396 3 + o) i = L o i := t.2 o i h0 h1
theorem TF.sc {h : MH} {L : PG} (t : TF h L) (i : Int) : hv h (hv h 396 3) i = L 0 i := by
  have := t.2 0 i (by omega) (by omega)
  rwa [Int.add_zero] at this
theorem TF.sk {h : MH} {L : PG} (t : TF h L) (i : Int) : hv h (hv h 396 3 + 1) i = pSk L i := t.at 1 i (by omega) (by omega)
theorem TF.pa {h : MH} {L : PG} (t : TF h L) (i : Int) : hv h (hv h 396 3 + 2) i = pPa L i := t.at 2 i (by omega) (by omega)
theorem TF.fc {h : MH} {L : PG} (t : TF h L) (i : Int) : hv h (hv h 396 3 + 3) i = pFc L i := t.at 3 i (by omega) (by omega)
theorem TF.ow {h : MH} {L : PG} (t : TF h L) (i : Int) : hv h (hv h 396 3 + 5) i = pOw L i := t.at 5 i (by omega) (by omega)
theorem TF.na {h : MH} {L : PG} (t : TF h L) (i : Int) : hv h (hv h 396 3 + 6) i = pNa L i := t.at 6 i (by omega) (by omega)
theorem TF.ar {h : MH} {L : PG} (t : TF h L) (i : Int) : hv h (hv h 396 3 + 7) i = pAr L i := t.at 7 i (by omega) (by omega)
theorem TF.gi {h : MH} {L : PG} (t : TF h L) (i : Int) : hv h (hv h 396 3 + 8) i = pGi L i := t.at 8 i (by omega) (by omega)
theorem TF.lc {h : MH} {L : PG} (t : TF h L) (i : Int) : hv h (hv h 396 3 + 9) i = pLc L i := t.at 9 i (by omega) (by omega)
theorem TF.de {h : MH} {L : PG} (t : TF h L) (i : Int) : hv h (hv h 396 3 + 11) i = pDe L i := t.at 11 i (by omega) (by omega)
theorem TF.hn {h : MH} {L : PG} (t : TF h L) (i : Int) : hv h (hv h 396 3 + 12) i = pHn L i := t.at 12 i (by omega) (by omega)
theorem TF.co {h : MH} {L : PG} (t : TF h L) (i : Int) : hv h (hv h 396 3 + 14) i = pCo L i := t.at 14 i (by omega) (by omega)
theorem TF.fi {h : MH} {L : PG} (t : TF h L) (i : Int) : hv h (hv h 396 3 + 15) i = pFi L i := t.at 15 i (by omega) (by omega)
theorem TF.op {h : MH} {L : PG} (t : TF h L) (i : Int) : hv h (hv h 396 3 + 19) i = pOp L i := t.at 19 i (by omega) (by omega)
theorem TF.x {h : MH} {L : PG} (t : TF h L) (i : Int) : hv h (hv h 396 3 + 20) i = pX L i := t.at 20 i (by omega) (by omega)
theorem TF.y {h : MH} {L : PG} (t : TF h L) (i : Int) : hv h (hv h 396 3 + 21) i = pY L i := t.at 21 i (by omega) (by omega)
theorem TF.z {h : MH} {L : PG} (t : TF h L) (i : Int) : hv h (hv h 396 3 + 22) i = pZ L i := t.at 22 i (by omega) (by omega)
theorem TF.mo {h : MH} {L : PG} (t : TF h L) (i : Int) : hv h (hv h 396 3 + 24) i = pMo L i := t.at 24 i (by omega) (by omega)
theorem TF.si {h : MH} {L : PG} (t : TF h L) (i : Int) : hv h (hv h 396 3 + 25) i = pSi L i := t.at 25 i (by omega) (by omega)
theorem TF.ss {h : MH} {L : PG} (t : TF h L) (i : Int) : hv h (hv h 396 3 + 26) i = pSc L i := t.at 26 i (by omega) (by omega)
theorem TF.dp {h : MH} {L : PG} (t : TF h L) (i : Int) : hv h (hv h 396 3 + 27) i = pDp L i := t.at 27 i (by omega) (by omega)
theorem TF.ki {h : MH} {L : PG} (t : TF h L) (i : Int) : hv h (hv h 396 3 + 28) i = pKi L i := t.at 28 i (by omega) (by omega)
theorem TF.ncl {h : MH} {L : PG} (t : TF h L) : hv h (hv h 396 3) 0 = pCl L := t.sc 0
theorem TF.nns {h : MH} {L : PG} (t : TF h L) : hv h (hv h 396 3) 1 = pNs L := t.sc 1
theorem TF.nnm {h : MH} {L : PG} (t : TF h L) : hv h (hv h 396 3) 6 = pNm L := t.sc 6
theorem TF.nnp {h : MH} {L : PG} (t : TF h L) : hv h (hv h 396 3) 21 = pNp L := t.sc 21
theorem TF.nnt {h : MH} {L : PG} (t : TF h L) : hv h (hv h 396 3) 30 = pNt L := t.sc 30
theorem TF.of {h h' : MH} {L : PG} (t : TF h L) (e3 : hv h' 396 3 = hv h 396 3) (e : ∀ a j, 398 ≤ a → a ≤ 455 → hv h' a j = hv h a j) : TF h' L := by
  refine ⟨by rw [e3]; exact t.1, fun o i h0 h1 => ?_⟩
  rw [e3, e _ _ (by rcases t.1 with q | q <;> omega) (by rcases t.1 with q | q <;> omega)]
  exact t.2 o i h0 h1
theorem b01 {P : Prop} [Decidable P] : (if P then 1 else 0 : Int) = 0 ∨ (if P then 1 else 0 : Int) = 1 := by split <;> simp
theorem t_isBelow {l : Launch} {G : JG} (hG : gO G = true) {h : MH} {L : PG} (tf : TF h L) (w : WF L) {c d : Int} (h0 : 0 ≤ c) (h1 : c < 24) {Q : Int → MH → Prop} {E : Nat → Int → MH → Prop} (hQ : Q (if blw L 30 c d = true then 1 else 0) h) : S_X9_isBelow l G [(2009, 396), (0, c), (0, d)] h Q E := by
  refine s_X9_isBelow rfl fun K ki => r_X9_isBelow_0 ki hG ?_
  intro x e; subst e
  have key : ∀ n : Nat, ∀ v : Int, v.toNat ≤ n → 0 ≤ v → v < 24 → blw L 30 x d = blw L 30 v d → JW K 2 [(2009, 396), (0, x), (0, d), (0, v)] [] h := by
    intro n
    induction n with
    | zero =>
      intro v a1 a2 a3 a4
      have e : v = 0 := by omega
      subst e
      refine r_X9_isBelow_2 ki hG ⟨fun q => by omega, fun q => ⟨b01, ?_⟩⟩
      rw [a4, blw_step w (by omega)] at hQ
      by_cases z : (0 : Int) = d
      · simpa [z] using hQ
      · simpa [z] using hQ
    | succ n ih =>
      intro v a1 a2 a3 a4
      refine r_X9_isBelow_2 ki hG ⟨fun q => ⟨tf.ne, a2, a3, ?_⟩, fun q => ⟨b01, ?_⟩⟩
      · intro y e
        have pc := w.c.2.1 v (by omega) a3
        rw [tf.pa v] at e
        subst e
        refine ih _ (by omega) (by omega) (by omega) ?_
        rw [a4, blw_step w a3, if_neg q.1, if_neg (by omega)]
      · rw [a4, blw_step w a3] at hQ
        by_cases z : v = d
        · simpa [z] using hQ
        · rw [if_neg z, if_pos (show v ≤ 0 by omega)] at hQ
          simpa [z] using hQ
  exact key _ x (Nat.le_refl _) h0 h1 rfl
theorem t_isArray {l : Launch} {G : JG} (hG : gO G = true) {h : MH} {L : PG} (tf : TF h L) {s : Int} (h0 : 0 ≤ s) (h1 : s < 63) {Q : Int → MH → Prop} {E : Nat → Int → MH → Prop} (hQ : Q (if pSc L s < 0 then 1 else 0) h) : S_X9_isArray l G [(2009, 396), (0, s)] h Q E := by
  refine s_X9_isArray rfl fun K ki => r_X9_isArray_0 ki hG ⟨tf.ne, h0, h1, b01, ?_⟩
  rw [tf.ss s]; exact hQ
theorem t_isOf {l : Launch} {G : JG} (hG : gO G = true) {h : MH} {L : PG} (tf : TF h L) (w : WF L) {s c : Int} (h0 : 1 ≤ s) (h1 : s < pNt L) {Q : Int → MH → Prop} {E : Nat → Int → MH → Prop} (hQ : Q (if isOf L s c = true then 1 else 0) h) : S_X9_isOf l G [(2009, 396), (0, s), (0, c)] h Q E := by
  have nn := w.n
  unfold WFn at nn
  have sc := w.sc h0 h1
  refine s_X9_isOf rfl fun K ki => r_X9_isOf_0 ki hG (t_isArray hG tf (by omega) (by omega) ?_)
  unfold isOf at hQ
  by_cases z : pSc L s < 0
  · rw [if_pos z] at hQ ⊢
    refine ⟨fun q => by omega, fun _ => ⟨b01, ?_⟩⟩
    simpa using hQ
  · rw [if_neg z] at hQ ⊢
    refine ⟨fun _ => ⟨tf.ne, by omega, by omega, ?_⟩, fun q => by omega⟩
    rw [tf.ss s]
    exact t_isBelow hG tf w (by omega) (by omega) ⟨b01, hQ⟩
/-- the sites of some that have a property, from those below n -/
def flt (p : Int → Bool) (a : Int) (n x : Int) : Prop := c64 a ∧ ∀ i : Int, 0 ≤ i → bl a i = (decide (1 ≤ i ∧ i < n) && bl x i && p i)
theorem flt_step {p : Int → Bool} {a n x b : Int} (h0 : 1 ≤ n) (h1 : n < 63) (h : flt p a n x) (hb : c64 b) (e : ∀ i : Int, 0 ≤ i → bl b i = (decide (i = n) && bl x i && p i)) : flt p (l_or a b) (n + 1) x := by
  refine ⟨c64_l_or _ _, fun i hi => ?_⟩
  rw [bl_or, h.2 i hi, e i hi]
  by_cases c : i = n
  · subst c
    rw [decide_eq_false (show ¬ (1 ≤ i ∧ i < i) by omega), decide_eq_true (show 1 ≤ i ∧ i < i + 1 by omega)]; simp
  · have c1 : decide (i = n) = false := by simpa using c
    have c2 : decide (1 ≤ i ∧ i < n + 1) = decide (1 ≤ i ∧ i < n) := by
      apply decide_eq_decide.mpr; omega
    rw [c1, c2]; simp
theorem flt_one {p : Int → Bool} {a b x : Int} (ha : flt p a 63 x) (hb : flt p b 63 x) : a = b :=
  bl_ext ha.1 hb.1 (fun s h0 h1 => by rw [ha.2 s h0, hb.2 s h0])
theorem c64_ite {P : Prop} [Decidable P] {a b : Int} (ha : c64 a) (hb : c64 b) : c64 (if P then a else b) := by split <;> assumption
/-- sites below what there are -/
def sok (L : PG) (x : Int) : Prop := c64 x ∧ ∀ i : Int, 0 ≤ i → bl x i = true → i < pNt L
theorem t_of {l : Launch} {G : JG} (hG : gO G = true) {h : MH} {L : PG} (tf : TF h L) (w : WF L) {x c : Int} (hx : sok L x) {Q : Int → MH → Prop} {E : Nat → Int → MH → Prop} (hQ : ∀ a, flt (fun s => isOf L s c) a 63 x → Q a h) : S_X9_of l G [(2009, 396), (1, x), (0, c)] h Q E := by
  have nn := w.n
  unfold WFn at nn
  refine s_X9_of rfl fun K ki => r_X9_of_0 ki hG ?_
  intro a ea n en; subst ea; subst en
  have key : ∀ m : Nat, ∀ a n : Int, (63 - n).toNat ≤ m → 1 ≤ n → n ≤ 63 → flt (fun s => isOf L s c) a n x → JW K 6 [(2009, 396), (1, x), (5000, 0), (0, c), (1, a), (5000, 0), (0, n)] [] h := by
    intro m
    induction m with
    | zero =>
      intro a n b1 b2 b3 b4
      refine r_X9_of_6 ki hG ⟨fun q => hQ a ?_, fun q => by omega⟩
      rw [show (63 : Int) = n by omega]; exact b4
    | succ m ih =>
      intro a n b1 b2 b3 b4
      refine r_X9_of_6 ki hG ⟨fun q => hQ a ?_, fun q => ⟨?_, ?_⟩⟩
      · rw [show (63 : Int) = n by omega]; exact b4
      · intro z a' ea n' en
        rw [lc_eq, l_bit (by omega) (by omega)] at z
        have zb : bl x n = false := by cases r : bl x n <;> simp_all
        subst ea; subst en
        rw [w32_i (by omega) (by omega)]
        refine ih _ _ (by omega) (by omega) (by omega) (flt_step b2 q b4 (by unfold c64; omega) (fun i hi => ?_))
        rw [bl_zero]
        by_cases e : i = n
        · subst e; rw [zb]; simp
        · simp [e]
      · intro z
        rw [lc_eq, l_bit (by omega) (by omega)] at z
        have zb : bl x n = true := by cases r : bl x n <;> simp_all
        have := hx.2 n (by omega) zb
        refine t_isOf hG tf w b2 this ?_
        intro a' ea n' en
        subst ea; subst en
        rw [w32_i (by omega) (by omega)]
        refine ih _ _ (by omega) (by omega) (by omega) (flt_step b2 q b4 (c64_ite (by unfold c64; omega) (c64_l_shl _ _)) (fun i hi => ?_))
        cases r : isOf L n c
        · simp [bl_zero]
          intro e; subst e; simp [r]
        · simp [bl_shl (show 0 ≤ n by omega) (show n < 64 by omega) hi]
          by_cases e : i = n
          · subst e; simp [r, zb]
          · simp [e]
  refine key _ _ _ (Nat.le_refl _) (by omega) (by omega) ⟨by unfold c64; omega, fun i hi => ?_⟩
  rw [bl_zero, decide_eq_false (by omega)]; rfl
theorem t_arrays {l : Launch} {G : JG} (hG : gO G = true) {h : MH} {L : PG} (tf : TF h L) (w : WF L) {x c : Int} (hc : 0 ≤ c ∧ c ≤ 2) {Q : Int → MH → Prop} {E : Nat → Int → MH → Prop} (hQ : ∀ a, flt (fun s => decide (pSc L s < 0 ∧ (c = 2 ∨ pSc L s = -1 - c))) a 63 x → Q a h) : S_X9_arrays l G [(2009, 396), (1, x), (0, c)] h Q E := by
  refine s_X9_arrays rfl fun K ki => r_X9_arrays_0 ki hG ?_
  intro a ea n en; subst ea; subst en
  have key : ∀ m : Nat, ∀ a n : Int, (63 - n).toNat ≤ m → 1 ≤ n → n ≤ 63 → flt (fun s => decide (pSc L s < 0 ∧ (c = 2 ∨ pSc L s = -1 - c))) a n x → JW K 6 [(2009, 396), (1, x), (5000, 0), (0, c), (1, a), (5000, 0), (0, n)] [] h := by
    intro m
    induction m with
    | zero =>
      intro a n b1 b2 b3 b4
      refine r_X9_arrays_6 ki hG ⟨fun q => hQ a ?_, fun q => by omega⟩
      rw [show (63 : Int) = n by omega]; exact b4
    | succ m ih =>
      intro a n b1 b2 b3 b4
      refine r_X9_arrays_6 ki hG ⟨fun q => hQ a ?_, fun q => ⟨?_, ?_⟩⟩
      · rw [show (63 : Int) = n by omega]; exact b4
      · intro z a' ea n' en
        rw [lc_eq, l_bit (by omega) (by omega)] at z
        have zb : bl x n = false := by cases r : bl x n <;> simp_all
        subst ea; subst en
        rw [w32_i (by omega) (by omega)]
        refine ih _ _ (by omega) (by omega) (by omega) (flt_step b2 q b4 (by unfold c64; omega) (fun i hi => ?_))
        rw [bl_zero]
        by_cases e : i = n
        · subst e; rw [zb]; simp
        · simp [e]
      · intro z
        rw [lc_eq, l_bit (by omega) (by omega)] at z
        have zb : bl x n = true := by cases r : bl x n <;> simp_all
        refine t_isArray hG tf (by omega) q ⟨fun _ _ => ⟨tf.ne, by omega, q⟩, ?_⟩
        intro a' ea n' en
        rw [tf.ss n, w32_i (by omega) (by omega)] at ea
        rw [w32_i (by omega) (by omega)] at en
        subst en
        have sh : ∀ i : Int, 0 ≤ i → bl (l_shl 1 n) i = decide (i = n) := fun i hi => bl_shl (by omega) (by omega) hi
        have ea' : a' = l_or a (if pSc L n < 0 ∧ (c = 2 ∨ pSc L n = -1 - c) then l_shl 1 n else 0) := by
          rw [ea]; congr 1
          by_cases z1 : pSc L n < 0
          · by_cases z2 : c = 2
            · simp [z1, z2]
            · simp [z1, z2]
          · simp [z1]
        rw [ea']
        refine ih _ _ (by omega) (by omega) (by omega) (flt_step b2 q b4 (by split; exact c64_l_shl _ _; (unfold c64; omega)) (fun i hi => ?_))
        by_cases r : pSc L n < 0 ∧ (c = 2 ∨ pSc L n = -1 - c)
        · rw [if_pos r, sh i hi]
          by_cases e : i = n
          · subst e; simp [r, zb]
          · simp [e]
        · rw [if_neg r, bl_zero]
          by_cases e : i = n
          · subst e; simp only [decide_true, Bool.true_and, decide_eq_false r, Bool.and_false]
          · simp [e]
  refine key _ _ _ (Nat.le_refl _) (by omega) (by omega) ⟨by unfold c64; omega, fun i hi => ?_⟩
  rw [bl_zero, decide_eq_false (by omega)]; rfl
theorem t_sentTo {l : Launch} {G : JG} (hG : gO G = true) {h : MH} {L : PG} (tf : TF h L) (w : WF L) {s nm : Int} (h0 : 1 ≤ s) (h1 : s < pNt L) {Q : Int → MH → Prop} {E : Nat → Int → MH → Prop} (hQ : Q (sent L s nm) h) : S_X9_sentTo l G [(2009, 396), (0, s), (0, nm)] h Q E := by
  have nn := w.n
  unfold WFn at nn
  have sc := w.sc h0 h1
  refine s_X9_sentTo rfl fun K ki => r_X9_sentTo_0 ki hG (t_isArray hG tf (by omega) (by omega) ⟨fun _ => ⟨tf.ne, by omega, by omega⟩, ?_⟩)
  intro c0 ec0
  have ec : c0 = if pSc L s < 0 then 0 else pSc L s := by
    rw [ec0, tf.ss s]
    by_cases z : pSc L s < 0
    · simp [z]
    · simp [z]
  have hQ' : Q (sto L nm 30 c0) h := by rw [ec]; exact hQ
  have c24 : c0 < 24 ∧ 0 ≤ c0 := by rw [ec]; split <;> omega
  clear hQ ec0 ec
  -- classes upwards
  have key : ∀ n : Nat, ∀ c : Int, c.toNat < n → c < 24 → 0 ≤ c → Q (sto L nm 30 c) h → JW K 22 [(2009, 396), (0, s), (0, nm), (0, c), (5000, 0)] [] h := by
    intro n
    induction n with
    | zero => intro c b1; omega
    | succ n ih =>
      intro c b1 b2 b3 b4
      refine r_X9_sentTo_22 ki hG ⟨fun q => by omega, fun _ => ?_⟩
      intro x4 e4; subst e4
      rw [sto_step w nm b2] at b4
      have key2 : ∀ n2 : Nat, ∀ m : Int, (pNm L - m).toNat ≤ n2 → 0 ≤ m → m ≤ pNm L → frm (owns L c nm) (pNm L).toNat 0 = frm (owns L c nm) (pNm L - m).toNat m → JW K 29 [(2009, 396), (0, s), (0, nm), (0, c), (0, m)] [] h := by
        have last : frm (owns L c nm) (pNm L).toNat 0 = -1 → ∀ x3 : Int, x3 = hv h (hv h 396 3 + 2) c → JW K 22 [(2009, 396), (0, s), (0, nm), (0, x3), (5000, 0)] [] h := by
          intro e x3 e3
          rw [e, if_neg (by omega)] at b4
          rw [tf.pa c] at e3
          subst e3
          by_cases z : c ≤ 0
          · have : c = 0 := by omega
            subst this
            rw [if_pos (by omega)] at b4
            rw [show pPa L 0 = -1 from w.c.1]
            exact r_X9_sentTo_22 ki hG ⟨fun _ => b4, fun q => by omega⟩
          · rw [if_neg z] at b4
            have pc := w.c.2.1 c (by omega) b2
            exact ih _ (by omega) (by omega) (by omega) b4
        intro n2
        induction n2 with
        | zero =>
          intro m d1 d2 d3 d4
          refine r_X9_sentTo_29 ki hG ⟨tf.ne, fun q => ⟨tf.ne, b3, b2, ?_⟩, fun q => ?_⟩
          · exact last (by rw [d4]; exact frm_end _ (by omega))
          · rw [tf.nnm] at q; omega
        | succ n2 ih2 =>
          intro m d1 d2 d3 d4
          refine r_X9_sentTo_29 ki hG ⟨tf.ne, fun q => ⟨tf.ne, b3, b2, ?_⟩, fun q => ⟨tf.ne, d2, by rw [tf.nnm] at q; omega, fun _ => ⟨tf.ne, d2, by rw [tf.nnm] at q; omega⟩, ?_, ?_⟩⟩
          · rw [tf.nnm] at q
            exact last (by rw [d4]; exact frm_end _ (by omega))
          · rw [tf.nnm] at q
            rw [tf.ow m, tf.na m]
            intro z
            have : owns L c nm m = true := by unfold owns; simp [z.1, z.2]
            rw [d4, frm_step _ (by omega), if_pos this, if_pos d2] at b4
            exact b4
          · rw [tf.nnm] at q
            rw [tf.ow m, tf.na m]
            intro z x5 e5
            rw [w32_i (by omega) (by omega)] at e5
            subst e5
            refine ih2 _ (by omega) (by omega) (by omega) ?_
            rw [d4, frm_step _ (by omega), if_neg]
            unfold owns
            simp
            exact fun a b => z ⟨a, b⟩
      exact key2 _ 0 (Nat.le_refl _) (by omega) (by omega) (by simp)
  exact key _ c0 (Nat.lt_succ_self _) c24.1 c24.2 hQ'
theorem frm_back (p : Int → Bool) (n : Nat) {k v : Int} (h0 : 0 ≤ k) (h1 : (k.toNat) < n) (hv : v = frm p (n - (k.toNat + 1)) (k + 1)) : (if p k = true then k else v) = frm p (n - k.toNat) k := by
  have e : n - k.toNat = (n - (k.toNat + 1)) + 1 := by omega
  rw [e, hv]; rfl
theorem t_withName {l : Launch} {G : JG} (hG : gO G = true) {h : MH} {L : PG} {A : Int} (hA : A ≠ 0) (tf : ∀ o i, 0 ≤ o → o ≤ 28 → hv h (A + o) i = L o i) (hn0 : 0 ≤ pNm L) (hn1 : pNm L ≤ 40) {nm : Int} {Q : Int → MH → Prop} {E : Nat → Int → MH → Prop} (hQ : Q (wnm L nm) h) : S_X9_withName l G [(14, A), (0, nm)] h Q E := by
  have t6 : hv h A 6 = pNm L := by have := tf 0 6 (by omega) (by omega); rwa [Int.add_zero] at this
  refine s_X9_withName rfl fun K ki => r_X9_withName_0 ki hG ?_
  intro x2 e2
  refine ⟨hA, ?_⟩
  intro x3 e3
  rw [t6, w32_i (by omega) (by omega)] at e3
  have key : ∀ n : Nat, ∀ k v : Int, (k + 1).toNat ≤ n → k < pNm L → -1 ≤ k → v = frm (fun m => !decide (pOw L m = 255) && decide (pNa L m = nm)) ((pNm L).toNat - (k + 1).toNat) (k + 1) → JW K 9 [(14, A), (0, nm), (0, v), (0, k)] [] h := by
    intro n
    induction n with
    | zero =>
      intro k v b1 b2 b3 b4
      have e : k = -1 := by omega
      subst e
      refine r_X9_withName_9 ki hG ⟨fun _ => ?_, fun q => by omega⟩
      rw [b4]
      exact hQ
    | succ n ih =>
      intro k v b1 b2 b3 b4
      refine r_X9_withName_9 ki hG ⟨fun q => ?_, fun q => ⟨hA, q, by omega, fun _ => ⟨hA, q, by omega⟩, ?_⟩⟩
      · have e : k = -1 := by omega
        subst e
        rw [b4]
        exact hQ
      · intro v' ev k' ek
        rw [tf 5 k (by omega) (by omega), tf 6 k (by omega) (by omega)] at ev
        rw [w32_i (by omega) (by omega)] at ek
        subst ek
        refine ih _ _ (by omega) (by omega) (by omega) ?_
        have fb := frm_back (fun m => !decide (pOw L m = 255) && decide (pNa L m = nm)) (pNm L).toNat (k := k) (v := v) q (by omega) (by rw [b4]; congr 2; omega)
        rw [show k + -1 + 1 = k by omega, ← fb, ev]
        by_cases z1 : L 5 k = 255
        · simp [z1]
        · by_cases z2 : L 6 k = nm
          · simp [z1, z2]
          · simp [z1, z2]
  subst e2; subst e3
  refine key _ _ _ (Nat.le_refl _) (by omega) (by omega) ?_
  rw [show (pNm L).toNat - (pNm L - 1 + 1).toNat = 0 by omega]; rfl
theorem t_handlerOf {l : Launch} {G : JG} (hG : gO G = true) {h : MH} {L : PG} (tf : TF h L) (w : WF L) {k s : Int} (k0 : 0 ≤ k) (k1 : k < pNp L) (h0 : 1 ≤ s) (h1 : s < pNt L) {Q : Int → MH → Prop} {E : Nat → Int → MH → Prop} (hQ : Q (hnd L k s) h) : S_X9_handlerOf l G [(2009, 396), (0, k), (0, s)] h Q E := by
  have nn := w.n
  unfold WFn at nn
  obtain ⟨mk, -⟩ := w.k k0 k1
  have wm := w.m mk.1 mk.2.1
  refine s_X9_handlerOf rfl fun K ki => r_X9_handlerOf_0 ki hG ⟨tf.ne, k0, by omega, ?_⟩
  intro m em
  rw [tf.mo k] at em
  subst em
  refine ⟨tf.ne, by omega, by omega, ?_⟩
  obtain ⟨-, -, -, -, -, -, -, -, -, -, -, -, -, hn0, hn1, -, -, fi0, -, -, -, hh⟩ := wm
  intro i ei
  rw [tf.fi, w32_i (by omega) (by omega)] at ei
  subst ei
  intro j0 ej0; subst ej0
  have key : ∀ n : Nat, ∀ j : Int, (pHn L (pMo L k) - j).toNat ≤ n → 0 ≤ j → j ≤ pHn L (pMo L k) → hnd L k s = frm (fun h => decide (pHa L (pMo L k) h 0 ≤ k - pFi L (pMo L k)) && decide (k - pFi L (pMo L k) < pHa L (pMo L k) h 1) && isOf L s (pHa L (pMo L k) h 3)) (pHn L (pMo L k) - j).toNat j → JW K 26 [(2009, 396), (0, k), (0, s), (0, pMo L k), (0, k - pFi L (pMo L k)), (0, j), (5000, 0)] [] h := by
    intro n
    induction n with
    | zero =>
      intro j b1 b2 b3 b4
      refine r_X9_handlerOf_26 ki hG ⟨tf.ne, by omega, by omega, fun q => ?_, fun q => ?_⟩
      · rw [b4, frm_end _ (by omega)] at hQ; exact hQ
      · rw [tf.hn] at q; omega
    | succ n ih =>
      intro j b1 b2 b3 b4
      refine r_X9_handlerOf_26 ki hG ⟨tf.ne, by omega, by omega, fun q => ?_, fun q => ?_⟩
      · rw [tf.hn] at q
        rw [b4, frm_end _ (by omega)] at hQ; exact hQ
      · rw [tf.hn] at q
        have hj := hh j b2 q
        intro x6 e6
        rw [w32_i (z := 16 * pMo L k) (by omega) (by omega), w32_i (z := 4 * j) (by omega) (by omega), w32_i (by omega) (by omega)] at e6
        have c0 : L 13 x6 = pHa L (pMo L k) j 0 := by rw [show x6 = 16 * pMo L k + 4 * j + 0 by omega]
        have c1 : L 13 (x6 + 1) = pHa L (pMo L k) j 1 := by rw [show x6 + 1 = 16 * pMo L k + 4 * j + 1 by omega]
        have c3 : L 13 (x6 + 3) = pHa L (pMo L k) j 3 := by rw [show x6 + 3 = 16 * pMo L k + 4 * j + 3 by omega]
        refine ⟨tf.ne, by omega, by omega, fun _ => ⟨tf.ne, by rw [w32_i (by omega) (by omega)]; omega, by rw [w32_i (by omega) (by omega)]; omega⟩, ?_, ?_⟩
        · rw [w32_i (z := x6 + 1) (by omega) (by omega), w32_i (z := x6 + 3) (by omega) (by omega), tf.at 13 x6 (by omega) (by omega), tf.at 13 (x6 + 1) (by omega) (by omega), c0, c1]
          intro z
          refine ⟨tf.ne, by omega, by omega, ?_⟩
          rw [tf.at 13 (x6 + 3) (by omega) (by omega), c3]
          refine t_isOf hG tf w h0 h1 ?_
          rw [frm_step _ q] at b4
          cases r : isOf L s (pHa L (pMo L k) j 3)
          · refine ⟨fun _ => ?_, fun y => by simp at y⟩
            intro x5 e5
            rw [w32_i (by omega) (by omega)] at e5
            subst e5
            rw [if_neg (by simp [r])] at b4
            exact ih _ (by omega) (by omega) (by omega) b4
          · refine ⟨fun y => by simp at y, fun _ => ?_⟩
            rw [if_pos (by simp [r, z.1, z.2])] at b4
            rw [b4] at hQ; exact hQ
        · rw [w32_i (z := x6 + 1) (by omega) (by omega), tf.at 13 x6 (by omega) (by omega), tf.at 13 (x6 + 1) (by omega) (by omega), c0, c1]
          intro z x5 e5
          rw [w32_i (by omega) (by omega)] at e5
          subst e5
          refine ih _ (by omega) (by omega) (by omega) ?_
          rw [frm_step _ q] at b4
          rw [b4, if_neg]
          intro y
          apply z
          simp at y
          exact ⟨y.1.1, y.1.2⟩
  refine key _ 0 (Nat.le_refl _) (by omega) (by omega) ?_
  unfold hnd
  rw [show pHn L (pMo L k) - 0 = pHn L (pMo L k) by omega]
/-! marks -/
theorem i_shr_d {a s : Int} (ha : c32 a) (h0 : 0 ≤ s) (h1 : s < 32) : i_shr a s = a / 2 ^ s.toNat := by
  rw [i_shr_v h0 h1, BitVec.toInt_sshiftRight, Int.shiftRight_eq_div_pow]
  congr 1
  exact w32_id ha
def MK (h : MH) (L : PG) : Prop := 1 ≤ hv h 396 16 ∧ hv h 396 16 ≤ 9000 ∧ (∀ i j, 0 ≤ i → i < j → j < hv h 396 16 → hv h 459 i < hv h 459 j) ∧ (∀ i, 0 ≤ i → i < hv h 396 16 → isMk L (hv h 459 i)) ∧ (∀ v, isMk L v → ∃ i, 0 ≤ i ∧ i < hv h 396 16 ∧ hv h 459 i = v)
theorem MK.of {h h' : MH} {L : PG} (t : MK h L) (e : hv h' 396 16 = hv h 396 16) (e2 : ∀ j, hv h' 459 j = hv h 459 j) : MK h' L := by
  unfold MK at *
  simp only [e, e2]
  exact t
theorem mk_lo {L : PG} (w : WF L) {v : Int} (h : isMk L v) : -2147483648 ≤ v := by
  rcases h with h | h | h | h | h | h | ⟨k, k0, k1, q⟩
  all_goals try omega
  obtain ⟨-, -, -, y, -⟩ := w.k k0 k1
  omega
theorem MK.min {h : MH} {L : PG} (w : WF L) (t : MK h L) : hv h 459 0 = -2147483648 := by
  obtain ⟨i, i0, i1, e⟩ := t.2.2.2.2 _ (Or.inl rfl)
  by_cases z : i = 0
  · rw [← e, z]
  · have h1 := t.2.2.1 0 i (by omega) (by omega) i1
    have h2 := t.2.2.2.1 0 (by omega) (by omega)
    have h3 := mk_lo w h2
    omega
theorem t_markFor {l : Launch} {G : JG} (hG : gO G = true) {h : MH} {L : PG} (w : WF L) (mk : MK h L) {v : Int} (hv' : c32 v) {Q : Int → MH → Prop} {E : Nat → Int → MH → Prop} (hQ : ∀ a, 0 ≤ a → a < hv h 396 16 → hv h 459 a ≤ v → (a + 1 = hv h 396 16 ∨ v < hv h 459 (a + 1)) → Q a h) : S_X9_markFor l G [(2009, 396), (0, v)] h Q E := by
  refine s_X9_markFor rfl fun K ki => r_X9_markFor_0 ki hG ?_
  intro a ea b eb
  have m0 := mk.1
  have m1 := mk.2.1
  have key : ∀ n : Nat, ∀ a b : Int, (b - a).toNat ≤ n → 0 ≤ a → a < b → b ≤ hv h 396 16 → hv h 459 a ≤ v → (b = hv h 396 16 ∨ v < hv h 459 b) → JW K 7 [(2009, 396), (0, v), (0, a), (0, b), (5000, 0)] [] h := by
    intro n
    induction n with
    | zero => intro a b d1 d2 d3; omega
    | succ n ih =>
      intro a b d1 d2 d3 d4 d5 d6
      refine r_X9_markFor_7 ki hG ⟨fun q => ?_, fun q => ?_⟩
      · rw [w32_i (by omega) (by omega)] at q
        exact hQ a d2 (by omega) d5 (by rw [show a + 1 = b by omega]; exact d6)
      · rw [w32_i (by omega) (by omega)] at q
        intro x ex
        rw [w32_i (by omega) (by omega), i_shr_d (by unfold c32; omega) (by omega) (by omega), show (2 : Int) ^ (1 : Int).toNat = 2 by decide] at ex
        refine ⟨by omega, by omega, fun r => ?_, fun r => ?_⟩
        · intro x2 e2; subst e2
          exact ih _ _ (by omega) (by omega) (by omega) d4 r d6
        · intro x3 e3; subst e3
          exact ih _ _ (by omega) d2 (by omega) (by omega) d5 (Or.inr r)
  subst ea; subst eb
  exact key _ _ _ (Nat.le_refl _) (by omega) (by omega) (by omega) (by rw [MK.min w mk]; exact hv'.1) (Or.inl rfl)
theorem t_downTo {l : Launch} {G : JG} (hG : gO G = true) {h : MH} {L : PG} (w : WF L) (mk : MK h L) {v : Int} (hv' : c32 v) {Q : Int → MH → Prop} {E : Nat → Int → MH → Prop} (hQ : Q (dn L v) h) : S_X9_downTo l G [(2009, 396), (0, v)] h Q E := by
  refine s_X9_downTo rfl fun K ki => r_X9_downTo_0 ki hG (t_markFor hG w mk hv' ?_)
  intro a a0 a1 a2 a3
  have m1 := mk.2.1
  refine ⟨a0, by omega, ?_⟩
  have : isDn L v (hv h 459 a) := by
    refine ⟨mk.2.2.2.1 a a0 a1, a2, fun u u1 u2 => ?_⟩
    obtain ⟨i, i0, i1, e⟩ := mk.2.2.2.2 u u1
    by_cases z : i ≤ a
    · by_cases z2 : i = a
      · rw [← e, z2]; exact Int.le_refl _
      · have := mk.2.2.1 i a i0 (by omega) a1; omega
    · rcases a3 with q | q
      · omega
      · by_cases z2 : i = a + 1
        · rw [← z2] at q; omega
        · have := mk.2.2.1 (a + 1) i (by omega) (by omega) i1; omega
  rw [← dn_eq this]; exact hQ
theorem t_upTo {l : Launch} {G : JG} (hG : gO G = true) {h : MH} {L : PG} (w : WF L) (mk : MK h L) {v : Int} (hv' : c32 v) {Q : Int → MH → Prop} {E : Nat → Int → MH → Prop} (hQ : Q (upm L v) h) : S_X9_upTo l G [(2009, 396), (0, v)] h Q E := by
  refine s_X9_upTo rfl fun K ki => r_X9_upTo_0 ki hG (t_markFor hG w mk hv' ?_)
  intro a a0 a1 a2 a3 x ex
  subst ex
  have m1 := mk.2.1
  have nxt : hv h 459 x < v → x + 1 < hv h 396 16 ∧ v < hv h 459 (x + 1) := by
    intro q
    rcases a3 with r | r
    · obtain ⟨i, i0, i1, e⟩ := mk.2.2.2.2 _ (Or.inr (Or.inl rfl))
      by_cases z : i = x
      · rw [z] at e; have := hv'.2; omega
      · have := mk.2.2.1 i x i0 (by omega) a1
        have := hv'.2; omega
    · refine ⟨?_, r⟩
      by_cases z : x + 1 < hv h 396 16
      · exact z
      · obtain ⟨i, i0, i1, e⟩ := mk.2.2.2.2 _ (Or.inr (Or.inl rfl))
        by_cases z : i = x
        · rw [z] at e; have := hv'.2; omega
        · have := mk.2.2.1 i x i0 (by omega) a1
          have := hv'.2; omega
  refine ⟨a0, by omega, fun _ => ⟨a0, by omega⟩, fun q => by rw [w32_i (by omega) (by omega)]; have := nxt q; omega, ?_⟩
  by_cases q : hv h 459 x < v
  · rw [if_pos q, w32_i (by omega) (by omega)]
    obtain ⟨n1, n2⟩ := nxt q
    have : isUp L v (hv h 459 (x + 1)) := by
      refine ⟨mk.2.2.2.1 _ (by omega) n1, by omega, fun u u1 u2 => ?_⟩
      obtain ⟨i, i0, i1, e⟩ := mk.2.2.2.2 u u1
      by_cases z : i ≤ x
      · by_cases z2 : i = x
        · rw [z2] at e; omega
        · have := mk.2.2.1 i x i0 (by omega) a1; omega
      · by_cases z2 : i = x + 1
        · rw [← e, z2]; exact Int.le_refl _
        · have := mk.2.2.1 (x + 1) i (by omega) (by omega) i1; omega
    rw [← up_eq this]; exact hQ
  · rw [if_neg q]
    have e : hv h 459 x = v := by omega
    have : isUp L v (hv h 459 x) := ⟨mk.2.2.2.1 _ a0 a1, by omega, fun u _ u2 => by omega⟩
    rw [← up_eq this]; exact hQ
