/-! Part 38h: layRounded, reckon, cut -/
theorem t_layRounded {l : Launch} {G : JG} (hG : gO G = true) {L : PG} (w : WF L) {m : Int} {h : MH} (mk : MK h L) {a b c : Int} (hab : a ≤ b) {X : Int → FA} {lk : FA} {dp : Int} (cu : cur L m h X lk dp) (h0 : 0 ≤ dp) (h1 : dp < 8) {Q : Int → MH → Prop} {E : Nat → Int → MH → Prop} (hQ : ∀ h', same h h' → cur L m h' (ux X (8 + dp) (rnd L a b c)) lk (dp + 1) → Q 0 h') : S_X9_layRounded l G [(2009, 396), (1, a), (1, b), (0, c)] h Q E := by
  refine s_X9_layRounded rfl fun K ki => r_X9_layRounded_0 ki hG ?_
  intro x ex
  simp only [lc_lt, lc_gt] at ex
  unfold rnd at hQ
  by_cases z : a < -2147483648 ∨ 2147483647 < b
  · have e1 : x = 1 := by
      rw [ex]
      by_cases z1 : a < -2147483648
      · rw [if_pos z1]
      · rw [if_neg z1, if_pos (by omega)]
    rw [if_pos z] at hQ
    refine ⟨fun q => by omega, fun _ => ⟨fun q => by omega, fun _ => t_lay2 hG cu h0 h1 hQ⟩⟩
  · have e1 : x = 0 := by rw [ex, if_neg (by omega), if_neg (by omega)]
    rw [if_neg z] at hQ
    refine ⟨fun _ => ?_, fun q => by omega⟩
    rw [w32_i (z := a) (by omega) (by omega), w32_i (z := b) (by omega) (by omega)]
    refine t_downTo hG w mk ⟨by omega, by omega⟩ ⟨fun _ => ?_, fun q => by omega⟩
    exact t_upTo hG w mk ⟨by omega, by omega⟩ (t_lay2 hG cu h0 h1 hQ)
theorem c32_mul {a b : Int} (ha : c32 a) (hb : c32 b) : -4611686018427387904 ≤ a * b ∧ a * b ≤ 4611686018427387904 := by
  have p := mul_snd (l := -2147483648) (h := 2147483647) (l2 := -2147483648) (h2 := 2147483647) ha.1 ha.2 hb.1 hb.2
  have e1 : mn4 (-2147483648 * -2147483648) (-2147483648 * 2147483647) (2147483647 * -2147483648) (2147483647 * 2147483647) = (-2147483648 * 2147483647 : Int) := by decide
  have e2 : mx4 (-2147483648 * -2147483648) (-2147483648 * 2147483647) (2147483647 * -2147483648) (2147483647 * 2147483647) = (-2147483648 * -2147483648 : Int) := by decide
  rw [e1, e2] at p
  omega
theorem tdiv_bd {a d : Int} (hd : d ≠ 0) {B : Int} (h1 : -B ≤ a) (h2 : a ≤ B) : -B ≤ a.tdiv d ∧ a.tdiv d ≤ B := by
  have k : ∀ d : Int, 0 < d → -B ≤ a.tdiv d ∧ a.tdiv d ≤ B := by
    intro d hd
    by_cases c : 0 ≤ a
    · rw [td_nn c (by omega)]
      have := Nat.div_le_self a.toNat d.toNat
      generalize a.toNat / d.toNat = u at *
      omega
    · have e : a.tdiv d = -((-a).tdiv d) := by rw [Int.neg_tdiv]; omega
      rw [e, td_nn (by omega) (by omega)]
      have := Nat.div_le_self (-a).toNat d.toNat
      generalize (-a).toNat / d.toNat = u at *
      omega
  by_cases c : 0 < d
  · exact k d c
  · have := k (-d) (by omega)
    rw [Int.tdiv_neg] at this
    omega
theorem l_div_t {a d : Int} (ha : c32 a) (hd : c32 d) (h0 : d ≠ 0) : l_div a d = a.tdiv d := by
  unfold l_div
  rw [Int64.toInt_div]
  show ((w64 a).tdiv (w64 d)).bmod _ = _
  rw [w64_id (c32_c64 ha), w64_id (c32_c64 hd)]
  have b := tdiv_bd h0 (a := a) (B := 2147483648) ha.1 (by have := ha.2; omega)
  exact Int.bmod_eq_of_le (by omega) (by omega)
theorem labs_i {x : Int} (h : c32 x) : labs x = iabs x := by
  unfold labs iabs
  split
  · rw [w64_i (by have := h.1; omega) (by have := h.1; omega)]
  · rfl
/-- what reckon leaves -/
theorem t_reckon2 {l : Launch} {G : JG} (hG : gO G = true) {L : PG} (w : WF L) {m op : Int} (hop : 7 ≤ op ∧ op ≤ 11) {h : MH} (mk : MK h L) {X : Int → FA} {lk : FA} {dp : Int} (cu : cur L m h X lk dp) (h0 : 2 ≤ dp) (h1 : dp ≤ 8)
    (oa : fok (X (6 + dp))) (ta : ath (X (6 + dp)) ≠ 0) (ob : fok (X (7 + dp))) (tb : ath (X (7 + dp)) ≠ 0) {Q : Int → MH → Prop} {E : Nat → Int → MH → Prop}
    (hQ1 : ath (rk L op (X (6 + dp)) (X (7 + dp))) ≠ 0 → ∀ h', same h h' → cur L m h' (ux X (6 + dp) (rk L op (X (6 + dp)) (X (7 + dp)))) lk (dp - 1) → Q 1 h')
    (hQ0 : ath (rk L op (X (6 + dp)) (X (7 + dp))) = 0 → ∀ h', same h h' → Q 0 h') : S_X9_reckon l G [(2009, 396), (0, op)] h Q E := by
  obtain ⟨-, a1, a2, a3, -⟩ := fok_there oa ta
  obtain ⟨-, b1', b2, b3, -⟩ := fok_there ob tb
  refine s_X9_reckon rfl fun K ki => r_X9_reckon_0 ki hG (t_pull hG cu (by omega) h1 fun g1 s1 c1 p1 _ => ?_)
  intro x2 e2 x4 e4 x6 e6
  have l2 : x2 = alo (X (7 + dp)) := by rw [e2, ← p1]; rfl
  have hh2 : x4 = ahi (X (7 + dp)) := by rw [e4, ← p1]; rfl
  have lb2 : x6 = alb (X (7 + dp)) := by rw [e6, ← p1]; rfl
  refine ⟨fun _ => ?_, fun q => by omega⟩
  refine t_pull hG c1 (by omega) (by omega) fun g2 s2 c2 p2 _ => ?_
  rw [show 7 + (dp - 1) = 6 + dp by omega] at p2
  intro x7 e7 x9 e9 x10 e10
  have l1 : x7 = alo (X (6 + dp)) := by rw [e7, ← p2]; rfl
  have hh1 : x9 = ahi (X (6 + dp)) := by rw [e9, ← p2]; rfl
  have lb1 : x10 = i_or (alb (X (7 + dp))) (alb (X (6 + dp))) := by rw [e10, lb2, ← p2]; rfl
  clear e2 e4 e6 e7 e9 e10 lb2
  have mk2 : MK g2 L := frA_MK (same_tr s1 s2).1 mk
  -- laying the result
  have fin : ∀ {a b : Int}, a ≤ b → rk L op (X (6 + dp)) (X (7 + dp)) = rnd L a b x10 → S_X9_layRounded l G [(2009, 396), (1, a), (1, b), (0, x10)] g2 (fun _ h12 => ((1 : Int) = 0 ∨ (1 : Int) = 1) ∧ Q 1 h12) E := by
    intro a b hab er
    refine t_layRounded hG w mk2 hab c2 (by omega) (by omega) fun g3 s3 c3 => ⟨Or.inr rfl, ?_⟩
    have tt : ath (rnd L a b x10) ≠ 0 := by unfold rnd; split <;> exact (by decide : (1 : Int) ≠ 0)
    rw [er] at hQ1
    refine hQ1 tt g3 (same_tr (same_tr s1 s2) s3) ?_
    rw [show 8 + (dp - 1 - 1) = 6 + dp by omega, show dp - 1 - 1 + 1 = dp - 1 by omega] at c3
    exact c3
  have rk0 : rk L op (X (6 + dp)) (X (7 + dp)) = if op = 7 then rnd L (x7 + x2) (x9 + x4) x10 else if op = 8 then rnd L (x7 - x4) (x9 - x2) x10
      else if op = 9 then rnd L (mn4 (x7 * x2) (x7 * x4) (x9 * x2) (x9 * x4)) (mx4 (x7 * x2) (x7 * x4) (x9 * x2) (x9 * x4)) x10
      else if x2 = 0 ∧ x4 = 0 then fz else if op = 11 then rnd L (if x7 < 0 then max (1 - max (iabs x2) (iabs x4)) x7 else 0) (if 0 < x9 then min (max (iabs x2) (iabs x4) - 1) x9 else 0) x10
      else rnd L (qlo x7 x9 x2 x4) (qhi x7 x9 x2 x4) x10 := by
    unfold rk
    rw [if_neg (by omega), if_neg (by omega), ← l1, ← hh1, ← l2, ← hh2, ← lb1]
  rw [← l1] at a1 a3
  rw [← hh1] at a2 a3
  rw [← l2] at b1' b3
  rw [← hh2] at b2 b3
  clear l1 hh1 l2 hh2 lb1
  have A1 := a1; have A2 := a2; have B1 := b1'; have B2 := b2
  unfold c32 at A1 A2 B1 B2
  refine ⟨fun q => ?_, fun q => ⟨fun q2 => ⟨fun q3 => ?_, fun q3 => ⟨fun q4 => ?_, fun q4 => ?_⟩⟩, fun q2 => ?_⟩⟩
  · rcases q with q | q
    · rw [if_pos q, if_pos q, w64_i (by omega) (by omega), w64_i (by omega) (by omega)]
      exact fin (by omega) (by rw [rk0, if_pos q])
    · rw [if_neg (by omega), if_neg (by omega), w64_i (by omega) (by omega), w64_i (by omega) (by omega)]
      exact fin (by omega) (by rw [rk0, if_neg (by omega), if_pos q])
  · rw [lc_eq, lc_eq] at q3
    refine ⟨Or.inl rfl, hQ0 ?_ g2 (same_tr s1 s2)⟩
    rw [rk0, if_neg (by omega), if_neg (by omega), if_neg (by omega), if_pos q3]; rfl
  · -- DIV
    rw [lc_eq, lc_eq] at q3
    intro x11 e11 x13 e13 x15 e15
    subst e11; subst e13; subst e15
    have er : rk L op (X (6 + dp)) (X (7 + dp)) = rnd L (qlo x7 x9 x2 x4) (qhi x7 x9 x2 x4) x10 := by
      rw [rk0, if_neg (by omega), if_neg (by omega), if_neg (by omega), if_neg q3, if_neg q4]
    have cd : ∀ j : Int, (if j = 0 then x2 else if j = 1 then x4 else if j = 2 then -1 else 1 : Int) = x2 ∨ (if j = 0 then x2 else if j = 1 then x4 else if j = 2 then -1 else 1 : Int) = x4 ∨ (if j = 0 then x2 else if j = 1 then x4 else if j = 2 then -1 else 1 : Int) = -1 ∨ (if j = 0 then x2 else if j = 1 then x4 else if j = 2 then -1 else 1 : Int) = 1 := by
      intro j; (repeat' split) <;> simp
    have key : ∀ n : Nat, ∀ j lo hi : Int, (4 - j).toNat ≤ n → 0 ≤ j → j ≤ 4 →
        (∀ i, 0 ≤ i → i < j → ∀ d, d = (if i = 0 then x2 else if i = 1 then x4 else if i = 2 then -1 else 1 : Int) → d ≠ 0 → x2 ≤ d → d ≤ x4 → lo ≤ x7.tdiv d ∧ lo ≤ x9.tdiv d ∧ x7.tdiv d ≤ hi ∧ x9.tdiv d ≤ hi) →
        (lo = 9223372036854775807 ∨ qat x7 x9 x2 x4 lo) → (hi = -9223372036854775808 ∨ qat x7 x9 x2 x4 hi) →
        JW K 296 [(2009, 396), (0, op), (1, x2), (5000, 0), (1, x4), (5000, 0), (0, x10), (1, x7), (5000, 0), (1, x9), (5000, 0), (1, lo), (5000, 0), (1, hi), (5000, 0), (0, j), (5000, 0), (5000, 0)] [] g2 := by
      intro n
      induction n with
      | zero =>
        intro j lo hi n1 n2 n3 i1 i2 i3
        refine r_X9_reckon_296 ki hG ⟨fun _ => ?_, fun q => by omega⟩
        have full : ∀ d, (d = x2 ∨ d = x4 ∨ d = -1 ∨ d = 1) → d ≠ 0 → x2 ≤ d → d ≤ x4 → lo ≤ x7.tdiv d ∧ lo ≤ x9.tdiv d ∧ x7.tdiv d ≤ hi ∧ x9.tdiv d ≤ hi := by
          intro d hd d0 d1 d2
          rcases hd with hd | hd | hd | hd
          · exact i1 0 (by omega) (by omega) d (by simp [hd]) d0 d1 d2
          · exact i1 1 (by omega) (by omega) d (by simp [hd]) d0 d1 d2
          · exact i1 2 (by omega) (by omega) d (by simp [hd]) d0 d1 d2
          · exact i1 3 (by omega) (by omega) d (by simp [hd]) d0 d1 d2
        have bds : ∀ d, d ≠ 0 → -2147483648 ≤ x7.tdiv d ∧ x7.tdiv d ≤ 2147483648 ∧ -2147483648 ≤ x9.tdiv d ∧ x9.tdiv d ≤ 2147483648 := by
          intro d hd
          have u := tdiv_bd hd (a := x7) (B := 2147483648) (by omega) (by omega)
          have v := tdiv_bd hd (a := x9) (B := 2147483648) (by omega) (by omega)
          omega
        have some_d : ∃ d, (d = x2 ∨ d = x4 ∨ d = -1 ∨ d = 1) ∧ d ≠ 0 ∧ x2 ≤ d ∧ d ≤ x4 := by
          by_cases u : x2 = 0
          · exact ⟨x4, Or.inr (Or.inl rfl), by omega, by omega, by omega⟩
          · exact ⟨x2, Or.inl rfl, u, by omega, by omega⟩
        obtain ⟨d0, s1', s2', s3', s4'⟩ := some_d
        have f0 := full d0 s1' s2' s3' s4'
        have b0 := bds d0 s2'
        have q1 : qat x7 x9 x2 x4 lo := by rcases i2 with u | u; omega; exact u
        have q2' : qat x7 x9 x2 x4 hi := by rcases i3 with u | u; omega; exact u
        obtain ⟨ya, yd, y1, y2, y3, y4, y5, y6⟩ := q1
        obtain ⟨za, zd, z1, z2, z3, z4, z5, z6⟩ := q2'
        have sn1 := (q_snd (l := x7) (h := x9) (l2 := x2) (h2 := x4) y1 y2 y3 y4 y5).1
        have sn2 := (q_snd (l := x7) (h := x9) (l2 := x2) (h2 := x4) z1 z2 z3 z4 z5).2
        rw [← y6] at sn1
        rw [← z6] at sn2
        have e1 : lo = qlo x7 x9 x2 x4 ∧ hi = qhi x7 x9 x2 x4 := by
          unfold qlo qhi at *
          by_cases u : x2 < 0
          · rw [if_pos u] at sn1 sn2 ⊢
            rw [if_pos u]
            have f1 := full x2 (Or.inl rfl) (by omega) (by omega) (by omega)
            by_cases v : 0 < x4
            · rw [if_pos v] at sn1 sn2 ⊢
              rw [if_pos v]
              have f2 := full x4 (Or.inr (Or.inl rfl)) (by omega) (by omega) (by omega)
              have f3 := full (-1) (Or.inr (Or.inr (Or.inl rfl))) (by omega) (by omega) (by omega)
              have f4 := full 1 (Or.inr (Or.inr (Or.inr rfl))) (by omega) (by omega) (by omega)
              unfold mn4 mx4 at *
              omega
            · rw [if_neg v] at sn1 sn2 ⊢
              rw [if_neg v]
              have f2 := full (min (-1) x4) (by omega) (by omega) (by omega) (by omega)
              unfold mn4 mx4 at *
              omega
          · rw [if_neg u] at sn1 sn2 ⊢
            rw [if_neg u]
            have f1 := full (max 1 x2) (by omega) (by omega) (by omega) (by omega)
            have f2 := full x4 (Or.inr (Or.inl rfl)) (by omega) (by omega) (by omega)
            unfold mn4 mx4 at *
            omega
        rw [e1.1, e1.2]
        refine fin ?_ er
        rw [← e1.1, ← e1.2]; omega
      | succ n ih =>
        intro j lo hi n1 n2 n3 i1 i2 i3
        by_cases c4 : 4 ≤ j
        · exact ih j lo hi (by omega) n2 n3 i1 i2 i3
        · refine r_X9_reckon_296 ki hG ⟨fun q => by omega, fun _ => ?_⟩
          intro d ed
          rw [lc_eq, lc_ge, lc_le, lc_gt]
          have skip : ¬ (d ≠ 0 ∧ x2 ≤ d ∧ d ≤ x4) → ∀ j' : Int, j' = w32 (j + 1) → JW K 296 [(2009, 396), (0, op), (1, x2), (5000, 0), (1, x4), (5000, 0), (0, x10), (1, x7), (5000, 0), (1, x9), (5000, 0), (1, lo), (5000, 0), (1, hi), (5000, 0), (0, j'), (5000, 0), (5000, 0)] [] g2 := by
            intro nv j' ej
            rw [w32_i (by omega) (by omega)] at ej
            subst ej
            refine ih _ _ _ (by omega) (by omega) (by omega) (fun i u1 u2 d' ed' v1 v2 v3 => ?_) i2 i3
            by_cases ij : i = j
            · rw [ij, ← ed] at ed'
              rw [ed'] at v1 v2 v3
              exact absurd ⟨v1, v2, v3⟩ nv
            · exact i1 i u1 (by omega) d' ed' v1 v2 v3
          refine ⟨fun u => ⟨fun v => ?_, fun v => skip (by omega)⟩, fun u => skip (by omega)⟩
          have dc : c32 d := by unfold c32; omega
          refine ⟨u.1, u.1, ?_⟩
          intro lo' elo
          refine ⟨u.1, u.1, ?_⟩
          intro hi' ehi j' ej
          rw [l_div_t a1 dc u.1, l_div_t a2 dc u.1] at elo ehi
          rw [w32_i (by omega) (by omega)] at ej
          subst ej
          have qa : qat x7 x9 x2 x4 (x7.tdiv d) := ⟨x7, d, by omega, by omega, u.2, v, u.1, rfl⟩
          have qb : qat x7 x9 x2 x4 (x9.tdiv d) := ⟨x9, d, by omega, by omega, u.2, v, u.1, rfl⟩
          refine ih _ _ _ (by omega) (by omega) (by omega) (fun i u1 u2 d' ed' v1 v2 v3 => ?_) ?_ ?_
          · by_cases ij : i = j
            · rw [ij, ← ed] at ed'
              rw [ed']; omega
            · have := i1 i u1 (by omega) d' ed' v1 v2 v3
              omega
          · right
            by_cases c1 : x7.tdiv d ≤ x9.tdiv d
            · by_cases c2 : lo ≤ x7.tdiv d
              · rcases i2 with z | z
                · have u' := tdiv_bd u.1 (a := x7) (B := 2147483648) (by omega) (by omega); omega
                · rw [elo, show min lo (min (x7.tdiv d) (x9.tdiv d)) = lo by omega]; exact z
              · rw [elo, show min lo (min (x7.tdiv d) (x9.tdiv d)) = x7.tdiv d by omega]; exact qa
            · by_cases c2 : lo ≤ x9.tdiv d
              · rcases i2 with z | z
                · have u' := tdiv_bd u.1 (a := x9) (B := 2147483648) (by omega) (by omega); omega
                · rw [elo, show min lo (min (x7.tdiv d) (x9.tdiv d)) = lo by omega]; exact z
              · rw [elo, show min lo (min (x7.tdiv d) (x9.tdiv d)) = x9.tdiv d by omega]; exact qb
          · right
            by_cases c1 : x7.tdiv d ≤ x9.tdiv d
            · by_cases c2 : x9.tdiv d ≤ hi
              · rcases i3 with z | z
                · have u' := tdiv_bd u.1 (a := x9) (B := 2147483648) (by omega) (by omega); omega
                · rw [ehi, show max hi (max (x7.tdiv d) (x9.tdiv d)) = hi by omega]; exact z
              · rw [ehi, show max hi (max (x7.tdiv d) (x9.tdiv d)) = x9.tdiv d by omega]; exact qb
            · by_cases c2 : x7.tdiv d ≤ hi
              · rcases i3 with z | z
                · have u' := tdiv_bd u.1 (a := x7) (B := 2147483648) (by omega) (by omega); omega
                · rw [ehi, show max hi (max (x7.tdiv d) (x9.tdiv d)) = hi by omega]; exact z
              · rw [ehi, show max hi (max (x7.tdiv d) (x9.tdiv d)) = x7.tdiv d by omega]; exact qa
    exact key _ 0 _ _ (Nat.le_refl _) (by omega) (by omega) (fun i u1 u2 => by omega) (Or.inl rfl) (Or.inl rfl)
  · -- REM
    rw [lc_eq, lc_eq] at q3
    intro x11 e11
    rw [labs_i b1', labs_i b2, iabs_eq, iabs_eq, w64_i (by omega) (by omega)] at e11
    have el : (if lc x7 0 < 0 then max (w64 (-x11)) x7 else 0 : Int) = if x7 < 0 then max (-x11) x7 else 0 := by
      simp only [lc_lt]; rw [w64_i (z := -x11) (by omega) (by omega)]
    have eh : (if 0 < lc x9 0 then min x11 x9 else 0 : Int) = if 0 < x9 then min x11 x9 else 0 := by
      simp only [lc_gt]
    rw [el, eh]
    refine fin ?_ ?_
    · split <;> split <;> omega
    · rw [rk0, if_neg (by omega), if_neg (by omega), if_neg (by omega), if_neg q3, if_pos q4, iabs_eq, iabs_eq, e11]
      congr 1
      split
      · omega
      · rfl
  · -- MUL
    intro x11 e11 x13 e13
    have m1 := c32_mul a1 b1'
    have m2 := c32_mul a1 b2
    have m3 := c32_mul a2 b1'
    have m4 := c32_mul a2 b2
    rw [w64_i (by omega) (by omega), w64_i (by omega) (by omega), w64_i (by omega) (by omega), w64_i (by omega) (by omega)] at e11 e13
    refine fin (by omega) ?_
    rw [rk0, if_neg (by omega), if_neg (by omega), if_pos q2, e11, e13]; rfl
theorem t_reckon1 {l : Launch} {G : JG} (hG : gO G = true) {L : PG} (w : WF L) {m : Int} {h : MH} (mk : MK h L) {X : Int → FA} {lk : FA} {dp : Int} (cu : cur L m h X lk dp) (h0 : 1 ≤ dp) (h1 : dp ≤ 8)
    (ob : fok (X (7 + dp))) (tb : ath (X (7 + dp)) ≠ 0) {Q : Int → MH → Prop} {E : Nat → Int → MH → Prop}
    (hQ1 : ∀ h', same h h' → cur L m h' (ux X (7 + dp) (rk L 12 (X (7 + dp)) (X (7 + dp)))) lk dp → Q 1 h') : S_X9_reckon l G [(2009, 396), (0, 12)] h Q E := by
  obtain ⟨-, b1', b2, b3, -⟩ := fok_there ob tb
  unfold c32 at b1' b2
  refine s_X9_reckon rfl fun K ki => r_X9_reckon_0 ki hG (t_pull hG cu (by omega) h1 fun g1 s1 c1 p1 _ => ?_)
  intro x2 e2 x4 e4 x6 e6
  have l2 : x2 = alo (X (7 + dp)) := by rw [e2, ← p1]; rfl
  have hh2 : x4 = ahi (X (7 + dp)) := by rw [e4, ← p1]; rfl
  have lb2 : x6 = alb (X (7 + dp)) := by rw [e6, ← p1]; rfl
  refine ⟨fun q => by omega, fun _ => ?_⟩
  rw [w64_i (by omega) (by omega), w64_i (by omega) (by omega)]
  refine t_layRounded hG w (frA_MK s1.1 mk) (by omega) c1 (by omega) (by omega) fun g3 s3 c3 => ⟨Or.inr rfl, ?_⟩
  refine hQ1 g3 (same_tr s1 s3) ?_
  rw [show 8 + (dp - 1) = 7 + dp by omega, show dp - 1 + 1 = dp by omega, l2, hh2, lb2] at c3
  unfold rk
  rw [if_neg (by omega), if_pos rfl]
  exact c3
theorem t_cut {l : Launch} {G : JG} (hG : gO G = true) {L : PG} {m : Int} {h : MH} {X : Int → FA} {lk : FA} {dp x y v : Int} (cu : cur L m h X lk dp) (vx : vld L m dp x) (x0 : 0 ≤ x) (x1 : x < 16) (hv' : 0 ≤ v ∧ v ≤ 5) (hy : -32768 ≤ y ∧ y ≤ 32767) (of' : fok (X x)) (tf' : ath (X x) ≠ 0)
    (av : X x = fv (alo (X x)) (ahi (X x)) (alb (X x)) (ast (X x))) {Q : Int → MH → Prop} {E : Nat → Int → MH → Prop}
    (hQ1 : mayp v (X x) (fv y y 0 0) → ∀ h', same h h' → cur L m h' (ux X x (ctf v (X x) y)) lk dp → Q 1 h') (hQ0 : ¬ mayp v (X x) (fv y y 0 0) → Q 0 h) : S_X9_cut l G [(2009, 396), (0, x), (0, v), (0, y)] h Q E := by
  obtain ⟨-, a1, a2, a3, -⟩ := fok_there of' tf'
  have A1 := a1; have A2 := a2
  unfold c32 at A1 A2
  have ex := cu.1 x vx
  have el : hv h 499 x = alo (X x) := by rw [← ex]; rfl
  have eh : hv h 500 x = ahi (X x) := by rw [← ex]; rfl
  have eb : hv h 501 x = alb (X x) := by rw [← ex]; rfl
  have es : hv h 502 x = ast (X x) := by rw [← ex]; rfl
  have fin : ∀ a b : Int, ctf v (X x) y = fv a b (alb (X x)) (ast (X x)) → mayp v (X x) (fv y y 0 0) → Q 1 (hset (hset h 499 x a) 500 x b) := by
    intro a b e my
    refine hQ1 my _ (same_tr (same_set (by omega)) (same_set (by omega))) ⟨fun j hj => ?_, ?_, ?_⟩
    · rw [e]
      unfold ux
      by_cases ej : j = x
      · rw [if_pos ej, ej, ← eb, ← es]; unfold cX; simp [hv_set]
      · rw [if_neg ej, ← cu.1 j hj]; unfold cX; simp [hv_set, ej]
    · rw [← cu.2.1]; unfold lkc_; simp [hv_set]
    · rw [← cu.2.2]; simp [hv_set]
  refine s_X9_cut rfl fun K ki => r_X9_cut_0 ki hG ⟨x0, x1, ?_⟩
  intro x4 e4
  refine ⟨x0, x1, ?_⟩
  intro x5 e5
  rw [el] at e4
  rw [eh] at e5
  have mb := mayf_b v x4 x5 y y
  have mpi : mayf v x4 x5 y y = 1 → mayp v (X x) (fv y y 0 0) := fun q => ⟨tf', (by decide : (1 : Int) ≠ 0), by rw [← e4, ← e5]; exact q⟩
  have mpn : mayf v x4 x5 y y = 0 → ¬ mayp v (X x) (fv y y 0 0) := fun q z => by
    have := z.2.2
    rw [← e4, ← e5] at this
    change mayf v x4 x5 y y = 1 at this
    omega
  refine ⟨fun q => ?_, fun q => ⟨Or.inl rfl, hQ0 (mpn q)⟩⟩
  have my := mpi (by omega)
  have cs : ∀ a b, ctf v (X x) y = fv a b (alb (X x)) (ast (X x)) → Q 1 (hset (hset h 499 x a) 500 x b) := fun a b e => fin a b e my
  have cc : ctf v (X x) y = if v = 0 then fv y y (alb (X x)) (ast (X x)) else if v = 1 then fv (if x4 = y then x4 + 1 else x4) (if x5 = y then x5 - 1 else x5) (alb (X x)) (ast (X x)) else if v = 2 then fv x4 (min x5 (y - 1)) (alb (X x)) (ast (X x))
      else if v = 3 then fv (max x4 y) x5 (alb (X x)) (ast (X x)) else if v = 4 then fv (max x4 (y + 1)) x5 (alb (X x)) (ast (X x)) else fv x4 (min x5 y) (alb (X x)) (ast (X x)) := by
    unfold ctf; rw [e4, e5]
  refine ⟨fun n0 => ⟨fun n1 => ⟨fun n2 => ⟨fun n3 => ⟨fun n4 => ?_, fun n4 => ?_⟩, fun n3 => ?_⟩, fun n2 => ?_⟩, fun n1 => ?_⟩, fun n0 => ?_⟩
  · intro x6 e6
    refine ⟨x0, x1, fun h4 e7 => ⟨x0, x1, fun h5 e8 => ⟨Or.inr rfl, ?_⟩⟩⟩
    subst e7; subst e8
    exact cs _ _ (by rw [cc, if_neg n0, if_neg n1, if_neg n2, if_neg n3, if_neg n4, e6])
  · intro x6 e6
    refine ⟨x0, x1, fun h4 e7 => ⟨x0, x1, fun h5 e8 => ⟨Or.inr rfl, ?_⟩⟩⟩
    subst e7; subst e8
    rw [w32_i (by omega) (by omega)] at e6
    exact cs _ _ (by rw [cc, if_neg n0, if_neg n1, if_neg n2, if_neg n3, if_pos n4, e6])
  · intro x6 e6
    refine ⟨x0, x1, fun h4 e7 => ⟨x0, x1, fun h5 e8 => ⟨Or.inr rfl, ?_⟩⟩⟩
    subst e7; subst e8
    exact cs _ _ (by rw [cc, if_neg n0, if_neg n1, if_neg n2, if_pos n3, e6])
  · intro x6 e6
    refine ⟨x0, x1, fun h4 e7 => ⟨x0, x1, fun h5 e8 => ⟨Or.inr rfl, ?_⟩⟩⟩
    subst e7; subst e8
    rw [w32_i (by omega) (by omega)] at e6
    exact cs _ _ (by rw [cc, if_neg n0, if_neg n1, if_pos n2, e6])
  · intro x6 e6 x8 e8'
    refine ⟨x0, x1, fun h4 e7 => ⟨x0, x1, fun h5 e8 => ⟨Or.inr rfl, ?_⟩⟩⟩
    subst e7; subst e8
    have n01 : mayf v x4 x5 y y = 1 := by omega
    unfold mayf at n01
    rw [if_neg n0, if_pos n1] at n01
    have hb : ¬ (x4 = x5 ∧ y = y ∧ x4 = y) := by intro z; rw [if_pos z] at n01; cases n01
    have e6' : x6 = if x4 = y then x4 + 1 else x4 := by
      rw [e6]; split
      · rw [w32_i (by omega) (by omega)]
      · rfl
    have e8'' : x8 = if x5 = y then x5 - 1 else x5 := by
      rw [e8']; split
      · rw [w32_i (by omega) (by omega)]
      · rfl
    exact cs _ _ (by rw [cc, if_neg n0, if_pos n1, e6', e8''])
  · intro x6 e6 x8 e8'
    refine ⟨x0, x1, fun h4 e7 => ⟨x0, x1, fun h5 e8 => ⟨Or.inr rfl, ?_⟩⟩⟩
    subst e7; subst e8
    exact cs _ _ (by rw [cc, if_pos n0, e6, e8'])
