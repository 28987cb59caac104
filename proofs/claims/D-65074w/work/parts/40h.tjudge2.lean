/-! Part 40h: the twin judges an instruction -/
set_option maxRecDepth 100000
section
variable {l : Launch} {G : JG} {A n : Int} {B : Int → Int} {h0 h : MH} {p : Int} {L : PG} {E : Nat → Int → MH → Prop} {X : Int → Prop} {st : List Int} {m k : Int}
theorem zif {P : Prop} [Decidable P] : (if P then 1 else 0 : Int) = 0 ↔ ¬ P := by
  by_cases c : P <;> simp [c]
theorem zif2 {P R : Prop} [Decidable P] [Decidable R] : (if R then 1 else (if P then 0 else 1 : Int) : Int) = 0 ↔ (P ∧ ¬ R) := by
  by_cases c : P <;> by_cases d : R <;> simp [c, d]
theorem wnm_m1 {L : PG} {x : Int} (h : wnm L x < 0) : wnm L x = -1 := (frm_neg _ _ _ (by decide) h).1
theorem wnm_lt' {L : PG} {x : Int} (n0 : 0 ≤ pNm L) (h : 0 ≤ wnm L x) : wnm L x < pNm L := by
  obtain ⟨a1, a2, a3⟩ := frm_lt _ _ _ h
  unfold wnm at *
  omega
theorem jI_at {L : PG} {m k : Int} {st : List Int} {r : JdR} {K : List Int → Prop} {X : Int → Prop} (hr : prj (jI L m k st) K X) (e : jI L m k st = r) : prj r K X := by rw [← e]; exact hr
theorem t_judge2 (hG : gO G = true) (w : WFx L) (k0 : 0 ≤ k) (k1 : k < pNp L) (hm : pMo L k = m) (b : RDB B n h0) (z0 : 455 ≤ hz h0) (hX : ∀ e, X e → ∀ a h', FLT A h0 h' a e → E 17 a h') {K : List Int → Prop} (J : JDS A n h0 h p L m (L 23 k) st) (hr : prj (jI L m k st) K X) {Q : Int → MH → Prop}
    (hQ : ∀ r h', K r → JDS A n h0 h' p L m (L 23 k) r → Q 0 h') : S_X9_judge_2 l G [(2009, 396), (14, A), (0, m), (0, k)] h Q E := by
  have ne := J.1.ne
  obtain ⟨wn, wc, wm, wl, wk, ws⟩ := w
  unfold WFn at wn
  have wk' := wk k k0 k1
  rw [WFkx, hm] at wk'
  obtain ⟨⟨mo0, mo1, fi0, fi1⟩, ⟨op0, op1⟩, ⟨x0, x1⟩, yz, xl, x7, x5, xi, xc, xa, xs, y9, yf, yc, xn, -, zj, -⟩ := wk'
  have wmm := wm m mo0 mo1
  obtain ⟨-, -, -, ar0, ar4, -, gi0, gi2, al, l8, lk, de0, de8, -⟩ := wmm
  simp only [pCl, pNs, pNm, pNp, pNt, pSk, pPa, pFc, pFk, pOw, pNa, pAr, pGi, pLc, pLk, pDe, pHn, pHa, pCo, pFi, pOp, pX, pY, pZ, pMo, pSi, pSc] at *
  have k15 : k < 1500 := by omega
  have m40 : m < 40 := by omega
  have rd : ∀ {h : MH} {st : List Int}, JDS A n h0 h p L m (L 23 k) st → ∀ o i, 0 ≤ o → o ≤ 28 → hv h (A + o) i = L o i := fun J o i a b => J.1.at o i a b
  refine s_X9_judge_2 rfl fun K1 ki => r_X9_judge_2_0 ki hG ⟨ne, k0, k15, fun x4 e4 => ⟨ne, k0, k15, fun x5' e5 => ⟨ne, k0, k15, ?_⟩⟩⟩
  rw [rd J 20 k (by decide) (by decide)] at e4
  rw [rd J 21 k (by decide) (by decide)] at e5
  rw [rd J 19 k (by decide) (by decide)]
  subst e4; subst e5
  have w8 : ∀ j, 0 ≤ j → j < 8 → w32 (w32 (8 * m) + j) = 8 * m + j := fun j a c => by rw [w32_i (z := 8 * m) (by omega) (by omega), w32_i (by omega) (by omega)]
  have fin : ∀ {r : List Int} {h' : MH}, prj (Except.ok r : JdR) K X → JDS A n h0 h' p L m (L 23 k) r → Q 0 h' := fun q J => hQ _ _ q J
  have ir := i_rem_8 x0 x1
  have wnm_lt : ∀ {x : Int}, 0 ≤ wnm L x → wnm L x < L 0 6 := fun q => wnm_lt' (show 0 ≤ L 0 6 by omega) q
  have cal : ∀ (c : Int) {h : MH} {st : List Int}, 0 ≤ c → c < L 0 6 → JDS A n h0 h p L m (L 23 k) st → prj (plA L (L 23 k) c (L 7 c).toNat st fun r => if 0 < L 8 c then ly (L 23 k) (L 11 m) (L 8 c - 1) r .ok else .ok r) K X →
      S_X9_pullArguments l G [(2009, 396), (14, A), (0, c)] h (fun _ h123 =>
        (A ≠ 0) ∧
        (0 ≤ c) ∧
        (c < 40) ∧
        (((hv h123 (A + 8) c) ≤ 0 →
          Q 0 h123) ∧
        (0 < (hv h123 (A + 8) c) →
          (A ≠ 0) ∧
          (0 ≤ c) ∧
          (c < 40) ∧
          S_X9_lay l G [(2009, 396), (0, (w32 ((hv h123 (A + 8) c) - 1)))] h123 (fun _ h125 =>
          Q 0 h125) E))) E := by
    intro c h st c0 c1 J hr
    obtain ⟨-, -, -, car0, car4, -, cgi0, cgi2, -⟩ := wm c c0 c1
    simp only [pAr, pGi] at car0 car4 cgi0 cgi2
    refine t_pullArguments hG b z0 hX c0 (by omega) car0 (by omega) J hr fun r h' q J2 => ⟨ne, c0, by omega, fun d => ?_, fun d => ⟨ne, c0, by omega, ?_⟩⟩
    · rw [rd J2 8 c (by decide) (by decide)] at d
      rw [if_neg (by omega)] at q
      exact fin q J2
    · rw [rd J2 8 c (by decide) (by decide)] at d ⊢
      rw [if_pos (by omega)] at q
      rw [w32_i (z := L 8 c - 1) (by omega) (by omega)]
      exact t_jlay hG J2 b z0 hX (by omega) q fun h1 hr J => fin hr J
  refine ⟨⟨fun o => ?_, fun o => ?_, fun o => ?_, fun o => ?_, fun o => ?_, fun o => ?_, fun o => ?_, fun o => ?_, fun o => ?_, fun o => ?_, fun o => ?_, fun o => ?_, fun o => ?_, fun o => ?_, fun o => ?_, fun o => ?_, fun o => ?_, fun o => ?_, fun o => ?_, fun o => ?_, fun o => ?_, fun o => ?_, fun o => ?_, fun o => ?_, fun o => ?_, fun o => ?_, fun o => ?_, fun o => ?_, fun o => ?_, fun o => ?_, fun o => ?_, fun o => ?_, fun o => ?_, fun o => ?_, fun o => ?_, fun o => ?_, fun o => ?_, trivial⟩, fun o => by omega⟩
  · have o' : L 19 k = 0 := by omega
    clear o
    unfold jI at hr
    rw [if_pos (by omega)] at hr
    exact t_jlay hG J b z0 hX (Or.inl rfl) hr fun h1 hr J => fin hr J
  · have o' : L 19 k = 1 := by omega
    clear o
    unfold jI at hr
    rw [if_neg (by omega), if_pos (by omega)] at hr
    exact t_jlay hG J b z0 hX (Or.inr rfl) hr fun h1 hr J => fin hr J
  · have o' : L 19 k = 2 := by omega
    clear o
    unfold jI at hr
    rw [if_neg (by omega), if_neg (by omega), if_pos (by omega)] at hr
    have xl' := xl (by omega)
    rw [w8 _ x0 (by omega), rd J 10 _ (by decide) (by decide)]
    exact ⟨ne, by omega, by omega, t_jlay hG J b z0 hX (lk _ x0 xl') hr fun h1 hr J => fin hr J⟩
  · have o' : L 19 k = 3 := by omega
    clear o
    unfold jI at hr
    rw [if_neg (by omega), if_neg (by omega), if_neg (by omega), if_pos (by omega)] at hr
    have xl' := xl (by omega)
    rw [w8 _ x0 (by omega), rd J 10 _ (by decide) (by decide)]
    exact ⟨ne, by omega, by omega, t_jpull hG J b z0 hX hr fun r h1 _ hr J => fin hr J⟩
  · have o' : L 19 k = 4 := by omega
    clear o
    unfold jI at hr
    rw [if_neg (by omega), if_neg (by omega), if_neg (by omega), if_neg (by omega), if_pos (by omega)] at hr
    exact t_jpullAny hG J b z0 hX hr fun x r h1 _ _ hr J x6 e6 => fin hr J
  · have o' : L 19 k = 5 := by omega
    clear o
    unfold jI at hr
    rw [if_neg (by omega), if_neg (by omega), if_neg (by omega), if_neg (by omega), if_neg (by omega), if_pos (by omega)] at hr
    exact t_jpullAny hG J b z0 hX hr fun x r h1 _ x01 hr J x6 e6 => by
      subst e6
      exact t_jlay hG J b z0 hX (x01) hr fun h1 hr J => t_jlay hG J b z0 hX (x01) hr fun h1 hr J => fin hr J
  · have o' : L 19 k = 6 := by omega
    clear o
    unfold jI at hr
    rw [if_neg (by omega), if_neg (by omega), if_neg (by omega), if_neg (by omega), if_neg (by omega), if_neg (by omega), if_pos (by omega)] at hr
    exact t_jpullAny hG J b z0 hX hr fun x r h1 _ x01 hr J x6 e6 => by
      subst e6
      exact t_jpullAny hG J b z0 hX hr fun y r h1 _ y01 hr J x9 e9 => by
        subst e9
        exact t_jlay hG J b z0 hX (x01) hr fun h1 hr J => t_jlay hG J b z0 hX (y01) hr fun h1 hr J => fin hr J
  · have o' : L 19 k = 7 := by omega
    clear o
    unfold jI at hr
    rw [if_neg (by omega), if_neg (by omega), if_neg (by omega), if_neg (by omega), if_neg (by omega), if_neg (by omega), if_neg (by omega), if_pos (by omega)] at hr
    exact t_jpull hG J b z0 hX hr fun r h1 _ hr J => t_jpull hG J b z0 hX hr fun r h1 _ hr J => t_jlay hG J b z0 hX (Or.inl rfl) hr fun h1 hr J => fin hr J
  · have o' : L 19 k = 8 := by omega
    clear o
    unfold jI at hr
    rw [if_neg (by omega), if_neg (by omega), if_neg (by omega), if_neg (by omega), if_neg (by omega), if_neg (by omega), if_neg (by omega), if_pos (by omega)] at hr
    exact t_jpull hG J b z0 hX hr fun r h1 _ hr J => t_jpull hG J b z0 hX hr fun r h1 _ hr J => t_jlay hG J b z0 hX (Or.inl rfl) hr fun h1 hr J => fin hr J
  · have o' : L 19 k = 9 := by omega
    clear o
    unfold jI at hr
    rw [if_neg (by omega), if_neg (by omega), if_neg (by omega), if_neg (by omega), if_neg (by omega), if_neg (by omega), if_neg (by omega), if_pos (by omega)] at hr
    exact t_jpull hG J b z0 hX hr fun r h1 _ hr J => t_jpull hG J b z0 hX hr fun r h1 _ hr J => t_jlay hG J b z0 hX (Or.inl rfl) hr fun h1 hr J => fin hr J
  · have o' : L 19 k = 10 := by omega
    clear o
    unfold jI at hr
    rw [if_neg (by omega), if_neg (by omega), if_neg (by omega), if_neg (by omega), if_neg (by omega), if_neg (by omega), if_neg (by omega), if_pos (by omega)] at hr
    exact t_jpull hG J b z0 hX hr fun r h1 _ hr J => t_jpull hG J b z0 hX hr fun r h1 _ hr J => t_jlay hG J b z0 hX (Or.inl rfl) hr fun h1 hr J => fin hr J
  · have o' : L 19 k = 11 := by omega
    clear o
    unfold jI at hr
    rw [if_neg (by omega), if_neg (by omega), if_neg (by omega), if_neg (by omega), if_neg (by omega), if_neg (by omega), if_neg (by omega), if_pos (by omega)] at hr
    exact t_jpull hG J b z0 hX hr fun r h1 _ hr J => t_jpull hG J b z0 hX hr fun r h1 _ hr J => t_jlay hG J b z0 hX (Or.inl rfl) hr fun h1 hr J => fin hr J
  · have o' : L 19 k = 12 := by omega
    clear o
    unfold jI at hr
    rw [if_neg (by omega), if_neg (by omega), if_neg (by omega), if_neg (by omega), if_neg (by omega), if_neg (by omega), if_neg (by omega), if_neg (by omega), if_pos (by omega)] at hr
    exact t_jpull hG J b z0 hX hr fun r h1 _ hr J => t_jlay hG J b z0 hX (Or.inl rfl) hr fun h1 hr J => fin hr J
  · have o' : L 19 k = 13 := by omega
    clear o
    unfold jI at hr
    rw [if_pos (by omega)] at hr
    exact t_jlay hG J b z0 hX (Or.inl rfl) hr fun h1 hr J => fin hr J
  · have o' : L 19 k = 14 := by omega
    clear o
    unfold jI at hr
    rw [if_neg (by omega), if_neg (by omega), if_neg (by omega), if_neg (by omega), if_neg (by omega), if_neg (by omega), if_neg (by omega), if_neg (by omega), if_neg (by omega), if_pos (by omega)] at hr
    exact t_jpull hG J b z0 hX hr fun r h1 _ hr J => fin hr J
  · have o' : L 19 k = 15 := by omega
    clear o
    unfold jI at hr
    rw [if_neg (by omega), if_neg (by omega), if_neg (by omega), if_neg (by omega), if_neg (by omega), if_neg (by omega), if_neg (by omega), if_neg (by omega), if_neg (by omega), if_neg (by omega), if_pos (by omega)] at hr
    exact t_jnil (P := True) hG J b z0 hX (by rw [if_pos trivial]; exact hr) (by rw [zif]; simp) fun q J => hQ _ _ q J
  · have o' : L 19 k = 16 := by omega
    clear o
    unfold jI at hr
    rw [if_neg (by omega), if_neg (by omega), if_neg (by omega), if_neg (by omega), if_neg (by omega), if_neg (by omega), if_neg (by omega), if_neg (by omega), if_neg (by omega), if_neg (by omega), if_neg (by omega), if_pos (by omega)] at hr
    exact t_jpull hG J b z0 hX hr fun r h1 _ hr J => t_jpull hG J b z0 hX hr fun r h1 _ hr J => t_jnil (P := True) hG J b z0 hX (by rw [if_pos trivial]; exact hr) (by rw [zif]; simp) fun q J => hQ _ _ q J
  · have o' : L 19 k = 17 := by omega
    clear o
    unfold jI at hr
    rw [if_neg (by omega), if_neg (by omega), if_neg (by omega), if_neg (by omega), if_neg (by omega), if_neg (by omega), if_neg (by omega), if_neg (by omega), if_neg (by omega), if_neg (by omega), if_neg (by omega), if_neg (by omega), if_pos (by omega)] at hr
    have xi' := xi (by omega)
    rw [ir.1, w8 _ (by omega) (by omega), rd J 10 _ (by decide) (by decide)]
    exact ⟨fun _ => ⟨ne, by decide, by omega, by omega⟩, t_jnil (P := L 10 (8 * m + L 20 k % 8) = 0) hG J b z0 hX hr zif2 fun q J => hQ _ _ q J⟩
  · have o' : L 19 k = 18 := by omega
    clear o
    unfold jI at hr
    rw [if_neg (by omega), if_neg (by omega), if_neg (by omega), if_neg (by omega), if_neg (by omega), if_neg (by omega), if_neg (by omega), if_neg (by omega), if_neg (by omega), if_neg (by omega), if_neg (by omega), if_neg (by omega), if_neg (by omega), if_pos (by omega)] at hr
    have xl' := xl (by omega)
    rw [w8 _ x0 (by omega), rd J 10 _ (by decide) (by decide)]
    exact ⟨fun _ => ⟨ne, by omega, by omega⟩, t_jnil (P := L 10 (8 * m + L 20 k) = 1) hG J b z0 hX hr zif2 fun q J => hQ _ _ q J⟩
  · have o' : L 19 k = 19 := by omega
    clear o
    unfold jI at hr
    rw [if_neg (by omega), if_neg (by omega), if_neg (by omega), if_neg (by omega), if_neg (by omega), if_neg (by omega), if_neg (by omega), if_neg (by omega), if_neg (by omega), if_neg (by omega), if_neg (by omega), if_neg (by omega), if_neg (by omega), if_pos (by omega)] at hr
    have xl' := xl (by omega)
    rw [w8 _ x0 (by omega), rd J 10 _ (by decide) (by decide)]
    exact ⟨fun _ => ⟨ne, by omega, by omega⟩, t_jnil (P := L 10 (8 * m + L 20 k) = 1) hG J b z0 hX hr zif2 fun q J => hQ _ _ q J⟩
  · have o' : L 19 k = 20 := by omega
    clear o
    unfold jI at hr
    rw [if_neg (by omega), if_pos (by omega)] at hr
    exact t_jlay hG J b z0 hX (Or.inr rfl) hr fun h1 hr J => fin hr J
  · have o' : L 19 k = 21 := by omega
    clear o
    unfold jI at hr
    rw [if_neg (by omega), if_neg (by omega), if_neg (by omega), if_neg (by omega), if_neg (by omega), if_neg (by omega), if_neg (by omega), if_neg (by omega), if_neg (by omega), if_neg (by omega), if_neg (by omega), if_neg (by omega), if_neg (by omega), if_neg (by omega), if_pos (by omega)] at hr
    exact t_jpull hG J b z0 hX hr fun r h1 _ hr J => t_jlay hG J b z0 hX (Or.inr rfl) hr fun h1 hr J => fin hr J
  · have o' : L 19 k = 22 := by omega
    clear o
    unfold jI at hr
    rw [if_neg (by omega), if_neg (by omega), if_neg (by omega), if_neg (by omega), if_neg (by omega), if_neg (by omega), if_neg (by omega), if_neg (by omega), if_neg (by omega), if_neg (by omega), if_neg (by omega), if_neg (by omega), if_neg (by omega), if_neg (by omega), if_neg (by omega), if_pos (by omega)] at hr
    exact t_jpull hG J b z0 hX hr fun r h1 _ hr J => t_jlay hG J b z0 hX (Or.inl rfl) hr fun h1 hr J => fin hr J
  · have o' : L 19 k = 23 := by omega
    clear o
    unfold jI at hr
    rw [if_neg (by omega), if_neg (by omega), if_neg (by omega), if_neg (by omega), if_neg (by omega), if_neg (by omega), if_neg (by omega), if_neg (by omega), if_neg (by omega), if_neg (by omega), if_neg (by omega), if_neg (by omega), if_neg (by omega), if_neg (by omega), if_neg (by omega), if_neg (by omega), if_pos (by omega)] at hr
    exact t_jpull hG J b z0 hX hr fun r h1 _ hr J => t_jpull hG J b z0 hX hr fun r h1 _ hr J => t_jlay hG J b z0 hX (by have := xa (by omega); omega) hr fun h1 hr J => fin hr J
  · have o' : L 19 k = 24 := by omega
    clear o
    unfold jI at hr
    rw [if_neg (by omega), if_neg (by omega), if_neg (by omega), if_neg (by omega), if_neg (by omega), if_neg (by omega), if_neg (by omega), if_neg (by omega), if_neg (by omega), if_neg (by omega), if_neg (by omega), if_neg (by omega), if_neg (by omega), if_neg (by omega), if_neg (by omega), if_neg (by omega), if_neg (by omega), if_pos (by omega)] at hr
    exact t_jpull hG J b z0 hX hr fun r h1 _ hr J => t_jpull hG J b z0 hX hr fun r h1 _ hr J => t_jpull hG J b z0 hX hr fun r h1 _ hr J => fin hr J
  · have o' : L 19 k = 25 := by omega
    clear o
    unfold jI at hr
    rw [if_neg (by omega), if_neg (by omega), if_neg (by omega), if_neg (by omega), if_neg (by omega), if_neg (by omega), if_neg (by omega), if_neg (by omega), if_neg (by omega), if_neg (by omega), if_neg (by omega), if_neg (by omega), if_neg (by omega), if_neg (by omega), if_neg (by omega), if_neg (by omega), if_neg (by omega), if_neg (by omega), if_pos (by omega)] at hr
    have xc' := xc (by omega)
    have yf' := yf (by omega)
    have fc : 0 ≤ L 3 (L 20 k) ∧ L 3 (L 20 k) ≤ 8 := wc.2.2.1 (L 20 k) x0 (by omega)
    have w9 : w32 (w32 (8 * L 20 k) + L 21 k) = 8 * L 20 k + L 21 k := by rw [w32_i (z := 8 * L 20 k) (by omega) (by omega), w32_i (by omega) (by omega)]
    rw [w9]
    refine t_jpull hG J b z0 hX hr fun r h1 _ hr J => ?_
    rw [rd J 4 _ (by decide) (by decide)]
    exact ⟨ne, by omega, by omega, t_jlay hG J b z0 hX (wc.2.2.2.2.1 (L 20 k) (L 21 k) x0 (by omega) yf'.1 yf'.2) hr fun h1 hr J => fin hr J⟩
  · have o' : L 19 k = 26 := by omega
    clear o
    unfold jI at hr
    rw [if_neg (by omega), if_neg (by omega), if_neg (by omega), if_neg (by omega), if_neg (by omega), if_neg (by omega), if_neg (by omega), if_neg (by omega), if_neg (by omega), if_neg (by omega), if_neg (by omega), if_neg (by omega), if_neg (by omega), if_neg (by omega), if_neg (by omega), if_neg (by omega), if_neg (by omega), if_neg (by omega), if_neg (by omega), if_pos (by omega)] at hr
    have xc' := xc (by omega)
    have yf' := yf (by omega)
    have fc : 0 ≤ L 3 (L 20 k) ∧ L 3 (L 20 k) ≤ 8 := wc.2.2.1 (L 20 k) x0 (by omega)
    have w9 : w32 (w32 (8 * L 20 k) + L 21 k) = 8 * L 20 k + L 21 k := by rw [w32_i (z := 8 * L 20 k) (by omega) (by omega), w32_i (by omega) (by omega)]
    rw [w9, rd J 4 _ (by decide) (by decide)]
    exact ⟨ne, by omega, by omega, t_jpull hG J b z0 hX hr fun r h1 _ hr J => t_jpull hG J b z0 hX hr fun r h1 _ hr J => fin hr J⟩
  · have o' : L 19 k = 27 := by omega
    clear o
    unfold jI at hr
    rw [if_neg (by omega), if_neg (by omega), if_neg (by omega), if_neg (by omega), if_neg (by omega), if_neg (by omega), if_neg (by omega), if_neg (by omega), if_neg (by omega), if_neg (by omega), if_neg (by omega), if_neg (by omega), if_neg (by omega), if_neg (by omega), if_neg (by omega), if_neg (by omega), if_neg (by omega), if_neg (by omega), if_neg (by omega), if_neg (by omega), if_pos (by omega)] at hr
    have xs' := xs (by omega)
    rw [rd J 1 _ (by decide) (by decide)]
    exact ⟨ne, x0, by omega, t_jlay hG J b z0 hX (wc.2.2.2.2.2.2 (L 20 k) x0 xs') hr fun h1 hr J => fin hr J⟩
  · have o' : L 19 k = 28 := by omega
    clear o
    unfold jI at hr
    rw [if_neg (by omega), if_neg (by omega), if_neg (by omega), if_neg (by omega), if_neg (by omega), if_neg (by omega), if_neg (by omega), if_neg (by omega), if_neg (by omega), if_neg (by omega), if_neg (by omega), if_neg (by omega), if_neg (by omega), if_neg (by omega), if_neg (by omega), if_neg (by omega), if_neg (by omega), if_neg (by omega), if_neg (by omega), if_neg (by omega), if_neg (by omega), if_pos (by omega)] at hr
    have xs' := xs (by omega)
    rw [rd J 1 _ (by decide) (by decide)]
    exact ⟨ne, x0, by omega, t_jpull hG J b z0 hX hr fun r h1 _ hr J => fin hr J⟩
  · have o' : L 19 k = 29 := by omega
    clear o
    unfold jI at hr
    rw [if_neg (by omega), if_neg (by omega), if_neg (by omega), if_neg (by omega), if_neg (by omega), if_neg (by omega), if_neg (by omega), if_neg (by omega), if_neg (by omega), if_neg (by omega), if_neg (by omega), if_neg (by omega), if_neg (by omega), if_neg (by omega), if_neg (by omega), if_neg (by omega), if_neg (by omega), if_neg (by omega), if_neg (by omega), if_neg (by omega), if_neg (by omega), if_neg (by omega), if_pos (by omega)] at hr
    have yc' := yc (by omega)
    refine ⟨ne, k0, k15, fun c => absurd o' c, fun _ x10 e10 => ?_⟩
    subst e10
    have hr' := prj_if hr
    rw [if_neg (by omega), if_pos o', rd J 5 _ (by decide) (by decide)]
    refine ⟨fun _ => ⟨ne, k0, k15, fun _ => ⟨ne, yc'.1, by omega⟩⟩, ?_⟩
    refine t_wrongIf hG J.1 b z0 J.2.1.2.2.2 (fun c => ?_) (fun c => ?_)
    · have ow : L 5 (L 21 k) = 255 := by
        apply Classical.byContradiction
        intro d
        rw [if_neg d] at c
        exact absurd c (by decide)
      have hr2 := hr'.2 (fun q => by
        rcases q with q | q
        · exact q.2 ow
        · omega)
      simp only [if_pos o'] at hr2
      exact cal (L 21 k) yc'.1 yc'.2 J hr2
    · exact hX _ (hr'.1 (Or.inl ⟨o', fun d => by rw [if_pos d] at c; exact c rfl⟩))
  · have o' : L 19 k = 30 := by omega
    clear o
    unfold jI at hr
    rw [if_neg (by omega), if_neg (by omega), if_neg (by omega), if_neg (by omega), if_neg (by omega), if_neg (by omega), if_neg (by omega), if_neg (by omega), if_neg (by omega), if_neg (by omega), if_neg (by omega), if_neg (by omega), if_neg (by omega), if_neg (by omega), if_neg (by omega), if_neg (by omega), if_neg (by omega), if_neg (by omega), if_neg (by omega), if_neg (by omega), if_neg (by omega), if_neg (by omega), if_pos (by omega)] at hr
    have n29 : ¬ L 19 k = 29 := by omega
    refine ⟨ne, k0, k15, fun _ => ?_, fun c => absurd c n29⟩
    refine t_withName hG ne (fun o i a c => rd J o i a c) (show 0 ≤ L 0 6 by omega) (show L 0 6 ≤ 40 by omega) ?_
    intro x10 e10
    subst e10
    have hr' := prj_if hr
    rw [rd J 19 k (by decide) (by decide), if_neg n29]
    refine ⟨fun _ => ⟨ne, k0, k15, fun c => absurd c n29⟩, ?_⟩
    refine t_wrongIf hG J.1 b z0 J.2.1.2.2.2 (fun c => ?_) (fun c => ?_)
    · have nn : ¬ wnm L (L 20 k) < 0 := fun d => by
        rw [if_pos (wnm_m1 d)] at c
        exact absurd c (by decide)
      have hr2 := hr'.2 (fun q => by
        rcases q with q | q
        · exact n29 q.1
        · exact nn q.2)
      simp only [if_neg n29] at hr2
      exact cal (wnm L (L 20 k)) (by omega) (wnm_lt (by omega)) J hr2
    · exact hX _ (hr'.1 (Or.inr ⟨o', by
        apply Classical.byContradiction
        intro d
        rw [if_neg (by omega)] at c
        exact c rfl⟩))
  · have o' : L 19 k = 31 := by omega
    clear o
    unfold jI at hr
    rw [if_neg (by omega), if_neg (by omega), if_neg (by omega), if_neg (by omega), if_neg (by omega), if_neg (by omega), if_neg (by omega), if_neg (by omega), if_neg (by omega), if_neg (by omega), if_neg (by omega), if_neg (by omega), if_neg (by omega), if_neg (by omega), if_neg (by omega), if_neg (by omega), if_neg (by omega), if_neg (by omega), if_neg (by omega), if_neg (by omega), if_neg (by omega), if_neg (by omega), if_neg (by omega), if_pos (by omega)] at hr
    refine ⟨ne, mo0, m40, fun c => ?_, fun c => ⟨ne, mo0, m40, ?_⟩⟩
    · rw [rd J 8 m (by decide) (by decide)] at c
      rw [if_neg (by omega)] at hr
      exact t_jnil (P := True) hG J b z0 hX (by rw [if_pos trivial]; exact hr) (by rw [zif]; simp) fun q J => hQ _ _ q J
    · rw [rd J 8 m (by decide) (by decide)] at c ⊢
      rw [if_pos (by omega)] at hr
      rw [w32_i (z := L 8 m - 1) (by omega) (by omega)]
      exact t_jpull hG J b z0 hX hr fun r h1 _ hr J => t_jnil (P := True) hG J b z0 hX (by rw [if_pos trivial]; exact hr) (by rw [zif]; simp) fun q J => hQ _ _ q J
  · have o' : L 19 k = 32 := by omega
    clear o
    unfold jI at hr
    rw [if_neg (by omega), if_neg (by omega), if_neg (by omega), if_neg (by omega), if_neg (by omega), if_neg (by omega), if_neg (by omega), if_neg (by omega), if_neg (by omega), if_neg (by omega), if_neg (by omega), if_neg (by omega), if_neg (by omega), if_neg (by omega), if_neg (by omega), if_neg (by omega), if_neg (by omega), if_neg (by omega), if_neg (by omega), if_neg (by omega), if_neg (by omega), if_neg (by omega), if_neg (by omega), if_neg (by omega), if_pos (by omega)] at hr
    exact t_jpull hG J b z0 hX hr fun r h1 _ hr J => fin hr J
  · have o' : L 19 k = 33 := by omega
    clear o
    unfold jI at hr
    rw [if_neg (by omega), if_neg (by omega), if_neg (by omega), if_neg (by omega), if_neg (by omega), if_neg (by omega), if_neg (by omega), if_neg (by omega), if_neg (by omega), if_neg (by omega), if_neg (by omega), if_neg (by omega), if_neg (by omega), if_neg (by omega), if_neg (by omega), if_neg (by omega), if_neg (by omega), if_neg (by omega), if_neg (by omega), if_neg (by omega), if_neg (by omega), if_neg (by omega), if_neg (by omega), if_neg (by omega), if_neg (by omega), if_pos (by omega)] at hr
    exact t_jpull hG J b z0 hX hr fun r h1 _ hr J => t_jlay hG J b z0 hX (Or.inr rfl) hr fun h1 hr J => fin hr J
  · have o' : L 19 k = 34 := by omega
    clear o
    unfold jI at hr
    rw [if_neg (by omega), if_neg (by omega), if_neg (by omega), if_neg (by omega), if_neg (by omega), if_neg (by omega), if_neg (by omega), if_neg (by omega), if_neg (by omega), if_neg (by omega), if_neg (by omega), if_neg (by omega), if_neg (by omega), if_neg (by omega), if_neg (by omega), if_neg (by omega), if_neg (by omega), if_neg (by omega), if_neg (by omega), if_neg (by omega), if_neg (by omega), if_neg (by omega), if_neg (by omega), if_neg (by omega), if_neg (by omega), if_neg (by omega), if_neg (by omega)] at hr
    exact fin hr J
  · have o' : L 19 k = 35 := by omega
    clear o
    unfold jI at hr
    rw [if_neg (by omega), if_neg (by omega), if_neg (by omega), if_neg (by omega), if_neg (by omega), if_neg (by omega), if_neg (by omega), if_neg (by omega), if_neg (by omega), if_neg (by omega), if_neg (by omega), if_neg (by omega), if_neg (by omega), if_neg (by omega), if_neg (by omega), if_neg (by omega), if_neg (by omega), if_neg (by omega), if_neg (by omega), if_neg (by omega), if_neg (by omega), if_neg (by omega), if_neg (by omega), if_neg (by omega), if_neg (by omega), if_neg (by omega), if_neg (by omega)] at hr
    exact fin hr J
  · have o' : L 19 k = 36 := by omega
    clear o
    unfold jI at hr
    rw [if_neg (by omega), if_neg (by omega), if_neg (by omega), if_neg (by omega), if_neg (by omega), if_neg (by omega), if_neg (by omega), if_neg (by omega), if_neg (by omega), if_neg (by omega), if_neg (by omega), if_neg (by omega), if_neg (by omega), if_neg (by omega), if_neg (by omega), if_neg (by omega), if_neg (by omega), if_neg (by omega), if_neg (by omega), if_neg (by omega), if_neg (by omega), if_neg (by omega), if_neg (by omega), if_neg (by omega), if_neg (by omega), if_neg (by omega), if_pos (by omega)] at hr
    refine t_withName hG ne (fun o i a c => rd J o i a c) (show 0 ≤ L 0 6 by omega) (show L 0 6 ≤ 40 by omega) ?_
    intro x11 e11
    subst e11
    have hr' := prj_if hr
    rw [rd J 7 _ (by decide) (by decide), rd J 8 _ (by decide) (by decide)]
    have wl0 : ¬ wnm L (L 20 k) = -1 → 0 ≤ wnm L (L 20 k) ∧ wnm L (L 20 k) < L 0 6 := fun c => by
      have c' : 0 ≤ wnm L (L 20 k) := by
        apply Classical.byContradiction
        intro d
        exact c (wnm_m1 (by omega))
      exact ⟨c', wnm_lt c'⟩
    refine ⟨fun c => ?_, ?_⟩
    · have q := wl0 c
      exact ⟨ne, q.1, by omega, fun _ => ⟨ne, q.1, by omega⟩⟩
    refine t_wrongIf hG J.1 b z0 J.2.1.2.2.2 (fun c => ?_) (fun c => ?_)
    · have n1 : ¬ wnm L (L 20 k) = -1 := fun d => by rw [if_pos d] at c; exact absurd c (by decide)
      rw [if_neg n1] at c
      have n2 : L 7 (wnm L (L 20 k)) = 1 := by
        apply Classical.byContradiction
        intro d
        rw [if_neg d] at c
        exact absurd c (by decide)
      rw [if_pos n2] at c
      have n3 : L 8 (wnm L (L 20 k)) = 0 := by
        apply Classical.byContradiction
        intro d
        rw [if_neg d] at c
        exact absurd c (by decide)
      have hr2 := hr'.2 (fun q => by
        have := wl0 n1
        rcases q with q | q | q
        · omega
        · exact q n2
        · exact q n3)
      exact t_jpull hG J b z0 hX hr2 fun r h1 _ hr J => fin hr J
    · refine hX _ (hr'.1 ?_)
      apply Classical.byContradiction
      intro d
      have d1 : ¬ wnm L (L 20 k) < 0 := fun q => d (Or.inl q)
      have d2 : L 7 (wnm L (L 20 k)) = 1 := Classical.byContradiction fun q => d (Or.inr (Or.inl q))
      have d3 : L 8 (wnm L (L 20 k)) = 0 := Classical.byContradiction fun q => d (Or.inr (Or.inr q))
      rw [if_neg (by omega), if_pos d2, if_pos d3] at c
      exact c rfl
end
