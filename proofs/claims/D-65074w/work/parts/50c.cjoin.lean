/-! Part 50c: states joined -/
theorem i_or01 {x y : Int} (hx : x = 0 ∨ x = 1) (hy : y = 0 ∨ y = 1) : (i_or x y = 0 ∨ i_or x y = 1) ∧ (i_or x y = 0 ↔ x = 0 ∧ y = 0) := by
  rcases hx with e | e <;> rcases hy with f | f <;> subst e f <;> decide
theorem i_and_self {a : Int} (ha : c32 a) : i_and a a = a := bi_ext (c32_i_and _ _) ha (fun s _ _ => by rw [bi_and, Bool.and_self])
theorem st_dis {h : MH} {s t : Int} (ss : stO h s) (st : stO h t) (hne : s ≠ t) : ∀ k, 0 ≤ k → k < 16 → ¬ (s + 2 ≤ t + 2 + k ∧ t + 2 + k < s + 18) ∧ t + 2 + k ≠ s := by
  intro k k0 k1
  have a1 := ss.2.2.2.2.2.2
  have a2 := st.2.2.2.2.2.2
  refine ⟨fun q => ?_, fun q => ?_⟩
  · by_cases e : t < s
    · by_cases e1 : s = t + 1
      · have := st.2.2.2.2.1
        rw [← e1, ss.2.2.1] at this
        cases this
      · have := (a2 (s - t - 2) (by omega) (by omega)).2
        rw [show t + 2 + (s - t - 2) = s by omega, ss.2.2.1] at this
        cases this
    · by_cases e1 : t = s + 1
      · have := ss.2.2.2.2.1
        rw [← e1, st.2.2.1] at this
        cases this
      · have := (a1 (t - s - 2) (by omega) (by omega)).2
        rw [show s + 2 + (t - s - 2) = t by omega, st.2.2.1] at this
        cases this
  · have := (a2 k k0 k1).2
    rw [q, ss.2.2.1] at this
    cases this
theorem ons_fo {h g : MH} {s t : Int} (o : ons s h g) (ss : stO h s) (st : stO h t) (hne : s ≠ t) {k : Int} (k0 : 0 ≤ k) (k1 : k < 16) : fo g (t + 2 + k) = fo h (t + 2 + k) := by
  obtain ⟨d1, d2⟩ := st_dis ss st hne k k0 k1
  exact fo_eq (fun j => o.2 _ j (fun q => d2 q.1) d1)
/-- the state s joined with t, in the slots of D; v = 0: nothing is more than it was -/
def jInv (h : MH) (s t : Int) (D : Int → Prop) (B : Prop) (g : MH) (v : Int) : Prop :=
  ons s h g ∧ hv g s 0 = 1 ∧ hv g s 2 = (if hv h s 0 = 0 then hv h t 2 else i_and (hv h s 2) (hv h t 2)) ∧ hv g s 3 = (if hv h s 0 = 0 then hv h t 3 else i_or (hv h s 3) (hv h t 3)) ∧
  (∀ k, 0 ≤ k → k < 16 → (D k → fo g (s + 2 + k) = fjoin (fo h (s + 2 + k)) (fo h (t + 2 + k))) ∧ (¬ D k → fo g (s + 2 + k) = fo h (s + 2 + k))) ∧ (v = 0 ∨ v = 1) ∧ (v = 0 ↔ B ∧ ∀ k, D k → fle (fo h (t + 2 + k)) (fo h (s + 2 + k)))
theorem jInv_eq {h g : MH} {s t v : Int} {D D' : Int → Prop} {B : Prop} (e : ∀ k, D k ↔ D' k) (q : jInv h s t D B g v) : jInv h s t D' B g v := by
  rw [show D' = D from funext fun k => propext (e k).symm]
  exact q
theorem jInv_st {h g : MH} {s t v : Int} {D : Int → Prop} {B : Prop} (ss : stO h s) (st : stO h t) (hne : s ≠ t) (q : jInv h s t D B g v) {k : Int} (k0 : 0 ≤ k) (k1 : k < 16) (nD : ¬ D k) {z : Int} (zz : z = 0 ∨ z = 1) (ze : z = 0 ↔ fle (fo g (t + 2 + k)) (fo g (s + 2 + k))) :
    jInv h s t (fun j => D j ∨ j = k) B (fw g (s + 2 + k) (fjoin (fo g (s + 2 + k)) (fo g (t + 2 + k)))) (i_or v z) := by
  obtain ⟨o, y0, y2, y3, yf, yv, yz⟩ := q
  have e1 : fo g (t + 2 + k) = fo h (t + 2 + k) := ons_fo o ss st hne k0 k1
  have e2 : fo g (s + 2 + k) = fo h (s + 2 + k) := (yf k k0 k1).2 nD
  rw [e1, e2] at ze ⊢
  have su : asu (fjoin (fo h (s + 2 + k)) (fo h (t + 2 + k))) = 0 := by
    unfold fjoin
    split
    · rfl
    · split
      · rfl
      · have z1 : asu (fo h (s + 2 + k)) = 0 := rfl
        have z2 : asu (fo h (t + 2 + k)) = 0 := rfl
        show i_and (asu (fo h (s + 2 + k))) (asu (fo h (t + 2 + k))) = 0
        rw [z1, z2]
        decide
  obtain ⟨o1, o2⟩ := i_or01 yv zz
  refine ⟨ons_tr o (ons_fw k0 k1), by rw [fw_ne (by omega)]; exact y0, by rw [fw_ne (by omega)]; exact y2, by rw [fw_ne (by omega)]; exact y3, fun j j0 j1 => ⟨fun q => ?_, fun q => ?_⟩, o1, ?_⟩
  · by_cases e : j = k
    · subst e
      exact fo_fw0 su
    · rw [fo_ne (by omega)]
      exact (yf j j0 j1).1 (q.resolve_right e)
  · rw [fo_ne (fun e => q (Or.inr (by omega)))]
    exact (yf j j0 j1).2 (fun e => q (Or.inl e))
  · rw [o2, yz, ze]
    constructor
    · intro ⟨⟨q1, q2⟩, q3⟩
      refine ⟨q1, fun j q => ?_⟩
      rcases q with q | q
      · exact q2 j q
      · rw [q]; exact q3
    · intro ⟨q1, q2⟩
      exact ⟨⟨q1, fun j q => q2 j (Or.inl q)⟩, q2 k (Or.inr rfl)⟩
/-- the slots that are joined -/
def jdm (n d k : Int) : Prop := (0 ≤ k ∧ k < n) ∨ (8 ≤ k ∧ k < 8 + d)
/-- the state s joined with t: its n locals and d values -/
def jSt (h : MH) (s t n d : Int) (h' : MH) (z : Int) : Prop :=
  jInv h s t (jdm n d) (hv h s 0 ≠ 0 ∧ (∀ b : Int, bi (hv h s 2) b = true → bi (hv h t 2) b = true) ∧ ∀ b : Int, bi (hv h t 3) b = true → bi (hv h s 3) b = true) h' z
section CJ
variable {l : Launch} {G : JG} {h : MH} {s t n d : Int} {Q : Int → MH → Prop} {E : Nat → Int → MH → Prop}
theorem c_Sjoin (hG : gO G = true) (ss : stO h s) (st : stO h t) (hne : s ≠ t) (n0 : 0 ≤ n) (n1 : n ≤ 8) (d0 : 0 ≤ d) (d1 : d ≤ 8) (hQ : ∀ h' z, jSt h s t n d h' z → Q z h') : S_X3_join l G [(2003, s), (7, t), (0, n), (0, d)] h Q E := by
  refine Sem_hyp fun H ok => ?_
  have t0 : t ≠ 0 := by have := st.1; omega
  have hzs : s ≤ hz h := by have := ss.2.1; omega
  have hzt : t ≤ hz h := by have := st.2.1; omega
  have z0 := okf_z (hok_fld H ss.1 hzs ss.2.2.1 (by decide) 0 (by decide))
  have c2 : c32 (hv h t 2) := okf_i (hok_fld H st.1 hzt st.2.2.1 (by decide) 2 (by decide))
  have c3 : c32 (hv h t 3) := okf_i (hok_fld H st.1 hzt st.2.2.1 (by decide) 3 (by decide))
  refine s_X3_join rfl fun K ki => ?_
  have adr : ∀ g : MH, ons s h g → ∀ k, 0 ≤ k → k < 16 → hv g s 1 = s + 1 ∧ hn g (s + 1) = 16 ∧ hv g (s + 1) k = s + 2 + k ∧ hv g t 1 = t + 1 ∧ hn g (t + 1) = 16 ∧ hv g (t + 1) k = t + 2 + k := by
    intro g o k k0 k1
    obtain ⟨s1, s2, s3, s4, s5, s6, s7⟩ := ons_st o ss ss
    obtain ⟨u1, u2, u3, u4, u5, u6, u7⟩ := ons_st o ss st
    exact ⟨s4, s6, (s7 k k0 k1).1, u4, u6, (u7 k k0 k1).1⟩
  have s1 := ss.1
  have t1 := st.1
  have loop2 : ∀ N : Nat, ∀ (k v : Int) (g : MH), N = (8 + d - k).toNat → 8 ≤ k → k ≤ 8 + d → jInv h s t (fun j => (0 ≤ j ∧ j < n) ∨ (8 ≤ j ∧ j < k)) (hv h s 0 ≠ 0 ∧ (∀ b : Int, bi (hv h s 2) b = true → bi (hv h t 2) b = true) ∧ ∀ b : Int, bi (hv h t 3) b = true → bi (hv h s 3) b = true) g v →
      JW K 147 [(2003, s), (7, t), (0, n), (0, d), (0, v), (0, k)] [] g := by
    intro N
    induction N with
    | zero =>
      intro k v g eN k0 k1 q
      refine r_X3_join_147 ki hG ⟨fun _ => ⟨q.2.2.2.2.2.1, hQ g v (jInv_eq (fun j => ?_) q)⟩, fun q => by rw [w32_i (by omega) (by omega)] at q; omega⟩
      unfold jdm
      omega
    | succ N ih =>
      intro k v g eN k0 k1 q
      refine r_X3_join_147 ki hG ⟨fun q => by rw [w32_i (by omega) (by omega)] at q; omega, fun _ => ?_⟩
      obtain ⟨a1, a2, a3, a4, a5, a6⟩ := adr g q.1 k (by omega) (by omega)
      rw [a1, a3, a4, a6]
      refine ⟨by omega, by omega, by rw [a2]; omega, t0, by omega, by omega, by rw [a5]; omega, by omega, c_join hG (by omega) fun z zz ze x ex y ey => ?_⟩
      rw [w32_i (by omega) (by omega)] at ey
      subst ex ey
      refine ih (k + 1) _ _ (by omega) (by omega) (by omega) (jInv_eq (fun j => ?_) (jInv_st ss st hne q (by omega) (by omega) (by omega) zz ze))
      omega
  have loop1 : ∀ N : Nat, ∀ (k v : Int) (g : MH), N = (n - k).toNat → 0 ≤ k → k ≤ n → jInv h s t (fun j => 0 ≤ j ∧ j < k) (hv h s 0 ≠ 0 ∧ (∀ b : Int, bi (hv h s 2) b = true → bi (hv h t 2) b = true) ∧ ∀ b : Int, bi (hv h t 3) b = true → bi (hv h s 3) b = true) g v →
      JW K 109 [(2003, s), (7, t), (0, n), (0, d), (0, v), (0, k)] [] g := by
    intro N
    induction N with
    | zero =>
      intro k v g eN k0 k1 q
      refine r_X3_join_109 ki hG ⟨fun _ x ex => ?_, fun q => by omega⟩
      subst ex
      refine loop2 _ 8 v g rfl (by decide) (by omega) (jInv_eq (fun j => ?_) q)
      omega
    | succ N ih =>
      intro k v g eN k0 k1 q
      refine r_X3_join_109 ki hG ⟨fun q => by omega, fun _ => ?_⟩
      obtain ⟨a1, a2, a3, a4, a5, a6⟩ := adr g q.1 k (by omega) (by omega)
      rw [a1, a3, a4, a6]
      refine ⟨by omega, by omega, by rw [a2]; omega, t0, by omega, by omega, by rw [a5]; omega, by omega, c_join hG (by omega) fun z zz ze x ex y ey => ?_⟩
      rw [w32_i (by omega) (by omega)] at ey
      subst ex ey
      refine ih (k + 1) _ _ (by omega) (by omega) (by omega) (jInv_eq (fun j => ?_) (jInv_st ss st hne q (by omega) (by omega) (by omega) zz ze))
      omega
  have more : ∀ x : Int, ∀ a b : Int, x = (if i_and a (i_xor b (-1)) = 0 then (if i_and (hv h t 3) (i_xor (hv h s 3) (-1)) = 0 then 0 else 1 : Int) else 1 : Int) → (x = 0 ∨ x = 1) ∧ (x = 0 ↔ (∀ c : Int, bi a c = true → bi b c = true) ∧ ∀ c : Int, bi (hv h t 3) c = true → bi (hv h s 3) c = true) := by
    intro x a b ex
    rw [← and_not, ← and_not, ex]
    split
    · rename_i q1
      split
      · rename_i q2
        exact ⟨Or.inl rfl, fun _ => ⟨q1, q2⟩, fun _ => rfl⟩
      · rename_i q2
        exact ⟨Or.inr rfl, fun q => by omega, fun q => absurd q.2 q2⟩
    · rename_i q1
      exact ⟨Or.inr rfl, fun q => by omega, fun q => absurd q.1 q1⟩
  refine r_X3_join_0 ki hG fun x ex => ⟨fun e0 => ⟨t0, fun _ => t0, fun x2 ex2 => ⟨t0, fun h3 e3 => ⟨t0, fun h4 e4 y ey => ?_⟩⟩⟩, fun e0 => ⟨t0, fun h6 e6 => ⟨t0, fun h7 e7 => ⟨Or.inr rfl, fun h8 e8 => ⟨t0, fun _ => t0, fun x9 ex9 => ⟨t0, fun h10 e10 => ⟨t0, fun h11 e11 y ey => ?_⟩⟩⟩⟩⟩⟩⟩
  · rw [if_neg e0] at ex
    subst ex e3 ey
    rw [ne_k (by decide), ne_a hne.symm] at e4
    subst e4
    obtain ⟨m1, m2⟩ := more _ _ _ rfl
    obtain ⟨o1, o2⟩ := i_or01 (x := 0) (Or.inl rfl) m1
    rw [← ex2] at o1 o2
    have ea : hv h s 0 = 1 := by rcases z0 with q | q; exact absurd q e0; exact q
    refine loop1 _ 0 _ _ rfl (by decide) n0 ⟨ons_tr (ons_set (by omega)) (ons_set (by omega)), ?_, ?_, ?_, fun k k0 k1 => ⟨fun q => by omega, fun _ => fo_eq (fun j => ?_)⟩, o1, ?_⟩
    · rw [ne_k (by decide), ne_k (by decide)]; exact ea
    · rw [ne_k (by decide), eq_a, if_neg e0]
    · rw [eq_a, if_neg e0]
    · rw [ne_a (by omega), ne_a (by omega)]
    · rw [o2, m2]
      constructor
      · intro q
        exact ⟨⟨e0, q.2.1, q.2.2⟩, fun k q => by omega⟩
      · intro q
        exact ⟨rfl, q.1.2.1, q.1.2.2⟩
  · rw [if_pos e0] at ex
    subst ex e6 ey
    rw [ne_a hne.symm] at e7
    subst e7 e8
    have r1 : ∀ (g : MH), g = hset (hset (hset h s 2 (hv h t 2)) s 3 (hv h t 3)) s 0 1 → hv g s 2 = hv h t 2 ∧ hv g s 3 = hv h t 3 ∧ hv g t 2 = hv h t 2 ∧ hv g t 3 = hv h t 3 ∧ hv g s 0 = 1 := by
      intro g eg
      subst eg
      refine ⟨?_, ?_, ?_, ?_, eq_a⟩
      · rw [ne_k (by decide), ne_k (by decide), eq_a]
      · rw [ne_k (by decide), eq_a]
      · rw [ne_a hne.symm, ne_a hne.symm, ne_a hne.symm]
      · rw [ne_a hne.symm, ne_a hne.symm, ne_a hne.symm]
    obtain ⟨g2, g3, k2, k3, g0⟩ := r1 _ rfl
    rw [g2, k2, i_and_self c2] at e10
    subst e10
    rw [ne_k (by decide), ne_a hne.symm, g3, k3, i_or_self c3] at e11
    subst e11
    have o1 : x9 = 1 := by
      have q1 : ∀ w : Int, (w = 0 ∨ w = 1) → i_or 1 w = 1 := by
        intro w hw
        rcases hw with e | e <;> subst e <;> decide
      rw [ex9]
      refine q1 _ ?_
      split
      · split
        · exact Or.inl rfl
        · exact Or.inr rfl
      · exact Or.inr rfl
    refine loop1 _ 0 _ _ rfl (by decide) n0 ⟨ons_tr (ons_set (by omega)) (ons_tr (ons_set (by omega)) (ons_tr (ons_set (by omega)) (ons_tr (ons_set (by omega)) (ons_set (by omega))))), ?_, ?_, ?_, fun k k0 k1 => ⟨fun q => by omega, fun _ => fo_eq (fun j => ?_)⟩, Or.inr o1, ?_⟩
    · rw [ne_k (by decide), ne_k (by decide)]; exact g0
    · rw [ne_k (by decide), eq_a, if_pos e0]
    · rw [eq_a, if_pos e0]
    · rw [ne_a (by omega), ne_a (by omega), ne_a (by omega), ne_a (by omega), ne_a (by omega)]
    · rw [o1]
      constructor
      · intro q
        omega
      · intro q
        exact absurd e0 q.1.1
end CJ
