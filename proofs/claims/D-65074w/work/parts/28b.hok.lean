/-! Part 39: what every heap of a run has: values fit their fields; rows about hset -/
/-- the cells' values fit their kinds -/
def HOK (G : JG) (h : MH) : Prop := 0 ≤ hz h ∧ hz h ≤ LIMC ∧ hs h ≤ LIMS ∧ (∀ a : Int, 1 ≤ a → a ≤ hz h →
  ((ht h a < 100 ∧ ∀ k : Nat, k < (nft (ht h a)).length → okf h (fty (ht h a) k) (hv h a k)) ∨
   (100 ≤ ht h a ∧ 0 ≤ hn h a ∧ hn h a ≤ 2147483647 ∧ ∀ j : Nat, (j : Int) < hn h a → okf h (ety (ht h a)) (hv h a j)))) ∧ (gO G = true → kF h)
theorem HOK_of {G : JG} {h : MH} {H : Heap} (r : JR G h H) : HOK G h := by
  obtain ⟨r1, r2, r3, r4, r5, r6, r7, r8⟩ := r
  refine ⟨r1, r4, r5, fun a a1 a2 => ?_, r8⟩
  obtain ⟨cell, c1, c2, c3⟩ := r6 a a1 a2
  rcases c3 with ⟨d1, d2, d3⟩ | ⟨d1, d2, d3, d4, d5, d6⟩
  · exact Or.inl ⟨d1, fun k hk => (d3 k hk).2⟩
  · exact Or.inr ⟨d1, d3, d4, fun j hj => (d6 j hj).2⟩
theorem JW_hyp {K : JC} {pc : Nat} {lv st : List LV} {h : MH} (f : HOK (kG K) h → (∀ x ∈ lv, okv h x) → ext (kH K) h → JW K pc lv st h) : JW K pc lv st h :=
  fun ls H locs a b c d e => f (HOK_of d) b e.2 ls H locs a b c d e
theorem Sem_hyp {l : Launch} {G : JG} {y : MethodName} {ws : List Cond} {F Lo rt : Nat} {as : List LV} {h : MH} {Q : Int → MH → Prop} {E : Nat → Int → MH → Prop} (f : HOK G h → (∀ x ∈ as, okv h x) → Sem l G y ws F Lo rt as h Q E) : Sem l G y ws F Lo rt as h Q E := by
  intro nc ns p e ha hc hk s m args below hf happ hP hK
  exact f (HOK_of hP.2.2.1) hP.2.2.2.1 nc ns p e ha hc hk s m args below hf happ hP hK
/-- a value of an array -/
theorem hok_arr {G : JG} {h : MH} (H : HOK G h) {a j : Int} {t : Nat} (a1 : 1 ≤ a) (a2 : a ≤ hz h) (a3 : ht h a = t) (ht1 : 100 ≤ t) (j0 : 0 ≤ j) (j1 : j < hn h a) : okf h (ety t) (hv h a j) := by
  rcases H.2.2.2.1 a a1 a2 with q | q
  · exact absurd q.1 (by omega)
  · have := q.2.2.2 j.toNat (by omega)
    rw [show ((j.toNat : Nat) : Int) = j by omega, a3] at this
    exact this
/-- a value of a field -/
theorem hok_fld {G : JG} {h : MH} (H : HOK G h) {a : Int} {t : Nat} (a1 : 1 ≤ a) (a2 : a ≤ hz h) (a3 : ht h a = t) (ht1 : t < 100) (k : Nat) (hk : k < (nft t).length) : okf h (fty t k) (hv h a k) := by
  rcases H.2.2.2.1 a a1 a2 with q | q
  · have := q.2 k (by rw [a3]; exact hk)
    rw [a3] at this
    exact this
  · exact absurd q.1 (by omega)
theorem okf_i {h : MH} {z : Int} (q : okf h 0 z) : c32 z := by unfold okf at q; simpa using q
theorem okf_l {h : MH} {z : Int} (q : okf h 1 z) : c64 z := by unfold okf at q; simpa using q
theorem okf_z {h : MH} {z : Int} (q : okf h 2 z) : z = 0 ∨ z = 1 := by unfold okf at q; simpa using q
theorem okf_b {h : MH} {z : Int} (q : okf h 3 z) : -128 ≤ z ∧ z ≤ 127 := by unfold okf at q; simpa using q
theorem h2_set (h : MH) (a k x : Int) : (hset h a k x).2 = h.2 := rfl
theorem w32_i {z : Int} (a : -2147483648 ≤ z) (b : z ≤ 2147483647) : w32 z = z := w32_id ⟨a, b⟩
theorem w64_i {z : Int} (a : -9223372036854775808 ≤ z) (b : z ≤ 9223372036854775807) : w64 z = z := w64_id ⟨a, b⟩
theorem ne_a {h : MH} {a b k x j : Int} (e : b ≠ a) : hv (hset h a k x) b j = hv h b j := by rw [hv_set, if_neg (fun q => e q.1)]
theorem eq_a {h : MH} {a k x : Int} : hv (hset h a k x) a k = x := by rw [hv_set, if_pos ⟨rfl, rfl⟩]
theorem ne_k {h : MH} {a b k x j : Int} (e : j ≠ k) : hv (hset h a k x) b j = hv h b j := by rw [hv_set, if_neg (fun q => e q.2)]
/-- heaps that have all but values alike -/
theorem mh_ext {h h' : MH} (e : h'.2 = h.2) (f : ∀ a j, hv h' a j = hv h a j) : h' = h := by
  obtain ⟨a, b⟩ := h
  obtain ⟨a', b'⟩ := h'
  have : a' = a := by funext x y; exact f x y
  simp only at e
  rw [this, e]
/-- a heap with other values -/
def hmk (h : MH) (f : Int → Int → Int) : MH := (f, h.2)
theorem hv_mk (h : MH) (f : Int → Int → Int) (a j : Int) : hv (hmk h f) a j = f a j := rfl
theorem h2_mk (h : MH) (f : Int → Int → Int) : (hmk h f).2 = h.2 := rfl
theorem h2_hz {h h' : MH} (e : h'.2 = h.2) : hz h' = hz h := by unfold hz; rw [e]
theorem h2_hs {h h' : MH} (e : h'.2 = h.2) : hs h' = hs h := by unfold hs; rw [e]
theorem h2_ht {h h' : MH} (e : h'.2 = h.2) (a : Int) : ht h' a = ht h a := by unfold ht; rw [e]
theorem h2_hn {h h' : MH} (e : h'.2 = h.2) (a : Int) : hn h' a = hn h a := by unfold hn; rw [e]
/-- a loop up to a bound: by induction on what is left -/
theorem up_ind {P : Int → MH → Prop} {R : Int → MH → Prop} {n : Int} (stp : ∀ k h, P k h → k < n → (∀ h', P (k + 1) h' → R (k + 1) h') → R k h) (fin : ∀ k h, P k h → n ≤ k → R k h) : ∀ k h, P k h → R k h := by
  have key : ∀ m : Nat, ∀ k h, (n - k).toNat ≤ m → P k h → R k h := by
    intro m
    induction m with
    | zero => intro k h hm hp; exact fin k h hp (by omega)
    | succ m ih =>
      intro k h hm hp
      by_cases c : k < n
      · exact stp k h hp c (fun h' hp' => ih (k + 1) h' (by omega) hp')
      · exact fin k h hp (by omega)
  exact fun k h hp => key _ k h (Nat.le_refl _) hp
/-- a loop down to 0 -/
theorem dn_ind {P : Int → MH → Prop} {R : Int → MH → Prop} (stp : ∀ k h, P k h → 0 ≤ k → (∀ h', P (k - 1) h' → R (k - 1) h') → R k h) (fin : ∀ k h, P k h → k < 0 → R k h) : ∀ k h, P k h → R k h := by
  have key : ∀ m : Nat, ∀ k h, (k + 1).toNat ≤ m → P k h → R k h := by
    intro m
    induction m with
    | zero => intro k h hm hp; exact fin k h hp (by omega)
    | succ m ih =>
      intro k h hm hp
      by_cases c : k < 0
      · exact fin k h hp c
      · exact stp k h hp (by omega) (fun h' hp' => ih (k - 1) h' (by omega) hp')
  exact fun k h hp => key _ k h (Nat.le_refl _) hp
