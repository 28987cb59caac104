/-! Part 51v: which sites lead to which methods, in the component -/
section RV
variable {l : Launch} {G : JG} {h g : MH} {L : PG} {k M d r x nm : Int} {X : Int → FA} {lk : FA} {P : TB → Prop} {Q : Int → MH → Prop} {E : Nat → Int → MH → Prop}
theorem W_recv (hG : gO G = true) (w : WF L) (t : tiv L (cT h L)) (hr : rch (cT h L) k) (up : ∀ U V, tle U V → P U → P V) (c : wcf h g L k M X lk d P) (hrr : 82 ≤ r ∧ r < 98) (ex : hv g r 4 = x) (bs : ∀ s, 0 ≤ s → bl x s = true → s < pNt L)
    (fR : ∀ good, (∀ s, 0 ≤ s → (bl good s = true ↔ bl x s = true ∧ 1 ≤ s ∧ 0 ≤ sent L s nm)) → ∀ U, tbok U → CLz L (cT h L) U k → rfx L k (cT h L 0 k) (cT h L 6 k 0) x good U)
    (hQ : ∀ good g', c64 good → (∀ s, 0 ≤ s → (bl good s = true ↔ bl x s = true ∧ 1 ≤ s ∧ 0 ≤ sent L s nm)) → (∀ c, 0 ≤ c → c < 40 → c64 (hv g' 143 c) ∧ ∀ s, 0 ≤ s → (bl (hv g' 143 c) s = true ↔ bl x s = true ∧ 1 ≤ s ∧ sent L s nm = c)) →
      wcf h g' L k M X lk d (fun U => P U ∧ rfx L k (cT h L 0 k) (cT h L 6 k 0) x good U) → Q good g') : S_X2_findReceivers l G [(2002, 3), (8, r), (0, nm)] g Q E := by
  have nn := w.n
  unfold WFn at nn
  have c64z : c64 (0 : Int) := by unfold c64; omega
  have wset : ∀ (g2 : MH) (i v : Int) (P' : TB → Prop), wcf h g2 L k M X lk d P' → wcf h (hset g2 143 i v) L k M X lk d P' := fun g2 i v P' c2 => wcf_sm w c2 (smC_set (by unfold scw; omega)) (fun b j hb => ne_a (by omega))
  refine s_X2_findReceivers rfl fun K ki => r_X2_findReceivers_0 ki hG ?_
  -- the loop over sites
  have second : ∀ N : Nat, ∀ n good : Int, ∀ g2 : MH, (pNt L - n).toNat ≤ N → 1 ≤ n → n ≤ pNt L → c64 good → (∀ s, 0 ≤ s → (bl good s = true ↔ bl x s = true ∧ 1 ≤ s ∧ s < n ∧ 0 ≤ sent L s nm)) → (∀ c, 0 ≤ c → c < 40 → c64 (hv g2 143 c) ∧ ∀ s, 0 ≤ s → (bl (hv g2 143 c) s = true ↔ bl x s = true ∧ 1 ≤ s ∧ s < n ∧ sent L s nm = c)) → wcf h g2 L k M X lk d P → hv g2 r 4 = x →
      JW K 26 [(2002, 3), (8, r), (0, nm), (1, good), (5000, 0), (0, n), (5000, 0)] [] g2 := by
    have last : ∀ good : Int, ∀ g2 : MH, c64 good → (∀ s, 0 ≤ s → (bl good s = true ↔ bl x s = true ∧ 1 ≤ s ∧ s < pNt L ∧ 0 ≤ sent L s nm)) → (∀ c, 0 ≤ c → c < 40 → c64 (hv g2 143 c) ∧ ∀ s, 0 ≤ s → (bl (hv g2 143 c) s = true ↔ bl x s = true ∧ 1 ≤ s ∧ s < pNt L ∧ sent L s nm = c)) → wcf h g2 L k M X lk d P → hv g2 r 4 = x →
        JW K 26 [(2002, 3), (8, r), (0, nm), (1, good), (5000, 0), (0, pNt L), (5000, 0)] [] g2 := by
      intro good g2 cg bg br c2 ex2
      have cp := (wcf_st c2).1.1
      have bg' : ∀ s, 0 ≤ s → (bl good s = true ↔ bl x s = true ∧ 1 ≤ s ∧ 0 ≤ sent L s nm) := fun s s0 => by
        rw [bg s s0]
        exact ⟨fun y => ⟨y.1, y.2.1, y.2.2.2⟩, fun y => ⟨y.1, y.2.1, bs s s0 y.1, y.2.2⟩⟩
      refine r_X2_findReceivers_26 ki hG ⟨by have := cp.1.1; omega, ?_⟩
      rw [cp.2.1.2.2, w32_i (by omega) (by omega)]
      refine ⟨fun _ => ?_, fun y => by omega⟩
      refine W_refuse hG w t hr up c2 (Or.inl hrr) ex2 (fR good bg') fun g3 c3 ws3 => hQ good g3 cg bg' (fun c c0 c1 => ?_) c3
      have e3 : hv g3 143 c = hv g2 143 c := ws3 143 c (by omega)
      rw [e3]
      refine ⟨(br c c0 c1).1, fun s s0 => ?_⟩
      rw [(br c c0 c1).2 s s0]
      exact ⟨fun y => ⟨y.1, y.2.1, y.2.2.2⟩, fun y => ⟨y.1, y.2.1, bs s s0 y.1, y.2.2⟩⟩
    intro N
    induction N with
    | zero =>
      intro n good g2 n1 n2 n3 cg bg br c2 ex2
      have en : n = pNt L := by omega
      subst en
      exact last good g2 cg bg br c2 ex2
    | succ N ih =>
      intro n good g2 n1 n2 n3 cg bg br c2 ex2
      by_cases en : n = pNt L
      · subst en
        exact last good g2 cg bg br c2 ex2
      have aN : (pNt L - (n + 1)).toNat ≤ N ∧ 1 ≤ n + 1 ∧ n + 1 ≤ pNt L := by omega
      have cp := (wcf_st c2).1.1
      refine r_X2_findReceivers_26 ki hG ⟨by have := cp.1.1; omega, ?_⟩
      rw [cp.2.1.2.2, w32_i (by omega) (by omega), ex2, l_bit (by omega) (by omega)]
      -- nothing new
      have skip : (bl x n = true → sent L n nm < 0) → ∀ x5 : Int, x5 = w32 (n + 1) → JW K 26 [(2002, 3), (8, r), (0, nm), (1, good), (5000, 0), (0, x5), (5000, 0)] [] g2 := by
        intro no x5 e5
        rw [w32_i (by omega) (by omega)] at e5
        subst e5
        refine ih (n + 1) good g2 aN.1 aN.2.1 aN.2.2 cg (fun s s0 => ?_) (fun c c0 c1 => ⟨(br c c0 c1).1, fun s s0 => ?_⟩) c2 ex2
        · rw [bg s s0]
          constructor
          · rintro ⟨y1, y2, y3, y4⟩; exact ⟨y1, y2, by omega, y4⟩
          · rintro ⟨y1, y2, y3, y4⟩
            have : s ≠ n := fun z => by
              rw [z] at y1 y4
              have := no y1
              omega
            exact ⟨y1, y2, by omega, y4⟩
        · rw [(br c c0 c1).2 s s0]
          constructor
          · rintro ⟨y1, y2, y3, y4⟩; exact ⟨y1, y2, by omega, y4⟩
          · rintro ⟨y1, y2, y3, y4⟩
            have : s ≠ n := fun z => by
              rw [z] at y1 y4
              have := no y1
              omega
            exact ⟨y1, y2, by omega, y4⟩
      refine ⟨fun y => by omega, fun _ => ⟨by omega, fun y => ⟨by have := cp.1.1; omega, ?_⟩, fun y => skip (fun z => ?_)⟩⟩
      · have b : bl x n = true := by
          cases z : bl x n
          · rw [z, if_neg (by decide)] at y
            exact absurd (lc_z.mpr rfl) y
          · rfl
        refine c_find hG w cp n2 (by omega) ⟨fun z x6 e6 => ⟨fun z2 => absurd e6 z2, fun _ => skip (fun _ => by omega)⟩, fun z z2 x6 e6 => ?_⟩
        have cmm := (CP_ms cp).2 (sent L n nm) z z2
        have m1 := cmm.1.1
        have m0 := cmm.2.1.1
        subst e6
        rw [m0]
        refine ⟨fun _ x3 e3 => ⟨by omega, z, by omega, z, by omega, fun h7 e7 x5 e5 => ?_⟩, fun z3 => by omega⟩
        rw [w32_i (by omega) (by omega)] at e5
        subst e5
        have c7 : wcf h h7 L k M X lk d P := by rw [e7]; exact wset g2 _ _ _ c2
        refine ih (n + 1) x3 h7 aN.1 aN.2.1 aN.2.2 (by rw [e3]; exact c64_l_or _ _) (fun s s0 => ?_) (fun c c0 c1 => ?_) c7 (by rw [e7, ne_a (by omega)]; exact ex2)
        · rw [e3, bl_or, bl_shl (by omega) (by omega) s0]
          simp only [Bool.or_eq_true, decide_eq_true_eq]
          rw [bg s s0]
          constructor
          · rintro (⟨y1, y2, y3, y4⟩ | y1)
            · exact ⟨y1, y2, by omega, y4⟩
            · rw [y1]; exact ⟨b, n2, by omega, z⟩
          · rintro ⟨y1, y2, y3, y4⟩
            by_cases q : s = n
            · exact Or.inr q
            · exact Or.inl ⟨y1, y2, by omega, y4⟩
        · obtain ⟨q1, q2⟩ := br c c0 c1
          by_cases z4 : c = sent L n nm
          · rw [e7, z4, eq_a]
            rw [z4] at q2
            refine ⟨c64_l_or _ _, fun s s0 => ?_⟩
            rw [bl_or, bl_shl (by omega) (by omega) s0]
            simp only [Bool.or_eq_true, decide_eq_true_eq]
            rw [q2 s s0]
            constructor
            · rintro (⟨y1, y2, y3, y4⟩ | y1)
              · exact ⟨y1, y2, by omega, y4⟩
              · rw [y1]; exact ⟨b, n2, by omega, rfl⟩
            · rintro ⟨y1, y2, y3, y4⟩
              by_cases q : s = n
              · exact Or.inr q
              · exact Or.inl ⟨y1, y2, by omega, y4⟩
          · rw [e7, ne_k z4]
            refine ⟨q1, fun s s0 => ?_⟩
            rw [q2 s s0]
            constructor
            · rintro ⟨y1, y2, y3, y4⟩; exact ⟨y1, y2, by omega, y4⟩
            · rintro ⟨y1, y2, y3, y4⟩
              have : s ≠ n := fun q => z4 (by rw [← q]; exact y4.symm)
              exact ⟨y1, y2, by omega, y4⟩
      · rw [z, if_pos rfl] at y
        exact absurd (lc_z.mp y) (by decide)
  -- the loop that clears
  have first : ∀ N : Nat, ∀ n : Int, ∀ g2 : MH, (40 - n).toNat ≤ N → 0 ≤ n → n ≤ 40 → (∀ c, 0 ≤ c → c < n → hv g2 143 c = 0) → wcf h g2 L k M X lk d P → hv g2 r 4 = x → JW K 2 [(2002, 3), (8, r), (0, nm), (0, n), (5000, 0), (5000, 0), (5000, 0)] [] g2 := by
    have last : ∀ g2 : MH, (∀ c, 0 ≤ c → c < 40 → hv g2 143 c = 0) → wcf h g2 L k M X lk d P → hv g2 r 4 = x → JW K 2 [(2002, 3), (8, r), (0, nm), (0, 40), (5000, 0), (5000, 0), (5000, 0)] [] g2 := by
      intro g2 z c2 ex2
      refine r_X2_findReceivers_2 ki hG ⟨fun _ x3 e3 x5 e5 => ?_, fun y => by omega⟩
      subst e3 e5
      refine second _ 1 0 g2 (Nat.le_refl _) (by decide) (by omega) c64z (fun s s0 => ?_) (fun c c0 c1 => ?_) c2 ex2
      · rw [bl_zero]
        exact ⟨(fun y => by cases y), fun y => by omega⟩
      · rw [z c c0 c1]
        refine ⟨c64z, fun s s0 => ?_⟩
        rw [bl_zero]
        exact ⟨(fun y => by cases y), fun y => by omega⟩
    intro N
    induction N with
    | zero =>
      intro n g2 n1 n2 n3 z c2 ex2
      have en : n = 40 := by omega
      subst en
      exact last g2 z c2 ex2
    | succ N ih =>
      intro n g2 n1 n2 n3 z c2 ex2
      by_cases en : n = 40
      · subst en
        exact last g2 z c2 ex2
      refine r_X2_findReceivers_2 ki hG ⟨fun y => by omega, fun _ => ⟨n2, by omega, fun h3 e3 x3 ex3 => ?_⟩⟩
      rw [w32_i (by omega) (by omega)] at ex3
      subst ex3
      refine ih (n + 1) h3 (by omega) (by omega) (by omega) (fun c c0 c1 => ?_) (by rw [e3]; exact wset g2 _ _ _ c2) (by rw [e3, ne_a (by omega)]; exact ex2)
      rw [e3, hv_set]
      by_cases q : c = n
      · rw [if_pos ⟨rfl, q⟩]
      · rw [if_neg (fun y => q y.2)]; exact z c c0 (by omega)
  intro x3 e3
  subst e3
  exact first _ 0 g (Nat.le_refl _) (by decide) (by decide) (fun c c0 c1 => by omega) c ex
end RV
