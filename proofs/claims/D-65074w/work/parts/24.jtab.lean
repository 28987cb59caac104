/-! Part 24: the classes' tables (by gen/mktab.py) -/
set_option maxRecDepth 20000
/-- what is known of a class -/
def CF (t : Nat) (C : String) (T : u_T) : Prop := t < 100 ∧ jcl[t]? = some (C, T, (nft t).length) ∧ (∀ w ∈ u_ws C T (nft t).length, w ∈ lw_all) ∧ (∀ i, i < (nft t).length → ∃ ti, parseFieldDescriptor (T i).2.2.1 = some ti ∧ ktOf ti (fty t i) = true) ∧ (∀ i, i < (nft t).length → ∀ j, j < (nft t).length → i ≠ j → (T i).2.1 ≠ (T j).2.1) ∧ ∀ k, k < (nft t).length → fty t k < 700
theorem mF {own : String} {t idx k : Nat} {C : String} {T : u_T} (cf : CF t C T) (hk : Nat.blt k (nft t).length = true) (hq : Cond.fieldLink own idx (T k).1 (T k).2.1 (T k).2.2.1 ∈ lw_all) : FLink own idx t k :=
  ⟨cf.1, cf.2.2.2.2.2 k ((blt_iff _ _).mp hk), C, T, _, cf.2.1, rfl, (blt_iff _ _).mp hk, cf.2.2.1, Or.inl hq⟩
theorem mFn {own host : String} {t idx k : Nat} {C : String} {T : u_T} (cf : CF t C T) (hk : Nat.blt k (nft t).length = true) (hq : (own, idx, (T k).1, (T k).2.1, (T k).2.2.1, host) ∈ nestF) : FLink own idx t k :=
  ⟨cf.1, cf.2.2.2.2.2 k ((blt_iff _ _).mp hk), C, T, _, cf.2.1, rfl, (blt_iff _ _).mp hk, cf.2.2.1, Or.inr ⟨host, hq⟩⟩
theorem mS {own : String} {t idx k : Nat} {fin : Bool} {C : String} {T : u_T} (cf : CF t C T) (hk : Nat.blt k (nft t).length = true) (hq : Cond.fieldLink own idx (T k).1 (T k).2.1 (T k).2.2.1 ∈ lw_all) (h1 : (T k).2.2.2 = fin) (h2 : fin = true → (T k).1 = own) : SLink own idx t k fin := by
  obtain ⟨ti, p1, p2⟩ := cf.2.2.2.1 k ((blt_iff _ _).mp hk)
  exact ⟨mF cf hk hq, C, T, _, ti, cf.2.1, rfl, (blt_iff _ _).mp hk, cf.2.2.1, hq, fun i hi => (cf.2.2.2.1 i hi).imp fun _ q => q.1, cf.2.2.2.2.1, p1, p2, h1, h2⟩
theorem mN {own : String} {t idx n : Nat} {C : String} {T : u_T} (cf : CF t C T) (h1 : Cond.classLink own idx C ∈ lw_all) (h2 : Cond.instantiable C n ∈ lw_all) (h3 : Cond.initialized C ∈ lw_all) : NLink own idx t n :=
  ⟨cf.1, C, T, _, cf.2.1, rfl, cf.2.2.1, h1, h2, h3, cf.2.2.2.1⟩
theorem fmF {own : String} {i t k : Nat} {l : List (Nat × Nat × Nat)} (a : FLink own i t k) (b : ∀ q ∈ l, FLink own q.1 q.2.1 q.2.2) : ∀ q ∈ (i, t, k) :: l, FLink own q.1 q.2.1 q.2.2 := fun q hq => by
  rcases List.mem_cons.mp hq with e | e
  · rw [e]; exact a
  · exact b q e
theorem fmS {own : String} {i t k : Nat} {f : Bool} {l : List (Nat × Nat × Nat × Bool)} (a : SLink own i t k f) (b : ∀ q ∈ l, SLink own q.1 q.2.1 q.2.2.1 q.2.2.2) : ∀ q ∈ (i, t, k, f) :: l, SLink own q.1 q.2.1 q.2.2.1 q.2.2.2 := fun q hq => by
  rcases List.mem_cons.mp hq with e | e
  · rw [e]; exact a
  · exact b q e
theorem fmN {own : String} {i t k : Nat} {l : List (Nat × Nat × Nat)} (a : NLink own i t k) (b : ∀ q ∈ l, NLink own q.1 q.2.1 q.2.2) : ∀ q ∈ (i, t, k) :: l, NLink own q.1 q.2.1 q.2.2 := fun q hq => by
  rcases List.mem_cons.mp hq with e | e
  · rw [e]; exact a
  · exact b q e
theorem fmA {own : String} {i t : Nat} {l : List (Nat × Nat)} (a : ALink own i t) (b : ∀ q ∈ l, ALink own q.1 q.2) : ∀ q ∈ (i, t) :: l, ALink own q.1 q.2 := fun q hq => by
  rcases List.mem_cons.mp hq with e | e
  · rw [e]; exact a
  · exact b q e
theorem fmC {own : String} {i : Nat} {z : Int} {l : List (Nat × Int)} (a : decide (-2147483648 ≤ z ∧ z ≤ 2147483647) = true) (a2 : Cond.constant own i (Int32.ofInt z) ∈ lw_all) (b : ∀ q ∈ l, c32 q.2 ∧ Cond.constant own q.1 (Int32.ofInt q.2) ∈ lw_all) : ∀ q ∈ (i, z) :: l, c32 q.2 ∧ Cond.constant own q.1 (Int32.ofInt q.2) ∈ lw_all := fun q hq => by
  rcases List.mem_cons.mp hq with e | e
  · rw [e]; exact ⟨(of_decide_eq_true a : _ ∧ _), a2⟩
  · exact b q e
theorem fmL {own : String} {i : Nat} {z : Int} {l : List (Nat × Int)} (a : decide (-9223372036854775808 ≤ z ∧ z ≤ 9223372036854775807) = true) (a2 : Cond.constantLong own i (Int64.ofInt z) ∈ lw_all) (b : ∀ q ∈ l, c64 q.2 ∧ Cond.constantLong own q.1 (Int64.ofInt q.2) ∈ lw_all) : ∀ q ∈ (i, z) :: l, c64 q.2 ∧ Cond.constantLong own q.1 (Int64.ofInt q.2) ∈ lw_all := fun q hq => by
  rcases List.mem_cons.mp hq with e | e
  · rw [e]; exact ⟨(of_decide_eq_true a : _ ∧ _), a2⟩
  · exact b q e
theorem fmz {α : Type} {P : α → Prop} : ∀ q ∈ ([] : List α), P q := fun q hq => by cases hq
/-- a kind's match of descriptor, in one list -/
def tyok (t : Nat) (T : u_T) (N : Nat) : Bool := (List.range N).all fun i => match parseFieldDescriptor (T i).2.2.1 with
  | some ti => ktOf ti (fty t i)
  | none => false
theorem tyok_s {t : Nat} {T : u_T} {N : Nat} (h : tyok t T N = true) : ∀ i, i < N → ∃ ti, parseFieldDescriptor (T i).2.2.1 = some ti ∧ ktOf ti (fty t i) = true := by
  intro i hi
  have h1 := List.all_eq_true.mp h i (List.mem_range.mpr hi)
  revert h1
  cases parseFieldDescriptor (T i).2.2.1 with
  | none => intro z; cases z
  | some ti => intro z; exact ⟨ti, rfl, z⟩
theorem fty_700 {t : Nat} (h : ((nft t).all fun x => Nat.blt x 700) = true) : ∀ k, k < (nft t).length → fty t k < 700 := by
  intro k hk
  unfold fty
  rw [List.getD_eq_getElem?_getD, List.getElem?_eq_getElem hk]
  exact (blt_iff _ _).mp (List.all_eq_true.mp h _ (List.getElem_mem hk))
theorem tk1 {X : Cond} {l : List Cond} (h : X ∈ l) : ∀ w ∈ [X], w ∈ l := fun w hw => by rw [List.mem_singleton.mp hw]; exact h

theorem cf_1 : CF 1 RX1 TX1 := ⟨by decide, rfl, in_X1, tyok_s (by decide +kernel), nmX1, fty_700 (by decide +kernel)⟩
theorem cf_2 : CF 2 RX2 TX2 := ⟨by decide, rfl, in_X2, tyok_s (by decide +kernel), nmX2, fty_700 (by decide +kernel)⟩
theorem cf_3 : CF 3 RX3 TX3 := ⟨by decide, rfl, in_X3, tyok_s (by decide +kernel), nmX3, fty_700 (by decide +kernel)⟩
theorem cf_4 : CF 4 RX4 TX4 := ⟨by decide, rfl, in_X4, tyok_s (by decide +kernel), nmX4, fty_700 (by decide +kernel)⟩
theorem cf_5 : CF 5 RX5 TX5 := ⟨by decide, rfl, in_X5, tyok_s (by decide +kernel), nmX5, fty_700 (by decide +kernel)⟩
theorem cf_6 : CF 6 RX6 TX6 := ⟨by decide, rfl, in_X6, tyok_s (by decide +kernel), nmX6, fty_700 (by decide +kernel)⟩
theorem cf_7 : CF 7 RX7 TX7 := ⟨by decide, rfl, in_X7, tyok_s (by decide +kernel), nmX7, fty_700 (by decide +kernel)⟩
theorem cf_8 : CF 8 RX8 TX8 := ⟨by decide, rfl, in_X8, tyok_s (by decide +kernel), nmX8, fty_700 (by decide +kernel)⟩
theorem cf_9 : CF 9 RX9 TX9 := ⟨by decide, rfl, in_X9, tyok_s (by decide +kernel), nmX9, fty_700 (by decide +kernel)⟩
theorem cf_10 : CF 10 RX10 TX10 := ⟨by decide, rfl, in_X10, tyok_s (by decide +kernel), nmX10, fty_700 (by decide +kernel)⟩
theorem cf_11 : CF 11 RX11 TX11 := ⟨by decide, rfl, in_X11, tyok_s (by decide +kernel), nmX11, fty_700 (by decide +kernel)⟩
theorem cf_12 : CF 12 RX12 TX12 := ⟨by decide, rfl, in_X12, tyok_s (by decide +kernel), nmX12, fty_700 (by decide +kernel)⟩
theorem cf_13 : CF 13 RX13 TW13 := ⟨by decide, rfl, tk1 q877, tyok_s (by decide +kernel), (fun i hi j hj h => absurd ((Nat.lt_one_iff.mp hi).trans (Nat.lt_one_iff.mp hj).symm) h), fty_700 (by decide +kernel)⟩
theorem cf_14 : CF 14 RX14 TX14 := ⟨by decide, rfl, in_X14, tyok_s (by decide +kernel), nmX14, fty_700 (by decide +kernel)⟩
theorem cf_15 : CF 15 RX15 TX15 := ⟨by decide, rfl, in_X15, tyok_s (by decide +kernel), nmX15, fty_700 (by decide +kernel)⟩
theorem cf_16 : CF 16 RX16 TX16 := ⟨by decide, rfl, in_X16, tyok_s (by decide +kernel), nmX16, fty_700 (by decide +kernel)⟩
theorem cf_17 : CF 17 RX17 TW17 := ⟨by decide, rfl, tk1 q2479, tyok_s (by decide +kernel), (fun i hi j hj h => absurd ((Nat.lt_one_iff.mp hi).trans (Nat.lt_one_iff.mp hj).symm) h), fty_700 (by decide +kernel)⟩
theorem cf_20 : CF 20 RJ3 TBk := ⟨by decide, rfl, tk1 q1197, tyok_s (by decide +kernel), (fun i hi j hj h => absurd ((Nat.lt_one_iff.mp hi).trans (Nat.lt_one_iff.mp hj).symm) h), fty_700 (by decide +kernel)⟩
theorem cf_21 : CF 21 RJ4 TBk := ⟨by decide, rfl, tk1 q1221, tyok_s (by decide +kernel), (fun i hi j hj h => absurd ((Nat.lt_one_iff.mp hi).trans (Nat.lt_one_iff.mp hj).symm) h), fty_700 (by decide +kernel)⟩
theorem cf_22 : CF 22 RJ5 TBk := ⟨by decide, rfl, tk1 q1282, tyok_s (by decide +kernel), (fun i hi j hj h => absurd ((Nat.lt_one_iff.mp hi).trans (Nat.lt_one_iff.mp hj).symm) h), fty_700 (by decide +kernel)⟩
/-! FactHouseLaw -/
abbrev rf_X0 : List (Nat × Nat × Nat) := []
abbrev rc_X0 : List (Nat × Int) := []
abbrev rl_X0 : List (Nat × Int) := [(100, 4294967295)]
abbrev rp_X0 : List (Nat × Nat × Nat × Bool) := []
abbrev rn_X0 : List (Nat × Nat × Nat) := [(8, 1, 9), (97, 9, 106)]
abbrev ra_X0 : List (Nat × Nat) := []
theorem rf_X0_ok : ∀ q ∈ rf_X0, FLink RX0 q.1 q.2.1 q.2.2 :=
  fmz
theorem rc_X0_ok : ∀ q ∈ rc_X0, c32 q.2 ∧ Cond.constant RX0 q.1 (Int32.ofInt q.2) ∈ lw_all :=
  fmz
theorem rl_X0_ok : ∀ q ∈ rl_X0, c64 q.2 ∧ Cond.constantLong RX0 q.1 (Int64.ofInt q.2) ∈ lw_all :=
  fmL (own := RX0) (i := 100) (z := 4294967295) rfl q2971
  (fmz)
theorem rp_X0_ok : ∀ q ∈ rp_X0, SLink RX0 q.1 q.2.1 q.2.2.1 q.2.2.2 :=
  fmz
theorem rn_X0_ok : ∀ q ∈ rn_X0, NLink RX0 q.1 q.2.1 q.2.2 :=
  fmN (mN (own := RX0) (idx := 8) (n := 9) cf_1 q219 q220 q190)
  (fmN (mN (own := RX0) (idx := 97) (n := 106) cf_9 q1984 q1985 q198)
  (fmz))
theorem ra_X0_ok : ∀ q ∈ ra_X0, ALink RX0 q.1 q.2 :=
  fmz
/-! FactHouse -/
abbrev rf_X1 : List (Nat × Nat × Nat) := [(18, 1, 0), (25, 1, 4), (32, 1, 5), (39, 1, 6), (43, 1, 7), (48, 1, 8), (62, 1, 1), (80, 13, 0), (83, 1, 2), (87, 1, 3), (93, 12, 6), (106, 14, 1), (111, 12, 13), (114, 12, 14), (124, 8, 25), (129, 12, 2), (132, 12, 8), (135, 12, 12), (139, 12, 7), (144, 14, 2), (147, 14, 3), (150, 14, 4), (153, 14, 5), (160, 14, 13), (167, 7, 11), (171, 7, 12), (177, 12, 9), (180, 14, 14), (187, 14, 17), (190, 2, 1), (194, 3, 0), (199, 4, 1), (204, 4, 2), (207, 4, 3), (210, 4, 4), (214, 3, 1), (222, 3, 2), (225, 3, 3), (228, 2, 7), (232, 2, 8), (237, 2, 2), (241, 5, 0), (246, 5, 1), (250, 5, 4), (253, 5, 7), (258, 12, 4), (270, 12, 5), (275, 2, 6), (278, 4, 0), (281, 7, 5), (284, 7, 6), (291, 7, 3), (301, 7, 7), (304, 7, 15), (307, 7, 16), (310, 12, 11), (313, 7, 4), (329, 8, 23), (337, 8, 21), (339, 8, 22), (342, 8, 26)]
abbrev rc_X1 : List (Nat × Int) := [(47, 65540)]
abbrev rl_X1 : List (Nat × Int) := [(52, 8), (127, 7), (142, 9), (212, 3), (235, 6), (256, 5), (287, 2), (289, 15), (319, 50), (321, 5000)]
abbrev rp_X1 : List (Nat × Nat × Nat × Bool) := [(18, 1, 0, true), (25, 1, 4, true), (32, 1, 5, true), (39, 1, 6, true), (43, 1, 7, false), (48, 1, 8, true), (62, 1, 1, false), (83, 1, 2, false), (87, 1, 3, false), (114, 12, 14, false)]
abbrev rn_X1 : List (Nat × Nat × Nat) := [(3, 22, 6), (9, 20, 6), (12, 21, 6), (22, 2, 29), (29, 7, 17), (36, 8, 32), (69, 11, 6)]
abbrev ra_X1 : List (Nat × Nat) := []
theorem rf_X1_ok : ∀ q ∈ rf_X1, FLink RX1 q.1 q.2.1 q.2.2 :=
  fmF (mF (own := RX1) (idx := 18) (k := 0) cf_1 rfl q649)
  (fmF (mF (own := RX1) (idx := 25) (k := 4) cf_1 rfl q653)
  (fmF (mF (own := RX1) (idx := 32) (k := 5) cf_1 rfl q654)
  (fmF (mF (own := RX1) (idx := 39) (k := 6) cf_1 rfl q655)
  (fmF (mF (own := RX1) (idx := 43) (k := 7) cf_1 rfl q656)
  (fmF (mF (own := RX1) (idx := 48) (k := 8) cf_1 rfl q657)
  (fmF (mF (own := RX1) (idx := 62) (k := 1) cf_1 rfl q650)
  (fmF (mF (own := RX1) (idx := 80) (k := 0) cf_13 rfl q871)
  (fmF (mF (own := RX1) (idx := 83) (k := 2) cf_1 rfl q651)
  (fmF (mF (own := RX1) (idx := 87) (k := 3) cf_1 rfl q652)
  (fmF (mF (own := RX1) (idx := 93) (k := 6) cf_12 rfl q715)
  (fmF (mF (own := RX1) (idx := 106) (k := 1) cf_14 rfl q906)
  (fmF (mF (own := RX1) (idx := 111) (k := 13) cf_12 rfl q745)
  (fmF (mF (own := RX1) (idx := 114) (k := 14) cf_12 rfl q746)
  (fmF (mFn (own := RX1) (host := "FactHouse") (idx := 124) (k := 25) cf_8 rfl (by decide +kernel))
  (fmF (mF (own := RX1) (idx := 129) (k := 2) cf_12 rfl q699)
  (fmF (mF (own := RX1) (idx := 132) (k := 8) cf_12 rfl q725)
  (fmF (mF (own := RX1) (idx := 135) (k := 12) cf_12 rfl q740)
  (fmF (mF (own := RX1) (idx := 139) (k := 7) cf_12 rfl q722)
  (fmF (mF (own := RX1) (idx := 144) (k := 2) cf_14 rfl q911)
  (fmF (mF (own := RX1) (idx := 147) (k := 3) cf_14 rfl q917)
  (fmF (mF (own := RX1) (idx := 150) (k := 4) cf_14 rfl q921)
  (fmF (mF (own := RX1) (idx := 153) (k := 5) cf_14 rfl q929)
  (fmF (mF (own := RX1) (idx := 160) (k := 13) cf_14 rfl q958)
  (fmF (mF (own := RX1) (idx := 167) (k := 11) cf_7 rfl q490)
  (fmF (mF (own := RX1) (idx := 171) (k := 12) cf_7 rfl q492)
  (fmF (mF (own := RX1) (idx := 177) (k := 9) cf_12 rfl q730)
  (fmF (mF (own := RX1) (idx := 180) (k := 14) cf_14 rfl q964)
  (fmF (mF (own := RX1) (idx := 187) (k := 17) cf_14 rfl q972)
  (fmF (mF (own := RX1) (idx := 190) (k := 1) cf_2 rfl q372)
  (fmF (mF (own := RX1) (idx := 194) (k := 0) cf_3 rfl q287)
  (fmF (mF (own := RX1) (idx := 199) (k := 1) cf_4 rfl q258)
  (fmF (mF (own := RX1) (idx := 204) (k := 2) cf_4 rfl q261)
  (fmF (mF (own := RX1) (idx := 207) (k := 3) cf_4 rfl q264)
  (fmF (mF (own := RX1) (idx := 210) (k := 4) cf_4 rfl q267)
  (fmF (mF (own := RX1) (idx := 214) (k := 1) cf_3 rfl q290)
  (fmF (mF (own := RX1) (idx := 222) (k := 2) cf_3 rfl q292)
  (fmF (mF (own := RX1) (idx := 225) (k := 3) cf_3 rfl q297)
  (fmF (mF (own := RX1) (idx := 228) (k := 7) cf_2 rfl q382)
  (fmF (mF (own := RX1) (idx := 232) (k := 8) cf_2 rfl q385)
  (fmF (mF (own := RX1) (idx := 237) (k := 2) cf_2 rfl q374)
  (fmF (mF (own := RX1) (idx := 241) (k := 0) cf_5 rfl q317)
  (fmF (mF (own := RX1) (idx := 246) (k := 1) cf_5 rfl q320)
  (fmF (mF (own := RX1) (idx := 250) (k := 4) cf_5 rfl q325)
  (fmF (mF (own := RX1) (idx := 253) (k := 7) cf_5 rfl q330)
  (fmF (mF (own := RX1) (idx := 258) (k := 4) cf_12 rfl q707)
  (fmF (mF (own := RX1) (idx := 270) (k := 5) cf_12 rfl q711)
  (fmF (mF (own := RX1) (idx := 275) (k := 6) cf_2 rfl q379)
  (fmF (mF (own := RX1) (idx := 278) (k := 0) cf_4 rfl q255)
  (fmF (mF (own := RX1) (idx := 281) (k := 5) cf_7 rfl q482)
  (fmF (mF (own := RX1) (idx := 284) (k := 6) cf_7 rfl q484)
  (fmF (mF (own := RX1) (idx := 291) (k := 3) cf_7 rfl q478)
  (fmF (mF (own := RX1) (idx := 301) (k := 7) cf_7 rfl q486)
  (fmF (mF (own := RX1) (idx := 304) (k := 15) cf_7 rfl q497)
  (fmF (mF (own := RX1) (idx := 307) (k := 16) cf_7 rfl q499)
  (fmF (mF (own := RX1) (idx := 310) (k := 11) cf_12 rfl q738)
  (fmF (mF (own := RX1) (idx := 313) (k := 4) cf_7 rfl q480)
  (fmF (mFn (own := RX1) (host := "FactHouse") (idx := 329) (k := 23) cf_8 rfl (by decide +kernel))
  (fmF (mFn (own := RX1) (host := "FactHouse") (idx := 337) (k := 21) cf_8 rfl (by decide +kernel))
  (fmF (mFn (own := RX1) (host := "FactHouse") (idx := 339) (k := 22) cf_8 rfl (by decide +kernel))
  (fmF (mF (own := RX1) (idx := 342) (k := 26) cf_8 rfl q577)
  (fmz)))))))))))))))))))))))))))))))))))))))))))))))))))))))))))))
theorem rc_X1_ok : ∀ q ∈ rc_X1, c32 q.2 ∧ Cond.constant RX1 q.1 (Int32.ofInt q.2) ∈ lw_all :=
  fmC (own := RX1) (i := 47) (z := 65540) rfl q648
  (fmz)
theorem rl_X1_ok : ∀ q ∈ rl_X1, c64 q.2 ∧ Cond.constantLong RX1 q.1 (Int64.ofInt q.2) ∈ lw_all :=
  fmL (own := RX1) (i := 52) (z := 8) rfl q1185
  (fmL (own := RX1) (i := 127) (z := 7) rfl q1174
  (fmL (own := RX1) (i := 142) (z := 9) rfl q1296
  (fmL (own := RX1) (i := 212) (z := 3) rfl q1693
  (fmL (own := RX1) (i := 235) (z := 6) rfl q1725
  (fmL (own := RX1) (i := 256) (z := 5) rfl q1733
  (fmL (own := RX1) (i := 287) (z := 2) rfl q1781
  (fmL (own := RX1) (i := 289) (z := 15) rfl q1782
  (fmL (own := RX1) (i := 319) (z := 50) rfl q1836
  (fmL (own := RX1) (i := 321) (z := 5000) rfl q1837
  (fmz))))))))))
theorem rp_X1_ok : ∀ q ∈ rp_X1, SLink RX1 q.1 q.2.1 q.2.2.1 q.2.2.2 :=
  fmS (mS (own := RX1) (idx := 18) (k := 0) (fin := true) cf_1 rfl q649 rfl (fun _ => rfl))
  (fmS (mS (own := RX1) (idx := 25) (k := 4) (fin := true) cf_1 rfl q653 rfl (fun _ => rfl))
  (fmS (mS (own := RX1) (idx := 32) (k := 5) (fin := true) cf_1 rfl q654 rfl (fun _ => rfl))
  (fmS (mS (own := RX1) (idx := 39) (k := 6) (fin := true) cf_1 rfl q655 rfl (fun _ => rfl))
  (fmS (mS (own := RX1) (idx := 43) (k := 7) (fin := false) cf_1 rfl q656 rfl (fun z => Bool.noConfusion z))
  (fmS (mS (own := RX1) (idx := 48) (k := 8) (fin := true) cf_1 rfl q657 rfl (fun _ => rfl))
  (fmS (mS (own := RX1) (idx := 62) (k := 1) (fin := false) cf_1 rfl q650 rfl (fun z => Bool.noConfusion z))
  (fmS (mS (own := RX1) (idx := 83) (k := 2) (fin := false) cf_1 rfl q651 rfl (fun z => Bool.noConfusion z))
  (fmS (mS (own := RX1) (idx := 87) (k := 3) (fin := false) cf_1 rfl q652 rfl (fun z => Bool.noConfusion z))
  (fmS (mS (own := RX1) (idx := 114) (k := 14) (fin := false) cf_12 rfl q746 rfl (fun z => Bool.noConfusion z))
  (fmz))))))))))
theorem rn_X1_ok : ∀ q ∈ rn_X1, NLink RX1 q.1 q.2.1 q.2.2 :=
  fmN (mN (own := RX1) (idx := 3) (n := 6) cf_22 q1274 q1275 q213)
  (fmN (mN (own := RX1) (idx := 9) (n := 6) cf_20 q1189 q1190 q203)
  (fmN (mN (own := RX1) (idx := 12) (n := 6) cf_21 q1213 q1214 q204)
  (fmN (mN (own := RX1) (idx := 22) (n := 29) cf_2 q227 q228 q191)
  (fmN (mN (own := RX1) (idx := 29) (n := 17) cf_7 q466 q467 q196)
  (fmN (mN (own := RX1) (idx := 36) (n := 32) cf_8 q535 q536 q197)
  (fmN (mN (own := RX1) (idx := 69) (n := 6) cf_11 q682 q683 q205)
  (fmz)))))))
theorem ra_X1_ok : ∀ q ∈ ra_X1, ALink RX1 q.1 q.2 :=
  fmz
/-! FactHouse$Facts -/
abbrev rf_X2 : List (Nat × Nat × Nat) := [(11, 2, 1), (19, 2, 2), (25, 2, 3), (30, 2, 4), (34, 2, 5), (39, 2, 6), (43, 2, 7), (47, 2, 8), (50, 2, 9), (54, 2, 10), (57, 2, 11), (60, 2, 12), (64, 2, 13), (68, 2, 19), (72, 2, 20), (75, 2, 21), (79, 2, 22), (83, 2, 23), (86, 2, 24), (89, 2, 26), (92, 2, 27), (95, 2, 28), (100, 2, 0), (104, 12, 7), (113, 12, 8), (123, 12, 5), (125, 6, 0), (132, 2, 14), (135, 2, 15), (138, 12, 9), (141, 12, 4), (148, 12, 6), (152, 12, 13), (163, 14, 5), (168, 14, 3), (171, 3, 1), (195, 2, 18), (202, 14, 14), (204, 14, 17), (211, 2, 17), (214, 2, 16), (218, 14, 10), (224, 6, 1), (261, 4, 1), (267, 4, 2), (279, 4, 3), (301, 2, 25), (308, 12, 11), (314, 14, 7), (317, 14, 8), (320, 14, 9), (372, 4, 4), (381, 3, 2), (384, 3, 3), (390, 14, 13), (394, 15, 0), (397, 15, 1), (398, 15, 3), (401, 15, 2), (407, 14, 0), (409, 5, 4), (412, 5, 5), (415, 5, 6), (418, 5, 8), (421, 12, 10), (464, 4, 0), (481, 14, 4), (484, 5, 0), (487, 5, 2), (488, 5, 3), (489, 5, 1), (500, 5, 7)]
abbrev rc_X2 : List (Nat × Int) := [(176, -2147483648), (177, 2147483647)]
abbrev rl_X2 : List (Nat × Int) := [(234, -2147483648), (236, 2147483647), (257, 9223372036854775807), (259, -9223372036854775808), (355, 16), (379, -1), (449, 8), (451, 2), (453, -2), (455, 32), (467, 4), (507, 64)]
abbrev rp_X2 : List (Nat × Nat × Nat × Bool) := [(11, 2, 1, true), (19, 2, 2, true), (25, 2, 3, true), (30, 2, 4, true), (34, 2, 5, true), (39, 2, 6, true), (43, 2, 7, true), (47, 2, 8, true), (50, 2, 9, true), (54, 2, 10, true), (57, 2, 11, true), (60, 2, 12, true), (64, 2, 13, true), (68, 2, 19, true), (72, 2, 20, true), (75, 2, 21, true), (79, 2, 22, true), (83, 2, 23, true), (86, 2, 24, true), (89, 2, 26, true), (92, 2, 27, true), (95, 2, 28, true), (100, 2, 0, false), (132, 2, 14, false), (135, 2, 15, false), (195, 2, 18, false), (198, 3, 0, false), (211, 2, 17, false), (214, 2, 16, false), (261, 4, 1, false), (267, 4, 2, false), (301, 2, 25, false), (372, 4, 4, false), (381, 3, 2, false), (384, 3, 3, false), (409, 5, 4, false), (412, 5, 5, false), (415, 5, 6, false), (484, 5, 0, false), (487, 5, 2, false), (488, 5, 3, false), (500, 5, 7, false)]
abbrev rn_X2 : List (Nat × Nat × Nat) := [(9, 3, 4), (17, 5, 9), (28, 6, 2), (37, 4, 5)]
abbrev ra_X2 : List (Nat × Nat) := [(9, 113), (17, 115), (28, 116), (37, 114)]
theorem rf_X2_ok : ∀ q ∈ rf_X2, FLink RX2 q.1 q.2.1 q.2.2 :=
  fmF (mF (own := RX2) (idx := 11) (k := 1) cf_2 rfl q370)
  (fmF (mF (own := RX2) (idx := 19) (k := 2) cf_2 rfl q373)
  (fmF (mF (own := RX2) (idx := 25) (k := 3) cf_2 rfl q375)
  (fmF (mF (own := RX2) (idx := 30) (k := 4) cf_2 rfl q376)
  (fmF (mF (own := RX2) (idx := 34) (k := 5) cf_2 rfl q377)
  (fmF (mF (own := RX2) (idx := 39) (k := 6) cf_2 rfl q378)
  (fmF (mF (own := RX2) (idx := 43) (k := 7) cf_2 rfl q380)
  (fmF (mF (own := RX2) (idx := 47) (k := 8) cf_2 rfl q383)
  (fmF (mF (own := RX2) (idx := 50) (k := 9) cf_2 rfl q386)
  (fmF (mF (own := RX2) (idx := 54) (k := 10) cf_2 rfl q387)
  (fmF (mF (own := RX2) (idx := 57) (k := 11) cf_2 rfl q388)
  (fmF (mF (own := RX2) (idx := 60) (k := 12) cf_2 rfl q390)
  (fmF (mF (own := RX2) (idx := 64) (k := 13) cf_2 rfl q391)
  (fmF (mF (own := RX2) (idx := 68) (k := 19) cf_2 rfl q397)
  (fmF (mF (own := RX2) (idx := 72) (k := 20) cf_2 rfl q398)
  (fmF (mF (own := RX2) (idx := 75) (k := 21) cf_2 rfl q399)
  (fmF (mF (own := RX2) (idx := 79) (k := 22) cf_2 rfl q400)
  (fmF (mF (own := RX2) (idx := 83) (k := 23) cf_2 rfl q401)
  (fmF (mF (own := RX2) (idx := 86) (k := 24) cf_2 rfl q402)
  (fmF (mF (own := RX2) (idx := 89) (k := 26) cf_2 rfl q404)
  (fmF (mF (own := RX2) (idx := 92) (k := 27) cf_2 rfl q405)
  (fmF (mF (own := RX2) (idx := 95) (k := 28) cf_2 rfl q406)
  (fmF (mF (own := RX2) (idx := 100) (k := 0) cf_2 rfl q369)
  (fmF (mF (own := RX2) (idx := 104) (k := 7) cf_12 rfl q719)
  (fmF (mF (own := RX2) (idx := 113) (k := 8) cf_12 rfl q723)
  (fmF (mF (own := RX2) (idx := 123) (k := 5) cf_12 rfl q708)
  (fmF (mF (own := RX2) (idx := 125) (k := 0) cf_6 rfl q361)
  (fmF (mF (own := RX2) (idx := 132) (k := 14) cf_2 rfl q392)
  (fmF (mF (own := RX2) (idx := 135) (k := 15) cf_2 rfl q393)
  (fmF (mF (own := RX2) (idx := 138) (k := 9) cf_12 rfl q728)
  (fmF (mF (own := RX2) (idx := 141) (k := 4) cf_12 rfl q703)
  (fmF (mF (own := RX2) (idx := 148) (k := 6) cf_12 rfl q716)
  (fmF (mF (own := RX2) (idx := 152) (k := 13) cf_12 rfl q744)
  (fmF (mF (own := RX2) (idx := 163) (k := 5) cf_14 rfl q926)
  (fmF (mF (own := RX2) (idx := 168) (k := 3) cf_14 rfl q914)
  (fmF (mF (own := RX2) (idx := 171) (k := 1) cf_3 rfl q289)
  (fmF (mF (own := RX2) (idx := 195) (k := 18) cf_2 rfl q396)
  (fmF (mF (own := RX2) (idx := 202) (k := 14) cf_14 rfl q963)
  (fmF (mF (own := RX2) (idx := 204) (k := 17) cf_14 rfl q971)
  (fmF (mF (own := RX2) (idx := 211) (k := 17) cf_2 rfl q395)
  (fmF (mF (own := RX2) (idx := 214) (k := 16) cf_2 rfl q394)
  (fmF (mF (own := RX2) (idx := 218) (k := 10) cf_14 rfl q950)
  (fmF (mF (own := RX2) (idx := 224) (k := 1) cf_6 rfl q363)
  (fmF (mF (own := RX2) (idx := 261) (k := 1) cf_4 rfl q259)
  (fmF (mF (own := RX2) (idx := 267) (k := 2) cf_4 rfl q262)
  (fmF (mF (own := RX2) (idx := 279) (k := 3) cf_4 rfl q265)
  (fmF (mF (own := RX2) (idx := 301) (k := 25) cf_2 rfl q403)
  (fmF (mF (own := RX2) (idx := 308) (k := 11) cf_12 rfl q737)
  (fmF (mF (own := RX2) (idx := 314) (k := 7) cf_14 rfl q937)
  (fmF (mF (own := RX2) (idx := 317) (k := 8) cf_14 rfl q942)
  (fmF (mF (own := RX2) (idx := 320) (k := 9) cf_14 rfl q947)
  (fmF (mF (own := RX2) (idx := 372) (k := 4) cf_4 rfl q268)
  (fmF (mF (own := RX2) (idx := 381) (k := 2) cf_3 rfl q294)
  (fmF (mF (own := RX2) (idx := 384) (k := 3) cf_3 rfl q298)
  (fmF (mF (own := RX2) (idx := 390) (k := 13) cf_14 rfl q960)
  (fmF (mF (own := RX2) (idx := 394) (k := 0) cf_15 rfl q1055)
  (fmF (mF (own := RX2) (idx := 397) (k := 1) cf_15 rfl q1059)
  (fmF (mF (own := RX2) (idx := 398) (k := 3) cf_15 rfl q1068)
  (fmF (mF (own := RX2) (idx := 401) (k := 2) cf_15 rfl q1064)
  (fmF (mF (own := RX2) (idx := 407) (k := 0) cf_14 rfl q904)
  (fmF (mF (own := RX2) (idx := 409) (k := 4) cf_5 rfl q326)
  (fmF (mF (own := RX2) (idx := 412) (k := 5) cf_5 rfl q327)
  (fmF (mF (own := RX2) (idx := 415) (k := 6) cf_5 rfl q328)
  (fmF (mF (own := RX2) (idx := 418) (k := 8) cf_5 rfl q333)
  (fmF (mF (own := RX2) (idx := 421) (k := 10) cf_12 rfl q734)
  (fmF (mF (own := RX2) (idx := 464) (k := 0) cf_4 rfl q256)
  (fmF (mF (own := RX2) (idx := 481) (k := 4) cf_14 rfl q923)
  (fmF (mF (own := RX2) (idx := 484) (k := 0) cf_5 rfl q318)
  (fmF (mF (own := RX2) (idx := 487) (k := 2) cf_5 rfl q322)
  (fmF (mF (own := RX2) (idx := 488) (k := 3) cf_5 rfl q323)
  (fmF (mF (own := RX2) (idx := 489) (k := 1) cf_5 rfl q321)
  (fmF (mF (own := RX2) (idx := 500) (k := 7) cf_5 rfl q331)
  (fmz))))))))))))))))))))))))))))))))))))))))))))))))))))))))))))))))))))))))
theorem rc_X2_ok : ∀ q ∈ rc_X2, c32 q.2 ∧ Cond.constant RX2 q.1 (Int32.ofInt q.2) ∈ lw_all :=
  fmC (own := RX2) (i := 176) (z := (-2147483648)) rfl q1349
  (fmC (own := RX2) (i := 177) (z := 2147483647) rfl q1350
  (fmz))
theorem rl_X2_ok : ∀ q ∈ rl_X2, c64 q.2 ∧ Cond.constantLong RX2 q.1 (Int64.ofInt q.2) ∈ lw_all :=
  fmL (own := RX2) (i := 234) (z := (-2147483648)) rfl q1418
  (fmL (own := RX2) (i := 236) (z := 2147483647) rfl q1419
  (fmL (own := RX2) (i := 257) (z := 9223372036854775807) rfl q1485
  (fmL (own := RX2) (i := 259) (z := (-9223372036854775808)) rfl q1486
  (fmL (own := RX2) (i := 355) (z := 16) rfl q1428
  (fmL (own := RX2) (i := 379) (z := (-1)) rfl q1449
  (fmL (own := RX2) (i := 449) (z := 8) rfl q1529
  (fmL (own := RX2) (i := 451) (z := 2) rfl q1542
  (fmL (own := RX2) (i := 453) (z := (-2)) rfl q1543
  (fmL (own := RX2) (i := 455) (z := 32) rfl q1544
  (fmL (own := RX2) (i := 467) (z := 4) rfl q1557
  (fmL (own := RX2) (i := 507) (z := 64) rfl q1591
  (fmz))))))))))))
theorem rp_X2_ok : ∀ q ∈ rp_X2, SLink RX2 q.1 q.2.1 q.2.2.1 q.2.2.2 :=
  fmS (mS (own := RX2) (idx := 11) (k := 1) (fin := true) cf_2 rfl q370 rfl (fun _ => rfl))
  (fmS (mS (own := RX2) (idx := 19) (k := 2) (fin := true) cf_2 rfl q373 rfl (fun _ => rfl))
  (fmS (mS (own := RX2) (idx := 25) (k := 3) (fin := true) cf_2 rfl q375 rfl (fun _ => rfl))
  (fmS (mS (own := RX2) (idx := 30) (k := 4) (fin := true) cf_2 rfl q376 rfl (fun _ => rfl))
  (fmS (mS (own := RX2) (idx := 34) (k := 5) (fin := true) cf_2 rfl q377 rfl (fun _ => rfl))
  (fmS (mS (own := RX2) (idx := 39) (k := 6) (fin := true) cf_2 rfl q378 rfl (fun _ => rfl))
  (fmS (mS (own := RX2) (idx := 43) (k := 7) (fin := true) cf_2 rfl q380 rfl (fun _ => rfl))
  (fmS (mS (own := RX2) (idx := 47) (k := 8) (fin := true) cf_2 rfl q383 rfl (fun _ => rfl))
  (fmS (mS (own := RX2) (idx := 50) (k := 9) (fin := true) cf_2 rfl q386 rfl (fun _ => rfl))
  (fmS (mS (own := RX2) (idx := 54) (k := 10) (fin := true) cf_2 rfl q387 rfl (fun _ => rfl))
  (fmS (mS (own := RX2) (idx := 57) (k := 11) (fin := true) cf_2 rfl q388 rfl (fun _ => rfl))
  (fmS (mS (own := RX2) (idx := 60) (k := 12) (fin := true) cf_2 rfl q390 rfl (fun _ => rfl))
  (fmS (mS (own := RX2) (idx := 64) (k := 13) (fin := true) cf_2 rfl q391 rfl (fun _ => rfl))
  (fmS (mS (own := RX2) (idx := 68) (k := 19) (fin := true) cf_2 rfl q397 rfl (fun _ => rfl))
  (fmS (mS (own := RX2) (idx := 72) (k := 20) (fin := true) cf_2 rfl q398 rfl (fun _ => rfl))
  (fmS (mS (own := RX2) (idx := 75) (k := 21) (fin := true) cf_2 rfl q399 rfl (fun _ => rfl))
  (fmS (mS (own := RX2) (idx := 79) (k := 22) (fin := true) cf_2 rfl q400 rfl (fun _ => rfl))
  (fmS (mS (own := RX2) (idx := 83) (k := 23) (fin := true) cf_2 rfl q401 rfl (fun _ => rfl))
  (fmS (mS (own := RX2) (idx := 86) (k := 24) (fin := true) cf_2 rfl q402 rfl (fun _ => rfl))
  (fmS (mS (own := RX2) (idx := 89) (k := 26) (fin := true) cf_2 rfl q404 rfl (fun _ => rfl))
  (fmS (mS (own := RX2) (idx := 92) (k := 27) (fin := true) cf_2 rfl q405 rfl (fun _ => rfl))
  (fmS (mS (own := RX2) (idx := 95) (k := 28) (fin := true) cf_2 rfl q406 rfl (fun _ => rfl))
  (fmS (mS (own := RX2) (idx := 100) (k := 0) (fin := false) cf_2 rfl q369 rfl (fun z => Bool.noConfusion z))
  (fmS (mS (own := RX2) (idx := 132) (k := 14) (fin := false) cf_2 rfl q392 rfl (fun z => Bool.noConfusion z))
  (fmS (mS (own := RX2) (idx := 135) (k := 15) (fin := false) cf_2 rfl q393 rfl (fun z => Bool.noConfusion z))
  (fmS (mS (own := RX2) (idx := 195) (k := 18) (fin := false) cf_2 rfl q396 rfl (fun z => Bool.noConfusion z))
  (fmS (mS (own := RX2) (idx := 198) (k := 0) (fin := false) cf_3 rfl q286 rfl (fun z => Bool.noConfusion z))
  (fmS (mS (own := RX2) (idx := 211) (k := 17) (fin := false) cf_2 rfl q395 rfl (fun z => Bool.noConfusion z))
  (fmS (mS (own := RX2) (idx := 214) (k := 16) (fin := false) cf_2 rfl q394 rfl (fun z => Bool.noConfusion z))
  (fmS (mS (own := RX2) (idx := 261) (k := 1) (fin := false) cf_4 rfl q259 rfl (fun z => Bool.noConfusion z))
  (fmS (mS (own := RX2) (idx := 267) (k := 2) (fin := false) cf_4 rfl q262 rfl (fun z => Bool.noConfusion z))
  (fmS (mS (own := RX2) (idx := 301) (k := 25) (fin := false) cf_2 rfl q403 rfl (fun z => Bool.noConfusion z))
  (fmS (mS (own := RX2) (idx := 372) (k := 4) (fin := false) cf_4 rfl q268 rfl (fun z => Bool.noConfusion z))
  (fmS (mS (own := RX2) (idx := 381) (k := 2) (fin := false) cf_3 rfl q294 rfl (fun z => Bool.noConfusion z))
  (fmS (mS (own := RX2) (idx := 384) (k := 3) (fin := false) cf_3 rfl q298 rfl (fun z => Bool.noConfusion z))
  (fmS (mS (own := RX2) (idx := 409) (k := 4) (fin := false) cf_5 rfl q326 rfl (fun z => Bool.noConfusion z))
  (fmS (mS (own := RX2) (idx := 412) (k := 5) (fin := false) cf_5 rfl q327 rfl (fun z => Bool.noConfusion z))
  (fmS (mS (own := RX2) (idx := 415) (k := 6) (fin := false) cf_5 rfl q328 rfl (fun z => Bool.noConfusion z))
  (fmS (mS (own := RX2) (idx := 484) (k := 0) (fin := false) cf_5 rfl q318 rfl (fun z => Bool.noConfusion z))
  (fmS (mS (own := RX2) (idx := 487) (k := 2) (fin := false) cf_5 rfl q322 rfl (fun z => Bool.noConfusion z))
  (fmS (mS (own := RX2) (idx := 488) (k := 3) (fin := false) cf_5 rfl q323 rfl (fun z => Bool.noConfusion z))
  (fmS (mS (own := RX2) (idx := 500) (k := 7) (fin := false) cf_5 rfl q331 rfl (fun z => Bool.noConfusion z))
  (fmz))))))))))))))))))))))))))))))))))))))))))
theorem rn_X2_ok : ∀ q ∈ rn_X2, NLink RX2 q.1 q.2.1 q.2.2 :=
  fmN (mN (own := RX2) (idx := 9) (n := 4) cf_3 q233 q243 q192)
  (fmN (mN (own := RX2) (idx := 17) (n := 9) cf_5 q235 q309 q194)
  (fmN (mN (own := RX2) (idx := 28) (n := 2) cf_6 q240 q353 q195)
  (fmN (mN (own := RX2) (idx := 37) (n := 5) cf_4 q241 q249 q193)
  (fmz))))
theorem ra_X2_ok : ∀ q ∈ ra_X2, ALink RX2 q.1 q.2 :=
  fmA (own := RX2) (i := 9) (t := 113) ⟨by decide, by decide, Or.inl ⟨_, rfl, q233⟩⟩
  (fmA (own := RX2) (i := 17) (t := 115) ⟨by decide, by decide, Or.inl ⟨_, rfl, q235⟩⟩
  (fmA (own := RX2) (i := 28) (t := 116) ⟨by decide, by decide, Or.inl ⟨_, rfl, q240⟩⟩
  (fmA (own := RX2) (i := 37) (t := 114) ⟨by decide, by decide, Or.inl ⟨_, rfl, q241⟩⟩
  (fmz))))
/-! FactHouse$State -/
abbrev rf_X3 : List (Nat × Nat × Nat) := [(11, 3, 1), (18, 3, 0), (22, 3, 2), (26, 3, 3)]
abbrev rc_X3 : List (Nat × Int) := []
abbrev rl_X3 : List (Nat × Int) := []
abbrev rp_X3 : List (Nat × Nat × Nat × Bool) := [(11, 3, 1, true), (18, 3, 0, false), (22, 3, 2, false), (26, 3, 3, false)]
abbrev rn_X3 : List (Nat × Nat × Nat) := [(9, 4, 5)]
abbrev ra_X3 : List (Nat × Nat) := [(9, 114)]
theorem rf_X3_ok : ∀ q ∈ rf_X3, FLink RX3 q.1 q.2.1 q.2.2 :=
  fmF (mF (own := RX3) (idx := 11) (k := 1) cf_3 rfl q288)
  (fmF (mF (own := RX3) (idx := 18) (k := 0) cf_3 rfl q284)
  (fmF (mF (own := RX3) (idx := 22) (k := 2) cf_3 rfl q291)
  (fmF (mF (own := RX3) (idx := 26) (k := 3) cf_3 rfl q295)
  (fmz))))
theorem rc_X3_ok : ∀ q ∈ rc_X3, c32 q.2 ∧ Cond.constant RX3 q.1 (Int32.ofInt q.2) ∈ lw_all :=
  fmz
theorem rl_X3_ok : ∀ q ∈ rl_X3, c64 q.2 ∧ Cond.constantLong RX3 q.1 (Int64.ofInt q.2) ∈ lw_all :=
  fmz
theorem rp_X3_ok : ∀ q ∈ rp_X3, SLink RX3 q.1 q.2.1 q.2.2.1 q.2.2.2 :=
  fmS (mS (own := RX3) (idx := 11) (k := 1) (fin := true) cf_3 rfl q288 rfl (fun _ => rfl))
  (fmS (mS (own := RX3) (idx := 18) (k := 0) (fin := false) cf_3 rfl q284 rfl (fun z => Bool.noConfusion z))
  (fmS (mS (own := RX3) (idx := 22) (k := 2) (fin := false) cf_3 rfl q291 rfl (fun z => Bool.noConfusion z))
  (fmS (mS (own := RX3) (idx := 26) (k := 3) (fin := false) cf_3 rfl q295 rfl (fun z => Bool.noConfusion z))
  (fmz))))
theorem rn_X3_ok : ∀ q ∈ rn_X3, NLink RX3 q.1 q.2.1 q.2.2 :=
  fmN (mN (own := RX3) (idx := 9) (n := 5) cf_4 q248 q249 q193)
  (fmz)
theorem ra_X3_ok : ∀ q ∈ ra_X3, ALink RX3 q.1 q.2 :=
  fmA (own := RX3) (i := 9) (t := 114) ⟨by decide, by decide, Or.inl ⟨_, rfl, q248⟩⟩
  (fmz)
/-! FactHouse$Fact -/
abbrev rf_X4 : List (Nat × Nat × Nat) := [(9, 4, 0), (15, 4, 1), (19, 4, 2), (22, 4, 3), (25, 4, 4)]
abbrev rc_X4 : List (Nat × Int) := []
abbrev rl_X4 : List (Nat × Int) := [(40, -1)]
abbrev rp_X4 : List (Nat × Nat × Nat × Bool) := [(9, 4, 0, false), (15, 4, 1, false), (19, 4, 2, false), (22, 4, 3, false), (25, 4, 4, false)]
abbrev rn_X4 : List (Nat × Nat × Nat) := []
abbrev ra_X4 : List (Nat × Nat) := []
theorem rf_X4_ok : ∀ q ∈ rf_X4, FLink RX4 q.1 q.2.1 q.2.2 :=
  fmF (mF (own := RX4) (idx := 9) (k := 0) cf_4 rfl q254)
  (fmF (mF (own := RX4) (idx := 15) (k := 1) cf_4 rfl q257)
  (fmF (mF (own := RX4) (idx := 19) (k := 2) cf_4 rfl q260)
  (fmF (mF (own := RX4) (idx := 22) (k := 3) cf_4 rfl q263)
  (fmF (mF (own := RX4) (idx := 25) (k := 4) cf_4 rfl q266)
  (fmz)))))
theorem rc_X4_ok : ∀ q ∈ rc_X4, c32 q.2 ∧ Cond.constant RX4 q.1 (Int32.ofInt q.2) ∈ lw_all :=
  fmz
theorem rl_X4_ok : ∀ q ∈ rl_X4, c64 q.2 ∧ Cond.constantLong RX4 q.1 (Int64.ofInt q.2) ∈ lw_all :=
  fmL (own := RX4) (i := 40) (z := (-1)) rfl q1368
  (fmz)
theorem rp_X4_ok : ∀ q ∈ rp_X4, SLink RX4 q.1 q.2.1 q.2.2.1 q.2.2.2 :=
  fmS (mS (own := RX4) (idx := 9) (k := 0) (fin := false) cf_4 rfl q254 rfl (fun z => Bool.noConfusion z))
  (fmS (mS (own := RX4) (idx := 15) (k := 1) (fin := false) cf_4 rfl q257 rfl (fun z => Bool.noConfusion z))
  (fmS (mS (own := RX4) (idx := 19) (k := 2) (fin := false) cf_4 rfl q260 rfl (fun z => Bool.noConfusion z))
  (fmS (mS (own := RX4) (idx := 22) (k := 3) (fin := false) cf_4 rfl q263 rfl (fun z => Bool.noConfusion z))
  (fmS (mS (own := RX4) (idx := 25) (k := 4) (fin := false) cf_4 rfl q266 rfl (fun z => Bool.noConfusion z))
  (fmz)))))
theorem rn_X4_ok : ∀ q ∈ rn_X4, NLink RX4 q.1 q.2.1 q.2.2 :=
  fmz
theorem ra_X4_ok : ∀ q ∈ ra_X4, ALink RX4 q.1 q.2 :=
  fmz
/-! FactHouse$Outcome -/
abbrev rf_X5 : List (Nat × Nat × Nat) := [(12, 5, 1), (18, 5, 8)]
abbrev rc_X5 : List (Nat × Int) := []
abbrev rl_X5 : List (Nat × Int) := []
abbrev rp_X5 : List (Nat × Nat × Nat × Bool) := [(12, 5, 1, true), (18, 5, 8, true), (22, 5, 0, false), (29, 5, 4, false), (33, 5, 7, false)]
abbrev rn_X5 : List (Nat × Nat × Nat) := [(9, 4, 5)]
abbrev ra_X5 : List (Nat × Nat) := []
theorem rf_X5_ok : ∀ q ∈ rf_X5, FLink RX5 q.1 q.2.1 q.2.2 :=
  fmF (mF (own := RX5) (idx := 12) (k := 1) cf_5 rfl q319)
  (fmF (mF (own := RX5) (idx := 18) (k := 8) cf_5 rfl q332)
  (fmz))
theorem rc_X5_ok : ∀ q ∈ rc_X5, c32 q.2 ∧ Cond.constant RX5 q.1 (Int32.ofInt q.2) ∈ lw_all :=
  fmz
theorem rl_X5_ok : ∀ q ∈ rl_X5, c64 q.2 ∧ Cond.constantLong RX5 q.1 (Int64.ofInt q.2) ∈ lw_all :=
  fmz
theorem rp_X5_ok : ∀ q ∈ rp_X5, SLink RX5 q.1 q.2.1 q.2.2.1 q.2.2.2 :=
  fmS (mS (own := RX5) (idx := 12) (k := 1) (fin := true) cf_5 rfl q319 rfl (fun _ => rfl))
  (fmS (mS (own := RX5) (idx := 18) (k := 8) (fin := true) cf_5 rfl q332 rfl (fun _ => rfl))
  (fmS (mS (own := RX5) (idx := 22) (k := 0) (fin := false) cf_5 rfl q316 rfl (fun z => Bool.noConfusion z))
  (fmS (mS (own := RX5) (idx := 29) (k := 4) (fin := false) cf_5 rfl q324 rfl (fun z => Bool.noConfusion z))
  (fmS (mS (own := RX5) (idx := 33) (k := 7) (fin := false) cf_5 rfl q329 rfl (fun z => Bool.noConfusion z))
  (fmz)))))
theorem rn_X5_ok : ∀ q ∈ rn_X5, NLink RX5 q.1 q.2.1 q.2.2 :=
  fmN (mN (own := RX5) (idx := 9) (n := 5) cf_4 q314 q249 q193)
  (fmz)
theorem ra_X5_ok : ∀ q ∈ ra_X5, ALink RX5 q.1 q.2 :=
  fmz
/-! FactHouse$Cell -/
abbrev rf_X6 : List (Nat × Nat × Nat) := [(12, 6, 0), (18, 6, 1)]
abbrev rc_X6 : List (Nat × Int) := []
abbrev rl_X6 : List (Nat × Int) := []
abbrev rp_X6 : List (Nat × Nat × Nat × Bool) := [(12, 6, 0, true), (18, 6, 1, true)]
abbrev rn_X6 : List (Nat × Nat × Nat) := [(9, 4, 5)]
abbrev ra_X6 : List (Nat × Nat) := []
theorem rf_X6_ok : ∀ q ∈ rf_X6, FLink RX6 q.1 q.2.1 q.2.2 :=
  fmF (mF (own := RX6) (idx := 12) (k := 0) cf_6 rfl q360)
  (fmF (mF (own := RX6) (idx := 18) (k := 1) cf_6 rfl q362)
  (fmz))
theorem rc_X6_ok : ∀ q ∈ rc_X6, c32 q.2 ∧ Cond.constant RX6 q.1 (Int32.ofInt q.2) ∈ lw_all :=
  fmz
theorem rl_X6_ok : ∀ q ∈ rl_X6, c64 q.2 ∧ Cond.constantLong RX6 q.1 (Int64.ofInt q.2) ∈ lw_all :=
  fmz
theorem rp_X6_ok : ∀ q ∈ rp_X6, SLink RX6 q.1 q.2.1 q.2.2.1 q.2.2.2 :=
  fmS (mS (own := RX6) (idx := 12) (k := 0) (fin := true) cf_6 rfl q360 rfl (fun _ => rfl))
  (fmS (mS (own := RX6) (idx := 18) (k := 1) (fin := true) cf_6 rfl q362 rfl (fun _ => rfl))
  (fmz))
theorem rn_X6_ok : ∀ q ∈ rn_X6, NLink RX6 q.1 q.2.1 q.2.2 :=
  fmN (mN (own := RX6) (idx := 9) (n := 5) cf_4 q358 q249 q193)
  (fmz)
theorem ra_X6_ok : ∀ q ∈ ra_X6, ALink RX6 q.1 q.2 :=
  fmz
/-! FactHouse$Follow -/
abbrev rf_X7 : List (Nat × Nat × Nat) := [(9, 7, 2), (15, 7, 4), (19, 7, 5), (22, 7, 6), (25, 7, 7), (28, 7, 8), (31, 7, 9), (34, 7, 10), (39, 7, 13), (42, 7, 0), (46, 7, 1), (66, 12, 6), (76, 7, 14), (80, 12, 11), (83, 14, 7), (88, 14, 14), (91, 14, 8), (94, 2, 1), (100, 3, 0), (106, 12, 7), (117, 2, 8), (120, 12, 13), (124, 7, 3), (134, 3, 3), (143, 2, 7), (146, 14, 13), (150, 15, 0), (155, 15, 1), (158, 15, 3), (167, 15, 2), (189, 14, 0), (192, 14, 16), (193, 14, 15), (194, 12, 0), (198, 7, 11), (206, 7, 12), (209, 2, 11), (215, 14, 9), (221, 3, 2)]
abbrev rc_X7 : List (Nat × Int) := []
abbrev rl_X7 : List (Nat × Int) := [(165, -1)]
abbrev rp_X7 : List (Nat × Nat × Nat × Bool) := [(9, 7, 2, true), (15, 7, 4, true), (19, 7, 5, true), (22, 7, 6, true), (25, 7, 7, true), (28, 7, 8, true), (31, 7, 9, true), (34, 7, 10, true), (39, 7, 13, true), (42, 7, 0, false), (46, 7, 1, false), (76, 7, 14, false), (124, 7, 3, false), (198, 7, 11, false), (206, 7, 12, false), (227, 7, 15, false), (230, 7, 16, false)]
abbrev rn_X7 : List (Nat × Nat × Nat) := []
abbrev ra_X7 : List (Nat × Nat) := []
theorem rf_X7_ok : ∀ q ∈ rf_X7, FLink RX7 q.1 q.2.1 q.2.2 :=
  fmF (mF (own := RX7) (idx := 9) (k := 2) cf_7 rfl q476)
  (fmF (mF (own := RX7) (idx := 15) (k := 4) cf_7 rfl q479)
  (fmF (mF (own := RX7) (idx := 19) (k := 5) cf_7 rfl q481)
  (fmF (mF (own := RX7) (idx := 22) (k := 6) cf_7 rfl q483)
  (fmF (mF (own := RX7) (idx := 25) (k := 7) cf_7 rfl q485)
  (fmF (mF (own := RX7) (idx := 28) (k := 8) cf_7 rfl q487)
  (fmF (mF (own := RX7) (idx := 31) (k := 9) cf_7 rfl q488)
  (fmF (mF (own := RX7) (idx := 34) (k := 10) cf_7 rfl q489)
  (fmF (mF (own := RX7) (idx := 39) (k := 13) cf_7 rfl q494)
  (fmF (mF (own := RX7) (idx := 42) (k := 0) cf_7 rfl q474)
  (fmF (mF (own := RX7) (idx := 46) (k := 1) cf_7 rfl q475)
  (fmF (mF (own := RX7) (idx := 66) (k := 6) cf_12 rfl q712)
  (fmF (mF (own := RX7) (idx := 76) (k := 14) cf_7 rfl q495)
  (fmF (mF (own := RX7) (idx := 80) (k := 11) cf_12 rfl q735)
  (fmF (mF (own := RX7) (idx := 83) (k := 7) cf_14 rfl q933)
  (fmF (mF (own := RX7) (idx := 88) (k := 14) cf_14 rfl q961)
  (fmF (mF (own := RX7) (idx := 91) (k := 8) cf_14 rfl q938)
  (fmF (mF (own := RX7) (idx := 94) (k := 1) cf_2 rfl q371)
  (fmF (mF (own := RX7) (idx := 100) (k := 0) cf_3 rfl q285)
  (fmF (mF (own := RX7) (idx := 106) (k := 7) cf_12 rfl q720)
  (fmF (mF (own := RX7) (idx := 117) (k := 8) cf_2 rfl q384)
  (fmF (mF (own := RX7) (idx := 120) (k := 13) cf_12 rfl q743)
  (fmF (mF (own := RX7) (idx := 124) (k := 3) cf_7 rfl q477)
  (fmF (mF (own := RX7) (idx := 134) (k := 3) cf_3 rfl q296)
  (fmF (mF (own := RX7) (idx := 143) (k := 7) cf_2 rfl q381)
  (fmF (mF (own := RX7) (idx := 146) (k := 13) cf_14 rfl q957)
  (fmF (mF (own := RX7) (idx := 150) (k := 0) cf_15 rfl q1053)
  (fmF (mF (own := RX7) (idx := 155) (k := 1) cf_15 rfl q1057)
  (fmF (mF (own := RX7) (idx := 158) (k := 3) cf_15 rfl q1066)
  (fmF (mF (own := RX7) (idx := 167) (k := 2) cf_15 rfl q1062)
  (fmF (mF (own := RX7) (idx := 189) (k := 0) cf_14 rfl q903)
  (fmF (mF (own := RX7) (idx := 192) (k := 16) cf_14 rfl q969)
  (fmF (mF (own := RX7) (idx := 193) (k := 15) cf_14 rfl q967)
  (fmF (mF (own := RX7) (idx := 194) (k := 0) cf_12 rfl q696)
  (fmF (mF (own := RX7) (idx := 198) (k := 11) cf_7 rfl q491)
  (fmF (mF (own := RX7) (idx := 206) (k := 12) cf_7 rfl q493)
  (fmF (mF (own := RX7) (idx := 209) (k := 11) cf_2 rfl q389)
  (fmF (mF (own := RX7) (idx := 215) (k := 9) cf_14 rfl q946)
  (fmF (mF (own := RX7) (idx := 221) (k := 2) cf_3 rfl q293)
  (fmz)))))))))))))))))))))))))))))))))))))))
theorem rc_X7_ok : ∀ q ∈ rc_X7, c32 q.2 ∧ Cond.constant RX7 q.1 (Int32.ofInt q.2) ∈ lw_all :=
  fmz
theorem rl_X7_ok : ∀ q ∈ rl_X7, c64 q.2 ∧ Cond.constantLong RX7 q.1 (Int64.ofInt q.2) ∈ lw_all :=
  fmL (own := RX7) (i := 165) (z := (-1)) rfl q1641
  (fmz)
theorem rp_X7_ok : ∀ q ∈ rp_X7, SLink RX7 q.1 q.2.1 q.2.2.1 q.2.2.2 :=
  fmS (mS (own := RX7) (idx := 9) (k := 2) (fin := true) cf_7 rfl q476 rfl (fun _ => rfl))
  (fmS (mS (own := RX7) (idx := 15) (k := 4) (fin := true) cf_7 rfl q479 rfl (fun _ => rfl))
  (fmS (mS (own := RX7) (idx := 19) (k := 5) (fin := true) cf_7 rfl q481 rfl (fun _ => rfl))
  (fmS (mS (own := RX7) (idx := 22) (k := 6) (fin := true) cf_7 rfl q483 rfl (fun _ => rfl))
  (fmS (mS (own := RX7) (idx := 25) (k := 7) (fin := true) cf_7 rfl q485 rfl (fun _ => rfl))
  (fmS (mS (own := RX7) (idx := 28) (k := 8) (fin := true) cf_7 rfl q487 rfl (fun _ => rfl))
  (fmS (mS (own := RX7) (idx := 31) (k := 9) (fin := true) cf_7 rfl q488 rfl (fun _ => rfl))
  (fmS (mS (own := RX7) (idx := 34) (k := 10) (fin := true) cf_7 rfl q489 rfl (fun _ => rfl))
  (fmS (mS (own := RX7) (idx := 39) (k := 13) (fin := true) cf_7 rfl q494 rfl (fun _ => rfl))
  (fmS (mS (own := RX7) (idx := 42) (k := 0) (fin := false) cf_7 rfl q474 rfl (fun z => Bool.noConfusion z))
  (fmS (mS (own := RX7) (idx := 46) (k := 1) (fin := false) cf_7 rfl q475 rfl (fun z => Bool.noConfusion z))
  (fmS (mS (own := RX7) (idx := 76) (k := 14) (fin := false) cf_7 rfl q495 rfl (fun z => Bool.noConfusion z))
  (fmS (mS (own := RX7) (idx := 124) (k := 3) (fin := false) cf_7 rfl q477 rfl (fun z => Bool.noConfusion z))
  (fmS (mS (own := RX7) (idx := 198) (k := 11) (fin := false) cf_7 rfl q491 rfl (fun z => Bool.noConfusion z))
  (fmS (mS (own := RX7) (idx := 206) (k := 12) (fin := false) cf_7 rfl q493 rfl (fun z => Bool.noConfusion z))
  (fmS (mS (own := RX7) (idx := 227) (k := 15) (fin := false) cf_7 rfl q496 rfl (fun z => Bool.noConfusion z))
  (fmS (mS (own := RX7) (idx := 230) (k := 16) (fin := false) cf_7 rfl q498 rfl (fun z => Bool.noConfusion z))
  (fmz)))))))))))))))))
theorem rn_X7_ok : ∀ q ∈ rn_X7, NLink RX7 q.1 q.2.1 q.2.2 :=
  fmz
theorem ra_X7_ok : ∀ q ∈ ra_X7, ALink RX7 q.1 q.2 :=
  fmz
/-! FactHouse$Machine -/
abbrev rf_X8 : List (Nat × Nat × Nat) := [(11, 8, 1), (15, 8, 2), (18, 8, 3), (21, 8, 5), (24, 8, 7), (27, 8, 8), (30, 8, 9), (35, 8, 10), (40, 8, 11), (43, 8, 12), (46, 8, 13), (52, 8, 21), (55, 8, 22), (58, 8, 24), (61, 8, 26), (65, 8, 0), (69, 8, 4), (73, 8, 6), (76, 8, 15), (79, 8, 16), (82, 8, 17), (85, 8, 18), (88, 8, 19), (91, 8, 20), (94, 8, 23), (97, 8, 31), (101, 8, 25), (104, 8, 27), (111, 8, 29), (114, 8, 28), (118, 8, 30), (125, 12, 6), (133, 14, 3), (138, 14, 5), (162, 14, 7), (165, 14, 8), (168, 14, 9), (200, 14, 10), (232, 12, 9), (235, 12, 10), (236, 14, 14), (239, 12, 4), (270, 14, 4), (277, 14, 13), (281, 15, 0), (286, 15, 1), (289, 15, 3), (292, 15, 2)]
abbrev rc_X8 : List (Nat × Int) := []
abbrev rl_X8 : List (Nat × Int) := []
abbrev rp_X8 : List (Nat × Nat × Nat × Bool) := [(11, 8, 1, true), (15, 8, 2, true), (18, 8, 3, true), (21, 8, 5, false), (24, 8, 7, true), (27, 8, 8, true), (30, 8, 9, true), (35, 8, 10, true), (40, 8, 11, true), (43, 8, 12, true), (46, 8, 13, true), (49, 8, 14, true), (52, 8, 21, true), (55, 8, 22, true), (58, 8, 24, true), (61, 8, 26, true), (65, 8, 0, false), (69, 8, 4, false), (73, 8, 6, false), (76, 8, 15, false), (79, 8, 16, false), (82, 8, 17, false), (85, 8, 18, false), (88, 8, 19, false), (91, 8, 20, false), (94, 8, 23, false), (97, 8, 31, false), (101, 8, 25, false), (104, 8, 27, false), (111, 8, 29, false), (114, 8, 28, false), (118, 8, 30, false)]
abbrev rn_X8 : List (Nat × Nat × Nat) := []
abbrev ra_X8 : List (Nat × Nat) := []
theorem rf_X8_ok : ∀ q ∈ rf_X8, FLink RX8 q.1 q.2.1 q.2.2 :=
  fmF (mF (own := RX8) (idx := 11) (k := 1) cf_8 rfl q547)
  (fmF (mF (own := RX8) (idx := 15) (k := 2) cf_8 rfl q548)
  (fmF (mF (own := RX8) (idx := 18) (k := 3) cf_8 rfl q549)
  (fmF (mF (own := RX8) (idx := 21) (k := 5) cf_8 rfl q551)
  (fmF (mF (own := RX8) (idx := 24) (k := 7) cf_8 rfl q553)
  (fmF (mF (own := RX8) (idx := 27) (k := 8) cf_8 rfl q554)
  (fmF (mF (own := RX8) (idx := 30) (k := 9) cf_8 rfl q555)
  (fmF (mF (own := RX8) (idx := 35) (k := 10) cf_8 rfl q556)
  (fmF (mF (own := RX8) (idx := 40) (k := 11) cf_8 rfl q557)
  (fmF (mF (own := RX8) (idx := 43) (k := 12) cf_8 rfl q558)
  (fmF (mF (own := RX8) (idx := 46) (k := 13) cf_8 rfl q559)
  (fmF (mF (own := RX8) (idx := 52) (k := 21) cf_8 rfl q567)
  (fmF (mF (own := RX8) (idx := 55) (k := 22) cf_8 rfl q569)
  (fmF (mF (own := RX8) (idx := 58) (k := 24) cf_8 rfl q573)
  (fmF (mF (own := RX8) (idx := 61) (k := 26) cf_8 rfl q576)
  (fmF (mF (own := RX8) (idx := 65) (k := 0) cf_8 rfl q546)
  (fmF (mF (own := RX8) (idx := 69) (k := 4) cf_8 rfl q550)
  (fmF (mF (own := RX8) (idx := 73) (k := 6) cf_8 rfl q552)
  (fmF (mF (own := RX8) (idx := 76) (k := 15) cf_8 rfl q561)
  (fmF (mF (own := RX8) (idx := 79) (k := 16) cf_8 rfl q562)
  (fmF (mF (own := RX8) (idx := 82) (k := 17) cf_8 rfl q563)
  (fmF (mF (own := RX8) (idx := 85) (k := 18) cf_8 rfl q564)
  (fmF (mF (own := RX8) (idx := 88) (k := 19) cf_8 rfl q565)
  (fmF (mF (own := RX8) (idx := 91) (k := 20) cf_8 rfl q566)
  (fmF (mF (own := RX8) (idx := 94) (k := 23) cf_8 rfl q571)
  (fmF (mF (own := RX8) (idx := 97) (k := 31) cf_8 rfl q582)
  (fmF (mF (own := RX8) (idx := 101) (k := 25) cf_8 rfl q574)
  (fmF (mF (own := RX8) (idx := 104) (k := 27) cf_8 rfl q578)
  (fmF (mF (own := RX8) (idx := 111) (k := 29) cf_8 rfl q580)
  (fmF (mF (own := RX8) (idx := 114) (k := 28) cf_8 rfl q579)
  (fmF (mF (own := RX8) (idx := 118) (k := 30) cf_8 rfl q581)
  (fmF (mF (own := RX8) (idx := 125) (k := 6) cf_12 rfl q717)
  (fmF (mF (own := RX8) (idx := 133) (k := 3) cf_14 rfl q915)
  (fmF (mF (own := RX8) (idx := 138) (k := 5) cf_14 rfl q927)
  (fmF (mF (own := RX8) (idx := 162) (k := 7) cf_14 rfl q936)
  (fmF (mF (own := RX8) (idx := 165) (k := 8) cf_14 rfl q941)
  (fmF (mF (own := RX8) (idx := 168) (k := 9) cf_14 rfl q945)
  (fmF (mF (own := RX8) (idx := 200) (k := 10) cf_14 rfl q951)
  (fmF (mF (own := RX8) (idx := 232) (k := 9) cf_12 rfl q731)
  (fmF (mF (own := RX8) (idx := 235) (k := 10) cf_12 rfl q733)
  (fmF (mF (own := RX8) (idx := 236) (k := 14) cf_14 rfl q965)
  (fmF (mF (own := RX8) (idx := 239) (k := 4) cf_12 rfl q706)
  (fmF (mF (own := RX8) (idx := 270) (k := 4) cf_14 rfl q922)
  (fmF (mF (own := RX8) (idx := 277) (k := 13) cf_14 rfl q959)
  (fmF (mF (own := RX8) (idx := 281) (k := 0) cf_15 rfl q1054)
  (fmF (mF (own := RX8) (idx := 286) (k := 1) cf_15 rfl q1058)
  (fmF (mF (own := RX8) (idx := 289) (k := 3) cf_15 rfl q1067)
  (fmF (mF (own := RX8) (idx := 292) (k := 2) cf_15 rfl q1063)
  (fmz))))))))))))))))))))))))))))))))))))))))))))))))
theorem rc_X8_ok : ∀ q ∈ rc_X8, c32 q.2 ∧ Cond.constant RX8 q.1 (Int32.ofInt q.2) ∈ lw_all :=
  fmz
theorem rl_X8_ok : ∀ q ∈ rl_X8, c64 q.2 ∧ Cond.constantLong RX8 q.1 (Int64.ofInt q.2) ∈ lw_all :=
  fmz
theorem rp_X8_ok : ∀ q ∈ rp_X8, SLink RX8 q.1 q.2.1 q.2.2.1 q.2.2.2 :=
  fmS (mS (own := RX8) (idx := 11) (k := 1) (fin := true) cf_8 rfl q547 rfl (fun _ => rfl))
  (fmS (mS (own := RX8) (idx := 15) (k := 2) (fin := true) cf_8 rfl q548 rfl (fun _ => rfl))
  (fmS (mS (own := RX8) (idx := 18) (k := 3) (fin := true) cf_8 rfl q549 rfl (fun _ => rfl))
  (fmS (mS (own := RX8) (idx := 21) (k := 5) (fin := false) cf_8 rfl q551 rfl (fun z => Bool.noConfusion z))
  (fmS (mS (own := RX8) (idx := 24) (k := 7) (fin := true) cf_8 rfl q553 rfl (fun _ => rfl))
  (fmS (mS (own := RX8) (idx := 27) (k := 8) (fin := true) cf_8 rfl q554 rfl (fun _ => rfl))
  (fmS (mS (own := RX8) (idx := 30) (k := 9) (fin := true) cf_8 rfl q555 rfl (fun _ => rfl))
  (fmS (mS (own := RX8) (idx := 35) (k := 10) (fin := true) cf_8 rfl q556 rfl (fun _ => rfl))
  (fmS (mS (own := RX8) (idx := 40) (k := 11) (fin := true) cf_8 rfl q557 rfl (fun _ => rfl))
  (fmS (mS (own := RX8) (idx := 43) (k := 12) (fin := true) cf_8 rfl q558 rfl (fun _ => rfl))
  (fmS (mS (own := RX8) (idx := 46) (k := 13) (fin := true) cf_8 rfl q559 rfl (fun _ => rfl))
  (fmS (mS (own := RX8) (idx := 49) (k := 14) (fin := true) cf_8 rfl q560 rfl (fun _ => rfl))
  (fmS (mS (own := RX8) (idx := 52) (k := 21) (fin := true) cf_8 rfl q567 rfl (fun _ => rfl))
  (fmS (mS (own := RX8) (idx := 55) (k := 22) (fin := true) cf_8 rfl q569 rfl (fun _ => rfl))
  (fmS (mS (own := RX8) (idx := 58) (k := 24) (fin := true) cf_8 rfl q573 rfl (fun _ => rfl))
  (fmS (mS (own := RX8) (idx := 61) (k := 26) (fin := true) cf_8 rfl q576 rfl (fun _ => rfl))
  (fmS (mS (own := RX8) (idx := 65) (k := 0) (fin := false) cf_8 rfl q546 rfl (fun z => Bool.noConfusion z))
  (fmS (mS (own := RX8) (idx := 69) (k := 4) (fin := false) cf_8 rfl q550 rfl (fun z => Bool.noConfusion z))
  (fmS (mS (own := RX8) (idx := 73) (k := 6) (fin := false) cf_8 rfl q552 rfl (fun z => Bool.noConfusion z))
  (fmS (mS (own := RX8) (idx := 76) (k := 15) (fin := false) cf_8 rfl q561 rfl (fun z => Bool.noConfusion z))
  (fmS (mS (own := RX8) (idx := 79) (k := 16) (fin := false) cf_8 rfl q562 rfl (fun z => Bool.noConfusion z))
  (fmS (mS (own := RX8) (idx := 82) (k := 17) (fin := false) cf_8 rfl q563 rfl (fun z => Bool.noConfusion z))
  (fmS (mS (own := RX8) (idx := 85) (k := 18) (fin := false) cf_8 rfl q564 rfl (fun z => Bool.noConfusion z))
  (fmS (mS (own := RX8) (idx := 88) (k := 19) (fin := false) cf_8 rfl q565 rfl (fun z => Bool.noConfusion z))
  (fmS (mS (own := RX8) (idx := 91) (k := 20) (fin := false) cf_8 rfl q566 rfl (fun z => Bool.noConfusion z))
  (fmS (mS (own := RX8) (idx := 94) (k := 23) (fin := false) cf_8 rfl q571 rfl (fun z => Bool.noConfusion z))
  (fmS (mS (own := RX8) (idx := 97) (k := 31) (fin := false) cf_8 rfl q582 rfl (fun z => Bool.noConfusion z))
  (fmS (mS (own := RX8) (idx := 101) (k := 25) (fin := false) cf_8 rfl q574 rfl (fun z => Bool.noConfusion z))
  (fmS (mS (own := RX8) (idx := 104) (k := 27) (fin := false) cf_8 rfl q578 rfl (fun z => Bool.noConfusion z))
  (fmS (mS (own := RX8) (idx := 111) (k := 29) (fin := false) cf_8 rfl q580 rfl (fun z => Bool.noConfusion z))
  (fmS (mS (own := RX8) (idx := 114) (k := 28) (fin := false) cf_8 rfl q579 rfl (fun z => Bool.noConfusion z))
  (fmS (mS (own := RX8) (idx := 118) (k := 30) (fin := false) cf_8 rfl q581 rfl (fun z => Bool.noConfusion z))
  (fmz))))))))))))))))))))))))))))))))
theorem rn_X8_ok : ∀ q ∈ rn_X8, NLink RX8 q.1 q.2.1 q.2.2 :=
  fmz
theorem ra_X8_ok : ∀ q ∈ ra_X8, ALink RX8 q.1 q.2 :=
  fmz
/-! FactHouseModel -/
abbrev rf_X9 : List (Nat × Nat × Nat) := [(9, 9, 1), (16, 9, 4), (20, 9, 5), (23, 9, 6), (27, 9, 7), (30, 9, 15), (33, 9, 17), (37, 9, 18), (40, 9, 19), (43, 9, 20), (46, 9, 21), (49, 9, 22), (53, 9, 23), (56, 9, 24), (59, 9, 25), (62, 9, 26), (65, 9, 27), (68, 9, 28), (71, 9, 29), (74, 9, 30), (77, 9, 31), (80, 9, 32), (83, 9, 33), (86, 9, 34), (89, 9, 35), (92, 9, 36), (95, 9, 37), (98, 9, 38), (101, 9, 39), (104, 9, 40), (107, 9, 41), (110, 9, 42), (113, 9, 43), (116, 9, 44), (119, 9, 45), (122, 9, 46), (125, 9, 47), (128, 9, 48), (131, 9, 49), (134, 9, 50), (137, 9, 51), (140, 9, 52), (143, 9, 53), (146, 9, 54), (149, 9, 55), (152, 9, 56), (155, 9, 57), (158, 9, 58), (161, 9, 59), (164, 9, 60), (167, 9, 73), (170, 9, 75), (173, 9, 76), (176, 9, 77), (179, 9, 81), (182, 9, 84), (185, 9, 85), (188, 9, 86), (191, 9, 87), (194, 9, 88), (197, 9, 89), (200, 9, 90), (203, 9, 92), (206, 9, 93), (210, 9, 94), (213, 9, 97), (216, 9, 98), (219, 9, 104), (222, 9, 105), (225, 9, 0), (235, 9, 2), (238, 9, 9), (241, 9, 10), (257, 10, 0), (260, 10, 1), (263, 10, 2), (266, 10, 3), (269, 10, 4), (272, 10, 5), (275, 10, 9), (278, 10, 10), (281, 10, 12), (284, 10, 18), (287, 10, 7), (290, 10, 8), (297, 10, 11), (300, 10, 13), (303, 10, 14), (306, 10, 16), (309, 10, 21), (312, 10, 17), (319, 10, 15), (322, 10, 19), (325, 10, 30), (327, 10, 28), (333, 10, 6), (336, 10, 29), (339, 10, 22), (342, 10, 23), (345, 10, 24), (348, 10, 25), (351, 10, 26), (354, 10, 27), (367, 17, 0), (370, 10, 20), (373, 9, 3), (380, 9, 8), (383, 9, 11), (387, 9, 80), (390, 9, 82), (396, 9, 71), (399, 9, 68), (402, 9, 69), (412, 9, 70), (424, 10, 31), (427, 10, 32), (469, 9, 16), (484, 9, 12), (488, 9, 13), (491, 9, 14), (506, 9, 62), (509, 9, 63), (532, 9, 61), (539, 9, 64), (542, 9, 65), (545, 9, 66), (548, 9, 67), (594, 9, 72), (656, 9, 74), (668, 9, 78), (671, 9, 79), (712, 9, 83), (715, 9, 91), (718, 9, 95), (721, 9, 96), (724, 9, 99), (727, 9, 100), (736, 9, 102), (742, 9, 103), (754, 9, 101)]
abbrev rc_X9 : List (Nat × Int) := [(209, 40000), (253, 65536), (500, -2147483648), (501, 2147483647)]
abbrev rl_X9 : List (Nat × Int) := [(229, 8), (456, -2147483648), (458, 2147483647), (476, -1), (478, 100), (586, 9223372036854775807), (588, -9223372036854775808), (641, -2), (680, 7), (685, 9), (696, 3), (698, 6), (700, 5), (702, 2), (704, 15), (801, 50), (803, 5000)]
abbrev rp_X9 : List (Nat × Nat × Nat × Bool) := [(9, 9, 1, true), (16, 9, 4, false), (20, 9, 5, false), (23, 9, 6, true), (27, 9, 7, true), (30, 9, 15, true), (33, 9, 17, true), (37, 9, 18, true), (40, 9, 19, true), (43, 9, 20, true), (46, 9, 21, true), (49, 9, 22, true), (53, 9, 23, true), (56, 9, 24, true), (59, 9, 25, true), (62, 9, 26, true), (65, 9, 27, true), (68, 9, 28, true), (71, 9, 29, true), (74, 9, 30, true), (77, 9, 31, true), (80, 9, 32, true), (83, 9, 33, true), (86, 9, 34, true), (89, 9, 35, true), (92, 9, 36, true), (95, 9, 37, true), (98, 9, 38, true), (101, 9, 39, true), (104, 9, 40, true), (107, 9, 41, true), (110, 9, 42, true), (113, 9, 43, true), (116, 9, 44, true), (119, 9, 45, true), (122, 9, 46, true), (125, 9, 47, true), (128, 9, 48, true), (131, 9, 49, true), (134, 9, 50, true), (137, 9, 51, true), (140, 9, 52, true), (143, 9, 53, true), (146, 9, 54, true), (149, 9, 55, true), (152, 9, 56, true), (155, 9, 57, true), (158, 9, 58, true), (161, 9, 59, true), (164, 9, 60, true), (167, 9, 73, true), (170, 9, 75, true), (173, 9, 76, true), (176, 9, 77, true), (179, 9, 81, true), (182, 9, 84, true), (185, 9, 85, true), (188, 9, 86, true), (191, 9, 87, true), (194, 9, 88, true), (197, 9, 89, true), (200, 9, 90, true), (203, 9, 92, true), (206, 9, 93, true), (210, 9, 94, true), (213, 9, 97, true), (216, 9, 98, true), (219, 9, 104, true), (222, 9, 105, true), (225, 9, 0, false), (235, 9, 2, false), (238, 9, 9, false), (241, 9, 10, false), (257, 10, 0, false), (260, 10, 1, false), (309, 10, 21, false), (325, 10, 30, false), (333, 10, 6, false), (373, 9, 3, false), (380, 9, 8, false), (383, 9, 11, false), (387, 9, 80, false), (390, 9, 82, false), (396, 9, 71, false), (399, 9, 68, false), (402, 9, 69, false), (412, 9, 70, false), (469, 9, 16, false), (484, 9, 12, false), (488, 9, 13, false), (491, 9, 14, false), (506, 9, 62, false), (509, 9, 63, false), (532, 9, 61, false), (539, 9, 64, false), (542, 9, 65, false), (545, 9, 66, false), (548, 9, 67, false), (594, 9, 72, false), (656, 9, 74, false), (668, 9, 78, false), (671, 9, 79, false), (712, 9, 83, false), (715, 9, 91, false), (718, 9, 95, false), (721, 9, 96, false), (724, 9, 99, false), (727, 9, 100, false), (736, 9, 102, false), (742, 9, 103, false), (754, 9, 101, false)]
abbrev rn_X9 : List (Nat × Nat × Nat) := [(13, 10, 33), (244, 17, 7)]
abbrev ra_X9 : List (Nat × Nat) := []
theorem rf_X9_ok : ∀ q ∈ rf_X9, FLink RX9 q.1 q.2.1 q.2.2 :=
  fmF (mF (own := RX9) (idx := 9) (k := 1) cf_9 rfl q2126)
  (fmF (mF (own := RX9) (idx := 16) (k := 4) cf_9 rfl q2129)
  (fmF (mF (own := RX9) (idx := 20) (k := 5) cf_9 rfl q2130)
  (fmF (mF (own := RX9) (idx := 23) (k := 6) cf_9 rfl q2131)
  (fmF (mF (own := RX9) (idx := 27) (k := 7) cf_9 rfl q2132)
  (fmF (mF (own := RX9) (idx := 30) (k := 15) cf_9 rfl q2140)
  (fmF (mF (own := RX9) (idx := 33) (k := 17) cf_9 rfl q2142)
  (fmF (mF (own := RX9) (idx := 37) (k := 18) cf_9 rfl q2143)
  (fmF (mF (own := RX9) (idx := 40) (k := 19) cf_9 rfl q2144)
  (fmF (mF (own := RX9) (idx := 43) (k := 20) cf_9 rfl q2145)
  (fmF (mF (own := RX9) (idx := 46) (k := 21) cf_9 rfl q2146)
  (fmF (mF (own := RX9) (idx := 49) (k := 22) cf_9 rfl q2147)
  (fmF (mF (own := RX9) (idx := 53) (k := 23) cf_9 rfl q2148)
  (fmF (mF (own := RX9) (idx := 56) (k := 24) cf_9 rfl q2149)
  (fmF (mF (own := RX9) (idx := 59) (k := 25) cf_9 rfl q2150)
  (fmF (mF (own := RX9) (idx := 62) (k := 26) cf_9 rfl q2151)
  (fmF (mF (own := RX9) (idx := 65) (k := 27) cf_9 rfl q2152)
  (fmF (mF (own := RX9) (idx := 68) (k := 28) cf_9 rfl q2153)
  (fmF (mF (own := RX9) (idx := 71) (k := 29) cf_9 rfl q2154)
  (fmF (mF (own := RX9) (idx := 74) (k := 30) cf_9 rfl q2155)
  (fmF (mF (own := RX9) (idx := 77) (k := 31) cf_9 rfl q2156)
  (fmF (mF (own := RX9) (idx := 80) (k := 32) cf_9 rfl q2157)
  (fmF (mF (own := RX9) (idx := 83) (k := 33) cf_9 rfl q2158)
  (fmF (mF (own := RX9) (idx := 86) (k := 34) cf_9 rfl q2159)
  (fmF (mF (own := RX9) (idx := 89) (k := 35) cf_9 rfl q2160)
  (fmF (mF (own := RX9) (idx := 92) (k := 36) cf_9 rfl q2161)
  (fmF (mF (own := RX9) (idx := 95) (k := 37) cf_9 rfl q2162)
  (fmF (mF (own := RX9) (idx := 98) (k := 38) cf_9 rfl q2163)
  (fmF (mF (own := RX9) (idx := 101) (k := 39) cf_9 rfl q2164)
  (fmF (mF (own := RX9) (idx := 104) (k := 40) cf_9 rfl q2165)
  (fmF (mF (own := RX9) (idx := 107) (k := 41) cf_9 rfl q2166)
  (fmF (mF (own := RX9) (idx := 110) (k := 42) cf_9 rfl q2167)
  (fmF (mF (own := RX9) (idx := 113) (k := 43) cf_9 rfl q2168)
  (fmF (mF (own := RX9) (idx := 116) (k := 44) cf_9 rfl q2169)
  (fmF (mF (own := RX9) (idx := 119) (k := 45) cf_9 rfl q2170)
  (fmF (mF (own := RX9) (idx := 122) (k := 46) cf_9 rfl q2171)
  (fmF (mF (own := RX9) (idx := 125) (k := 47) cf_9 rfl q2172)
  (fmF (mF (own := RX9) (idx := 128) (k := 48) cf_9 rfl q2173)
  (fmF (mF (own := RX9) (idx := 131) (k := 49) cf_9 rfl q2174)
  (fmF (mF (own := RX9) (idx := 134) (k := 50) cf_9 rfl q2175)
  (fmF (mF (own := RX9) (idx := 137) (k := 51) cf_9 rfl q2176)
  (fmF (mF (own := RX9) (idx := 140) (k := 52) cf_9 rfl q2177)
  (fmF (mF (own := RX9) (idx := 143) (k := 53) cf_9 rfl q2178)
  (fmF (mF (own := RX9) (idx := 146) (k := 54) cf_9 rfl q2179)
  (fmF (mF (own := RX9) (idx := 149) (k := 55) cf_9 rfl q2180)
  (fmF (mF (own := RX9) (idx := 152) (k := 56) cf_9 rfl q2181)
  (fmF (mF (own := RX9) (idx := 155) (k := 57) cf_9 rfl q2182)
  (fmF (mF (own := RX9) (idx := 158) (k := 58) cf_9 rfl q2183)
  (fmF (mF (own := RX9) (idx := 161) (k := 59) cf_9 rfl q2184)
  (fmF (mF (own := RX9) (idx := 164) (k := 60) cf_9 rfl q2185)
  (fmF (mF (own := RX9) (idx := 167) (k := 73) cf_9 rfl q2198)
  (fmF (mF (own := RX9) (idx := 170) (k := 75) cf_9 rfl q2200)
  (fmF (mF (own := RX9) (idx := 173) (k := 76) cf_9 rfl q2201)
  (fmF (mF (own := RX9) (idx := 176) (k := 77) cf_9 rfl q2202)
  (fmF (mF (own := RX9) (idx := 179) (k := 81) cf_9 rfl q2206)
  (fmF (mF (own := RX9) (idx := 182) (k := 84) cf_9 rfl q2209)
  (fmF (mF (own := RX9) (idx := 185) (k := 85) cf_9 rfl q2210)
  (fmF (mF (own := RX9) (idx := 188) (k := 86) cf_9 rfl q2211)
  (fmF (mF (own := RX9) (idx := 191) (k := 87) cf_9 rfl q2212)
  (fmF (mF (own := RX9) (idx := 194) (k := 88) cf_9 rfl q2213)
  (fmF (mF (own := RX9) (idx := 197) (k := 89) cf_9 rfl q2214)
  (fmF (mF (own := RX9) (idx := 200) (k := 90) cf_9 rfl q2215)
  (fmF (mF (own := RX9) (idx := 203) (k := 92) cf_9 rfl q2217)
  (fmF (mF (own := RX9) (idx := 206) (k := 93) cf_9 rfl q2218)
  (fmF (mF (own := RX9) (idx := 210) (k := 94) cf_9 rfl q2219)
  (fmF (mF (own := RX9) (idx := 213) (k := 97) cf_9 rfl q2222)
  (fmF (mF (own := RX9) (idx := 216) (k := 98) cf_9 rfl q2223)
  (fmF (mF (own := RX9) (idx := 219) (k := 104) cf_9 rfl q2229)
  (fmF (mF (own := RX9) (idx := 222) (k := 105) cf_9 rfl q2230)
  (fmF (mF (own := RX9) (idx := 225) (k := 0) cf_9 rfl q2125)
  (fmF (mF (own := RX9) (idx := 235) (k := 2) cf_9 rfl q2127)
  (fmF (mF (own := RX9) (idx := 238) (k := 9) cf_9 rfl q2134)
  (fmF (mF (own := RX9) (idx := 241) (k := 10) cf_9 rfl q2135)
  (fmF (mF (own := RX9) (idx := 257) (k := 0) cf_10 rfl q1996)
  (fmF (mF (own := RX9) (idx := 260) (k := 1) cf_10 rfl q1997)
  (fmF (mF (own := RX9) (idx := 263) (k := 2) cf_10 rfl q1999)
  (fmF (mF (own := RX9) (idx := 266) (k := 3) cf_10 rfl q2001)
  (fmF (mF (own := RX9) (idx := 269) (k := 4) cf_10 rfl q2003)
  (fmF (mF (own := RX9) (idx := 272) (k := 5) cf_10 rfl q2005)
  (fmF (mF (own := RX9) (idx := 275) (k := 9) cf_10 rfl q2012)
  (fmF (mF (own := RX9) (idx := 278) (k := 10) cf_10 rfl q2014)
  (fmF (mF (own := RX9) (idx := 281) (k := 12) cf_10 rfl q2018)
  (fmF (mF (own := RX9) (idx := 284) (k := 18) cf_10 rfl q2030)
  (fmF (mF (own := RX9) (idx := 287) (k := 7) cf_10 rfl q2008)
  (fmF (mF (own := RX9) (idx := 290) (k := 8) cf_10 rfl q2010)
  (fmF (mF (own := RX9) (idx := 297) (k := 11) cf_10 rfl q2016)
  (fmF (mF (own := RX9) (idx := 300) (k := 13) cf_10 rfl q2020)
  (fmF (mF (own := RX9) (idx := 303) (k := 14) cf_10 rfl q2022)
  (fmF (mF (own := RX9) (idx := 306) (k := 16) cf_10 rfl q2026)
  (fmF (mF (own := RX9) (idx := 309) (k := 21) cf_10 rfl q2035)
  (fmF (mF (own := RX9) (idx := 312) (k := 17) cf_10 rfl q2028)
  (fmF (mF (own := RX9) (idx := 319) (k := 15) cf_10 rfl q2024)
  (fmF (mF (own := RX9) (idx := 322) (k := 19) cf_10 rfl q2032)
  (fmF (mF (own := RX9) (idx := 325) (k := 30) cf_10 rfl q2052)
  (fmF (mF (own := RX9) (idx := 327) (k := 28) cf_10 rfl q2049)
  (fmF (mF (own := RX9) (idx := 333) (k := 6) cf_10 rfl q2006)
  (fmF (mF (own := RX9) (idx := 336) (k := 29) cf_10 rfl q2051)
  (fmF (mF (own := RX9) (idx := 339) (k := 22) cf_10 rfl q2037)
  (fmF (mF (own := RX9) (idx := 342) (k := 23) cf_10 rfl q2039)
  (fmF (mF (own := RX9) (idx := 345) (k := 24) cf_10 rfl q2041)
  (fmF (mF (own := RX9) (idx := 348) (k := 25) cf_10 rfl q2043)
  (fmF (mF (own := RX9) (idx := 351) (k := 26) cf_10 rfl q2045)
  (fmF (mF (own := RX9) (idx := 354) (k := 27) cf_10 rfl q2047)
  (fmF (mF (own := RX9) (idx := 367) (k := 0) cf_17 rfl q2478)
  (fmF (mF (own := RX9) (idx := 370) (k := 20) cf_10 rfl q2034)
  (fmF (mF (own := RX9) (idx := 373) (k := 3) cf_9 rfl q2128)
  (fmF (mF (own := RX9) (idx := 380) (k := 8) cf_9 rfl q2133)
  (fmF (mF (own := RX9) (idx := 383) (k := 11) cf_9 rfl q2136)
  (fmF (mF (own := RX9) (idx := 387) (k := 80) cf_9 rfl q2205)
  (fmF (mF (own := RX9) (idx := 390) (k := 82) cf_9 rfl q2207)
  (fmF (mF (own := RX9) (idx := 396) (k := 71) cf_9 rfl q2196)
  (fmF (mF (own := RX9) (idx := 399) (k := 68) cf_9 rfl q2193)
  (fmF (mF (own := RX9) (idx := 402) (k := 69) cf_9 rfl q2194)
  (fmF (mF (own := RX9) (idx := 412) (k := 70) cf_9 rfl q2195)
  (fmF (mF (own := RX9) (idx := 424) (k := 31) cf_10 rfl q2054)
  (fmF (mF (own := RX9) (idx := 427) (k := 32) cf_10 rfl q2056)
  (fmF (mF (own := RX9) (idx := 469) (k := 16) cf_9 rfl q2141)
  (fmF (mF (own := RX9) (idx := 484) (k := 12) cf_9 rfl q2137)
  (fmF (mF (own := RX9) (idx := 488) (k := 13) cf_9 rfl q2138)
  (fmF (mF (own := RX9) (idx := 491) (k := 14) cf_9 rfl q2139)
  (fmF (mF (own := RX9) (idx := 506) (k := 62) cf_9 rfl q2187)
  (fmF (mF (own := RX9) (idx := 509) (k := 63) cf_9 rfl q2188)
  (fmF (mF (own := RX9) (idx := 532) (k := 61) cf_9 rfl q2186)
  (fmF (mF (own := RX9) (idx := 539) (k := 64) cf_9 rfl q2189)
  (fmF (mF (own := RX9) (idx := 542) (k := 65) cf_9 rfl q2190)
  (fmF (mF (own := RX9) (idx := 545) (k := 66) cf_9 rfl q2191)
  (fmF (mF (own := RX9) (idx := 548) (k := 67) cf_9 rfl q2192)
  (fmF (mF (own := RX9) (idx := 594) (k := 72) cf_9 rfl q2197)
  (fmF (mF (own := RX9) (idx := 656) (k := 74) cf_9 rfl q2199)
  (fmF (mF (own := RX9) (idx := 668) (k := 78) cf_9 rfl q2203)
  (fmF (mF (own := RX9) (idx := 671) (k := 79) cf_9 rfl q2204)
  (fmF (mF (own := RX9) (idx := 712) (k := 83) cf_9 rfl q2208)
  (fmF (mF (own := RX9) (idx := 715) (k := 91) cf_9 rfl q2216)
  (fmF (mF (own := RX9) (idx := 718) (k := 95) cf_9 rfl q2220)
  (fmF (mF (own := RX9) (idx := 721) (k := 96) cf_9 rfl q2221)
  (fmF (mF (own := RX9) (idx := 724) (k := 99) cf_9 rfl q2224)
  (fmF (mF (own := RX9) (idx := 727) (k := 100) cf_9 rfl q2225)
  (fmF (mF (own := RX9) (idx := 736) (k := 102) cf_9 rfl q2227)
  (fmF (mF (own := RX9) (idx := 742) (k := 103) cf_9 rfl q2228)
  (fmF (mF (own := RX9) (idx := 754) (k := 101) cf_9 rfl q2226)
  (fmz))))))))))))))))))))))))))))))))))))))))))))))))))))))))))))))))))))))))))))))))))))))))))))))))))))))))))))))))))))))))))))))))))))))))))))
theorem rc_X9_ok : ∀ q ∈ rc_X9, c32 q.2 ∧ Cond.constant RX9 q.1 (Int32.ofInt q.2) ∈ lw_all :=
  fmC (own := RX9) (i := 209) (z := 40000) rfl q2124
  (fmC (own := RX9) (i := 253) (z := 65536) rfl q2506
  (fmC (own := RX9) (i := 500) (z := (-2147483648)) rfl q2598
  (fmC (own := RX9) (i := 501) (z := 2147483647) rfl q2599
  (fmz))))
theorem rl_X9_ok : ∀ q ∈ rl_X9, c64 q.2 ∧ Cond.constantLong RX9 q.1 (Int64.ofInt q.2) ∈ lw_all :=
  fmL (own := RX9) (i := 229) (z := 8) rfl q2452
  (fmL (own := RX9) (i := 456) (z := (-2147483648)) rfl q2567
  (fmL (own := RX9) (i := 458) (z := 2147483647) rfl q2572
  (fmL (own := RX9) (i := 476) (z := (-1)) rfl q2575
  (fmL (own := RX9) (i := 478) (z := 100) rfl q2576
  (fmL (own := RX9) (i := 586) (z := 9223372036854775807) rfl q2659
  (fmL (own := RX9) (i := 588) (z := (-9223372036854775808)) rfl q2660
  (fmL (own := RX9) (i := 641) (z := (-2)) rfl q2720
  (fmL (own := RX9) (i := 680) (z := 7) rfl q2562
  (fmL (own := RX9) (i := 685) (z := 9) rfl q2585
  (fmL (own := RX9) (i := 696) (z := 3) rfl q2785
  (fmL (own := RX9) (i := 698) (z := 6) rfl q2802
  (fmL (own := RX9) (i := 700) (z := 5) rfl q2807
  (fmL (own := RX9) (i := 702) (z := 2) rfl q2828
  (fmL (own := RX9) (i := 704) (z := 15) rfl q2829
  (fmL (own := RX9) (i := 801) (z := 50) rfl q2868
  (fmL (own := RX9) (i := 803) (z := 5000) rfl q2869
  (fmz)))))))))))))))))
theorem rp_X9_ok : ∀ q ∈ rp_X9, SLink RX9 q.1 q.2.1 q.2.2.1 q.2.2.2 :=
  fmS (mS (own := RX9) (idx := 9) (k := 1) (fin := true) cf_9 rfl q2126 rfl (fun _ => rfl))
  (fmS (mS (own := RX9) (idx := 16) (k := 4) (fin := false) cf_9 rfl q2129 rfl (fun z => Bool.noConfusion z))
  (fmS (mS (own := RX9) (idx := 20) (k := 5) (fin := false) cf_9 rfl q2130 rfl (fun z => Bool.noConfusion z))
  (fmS (mS (own := RX9) (idx := 23) (k := 6) (fin := true) cf_9 rfl q2131 rfl (fun _ => rfl))
  (fmS (mS (own := RX9) (idx := 27) (k := 7) (fin := true) cf_9 rfl q2132 rfl (fun _ => rfl))
  (fmS (mS (own := RX9) (idx := 30) (k := 15) (fin := true) cf_9 rfl q2140 rfl (fun _ => rfl))
  (fmS (mS (own := RX9) (idx := 33) (k := 17) (fin := true) cf_9 rfl q2142 rfl (fun _ => rfl))
  (fmS (mS (own := RX9) (idx := 37) (k := 18) (fin := true) cf_9 rfl q2143 rfl (fun _ => rfl))
  (fmS (mS (own := RX9) (idx := 40) (k := 19) (fin := true) cf_9 rfl q2144 rfl (fun _ => rfl))
  (fmS (mS (own := RX9) (idx := 43) (k := 20) (fin := true) cf_9 rfl q2145 rfl (fun _ => rfl))
  (fmS (mS (own := RX9) (idx := 46) (k := 21) (fin := true) cf_9 rfl q2146 rfl (fun _ => rfl))
  (fmS (mS (own := RX9) (idx := 49) (k := 22) (fin := true) cf_9 rfl q2147 rfl (fun _ => rfl))
  (fmS (mS (own := RX9) (idx := 53) (k := 23) (fin := true) cf_9 rfl q2148 rfl (fun _ => rfl))
  (fmS (mS (own := RX9) (idx := 56) (k := 24) (fin := true) cf_9 rfl q2149 rfl (fun _ => rfl))
  (fmS (mS (own := RX9) (idx := 59) (k := 25) (fin := true) cf_9 rfl q2150 rfl (fun _ => rfl))
  (fmS (mS (own := RX9) (idx := 62) (k := 26) (fin := true) cf_9 rfl q2151 rfl (fun _ => rfl))
  (fmS (mS (own := RX9) (idx := 65) (k := 27) (fin := true) cf_9 rfl q2152 rfl (fun _ => rfl))
  (fmS (mS (own := RX9) (idx := 68) (k := 28) (fin := true) cf_9 rfl q2153 rfl (fun _ => rfl))
  (fmS (mS (own := RX9) (idx := 71) (k := 29) (fin := true) cf_9 rfl q2154 rfl (fun _ => rfl))
  (fmS (mS (own := RX9) (idx := 74) (k := 30) (fin := true) cf_9 rfl q2155 rfl (fun _ => rfl))
  (fmS (mS (own := RX9) (idx := 77) (k := 31) (fin := true) cf_9 rfl q2156 rfl (fun _ => rfl))
  (fmS (mS (own := RX9) (idx := 80) (k := 32) (fin := true) cf_9 rfl q2157 rfl (fun _ => rfl))
  (fmS (mS (own := RX9) (idx := 83) (k := 33) (fin := true) cf_9 rfl q2158 rfl (fun _ => rfl))
  (fmS (mS (own := RX9) (idx := 86) (k := 34) (fin := true) cf_9 rfl q2159 rfl (fun _ => rfl))
  (fmS (mS (own := RX9) (idx := 89) (k := 35) (fin := true) cf_9 rfl q2160 rfl (fun _ => rfl))
  (fmS (mS (own := RX9) (idx := 92) (k := 36) (fin := true) cf_9 rfl q2161 rfl (fun _ => rfl))
  (fmS (mS (own := RX9) (idx := 95) (k := 37) (fin := true) cf_9 rfl q2162 rfl (fun _ => rfl))
  (fmS (mS (own := RX9) (idx := 98) (k := 38) (fin := true) cf_9 rfl q2163 rfl (fun _ => rfl))
  (fmS (mS (own := RX9) (idx := 101) (k := 39) (fin := true) cf_9 rfl q2164 rfl (fun _ => rfl))
  (fmS (mS (own := RX9) (idx := 104) (k := 40) (fin := true) cf_9 rfl q2165 rfl (fun _ => rfl))
  (fmS (mS (own := RX9) (idx := 107) (k := 41) (fin := true) cf_9 rfl q2166 rfl (fun _ => rfl))
  (fmS (mS (own := RX9) (idx := 110) (k := 42) (fin := true) cf_9 rfl q2167 rfl (fun _ => rfl))
  (fmS (mS (own := RX9) (idx := 113) (k := 43) (fin := true) cf_9 rfl q2168 rfl (fun _ => rfl))
  (fmS (mS (own := RX9) (idx := 116) (k := 44) (fin := true) cf_9 rfl q2169 rfl (fun _ => rfl))
  (fmS (mS (own := RX9) (idx := 119) (k := 45) (fin := true) cf_9 rfl q2170 rfl (fun _ => rfl))
  (fmS (mS (own := RX9) (idx := 122) (k := 46) (fin := true) cf_9 rfl q2171 rfl (fun _ => rfl))
  (fmS (mS (own := RX9) (idx := 125) (k := 47) (fin := true) cf_9 rfl q2172 rfl (fun _ => rfl))
  (fmS (mS (own := RX9) (idx := 128) (k := 48) (fin := true) cf_9 rfl q2173 rfl (fun _ => rfl))
  (fmS (mS (own := RX9) (idx := 131) (k := 49) (fin := true) cf_9 rfl q2174 rfl (fun _ => rfl))
  (fmS (mS (own := RX9) (idx := 134) (k := 50) (fin := true) cf_9 rfl q2175 rfl (fun _ => rfl))
  (fmS (mS (own := RX9) (idx := 137) (k := 51) (fin := true) cf_9 rfl q2176 rfl (fun _ => rfl))
  (fmS (mS (own := RX9) (idx := 140) (k := 52) (fin := true) cf_9 rfl q2177 rfl (fun _ => rfl))
  (fmS (mS (own := RX9) (idx := 143) (k := 53) (fin := true) cf_9 rfl q2178 rfl (fun _ => rfl))
  (fmS (mS (own := RX9) (idx := 146) (k := 54) (fin := true) cf_9 rfl q2179 rfl (fun _ => rfl))
  (fmS (mS (own := RX9) (idx := 149) (k := 55) (fin := true) cf_9 rfl q2180 rfl (fun _ => rfl))
  (fmS (mS (own := RX9) (idx := 152) (k := 56) (fin := true) cf_9 rfl q2181 rfl (fun _ => rfl))
  (fmS (mS (own := RX9) (idx := 155) (k := 57) (fin := true) cf_9 rfl q2182 rfl (fun _ => rfl))
  (fmS (mS (own := RX9) (idx := 158) (k := 58) (fin := true) cf_9 rfl q2183 rfl (fun _ => rfl))
  (fmS (mS (own := RX9) (idx := 161) (k := 59) (fin := true) cf_9 rfl q2184 rfl (fun _ => rfl))
  (fmS (mS (own := RX9) (idx := 164) (k := 60) (fin := true) cf_9 rfl q2185 rfl (fun _ => rfl))
  (fmS (mS (own := RX9) (idx := 167) (k := 73) (fin := true) cf_9 rfl q2198 rfl (fun _ => rfl))
  (fmS (mS (own := RX9) (idx := 170) (k := 75) (fin := true) cf_9 rfl q2200 rfl (fun _ => rfl))
  (fmS (mS (own := RX9) (idx := 173) (k := 76) (fin := true) cf_9 rfl q2201 rfl (fun _ => rfl))
  (fmS (mS (own := RX9) (idx := 176) (k := 77) (fin := true) cf_9 rfl q2202 rfl (fun _ => rfl))
  (fmS (mS (own := RX9) (idx := 179) (k := 81) (fin := true) cf_9 rfl q2206 rfl (fun _ => rfl))
  (fmS (mS (own := RX9) (idx := 182) (k := 84) (fin := true) cf_9 rfl q2209 rfl (fun _ => rfl))
  (fmS (mS (own := RX9) (idx := 185) (k := 85) (fin := true) cf_9 rfl q2210 rfl (fun _ => rfl))
  (fmS (mS (own := RX9) (idx := 188) (k := 86) (fin := true) cf_9 rfl q2211 rfl (fun _ => rfl))
  (fmS (mS (own := RX9) (idx := 191) (k := 87) (fin := true) cf_9 rfl q2212 rfl (fun _ => rfl))
  (fmS (mS (own := RX9) (idx := 194) (k := 88) (fin := true) cf_9 rfl q2213 rfl (fun _ => rfl))
  (fmS (mS (own := RX9) (idx := 197) (k := 89) (fin := true) cf_9 rfl q2214 rfl (fun _ => rfl))
  (fmS (mS (own := RX9) (idx := 200) (k := 90) (fin := true) cf_9 rfl q2215 rfl (fun _ => rfl))
  (fmS (mS (own := RX9) (idx := 203) (k := 92) (fin := true) cf_9 rfl q2217 rfl (fun _ => rfl))
  (fmS (mS (own := RX9) (idx := 206) (k := 93) (fin := true) cf_9 rfl q2218 rfl (fun _ => rfl))
  (fmS (mS (own := RX9) (idx := 210) (k := 94) (fin := true) cf_9 rfl q2219 rfl (fun _ => rfl))
  (fmS (mS (own := RX9) (idx := 213) (k := 97) (fin := true) cf_9 rfl q2222 rfl (fun _ => rfl))
  (fmS (mS (own := RX9) (idx := 216) (k := 98) (fin := true) cf_9 rfl q2223 rfl (fun _ => rfl))
  (fmS (mS (own := RX9) (idx := 219) (k := 104) (fin := true) cf_9 rfl q2229 rfl (fun _ => rfl))
  (fmS (mS (own := RX9) (idx := 222) (k := 105) (fin := true) cf_9 rfl q2230 rfl (fun _ => rfl))
  (fmS (mS (own := RX9) (idx := 225) (k := 0) (fin := false) cf_9 rfl q2125 rfl (fun z => Bool.noConfusion z))
  (fmS (mS (own := RX9) (idx := 235) (k := 2) (fin := false) cf_9 rfl q2127 rfl (fun z => Bool.noConfusion z))
  (fmS (mS (own := RX9) (idx := 238) (k := 9) (fin := false) cf_9 rfl q2134 rfl (fun z => Bool.noConfusion z))
  (fmS (mS (own := RX9) (idx := 241) (k := 10) (fin := false) cf_9 rfl q2135 rfl (fun z => Bool.noConfusion z))
  (fmS (mS (own := RX9) (idx := 257) (k := 0) (fin := false) cf_10 rfl q1996 rfl (fun z => Bool.noConfusion z))
  (fmS (mS (own := RX9) (idx := 260) (k := 1) (fin := false) cf_10 rfl q1997 rfl (fun z => Bool.noConfusion z))
  (fmS (mS (own := RX9) (idx := 309) (k := 21) (fin := false) cf_10 rfl q2035 rfl (fun z => Bool.noConfusion z))
  (fmS (mS (own := RX9) (idx := 325) (k := 30) (fin := false) cf_10 rfl q2052 rfl (fun z => Bool.noConfusion z))
  (fmS (mS (own := RX9) (idx := 333) (k := 6) (fin := false) cf_10 rfl q2006 rfl (fun z => Bool.noConfusion z))
  (fmS (mS (own := RX9) (idx := 373) (k := 3) (fin := false) cf_9 rfl q2128 rfl (fun z => Bool.noConfusion z))
  (fmS (mS (own := RX9) (idx := 380) (k := 8) (fin := false) cf_9 rfl q2133 rfl (fun z => Bool.noConfusion z))
  (fmS (mS (own := RX9) (idx := 383) (k := 11) (fin := false) cf_9 rfl q2136 rfl (fun z => Bool.noConfusion z))
  (fmS (mS (own := RX9) (idx := 387) (k := 80) (fin := false) cf_9 rfl q2205 rfl (fun z => Bool.noConfusion z))
  (fmS (mS (own := RX9) (idx := 390) (k := 82) (fin := false) cf_9 rfl q2207 rfl (fun z => Bool.noConfusion z))
  (fmS (mS (own := RX9) (idx := 396) (k := 71) (fin := false) cf_9 rfl q2196 rfl (fun z => Bool.noConfusion z))
  (fmS (mS (own := RX9) (idx := 399) (k := 68) (fin := false) cf_9 rfl q2193 rfl (fun z => Bool.noConfusion z))
  (fmS (mS (own := RX9) (idx := 402) (k := 69) (fin := false) cf_9 rfl q2194 rfl (fun z => Bool.noConfusion z))
  (fmS (mS (own := RX9) (idx := 412) (k := 70) (fin := false) cf_9 rfl q2195 rfl (fun z => Bool.noConfusion z))
  (fmS (mS (own := RX9) (idx := 469) (k := 16) (fin := false) cf_9 rfl q2141 rfl (fun z => Bool.noConfusion z))
  (fmS (mS (own := RX9) (idx := 484) (k := 12) (fin := false) cf_9 rfl q2137 rfl (fun z => Bool.noConfusion z))
  (fmS (mS (own := RX9) (idx := 488) (k := 13) (fin := false) cf_9 rfl q2138 rfl (fun z => Bool.noConfusion z))
  (fmS (mS (own := RX9) (idx := 491) (k := 14) (fin := false) cf_9 rfl q2139 rfl (fun z => Bool.noConfusion z))
  (fmS (mS (own := RX9) (idx := 506) (k := 62) (fin := false) cf_9 rfl q2187 rfl (fun z => Bool.noConfusion z))
  (fmS (mS (own := RX9) (idx := 509) (k := 63) (fin := false) cf_9 rfl q2188 rfl (fun z => Bool.noConfusion z))
  (fmS (mS (own := RX9) (idx := 532) (k := 61) (fin := false) cf_9 rfl q2186 rfl (fun z => Bool.noConfusion z))
  (fmS (mS (own := RX9) (idx := 539) (k := 64) (fin := false) cf_9 rfl q2189 rfl (fun z => Bool.noConfusion z))
  (fmS (mS (own := RX9) (idx := 542) (k := 65) (fin := false) cf_9 rfl q2190 rfl (fun z => Bool.noConfusion z))
  (fmS (mS (own := RX9) (idx := 545) (k := 66) (fin := false) cf_9 rfl q2191 rfl (fun z => Bool.noConfusion z))
  (fmS (mS (own := RX9) (idx := 548) (k := 67) (fin := false) cf_9 rfl q2192 rfl (fun z => Bool.noConfusion z))
  (fmS (mS (own := RX9) (idx := 594) (k := 72) (fin := false) cf_9 rfl q2197 rfl (fun z => Bool.noConfusion z))
  (fmS (mS (own := RX9) (idx := 656) (k := 74) (fin := false) cf_9 rfl q2199 rfl (fun z => Bool.noConfusion z))
  (fmS (mS (own := RX9) (idx := 668) (k := 78) (fin := false) cf_9 rfl q2203 rfl (fun z => Bool.noConfusion z))
  (fmS (mS (own := RX9) (idx := 671) (k := 79) (fin := false) cf_9 rfl q2204 rfl (fun z => Bool.noConfusion z))
  (fmS (mS (own := RX9) (idx := 712) (k := 83) (fin := false) cf_9 rfl q2208 rfl (fun z => Bool.noConfusion z))
  (fmS (mS (own := RX9) (idx := 715) (k := 91) (fin := false) cf_9 rfl q2216 rfl (fun z => Bool.noConfusion z))
  (fmS (mS (own := RX9) (idx := 718) (k := 95) (fin := false) cf_9 rfl q2220 rfl (fun z => Bool.noConfusion z))
  (fmS (mS (own := RX9) (idx := 721) (k := 96) (fin := false) cf_9 rfl q2221 rfl (fun z => Bool.noConfusion z))
  (fmS (mS (own := RX9) (idx := 724) (k := 99) (fin := false) cf_9 rfl q2224 rfl (fun z => Bool.noConfusion z))
  (fmS (mS (own := RX9) (idx := 727) (k := 100) (fin := false) cf_9 rfl q2225 rfl (fun z => Bool.noConfusion z))
  (fmS (mS (own := RX9) (idx := 736) (k := 102) (fin := false) cf_9 rfl q2227 rfl (fun z => Bool.noConfusion z))
  (fmS (mS (own := RX9) (idx := 742) (k := 103) (fin := false) cf_9 rfl q2228 rfl (fun z => Bool.noConfusion z))
  (fmS (mS (own := RX9) (idx := 754) (k := 101) (fin := false) cf_9 rfl q2226 rfl (fun z => Bool.noConfusion z))
  (fmz)))))))))))))))))))))))))))))))))))))))))))))))))))))))))))))))))))))))))))))))))))))))))))))))))))))))))))))))
theorem rn_X9_ok : ∀ q ∈ rn_X9, NLink RX9 q.1 q.2.1 q.2.2 :=
  fmN (mN (own := RX9) (idx := 13) (n := 33) cf_10 q1990 q1991 q199)
  (fmN (mN (own := RX9) (idx := 244) (n := 7) cf_17 q2460 q2465 q212)
  (fmz))
theorem ra_X9_ok : ∀ q ∈ ra_X9, ALink RX9 q.1 q.2 :=
  fmz
/-! FactHouseModel$Load -/
abbrev rf_X10 : List (Nat × Nat × Nat) := []
abbrev rc_X10 : List (Nat × Int) := []
abbrev rl_X10 : List (Nat × Int) := []
abbrev rp_X10 : List (Nat × Nat × Nat × Bool) := [(9, 10, 2, true), (15, 10, 3, true), (18, 10, 4, true), (21, 10, 5, true), (24, 10, 7, true), (27, 10, 8, true), (30, 10, 9, true), (33, 10, 10, true), (36, 10, 11, true), (39, 10, 12, true), (42, 10, 13, true), (45, 10, 14, true), (48, 10, 15, true), (51, 10, 16, true), (54, 10, 17, true), (57, 10, 18, true), (60, 10, 19, true), (63, 10, 20, true), (67, 10, 22, true), (70, 10, 23, true), (73, 10, 24, true), (76, 10, 25, true), (79, 10, 26, true), (82, 10, 27, true), (85, 10, 28, true), (88, 10, 29, true), (91, 10, 31, true), (94, 10, 32, true)]
abbrev rn_X10 : List (Nat × Nat × Nat) := []
abbrev ra_X10 : List (Nat × Nat) := []
theorem rf_X10_ok : ∀ q ∈ rf_X10, FLink RX10 q.1 q.2.1 q.2.2 :=
  fmz
theorem rc_X10_ok : ∀ q ∈ rc_X10, c32 q.2 ∧ Cond.constant RX10 q.1 (Int32.ofInt q.2) ∈ lw_all :=
  fmz
theorem rl_X10_ok : ∀ q ∈ rl_X10, c64 q.2 ∧ Cond.constantLong RX10 q.1 (Int64.ofInt q.2) ∈ lw_all :=
  fmz
theorem rp_X10_ok : ∀ q ∈ rp_X10, SLink RX10 q.1 q.2.1 q.2.2.1 q.2.2.2 :=
  fmS (mS (own := RX10) (idx := 9) (k := 2) (fin := true) cf_10 rfl q1998 rfl (fun _ => rfl))
  (fmS (mS (own := RX10) (idx := 15) (k := 3) (fin := true) cf_10 rfl q2000 rfl (fun _ => rfl))
  (fmS (mS (own := RX10) (idx := 18) (k := 4) (fin := true) cf_10 rfl q2002 rfl (fun _ => rfl))
  (fmS (mS (own := RX10) (idx := 21) (k := 5) (fin := true) cf_10 rfl q2004 rfl (fun _ => rfl))
  (fmS (mS (own := RX10) (idx := 24) (k := 7) (fin := true) cf_10 rfl q2007 rfl (fun _ => rfl))
  (fmS (mS (own := RX10) (idx := 27) (k := 8) (fin := true) cf_10 rfl q2009 rfl (fun _ => rfl))
  (fmS (mS (own := RX10) (idx := 30) (k := 9) (fin := true) cf_10 rfl q2011 rfl (fun _ => rfl))
  (fmS (mS (own := RX10) (idx := 33) (k := 10) (fin := true) cf_10 rfl q2013 rfl (fun _ => rfl))
  (fmS (mS (own := RX10) (idx := 36) (k := 11) (fin := true) cf_10 rfl q2015 rfl (fun _ => rfl))
  (fmS (mS (own := RX10) (idx := 39) (k := 12) (fin := true) cf_10 rfl q2017 rfl (fun _ => rfl))
  (fmS (mS (own := RX10) (idx := 42) (k := 13) (fin := true) cf_10 rfl q2019 rfl (fun _ => rfl))
  (fmS (mS (own := RX10) (idx := 45) (k := 14) (fin := true) cf_10 rfl q2021 rfl (fun _ => rfl))
  (fmS (mS (own := RX10) (idx := 48) (k := 15) (fin := true) cf_10 rfl q2023 rfl (fun _ => rfl))
  (fmS (mS (own := RX10) (idx := 51) (k := 16) (fin := true) cf_10 rfl q2025 rfl (fun _ => rfl))
  (fmS (mS (own := RX10) (idx := 54) (k := 17) (fin := true) cf_10 rfl q2027 rfl (fun _ => rfl))
  (fmS (mS (own := RX10) (idx := 57) (k := 18) (fin := true) cf_10 rfl q2029 rfl (fun _ => rfl))
  (fmS (mS (own := RX10) (idx := 60) (k := 19) (fin := true) cf_10 rfl q2031 rfl (fun _ => rfl))
  (fmS (mS (own := RX10) (idx := 63) (k := 20) (fin := true) cf_10 rfl q2033 rfl (fun _ => rfl))
  (fmS (mS (own := RX10) (idx := 67) (k := 22) (fin := true) cf_10 rfl q2036 rfl (fun _ => rfl))
  (fmS (mS (own := RX10) (idx := 70) (k := 23) (fin := true) cf_10 rfl q2038 rfl (fun _ => rfl))
  (fmS (mS (own := RX10) (idx := 73) (k := 24) (fin := true) cf_10 rfl q2040 rfl (fun _ => rfl))
  (fmS (mS (own := RX10) (idx := 76) (k := 25) (fin := true) cf_10 rfl q2042 rfl (fun _ => rfl))
  (fmS (mS (own := RX10) (idx := 79) (k := 26) (fin := true) cf_10 rfl q2044 rfl (fun _ => rfl))
  (fmS (mS (own := RX10) (idx := 82) (k := 27) (fin := true) cf_10 rfl q2046 rfl (fun _ => rfl))
  (fmS (mS (own := RX10) (idx := 85) (k := 28) (fin := true) cf_10 rfl q2048 rfl (fun _ => rfl))
  (fmS (mS (own := RX10) (idx := 88) (k := 29) (fin := true) cf_10 rfl q2050 rfl (fun _ => rfl))
  (fmS (mS (own := RX10) (idx := 91) (k := 31) (fin := true) cf_10 rfl q2053 rfl (fun _ => rfl))
  (fmS (mS (own := RX10) (idx := 94) (k := 32) (fin := true) cf_10 rfl q2055 rfl (fun _ => rfl))
  (fmz))))))))))))))))))))))))))))
theorem rn_X10_ok : ∀ q ∈ rn_X10, NLink RX10 q.1 q.2.1 q.2.2 :=
  fmz
theorem ra_X10_ok : ∀ q ∈ ra_X10, ALink RX10 q.1 q.2 :=
  fmz
/-! FactHouse$Reader -/
abbrev rf_X11 : List (Nat × Nat × Nat) := [(12, 11, 0), (18, 11, 5), (22, 11, 1), (32, 11, 2), (41, 11, 3), (56, 12, 3), (60, 12, 4), (64, 12, 9), (67, 12, 2), (74, 12, 5), (82, 12, 6), (112, 12, 7), (115, 12, 10), (118, 12, 11), (124, 14, 14), (127, 14, 12), (130, 14, 0), (139, 14, 1), (142, 14, 2), (145, 14, 3), (151, 14, 5), (162, 14, 13), (166, 11, 4), (169, 14, 7), (172, 14, 8), (175, 14, 9), (178, 14, 10), (181, 14, 11), (194, 15, 0), (198, 12, 8), (212, 12, 12)]
abbrev rc_X11 : List (Nat × Int) := [(208, 32770), (217, -2147483648), (218, 2147483647)]
abbrev rl_X11 : List (Nat × Int) := []
abbrev rp_X11 : List (Nat × Nat × Nat × Bool) := [(12, 11, 0, true), (18, 11, 5, true), (22, 11, 1, true), (32, 11, 2, true), (41, 11, 3, false), (67, 12, 2, false), (74, 12, 5, false), (82, 12, 6, false), (91, 12, 0, false), (94, 12, 1, false), (95, 12, 13, false), (112, 12, 7, false), (115, 12, 10, false), (118, 12, 11, false), (124, 14, 14, false), (127, 14, 12, false), (133, 14, 15, false), (139, 14, 1, false), (142, 14, 2, false), (145, 14, 3, false), (148, 14, 4, false), (151, 14, 5, false), (157, 14, 6, false), (162, 14, 13, false), (166, 11, 4, false), (169, 14, 7, false), (172, 14, 8, false), (175, 14, 9, false), (178, 14, 10, false), (181, 14, 11, false), (190, 14, 16, false), (194, 15, 0, false), (195, 15, 1, false), (196, 15, 2, false), (197, 15, 3, false), (198, 12, 8, false), (212, 12, 12, false)]
abbrev rn_X11 : List (Nat × Nat × Nat) := [(9, 12, 15), (36, 13, 7), (80, 14, 19), (98, 16, 5), (160, 15, 4)]
abbrev ra_X11 : List (Nat × Nat) := [(80, 124), (160, 125)]
theorem rf_X11_ok : ∀ q ∈ rf_X11, FLink RX11 q.1 q.2.1 q.2.2 :=
  fmF (mF (own := RX11) (idx := 12) (k := 0) cf_11 rfl q781)
  (fmF (mF (own := RX11) (idx := 18) (k := 5) cf_11 rfl q786)
  (fmF (mF (own := RX11) (idx := 22) (k := 1) cf_11 rfl q782)
  (fmF (mF (own := RX11) (idx := 32) (k := 2) cf_11 rfl q783)
  (fmF (mF (own := RX11) (idx := 41) (k := 3) cf_11 rfl q784)
  (fmF (mF (own := RX11) (idx := 56) (k := 3) cf_12 rfl q701)
  (fmF (mF (own := RX11) (idx := 60) (k := 4) cf_12 rfl q704)
  (fmF (mF (own := RX11) (idx := 64) (k := 9) cf_12 rfl q729)
  (fmF (mF (own := RX11) (idx := 67) (k := 2) cf_12 rfl q698)
  (fmF (mF (own := RX11) (idx := 74) (k := 5) cf_12 rfl q709)
  (fmF (mF (own := RX11) (idx := 82) (k := 6) cf_12 rfl q714)
  (fmF (mF (own := RX11) (idx := 112) (k := 7) cf_12 rfl q721)
  (fmF (mF (own := RX11) (idx := 115) (k := 10) cf_12 rfl q732)
  (fmF (mF (own := RX11) (idx := 118) (k := 11) cf_12 rfl q736)
  (fmF (mF (own := RX11) (idx := 124) (k := 14) cf_14 rfl q962)
  (fmF (mF (own := RX11) (idx := 127) (k := 12) cf_14 rfl q954)
  (fmF (mF (own := RX11) (idx := 130) (k := 0) cf_14 rfl q902)
  (fmF (mF (own := RX11) (idx := 139) (k := 1) cf_14 rfl q907)
  (fmF (mF (own := RX11) (idx := 142) (k := 2) cf_14 rfl q910)
  (fmF (mF (own := RX11) (idx := 145) (k := 3) cf_14 rfl q916)
  (fmF (mF (own := RX11) (idx := 151) (k := 5) cf_14 rfl q928)
  (fmF (mF (own := RX11) (idx := 162) (k := 13) cf_14 rfl q956)
  (fmF (mF (own := RX11) (idx := 166) (k := 4) cf_11 rfl q785)
  (fmF (mF (own := RX11) (idx := 169) (k := 7) cf_14 rfl q935)
  (fmF (mF (own := RX11) (idx := 172) (k := 8) cf_14 rfl q940)
  (fmF (mF (own := RX11) (idx := 175) (k := 9) cf_14 rfl q944)
  (fmF (mF (own := RX11) (idx := 178) (k := 10) cf_14 rfl q949)
  (fmF (mF (own := RX11) (idx := 181) (k := 11) cf_14 rfl q953)
  (fmF (mF (own := RX11) (idx := 194) (k := 0) cf_15 rfl q1052)
  (fmF (mF (own := RX11) (idx := 198) (k := 8) cf_12 rfl q726)
  (fmF (mF (own := RX11) (idx := 212) (k := 12) cf_12 rfl q741)
  (fmz)))))))))))))))))))))))))))))))
theorem rc_X11_ok : ∀ q ∈ rc_X11, c32 q.2 ∧ Cond.constant RX11 q.1 (Int32.ofInt q.2) ∈ lw_all :=
  fmC (own := RX11) (i := 208) (z := 32770) rfl q1163
  (fmC (own := RX11) (i := 217) (z := (-2147483648)) rfl q1164
  (fmC (own := RX11) (i := 218) (z := 2147483647) rfl q1165
  (fmz)))
theorem rl_X11_ok : ∀ q ∈ rl_X11, c64 q.2 ∧ Cond.constantLong RX11 q.1 (Int64.ofInt q.2) ∈ lw_all :=
  fmz
theorem rp_X11_ok : ∀ q ∈ rp_X11, SLink RX11 q.1 q.2.1 q.2.2.1 q.2.2.2 :=
  fmS (mS (own := RX11) (idx := 12) (k := 0) (fin := true) cf_11 rfl q781 rfl (fun _ => rfl))
  (fmS (mS (own := RX11) (idx := 18) (k := 5) (fin := true) cf_11 rfl q786 rfl (fun _ => rfl))
  (fmS (mS (own := RX11) (idx := 22) (k := 1) (fin := true) cf_11 rfl q782 rfl (fun _ => rfl))
  (fmS (mS (own := RX11) (idx := 32) (k := 2) (fin := true) cf_11 rfl q783 rfl (fun _ => rfl))
  (fmS (mS (own := RX11) (idx := 41) (k := 3) (fin := false) cf_11 rfl q784 rfl (fun z => Bool.noConfusion z))
  (fmS (mS (own := RX11) (idx := 67) (k := 2) (fin := false) cf_12 rfl q698 rfl (fun z => Bool.noConfusion z))
  (fmS (mS (own := RX11) (idx := 74) (k := 5) (fin := false) cf_12 rfl q709 rfl (fun z => Bool.noConfusion z))
  (fmS (mS (own := RX11) (idx := 82) (k := 6) (fin := false) cf_12 rfl q714 rfl (fun z => Bool.noConfusion z))
  (fmS (mS (own := RX11) (idx := 91) (k := 0) (fin := false) cf_12 rfl q695 rfl (fun z => Bool.noConfusion z))
  (fmS (mS (own := RX11) (idx := 94) (k := 1) (fin := false) cf_12 rfl q697 rfl (fun z => Bool.noConfusion z))
  (fmS (mS (own := RX11) (idx := 95) (k := 13) (fin := false) cf_12 rfl q742 rfl (fun z => Bool.noConfusion z))
  (fmS (mS (own := RX11) (idx := 112) (k := 7) (fin := false) cf_12 rfl q721 rfl (fun z => Bool.noConfusion z))
  (fmS (mS (own := RX11) (idx := 115) (k := 10) (fin := false) cf_12 rfl q732 rfl (fun z => Bool.noConfusion z))
  (fmS (mS (own := RX11) (idx := 118) (k := 11) (fin := false) cf_12 rfl q736 rfl (fun z => Bool.noConfusion z))
  (fmS (mS (own := RX11) (idx := 124) (k := 14) (fin := false) cf_14 rfl q962 rfl (fun z => Bool.noConfusion z))
  (fmS (mS (own := RX11) (idx := 127) (k := 12) (fin := false) cf_14 rfl q954 rfl (fun z => Bool.noConfusion z))
  (fmS (mS (own := RX11) (idx := 133) (k := 15) (fin := false) cf_14 rfl q966 rfl (fun z => Bool.noConfusion z))
  (fmS (mS (own := RX11) (idx := 139) (k := 1) (fin := false) cf_14 rfl q907 rfl (fun z => Bool.noConfusion z))
  (fmS (mS (own := RX11) (idx := 142) (k := 2) (fin := false) cf_14 rfl q910 rfl (fun z => Bool.noConfusion z))
  (fmS (mS (own := RX11) (idx := 145) (k := 3) (fin := false) cf_14 rfl q916 rfl (fun z => Bool.noConfusion z))
  (fmS (mS (own := RX11) (idx := 148) (k := 4) (fin := false) cf_14 rfl q920 rfl (fun z => Bool.noConfusion z))
  (fmS (mS (own := RX11) (idx := 151) (k := 5) (fin := false) cf_14 rfl q928 rfl (fun z => Bool.noConfusion z))
  (fmS (mS (own := RX11) (idx := 157) (k := 6) (fin := false) cf_14 rfl q931 rfl (fun z => Bool.noConfusion z))
  (fmS (mS (own := RX11) (idx := 162) (k := 13) (fin := false) cf_14 rfl q956 rfl (fun z => Bool.noConfusion z))
  (fmS (mS (own := RX11) (idx := 166) (k := 4) (fin := false) cf_11 rfl q785 rfl (fun z => Bool.noConfusion z))
  (fmS (mS (own := RX11) (idx := 169) (k := 7) (fin := false) cf_14 rfl q935 rfl (fun z => Bool.noConfusion z))
  (fmS (mS (own := RX11) (idx := 172) (k := 8) (fin := false) cf_14 rfl q940 rfl (fun z => Bool.noConfusion z))
  (fmS (mS (own := RX11) (idx := 175) (k := 9) (fin := false) cf_14 rfl q944 rfl (fun z => Bool.noConfusion z))
  (fmS (mS (own := RX11) (idx := 178) (k := 10) (fin := false) cf_14 rfl q949 rfl (fun z => Bool.noConfusion z))
  (fmS (mS (own := RX11) (idx := 181) (k := 11) (fin := false) cf_14 rfl q953 rfl (fun z => Bool.noConfusion z))
  (fmS (mS (own := RX11) (idx := 190) (k := 16) (fin := false) cf_14 rfl q968 rfl (fun z => Bool.noConfusion z))
  (fmS (mS (own := RX11) (idx := 194) (k := 0) (fin := false) cf_15 rfl q1052 rfl (fun z => Bool.noConfusion z))
  (fmS (mS (own := RX11) (idx := 195) (k := 1) (fin := false) cf_15 rfl q1056 rfl (fun z => Bool.noConfusion z))
  (fmS (mS (own := RX11) (idx := 196) (k := 2) (fin := false) cf_15 rfl q1061 rfl (fun z => Bool.noConfusion z))
  (fmS (mS (own := RX11) (idx := 197) (k := 3) (fin := false) cf_15 rfl q1065 rfl (fun z => Bool.noConfusion z))
  (fmS (mS (own := RX11) (idx := 198) (k := 8) (fin := false) cf_12 rfl q726 rfl (fun z => Bool.noConfusion z))
  (fmS (mS (own := RX11) (idx := 212) (k := 12) (fin := false) cf_12 rfl q741 rfl (fun z => Bool.noConfusion z))
  (fmz)))))))))))))))))))))))))))))))))))))
theorem rn_X11_ok : ∀ q ∈ rn_X11, NLink RX11 q.1 q.2.1 q.2.2 :=
  fmN (mN (own := RX11) (idx := 9) (n := 15) cf_12 q688 q689 q206)
  (fmN (mN (own := RX11) (idx := 36) (n := 7) cf_13 q814 q815 q208)
  (fmN (mN (own := RX11) (idx := 80) (n := 19) cf_14 q895 q896 q209)
  (fmN (mN (own := RX11) (idx := 98) (n := 5) cf_16 q1078 q1079 q211)
  (fmN (mN (own := RX11) (idx := 160) (n := 4) cf_15 q1025 q1047 q210)
  (fmz)))))
theorem ra_X11_ok : ∀ q ∈ ra_X11, ALink RX11 q.1 q.2 :=
  fmA (own := RX11) (i := 80) (t := 124) ⟨by decide, by decide, Or.inl ⟨_, rfl, q895⟩⟩
  (fmA (own := RX11) (i := 160) (t := 125) ⟨by decide, by decide, Or.inl ⟨_, rfl, q1025⟩⟩
  (fmz))
/-! FactHouse$Program -/
abbrev rf_X12 : List (Nat × Nat × Nat) := [(9, 12, 3), (20, 12, 9), (27, 12, 8), (34, 12, 6), (38, 14, 1), (43, 14, 2), (46, 12, 12)]
abbrev rc_X12 : List (Nat × Int) := []
abbrev rl_X12 : List (Nat × Int) := []
abbrev rp_X12 : List (Nat × Nat × Nat × Bool) := [(9, 12, 3, false), (16, 12, 4, true), (20, 12, 9, true)]
abbrev rn_X12 : List (Nat × Nat × Nat) := []
abbrev ra_X12 : List (Nat × Nat) := [(15, 130)]
theorem rf_X12_ok : ∀ q ∈ rf_X12, FLink RX12 q.1 q.2.1 q.2.2 :=
  fmF (mF (own := RX12) (idx := 9) (k := 3) cf_12 rfl q700)
  (fmF (mF (own := RX12) (idx := 20) (k := 9) cf_12 rfl q727)
  (fmF (mF (own := RX12) (idx := 27) (k := 8) cf_12 rfl q724)
  (fmF (mF (own := RX12) (idx := 34) (k := 6) cf_12 rfl q713)
  (fmF (mF (own := RX12) (idx := 38) (k := 1) cf_14 rfl q905)
  (fmF (mF (own := RX12) (idx := 43) (k := 2) cf_14 rfl q909)
  (fmF (mF (own := RX12) (idx := 46) (k := 12) cf_12 rfl q739)
  (fmz)))))))
theorem rc_X12_ok : ∀ q ∈ rc_X12, c32 q.2 ∧ Cond.constant RX12 q.1 (Int32.ofInt q.2) ∈ lw_all :=
  fmz
theorem rl_X12_ok : ∀ q ∈ rl_X12, c64 q.2 ∧ Cond.constantLong RX12 q.1 (Int64.ofInt q.2) ∈ lw_all :=
  fmz
theorem rp_X12_ok : ∀ q ∈ rp_X12, SLink RX12 q.1 q.2.1 q.2.2.1 q.2.2.2 :=
  fmS (mS (own := RX12) (idx := 9) (k := 3) (fin := false) cf_12 rfl q700 rfl (fun z => Bool.noConfusion z))
  (fmS (mS (own := RX12) (idx := 16) (k := 4) (fin := true) cf_12 rfl q702 rfl (fun _ => rfl))
  (fmS (mS (own := RX12) (idx := 20) (k := 9) (fin := true) cf_12 rfl q727 rfl (fun _ => rfl))
  (fmz)))
theorem rn_X12_ok : ∀ q ∈ rn_X12, NLink RX12 q.1 q.2.1 q.2.2 :=
  fmz
theorem ra_X12_ok : ∀ q ∈ ra_X12, ALink RX12 q.1 q.2 :=
  fmA (own := RX12) (i := 15) (t := 130) ⟨by decide, by decide, Or.inr ⟨_, rfl, q694⟩⟩
  (fmz)
/-! FactHouse$Wrong -/
abbrev rf_X13 : List (Nat × Nat × Nat) := []
abbrev rc_X13 : List (Nat × Int) := []
abbrev rl_X13 : List (Nat × Int) := []
abbrev rp_X13 : List (Nat × Nat × Nat × Bool) := [(7, 13, 0, true)]
abbrev rn_X13 : List (Nat × Nat × Nat) := []
abbrev ra_X13 : List (Nat × Nat) := []
theorem rf_X13_ok : ∀ q ∈ rf_X13, FLink RX13 q.1 q.2.1 q.2.2 :=
  fmz
theorem rc_X13_ok : ∀ q ∈ rc_X13, c32 q.2 ∧ Cond.constant RX13 q.1 (Int32.ofInt q.2) ∈ lw_all :=
  fmz
theorem rl_X13_ok : ∀ q ∈ rl_X13, c64 q.2 ∧ Cond.constantLong RX13 q.1 (Int64.ofInt q.2) ∈ lw_all :=
  fmz
theorem rp_X13_ok : ∀ q ∈ rp_X13, SLink RX13 q.1 q.2.1 q.2.2.1 q.2.2.2 :=
  fmS (mS (own := RX13) (idx := 7) (k := 0) (fin := true) cf_13 rfl q870 rfl (fun _ => rfl))
  (fmz)
theorem rn_X13_ok : ∀ q ∈ rn_X13, NLink RX13 q.1 q.2.1 q.2.2 :=
  fmz
theorem ra_X13_ok : ∀ q ∈ ra_X13, ALink RX13 q.1 q.2 :=
  fmz
/-! FactHouse$Method -/
abbrev rf_X14 : List (Nat × Nat × Nat) := [(13, 14, 7), (17, 14, 3), (20, 14, 4), (23, 14, 5)]
abbrev rc_X14 : List (Nat × Int) := []
abbrev rl_X14 : List (Nat × Int) := []
abbrev rp_X14 : List (Nat × Nat × Nat × Bool) := [(7, 14, 0, true)]
abbrev rn_X14 : List (Nat × Nat × Nat) := []
abbrev ra_X14 : List (Nat × Nat) := []
theorem rf_X14_ok : ∀ q ∈ rf_X14, FLink RX14 q.1 q.2.1 q.2.2 :=
  fmF (mF (own := RX14) (idx := 13) (k := 7) cf_14 rfl q932)
  (fmF (mF (own := RX14) (idx := 17) (k := 3) cf_14 rfl q912)
  (fmF (mF (own := RX14) (idx := 20) (k := 4) cf_14 rfl q918)
  (fmF (mF (own := RX14) (idx := 23) (k := 5) cf_14 rfl q924)
  (fmz))))
theorem rc_X14_ok : ∀ q ∈ rc_X14, c32 q.2 ∧ Cond.constant RX14 q.1 (Int32.ofInt q.2) ∈ lw_all :=
  fmz
theorem rl_X14_ok : ∀ q ∈ rl_X14, c64 q.2 ∧ Cond.constantLong RX14 q.1 (Int64.ofInt q.2) ∈ lw_all :=
  fmz
theorem rp_X14_ok : ∀ q ∈ rp_X14, SLink RX14 q.1 q.2.1 q.2.2.1 q.2.2.2 :=
  fmS (mS (own := RX14) (idx := 7) (k := 0) (fin := true) cf_14 rfl q901 rfl (fun _ => rfl))
  (fmz)
theorem rn_X14_ok : ∀ q ∈ rn_X14, NLink RX14 q.1 q.2.1 q.2.2 :=
  fmz
theorem ra_X14_ok : ∀ q ∈ ra_X14, ALink RX14 q.1 q.2 :=
  fmz
/-! FactHouse$Handler -/
abbrev rf_X15 : List (Nat × Nat × Nat) := []
abbrev rc_X15 : List (Nat × Int) := []
abbrev rl_X15 : List (Nat × Int) := []
abbrev rp_X15 : List (Nat × Nat × Nat × Bool) := []
abbrev rn_X15 : List (Nat × Nat × Nat) := []
abbrev ra_X15 : List (Nat × Nat) := []
theorem rf_X15_ok : ∀ q ∈ rf_X15, FLink RX15 q.1 q.2.1 q.2.2 :=
  fmz
theorem rc_X15_ok : ∀ q ∈ rc_X15, c32 q.2 ∧ Cond.constant RX15 q.1 (Int32.ofInt q.2) ∈ lw_all :=
  fmz
theorem rl_X15_ok : ∀ q ∈ rl_X15, c64 q.2 ∧ Cond.constantLong RX15 q.1 (Int64.ofInt q.2) ∈ lw_all :=
  fmz
theorem rp_X15_ok : ∀ q ∈ rp_X15, SLink RX15 q.1 q.2.1 q.2.2.1 q.2.2.2 :=
  fmz
theorem rn_X15_ok : ∀ q ∈ rn_X15, NLink RX15 q.1 q.2.1 q.2.2 :=
  fmz
theorem ra_X15_ok : ∀ q ∈ ra_X15, ALink RX15 q.1 q.2 :=
  fmz
/-! FactHouse$CodeJudge -/
abbrev rf_X16 : List (Nat × Nat × Nat) := [(9, 16, 0), (15, 16, 1), (21, 14, 11), (27, 16, 4), (34, 16, 2), (37, 14, 6), (44, 16, 3), (51, 14, 3), (54, 14, 5), (59, 14, 4), (68, 14, 7), (71, 14, 10), (74, 14, 13), (78, 15, 2), (83, 14, 17), (86, 14, 18), (88, 14, 8), (91, 14, 9), (111, 12, 4), (117, 12, 5), (120, 12, 6), (124, 14, 1)]
abbrev rc_X16 : List (Nat × Int) := []
abbrev rl_X16 : List (Nat × Int) := []
abbrev rp_X16 : List (Nat × Nat × Nat × Bool) := [(9, 16, 0, true), (15, 16, 1, true), (27, 16, 4, false), (34, 16, 2, false), (44, 16, 3, false), (83, 14, 17, false), (86, 14, 18, false)]
abbrev rn_X16 : List (Nat × Nat × Nat) := [(19, 13, 7)]
abbrev ra_X16 : List (Nat × Nat) := []
theorem rf_X16_ok : ∀ q ∈ rf_X16, FLink RX16 q.1 q.2.1 q.2.2 :=
  fmF (mF (own := RX16) (idx := 9) (k := 0) cf_16 rfl q1084)
  (fmF (mF (own := RX16) (idx := 15) (k := 1) cf_16 rfl q1085)
  (fmF (mF (own := RX16) (idx := 21) (k := 11) cf_14 rfl q952)
  (fmF (mF (own := RX16) (idx := 27) (k := 4) cf_16 rfl q1088)
  (fmF (mF (own := RX16) (idx := 34) (k := 2) cf_16 rfl q1086)
  (fmF (mF (own := RX16) (idx := 37) (k := 6) cf_14 rfl q930)
  (fmF (mF (own := RX16) (idx := 44) (k := 3) cf_16 rfl q1087)
  (fmF (mF (own := RX16) (idx := 51) (k := 3) cf_14 rfl q913)
  (fmF (mF (own := RX16) (idx := 54) (k := 5) cf_14 rfl q925)
  (fmF (mF (own := RX16) (idx := 59) (k := 4) cf_14 rfl q919)
  (fmF (mF (own := RX16) (idx := 68) (k := 7) cf_14 rfl q934)
  (fmF (mF (own := RX16) (idx := 71) (k := 10) cf_14 rfl q948)
  (fmF (mF (own := RX16) (idx := 74) (k := 13) cf_14 rfl q955)
  (fmF (mF (own := RX16) (idx := 78) (k := 2) cf_15 rfl q1060)
  (fmF (mF (own := RX16) (idx := 83) (k := 17) cf_14 rfl q970)
  (fmF (mF (own := RX16) (idx := 86) (k := 18) cf_14 rfl q973)
  (fmF (mF (own := RX16) (idx := 88) (k := 8) cf_14 rfl q939)
  (fmF (mF (own := RX16) (idx := 91) (k := 9) cf_14 rfl q943)
  (fmF (mF (own := RX16) (idx := 111) (k := 4) cf_12 rfl q705)
  (fmF (mF (own := RX16) (idx := 117) (k := 5) cf_12 rfl q710)
  (fmF (mF (own := RX16) (idx := 120) (k := 6) cf_12 rfl q718)
  (fmF (mF (own := RX16) (idx := 124) (k := 1) cf_14 rfl q908)
  (fmz))))))))))))))))))))))
theorem rc_X16_ok : ∀ q ∈ rc_X16, c32 q.2 ∧ Cond.constant RX16 q.1 (Int32.ofInt q.2) ∈ lw_all :=
  fmz
theorem rl_X16_ok : ∀ q ∈ rl_X16, c64 q.2 ∧ Cond.constantLong RX16 q.1 (Int64.ofInt q.2) ∈ lw_all :=
  fmz
theorem rp_X16_ok : ∀ q ∈ rp_X16, SLink RX16 q.1 q.2.1 q.2.2.1 q.2.2.2 :=
  fmS (mS (own := RX16) (idx := 9) (k := 0) (fin := true) cf_16 rfl q1084 rfl (fun _ => rfl))
  (fmS (mS (own := RX16) (idx := 15) (k := 1) (fin := true) cf_16 rfl q1085 rfl (fun _ => rfl))
  (fmS (mS (own := RX16) (idx := 27) (k := 4) (fin := false) cf_16 rfl q1088 rfl (fun z => Bool.noConfusion z))
  (fmS (mS (own := RX16) (idx := 34) (k := 2) (fin := false) cf_16 rfl q1086 rfl (fun z => Bool.noConfusion z))
  (fmS (mS (own := RX16) (idx := 44) (k := 3) (fin := false) cf_16 rfl q1087 rfl (fun z => Bool.noConfusion z))
  (fmS (mS (own := RX16) (idx := 83) (k := 17) (fin := false) cf_14 rfl q970 rfl (fun z => Bool.noConfusion z))
  (fmS (mS (own := RX16) (idx := 86) (k := 18) (fin := false) cf_14 rfl q973 rfl (fun z => Bool.noConfusion z))
  (fmz)))))))
theorem rn_X16_ok : ∀ q ∈ rn_X16, NLink RX16 q.1 q.2.1 q.2.2 :=
  fmN (mN (own := RX16) (idx := 19) (n := 7) cf_13 q1109 q815 q208)
  (fmz)
theorem ra_X16_ok : ∀ q ∈ ra_X16, ALink RX16 q.1 q.2 :=
  fmz
/-! FactHouseModel$Fault -/
abbrev rf_X17 : List (Nat × Nat × Nat) := []
abbrev rc_X17 : List (Nat × Int) := []
abbrev rl_X17 : List (Nat × Int) := []
abbrev rp_X17 : List (Nat × Nat × Nat × Bool) := [(7, 17, 0, true)]
abbrev rn_X17 : List (Nat × Nat × Nat) := []
abbrev ra_X17 : List (Nat × Nat) := []
theorem rf_X17_ok : ∀ q ∈ rf_X17, FLink RX17 q.1 q.2.1 q.2.2 :=
  fmz
theorem rc_X17_ok : ∀ q ∈ rc_X17, c32 q.2 ∧ Cond.constant RX17 q.1 (Int32.ofInt q.2) ∈ lw_all :=
  fmz
theorem rl_X17_ok : ∀ q ∈ rl_X17, c64 q.2 ∧ Cond.constantLong RX17 q.1 (Int64.ofInt q.2) ∈ lw_all :=
  fmz
theorem rp_X17_ok : ∀ q ∈ rp_X17, SLink RX17 q.1 q.2.1 q.2.2.1 q.2.2.2 :=
  fmS (mS (own := RX17) (idx := 7) (k := 0) (fin := true) cf_17 rfl q2477 rfl (fun _ => rfl))
  (fmz)
theorem rn_X17_ok : ∀ q ∈ rn_X17, NLink RX17 q.1 q.2.1 q.2.2 :=
  fmz
theorem ra_X17_ok : ∀ q ∈ ra_X17, ALink RX17 q.1 q.2 :=
  fmz
