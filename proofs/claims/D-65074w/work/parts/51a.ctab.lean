/-! Part 51a: the component's facts as a table; what its work may change -/
/-- where the cell of an entry lies -/
def cad (h : MH) (a i j : Int) : Int := if a = 1 then hv h (7 + i) j else if a = 2 then hv h 70 i else 264 + 3 * i
def cdom (L : PG) (a i j : Int) : Prop := (a = 1 ∧ inS L i ∧ 0 ≤ j ∧ j < nfs L i) ∨ (a = 2 ∧ inS L i ∧ j = 0) ∨ (a = 3 ∧ 0 ≤ i ∧ i < pNs L ∧ j = 0)
/-- entries of what comes back from methods -/
def oca (a : Int) : Prop := a = 5 ∨ a = 7 ∨ a = 8 ∨ a = 14 ∨ a = 15
/-- entries on which places rest; where these are noted -/
def udom (L : PG) (a i j : Int) : Prop := cdom L a i j ∨ (oca a ∧ inM L i ∧ j = 0)
def uad (h : MH) (a i j : Int) : Int := if a = 1 ∨ a = 2 ∨ a = 3 then cad h a i j + 2 else 146 + 3 * i
noncomputable def tc0 (h : MH) (L : PG) (q s : Int) : FA := iff_ (inP L q ∧ hv h (hv h 4 q) 0 = 1 ∧ rel L q s) (fo h (hv h 4 q + 2 + s))
noncomputable def tc1 (h : MH) (L : PG) (a i j : Int) : FA := iff_ (cdom L a i j) (fo h (cad h a i j + 1))
noncomputable def tc4 (h : MH) (i j : Int) : FA := iff_ (0 ≤ i ∧ i < 8 ∧ j = 0 ∧ hv h (288 + i) 0 = 1) (fv (hv h (288 + i) 1) (hv h (288 + i) 2) (hv h (288 + i) 3) 0)
noncomputable def tc5 (h : MH) (L : PG) (m j : Int) : FA := iff_ (inM L m ∧ j = 0 ∧ hv h (144 + 3 * m) 0 = 1) (if 0 < pGi L m then fo h (145 + 3 * m) else fv 0 0 0 0)
noncomputable def tc6 (h : MH) (L : PG) (q j : Int) : FA := iff_ (inP L q ∧ j = 0 ∧ hv h (hv h 4 q) 0 = 1) (fk (hv h (hv h 4 q) 2) (hv h (hv h 4 q) 3))
noncomputable def tc7 (h : MH) (L : PG) (m j : Int) : FA := iff_ (inM L m ∧ j = 0 ∧ hv h (144 + 3 * m) 0 = 1) (fk (hv h (144 + 3 * m) 2) (hv h (144 + 3 * m) 3))
noncomputable def tc8 (h : MH) (L : PG) (m j : Int) : FA := iff_ (inM L m ∧ j = 0 ∧ hv h (144 + 3 * m) 4 ≠ 0) (fk (hv h (144 + 3 * m) 5) (hv h (144 + 3 * m) 6))
noncomputable def tc9 (h : MH) (L : PG) (q j : Int) : FA := iff_ (inP L q ∧ j = 0) (fb (hv h 73 q))
noncomputable def tc10 (h : MH) (L : PG) (q j : Int) : FA := iff_ (inP L q ∧ 0 ≤ j ∧ j < 64 ∧ bl (hv h 74 q) j = true) (fs 0)
noncomputable def tc11 (h : MH) (L : PG) (q i : Int) : FA := iff_ (inP L q ∧ (0 ≤ i ∧ i < 128) ∧ ((hv h 75 q = 1 ∧ i = nx L q) ∨ (hv h 76 q = 1 ∧ i = pZ L q))) (fs 0)
noncomputable def tc14 (h : MH) (L : PG) (m j : Int) : FA := iff_ (inM L m ∧ j = 0) (fb (hv h (144 + 3 * m) 4))
noncomputable def tc15 (h : MH) (L : PG) (m j : Int) : FA := iff_ (inM L m ∧ j = 0) (fbi (hv h (144 + 3 * m) 7))
/-- THE COMPONENT's TABLE -/
noncomputable def cT (h : MH) (L : PG) : TB := fun a i j =>
  if a = 0 then tc0 h L i j else if a = 1 ∨ a = 2 ∨ a = 3 then tc1 h L a i j else if a = 4 then tc4 h i j else if a = 5 then tc5 h L i j
  else if a = 6 then tc6 h L i j else if a = 7 then tc7 h L i j else if a = 8 then tc8 h L i j else if a = 9 then tc9 h L i j else if a = 10 then tc10 h L i j else if a = 11 then tc11 h L i j
  else if a = 14 then tc14 h L i j else if a = 15 then tc15 h L i j else fz
theorem cT_0 (h : MH) (L : PG) (q s : Int) : cT h L 0 q s = tc0 h L q s := rfl
theorem cT_c (h : MH) (L : PG) {a : Int} (i j : Int) (e : a = 1 ∨ a = 2 ∨ a = 3) : cT h L a i j = tc1 h L a i j := by
  rcases e with e | e | e <;> subst e <;> rfl
theorem cT_4 (h : MH) (L : PG) (i j : Int) : cT h L 4 i j = tc4 h i j := rfl
theorem cT_5 (h : MH) (L : PG) (i j : Int) : cT h L 5 i j = tc5 h L i j := rfl
theorem cT_6 (h : MH) (L : PG) (i j : Int) : cT h L 6 i j = tc6 h L i j := rfl
theorem cT_7 (h : MH) (L : PG) (i j : Int) : cT h L 7 i j = tc7 h L i j := rfl
theorem cT_8 (h : MH) (L : PG) (i j : Int) : cT h L 8 i j = tc8 h L i j := rfl
theorem cT_9 (h : MH) (L : PG) (i j : Int) : cT h L 9 i j = tc9 h L i j := rfl
theorem cT_10 (h : MH) (L : PG) (i j : Int) : cT h L 10 i j = tc10 h L i j := rfl
theorem cT_11 (h : MH) (L : PG) (i j : Int) : cT h L 11 i j = tc11 h L i j := rfl
theorem cT_14 (h : MH) (L : PG) (i j : Int) : cT h L 14 i j = tc14 h L i j := rfl
theorem cT_15 (h : MH) (L : PG) (i j : Int) : cT h L 15 i j = tc15 h L i j := rfl
/-- the state of a place is as it was; what a method's outcome has -/
def vq (h h' : MH) (q : Int) : Prop := hv h' (hv h' 4 q) 0 = hv h (hv h 4 q) 0 ∧ hv h' (hv h' 4 q) 2 = hv h (hv h 4 q) 2 ∧ hv h' (hv h' 4 q) 3 = hv h (hv h 4 q) 3 ∧ ∀ s, 0 ≤ s → s < 16 → fo h' (hv h' 4 q + 2 + s) = fo h (hv h 4 q + 2 + s)
def vc (h h' : MH) (a i j : Int) : Prop := fo h' (cad h' a i j + 1) = fo h (cad h a i j + 1)
def vo (h h' : MH) (m : Int) : Prop := (∀ j, j ≠ 1 → j ≠ 8 → hv h' (144 + 3 * m) j = hv h (144 + 3 * m) j) ∧ fo h' (145 + 3 * m) = fo h (145 + 3 * m)
def va (h h' : MH) (q : Int) : Prop := hv h' 73 q = hv h 73 q ∧ hv h' 74 q = hv h 74 q ∧ hv h' 75 q = hv h 75 q ∧ hv h' 76 q = hv h 76 q
section CTE
variable {h h' : MH} {L : PG}
theorem e_c0 (w : WF L) {q : Int} (e : inP L q → vq h h' q) (s : Int) : tc0 h' L q s = tc0 h L q s := by
  unfold tc0
  refine iff_c ⟨fun p => ⟨p.1, by rw [← (e p.1).1]; exact p.2.1, p.2.2⟩, fun p => ⟨p.1, by rw [(e p.1).1]; exact p.2.1, p.2.2⟩⟩ (fun p => ?_)
  obtain ⟨s0, s1⟩ := rel_rng w p.1.1 p.1.2 p.2.2
  exact (e p.1).2.2.2 s s0 s1
theorem e_c6 {q : Int} (e : inP L q → vq h h' q) (j : Int) : tc6 h' L q j = tc6 h L q j := by
  unfold tc6
  refine iff_c ⟨fun p => ⟨p.1, p.2.1, by rw [← (e p.1).1]; exact p.2.2⟩, fun p => ⟨p.1, p.2.1, by rw [(e p.1).1]; exact p.2.2⟩⟩ (fun p => ?_)
  rw [(e p.1).2.1, (e p.1).2.2.1]
theorem e_c1 {a i j : Int} (e : cdom L a i j → vc h h' a i j) : tc1 h' L a i j = tc1 h L a i j := by
  unfold tc1
  exact iff_c Iff.rfl (fun p => e p)
theorem e_c4 {i : Int} (e : 0 ≤ i → i < 8 → fo h' (288 + i) = fo h (288 + i)) (j : Int) : tc4 h' i j = tc4 h i j := by
  unfold tc4
  have e0 : ∀ p : 0 ≤ i ∧ i < 8, hv h' (288 + i) 0 = hv h (288 + i) 0 ∧ hv h' (288 + i) 1 = hv h (288 + i) 1 ∧ hv h' (288 + i) 2 = hv h (288 + i) 2 ∧ hv h' (288 + i) 3 = hv h (288 + i) 3 := by
    intro p
    have := e p.1 p.2
    unfold fo at this
    injection this with a1 a2
    injection a2 with a2 a3
    injection a3 with a3 a4
    injection a4 with a4 a5
    exact ⟨a1, a2, a3, a4⟩
  refine iff_c ⟨fun p => ⟨p.1, p.2.1, p.2.2.1, by rw [← (e0 ⟨p.1, p.2.1⟩).1]; exact p.2.2.2⟩, fun p => ⟨p.1, p.2.1, p.2.2.1, by rw [(e0 ⟨p.1, p.2.1⟩).1]; exact p.2.2.2⟩⟩ (fun p => ?_)
  obtain ⟨-, x1, x2, x3⟩ := e0 ⟨p.1, p.2.1⟩
  rw [x1, x2, x3]
theorem e_co (w : WF L) {m : Int} (e : inM L m → vo h h' m) (j : Int) : tc5 h' L m j = tc5 h L m j ∧ tc7 h' L m j = tc7 h L m j ∧ tc8 h' L m j = tc8 h L m j ∧ tc14 h' L m j = tc14 h L m j ∧ tc15 h' L m j = tc15 h L m j := by
  refine ⟨?_, ?_, ?_, ?_, ?_⟩
  · unfold tc5
    refine iff_c ⟨fun p => ⟨p.1, p.2.1, by rw [← (e p.1).1 0 (by decide) (by decide)]; exact p.2.2⟩, fun p => ⟨p.1, p.2.1, by rw [(e p.1).1 0 (by decide) (by decide)]; exact p.2.2⟩⟩ (fun p => ?_)
    rw [(e p.1).2]
  · unfold tc7
    refine iff_c ⟨fun p => ⟨p.1, p.2.1, by rw [← (e p.1).1 0 (by decide) (by decide)]; exact p.2.2⟩, fun p => ⟨p.1, p.2.1, by rw [(e p.1).1 0 (by decide) (by decide)]; exact p.2.2⟩⟩ (fun p => ?_)
    rw [(e p.1).1 2 (by decide) (by decide), (e p.1).1 3 (by decide) (by decide)]
  · unfold tc8
    refine iff_c ⟨fun p => ⟨p.1, p.2.1, by rw [← (e p.1).1 4 (by decide) (by decide)]; exact p.2.2⟩, fun p => ⟨p.1, p.2.1, by rw [(e p.1).1 4 (by decide) (by decide)]; exact p.2.2⟩⟩ (fun p => ?_)
    rw [(e p.1).1 5 (by decide) (by decide), (e p.1).1 6 (by decide) (by decide)]
  · unfold tc14
    refine iff_c Iff.rfl (fun p => ?_)
    rw [(e p.1).1 4 (by decide) (by decide)]
  · unfold tc15
    refine iff_c Iff.rfl (fun p => ?_)
    rw [(e p.1).1 7 (by decide) (by decide)]
theorem e_ca {q : Int} (e : inP L q → va h h' q) (j : Int) : tc9 h' L q j = tc9 h L q j ∧ tc10 h' L q j = tc10 h L q j ∧ tc11 h' L q j = tc11 h L q j := by
  refine ⟨?_, ?_, ?_⟩
  · unfold tc9
    refine iff_c Iff.rfl (fun p => ?_)
    rw [(e p.1).1]
  · unfold tc10
    refine iff_c ⟨fun p => ⟨p.1, p.2.1, p.2.2.1, by rw [← (e p.1).2.1]; exact p.2.2.2⟩, fun p => ⟨p.1, p.2.1, p.2.2.1, by rw [(e p.1).2.1]; exact p.2.2.2⟩⟩ (fun _ => rfl)
  · unfold tc11
    refine iff_c ⟨fun p => ⟨p.1, p.2.1, by rw [← (e p.1).2.2.1, ← (e p.1).2.2.2]; exact p.2.2⟩, fun p => ⟨p.1, p.2.1, by rw [(e p.1).2.2.1, (e p.1).2.2.2]; exact p.2.2⟩⟩ (fun _ => rfl)
/-- nothing that the table shows is changed -/
theorem cT_eq (w : WF L) (e0 : ∀ q, inP L q → vq h h' q) (e1 : ∀ a i j, cdom L a i j → vc h h' a i j) (e4 : ∀ i, 0 ≤ i → i < 8 → fo h' (288 + i) = fo h (288 + i)) (eo : ∀ m, inM L m → vo h h' m) (ea : ∀ q, inP L q → va h h' q) : cT h' L = cT h L := by
  funext a i j
  unfold cT
  rw [e_c0 w (e0 i) j, e_c1 (e1 a i j), e_c4 (e4 i) j, (e_co w (eo i) j).1, e_c6 (e0 i) j, (e_co w (eo i) j).2.1, (e_co w (eo i) j).2.2.1, (e_ca (ea i) j).1, (e_ca (ea i) j).2.1, (e_ca (ea i) j).2.2, (e_co w (eo i) j).2.2.2.1, (e_co w (eo i) j).2.2.2.2]
end CTE
/-- what the component's analysis may change: low addresses; objects made at run time -/
def wlo (b j : Int) : Prop := (b = 3 ∧ ((14 ≤ j ∧ j ≤ 18) ∨ j = 25)) ∨ (73 ≤ b ∧ b ≤ 79) ∨ ((b = 80 ∨ b = 98 ∨ b = 116) ∧ (j = 0 ∨ j = 2 ∨ j = 3)) ∨ (82 ≤ b ∧ b ≤ 97) ∨ (100 ≤ b ∧ b ≤ 115) ∨ (118 ≤ b ∧ b ≤ 137) ∨ (139 ≤ b ∧ b ≤ 143) ∨
  (144 ≤ b ∧ b < 264 ∧ ¬ (b % 3 = 0 ∧ (j = 1 ∨ j = 8))) ∨ (264 ≤ b ∧ b < 288 ∧ b % 3 ≠ 0) ∨ (288 ≤ b ∧ b ≤ 295)
def whi (h : MH) (b j : Int) : Prop := 523 ≤ b ∧ (ht h b = 4 ∨ ht h b = 101 ∨ (ht h b = 3 ∧ (j = 0 ∨ j = 2 ∨ j = 3)))
def frC (h h' : MH) : Prop := h'.2 = h.2 ∧ ∀ b j, ¬ wlo b j → ¬ whi h b j → hv h' b j = hv h b j
theorem frC_rfl (h : MH) : frC h h := ⟨rfl, fun _ _ _ _ => rfl⟩
theorem frC_tr {h g k : MH} (p : frC h g) (q : frC g k) : frC h k := by
  refine ⟨q.1.trans p.1, fun b j x y => ?_⟩
  rw [q.2 b j x (fun z => y (by unfold whi at z ⊢; rw [h2_ht p.1] at z; exact z)), p.2 b j x y]
theorem frC_lo {h h' : MH} (f : frC h h') {b j : Int} (hb : b < 523) (n : ¬ wlo b j) : hv h' b j = hv h b j := f.2 b j n (fun z => by have := z.1; omega)
theorem frC_hi {h h' : MH} (f : frC h h') {b j : Int} (hb : 523 ≤ b) (n : ¬ (ht h b = 4 ∨ ht h b = 101 ∨ (ht h b = 3 ∧ (j = 0 ∨ j = 2 ∨ j = 3)))) : hv h' b j = hv h b j := f.2 b j (fun z => by unfold wlo at z; omega) (fun z => n z.2)
theorem frC_set {h : MH} {a k x : Int} (c : wlo a k) : frC h (hset h a k x) := ⟨rfl, fun b j p _ => by rw [hv_set, if_neg]; rintro ⟨rfl, rfl⟩; exact p c⟩
theorem frC_X {h h' : MH} (f : frC h h') : frX h h' := by
  refine ⟨⟨by rw [h2_hz f.1]; exact Int.le_refl _, fun b b0 b1 => ⟨h2_ht f.1 b, h2_hn f.1 b⟩⟩, fun b b1 b2 ty j => frC_hi f b1 ?_⟩
  rcases ty with t | t | t | t | t | t | t <;> rw [t] <;> omega
theorem frC_cad {h h' : MH} (f : frC h h') {L : PG} (w : WF L) {a i j : Int} (d : cdom L a i j) : cad h' a i j = cad h a i j := by
  have nn := w.n
  unfold WFn at nn
  unfold cad
  rcases d with ⟨rfl, d, -⟩ | ⟨rfl, d, -⟩ | ⟨rfl, d, -⟩
  · unfold inS at d
    rw [if_pos rfl, if_pos rfl]
    exact frC_lo f (by omega) (fun z => by unfold wlo at z; omega)
  · rw [if_neg (show ¬ (2 : Int) = 1 by decide), if_neg (show ¬ (2 : Int) = 1 by decide), if_pos rfl, if_pos rfl]
    exact frC_lo f (by decide) (fun z => by unfold wlo at z; omega)
  · rfl
theorem frC_st {h h' : MH} (f : frC h h') {s : Int} (hs : 523 ≤ s ∨ s = 80 ∨ s = 98 ∨ s = 116) (o : stO h s) : stO h' s := by
  obtain ⟨s1, s2, s3, s4, s5, s6, s7⟩ := o
  have e1 : hv h' s 1 = hv h s 1 := by
    by_cases c : 523 ≤ s
    · exact frC_hi f c (by rw [s3]; omega)
    · exact frC_lo f (by omega) (fun z => by unfold wlo at z; omega)
  have e2 : ∀ k, hv h' (s + 1) k = hv h (s + 1) k := by
    intro k
    by_cases c : 523 ≤ s
    · exact frC_hi f (by omega) (by rw [s5]; omega)
    · exact frC_lo f (by omega) (fun z => by unfold wlo at z; omega)
  exact ⟨s1, by rw [h2_hz f.1]; exact s2, by rw [h2_ht f.1]; exact s3, by rw [e1]; exact s4, by rw [h2_ht f.1]; exact s5, by rw [h2_hn f.1]; exact s6, fun k k0 k1 => ⟨by rw [e2]; exact (s7 k k0 k1).1, by rw [h2_ht f.1]; exact (s7 k k0 k1).2⟩⟩
theorem frC_cl {h h' : MH} (f : frC h h') {c : Int} (hc : 523 ≤ c ∨ (264 ≤ c ∧ c < 288 ∧ c % 3 = 0)) (o : clO h c) : clO h' c := by
  obtain ⟨c1, c2, c3, c4, c5, c6, c7, c8⟩ := o
  have e : ∀ j, hv h' c j = hv h c j := by
    intro j
    by_cases x : 523 ≤ c
    · exact frC_hi f x (by rw [c3]; omega)
    · exact frC_lo f (by omega) (fun z => by unfold wlo at z; omega)
  exact ⟨c1, by rw [h2_hz f.1]; exact c2, by rw [h2_ht f.1]; exact c3, by rw [e]; exact c4, by rw [h2_ht f.1]; exact c5, by rw [e]; exact c6, by rw [h2_ht f.1]; exact c7, by rw [h2_hn f.1]; exact c8⟩
theorem frC_ou {h h' : MH} (f : frC h h') {m : Int} (m0 : 0 ≤ m) (m1 : m < 40) (o : ouO h m) : ouO h' m := by
  obtain ⟨o1, o2, o3, o4, o5, o6, o7⟩ := o
  exact ⟨by rw [frC_lo f (by decide) (fun z => by unfold wlo at z; omega)]; exact o1, by rw [h2_ht f.1]; exact o2, by rw [frC_lo f (by omega) (fun z => by unfold wlo at z; omega)]; exact o3, by rw [h2_ht f.1]; exact o4, by rw [frC_lo f (by omega) (fun z => by unfold wlo at z; omega)]; exact o5, by rw [h2_ht f.1]; exact o6, by rw [h2_hn f.1]; exact o7⟩
/-- THE COMPONENT's ROOM FOR FACTS, as it lies for a program -/
def CW (h : MH) (L : PG) : Prop := CP h L (hv h 3 0) ∧ (∀ q, inP L q → stO h (hv h 4 q) ∧ 523 ≤ hv h 4 q) ∧ (∀ q q', inP L q → inP L q' → hv h 4 q = hv h 4 q' → q = q') ∧ (stO h 80 ∧ stO h 98 ∧ stO h 116) ∧
  (∀ a i j, cdom L a i j → clO h (cad h a i j) ∧ (523 ≤ cad h a i j ∨ (264 ≤ cad h a i j ∧ cad h a i j < 288 ∧ cad h a i j % 3 = 0))) ∧
  (∀ a i j a' i' j', cdom L a i j → cdom L a' i' j' → cad h a i j = cad h a' i' j' → a = a' ∧ i = i' ∧ j = j') ∧
  (∀ m, 0 ≤ m → m < 40 → ouO h m) ∧ (∀ s, 0 ≤ s → s < 63 → hv h 6 s = 7 + s ∧ hn h (7 + s) = 8) ∧ (∀ i, 0 ≤ i → i < 8 → hv h 71 i = 264 + 3 * i ∧ hv h 72 i = 288 + i) ∧ (∀ i, 0 ≤ i → i < 4 → hv h 138 i = 139 + i)
theorem frC_4 {h h' : MH} (f : frC h h') (q : Int) : hv h' 4 q = hv h 4 q := frC_lo f (by decide) (fun z => by unfold wlo at z; omega)
theorem frC_CW {h h' : MH} (f : frC h h') {L : PG} (w : WF L) (c : CW h L) : CW h' L := by
  obtain ⟨c1, c2, c3, ⟨c4, c5, c6⟩, c7, c8, c9, c10, c11, c12⟩ := c
  refine ⟨?_, fun q hq => ?_, fun q q' hq hq' e => c3 q q' hq hq' (by rw [← frC_4 f, ← frC_4 f]; exact e), ⟨frC_st f (by omega) c4, frC_st f (by omega) c5, frC_st f (by omega) c6⟩, fun a i j d => ?_, fun a i j a' i' j' d d' e => c8 a i j a' i' j' d d' (by rw [← frC_cad f w d, ← frC_cad f w d']; exact e), fun m m0 m1 => frC_ou f m0 m1 (c9 m m0 m1), fun s s0 s1 => ?_, fun i i0 i1 => ?_, fun i i0 i1 => ?_⟩
  · rw [frC_lo f (by decide) (fun z => by unfold wlo at z; omega)]
    exact frX_CP (frC_X f) c1
  · rw [frC_4 f]
    exact ⟨frC_st f (Or.inl (c2 q hq).2) (c2 q hq).1, (c2 q hq).2⟩
  · rw [frC_cad f w d]
    exact ⟨frC_cl f (c7 a i j d).2 (c7 a i j d).1, (c7 a i j d).2⟩
  · rw [frC_lo f (by decide) (fun z => by unfold wlo at z; omega), h2_hn f.1]
    exact c10 s s0 s1
  · rw [frC_lo f (by decide) (fun z => by unfold wlo at z; omega), frC_lo f (by decide) (fun z => by unfold wlo at z; omega)]
    exact c11 i i0 i1
  · rw [frC_lo f (by decide) (fun z => by unfold wlo at z; omega)]
    exact c12 i i0 i1
