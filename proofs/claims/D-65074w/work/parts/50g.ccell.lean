/-! Part 50g: the component's cells (class Cell): a fact, and the places that rest on it -/
/-- an object of class Cell, with its fact and its set of places behind it -/
def clO (h : MH) (c : Int) : Prop := 1 ≤ c ∧ c + 2 ≤ hz h ∧ ht h c = 6 ∧ hv h c 0 = c + 1 ∧ ht h (c + 1) = 4 ∧ hv h c 1 = c + 2 ∧ ht h (c + 2) = 101 ∧ hn h (c + 2) = 24
theorem pl_bits : ∀ x : Fin 1500, i_shr (x.val : Int) 6 = (x.val : Int) / 64 ∧ i_and (x.val : Int) 63 = (x.val : Int) % 64 := by decide +kernel
theorem pl_b {x : Int} (h0 : 0 ≤ x) (h1 : x < 1500) : i_shr x 6 = x / 64 ∧ i_and x 63 = x % 64 := by
  have := pl_bits ⟨x.toNat, by omega⟩
  dsimp only at this
  rw [show ((x.toNat : Nat) : Int) = x by omega] at this
  exact this
/-- a place rests on it from now on -/
def urs (h : MH) (a p : Int) : MH := hset h a (p / 64) (l_or (hv h a (p / 64)) (l_shl 1 (p % 64)))
theorem h2_urs (h : MH) (a p : Int) : (urs h a p).2 = h.2 := rfl
theorem urs_ne {h : MH} {a p b j : Int} (e : b ≠ a) : hv (urs h a p) b j = hv h b j := ne_a e
theorem ubt_urs {h : MH} {a p q : Int} (p0 : 0 ≤ p) (q0 : 0 ≤ q) : ubt (urs h a p) a q = (ubt h a q || decide (q = p)) := by
  unfold ubt urs
  by_cases e : q / 64 = p / 64
  · rw [e, eq_a, bl_or, bl_shl (by omega) (by omega) (by omega)]
    congr 1
    exact decide_eq_decide.mpr ⟨fun x => by omega, fun x => by omega⟩
  · rw [ne_k e, decide_eq_false (fun x => e (by rw [x])), Bool.or_false]
theorem ubt_ne {h h' : MH} {a q : Int} (e : ∀ j, hv h' a j = hv h a j) : ubt h' a q = ubt h a q := by
  unfold ubt
  rw [e]
section CC
variable {l : Launch} {G : JG} {h : MH} {a c p n : Int} {Q : Int → MH → Prop} {E : Nat → Int → MH → Prop}
theorem c_use (hG : gO G = true) (p0 : 0 ≤ hv h 3 18) (p1 : hv h 3 18 < 1500) (ha : a ≠ 0) (h24 : hn h a = 24) (hQ : Q 0 (urs h a (hv h 3 18))) : S_X2_use l G [(2002, 3), (105, a)] h Q E := by
  obtain ⟨e1, e2⟩ := pl_b p0 p1
  refine s_X2_use rfl fun K ki => r_X2_use_0 ki hG ?_
  rw [e1, e2, h24]
  refine ⟨ha, by omega, by omega, ha, by omega, by omega, fun h1 eh => ?_⟩
  subst eh
  exact hQ
/-- what a cell has, on which the place at work rests from now on, joined to what is made -/
theorem c_gather (hG : gO G = true) (p0 : 0 ≤ hv h 3 18) (p1 : hv h 3 18 < 1500) (co : clO h c) (hQ : Q 0 (fw (urs h (c + 2) (hv h 3 18)) 136 (fjoin (fo (urs h (c + 2) (hv h 3 18)) 136) (fo h (c + 1))))) : S_X2_gather l G [(2002, 3), (10, c)] h Q E := by
  obtain ⟨c1, c2, c3, c4, c5, c6, c7, c8⟩ := co
  refine s_X2_gather rfl fun K ki => r_X2_gather_0 ki hG ⟨by omega, ?_⟩
  rw [c6]
  refine c_use hG p0 p1 (by omega) c8 ⟨by omega, ?_⟩
  rw [urs_ne (by omega), c4]
  refine c_join hG (by omega) fun z _ _ => ?_
  have e : fo (urs h (c + 2) (hv h 3 18)) (c + 1) = fo h (c + 1) := fo_eq (fun j => urs_ne (by omega))
  rw [e]
  exact hQ
/-- a fact is joined to a cell's: who rests on it wakes, if it is more -/
theorem c_cjoin (hG : gO G = true) (q : QI h n) (co : clO h c) (hc : 523 ≤ c ∨ (264 ≤ c ∧ c < 288)) {f : Int} (hf : f ≠ 0) (hb : ∀ p, 0 ≤ p → p < 1536 → ubt h (c + 2) p = true → p < n)
    (hQ : ∀ h', (h' = fw h (c + 1) (fjoin (fo h (c + 1)) (fo h f)) ∧ fle (fo h f) (fo h (c + 1)) ∨ (¬ fle (fo h f) (fo h (c + 1)) ∧ onq (fw h (c + 1) (fjoin (fo h (c + 1)) (fo h f))) h' ∧ mor h (c + 2) h' ∧ ∀ p, 0 ≤ p → p < 1536 → ubt h (c + 2) p = true → hv h' 79 p ≠ 0)) → QI h' n → Q 0 h') : S_X2_join l G [(2002, 3), (10, c), (8, f)] h Q E := by
  obtain ⟨c1, c2, c3, c4, c5, c6, c7, c8⟩ := co
  refine s_X2_join rfl fun K ki => r_X2_join_0 ki hG ⟨by omega, by omega, ?_⟩
  rw [c4]
  have q1 : QI (fw h (c + 1) (fjoin (fo h (c + 1)) (fo h f))) n := QI_of q (fw_ne (by omega)) (fw_ne (by omega)) (fun j => fw_ne (by omega)) (fun j => fw_ne (by omega))
  refine c_join hG hf fun z zz ze => ⟨fun e0 => hQ _ (Or.inl ⟨rfl, ze.mp e0⟩) q1, fun e0 => ⟨by omega, ?_⟩⟩
  rw [fw_ne (by omega), c6]
  have eu : ∀ p, ubt (fw h (c + 1) (fjoin (fo h (c + 1)) (fo h f))) (c + 2) p = ubt h (c + 2) p := fun p => ubt_ne (fun j => fw_ne (by omega))
  refine c_wakeAll hG q1 (by omega) ⟨by omega, by omega, by omega⟩ c8 (fun p p0 p1 pb => hb p p0 p1 (by rw [← eu]; exact pb)) fun h' o q' mo aw => hQ h' (Or.inr ⟨fun x => e0 (ze.mpr x), o, mor_of (fun j => fw_ne (by omega)) eu mo, fun p p0 p1 pb => aw p p0 p1 (by rw [eu]; exact pb)⟩) q'
/-- a value is laid on the stack of the place at work -/
theorem c_put (hG : gO G = true) {d f : Int} (so : stO h 80) (ed : hv h 3 25 = d) (d0 : 0 ≤ d) (d1 : d < 8) (hf : f ≠ 0) (hQ : Q 0 (fw (hset h 3 25 (d + 1)) (90 + d) (fo h f))) (h3 : f ≠ 3) : S_X2_put l G [(2002, 3), (8, f)] h Q E := by
  refine s_X2_put rfl fun K ki => r_X2_put_0 ki hG fun h1 e1 => ?_
  rw [ed] at e1 ⊢
  rw [w32_i (by omega) (by omega)] at e1 ⊢
  obtain ⟨s1, s2, s3, s4, s5, s6, s7⟩ := so
  obtain ⟨f1, f2⟩ := s7 (8 + d) (by omega) (by omega)
  rw [s4]
  have g1 : hv h1 (80 + 1) (8 + d) = 90 + d := by rw [e1, ne_a (by decide), f1]; omega
  rw [g1]
  refine ⟨by omega, by omega, by rw [e1]; show 8 + d < hn h (80 + 1); rw [s6]; omega, by omega, ?_⟩
  refine c_become hG hf ?_
  have e : fo h1 f = fo h f := fo_eq (fun j => by rw [e1, ne_a h3])
  rw [e, e1]
  exact hQ
/-- the top of the stack is taken off -/
theorem c_take (hG : gO G = true) {d f : Int} (so : stO h 80) (ed : hv h 3 25 = d) (d0 : 1 ≤ d) (d1 : d ≤ 8) (hf : f ≠ 0) (hQ : Q f (fw (fw (hset h 3 25 (d - 1)) f (fo h (89 + d))) (89 + d) fz)) : S_X2_take l G [(2002, 3), (8, f)] h Q E := by
  refine s_X2_take rfl fun K ki => r_X2_take_0 ki hG fun h1 e1 => ?_
  rw [ed] at e1 ⊢
  rw [w32_i (z := d - 1) (by omega) (by omega)] at e1 ⊢
  rw [w32_i (by omega) (by omega)]
  obtain ⟨s1, s2, s3, s4, s5, s6, s7⟩ := so
  obtain ⟨f1, f2⟩ := s7 (7 + d) (by omega) (by omega)
  rw [s4]
  have g1 : hv h1 (80 + 1) (8 + (d - 1)) = 89 + d := by rw [e1, ne_a (by decide), show 8 + (d - 1) = 7 + d by omega, f1]; omega
  rw [g1]
  refine ⟨by omega, by omega, by rw [e1]; show 8 + (d - 1) < hn h (80 + 1); rw [s6]; omega, fun x ex => ⟨hf, ?_⟩⟩
  subst ex
  refine c_become hG (by omega) ⟨by omega, c_none hG ?_⟩
  have e : fo h1 (89 + d) = fo h (89 + d) := fo_eq (fun j => by rw [e1, ne_a (by omega)])
  rw [e, e1]
  exact hQ
end CC
