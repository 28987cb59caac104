/-! Part 50a: the component's facts (class Fact) -/
/-- the fact that an object of class Fact holds -/
def fo (h : MH) (a : Int) : FA := (hv h a 0, hv h a 1, hv h a 2, hv h a 3, hv h a 4, 0)
/-- it holds this fact now -/
def fw (h : MH) (a : Int) (f : FA) : MH := hset (hset (hset (hset (hset h a 0 (ath f)) a 1 (alo f)) a 2 (ahi f)) a 3 (alb f)) a 4 (ast f)
theorem h2_fw (h : MH) (a : Int) (f : FA) : (fw h a f).2 = h.2 := rfl
theorem fw_ne {h : MH} {a b j : Int} {f : FA} (e : b ≠ a) : hv (fw h a f) b j = hv h b j := by
  unfold fw
  rw [ne_a e, ne_a e, ne_a e, ne_a e, ne_a e]
theorem fw_k {h : MH} {a b j : Int} {f : FA} (e : j < 0 ∨ 5 ≤ j) : hv (fw h a f) b j = hv h b j := by
  unfold fw
  rw [ne_k (by omega), ne_k (by omega), ne_k (by omega), ne_k (by omega), ne_k (by omega)]
theorem fo_fw {h : MH} {a : Int} {f : FA} : fo (fw h a f) a = (ath f, alo f, ahi f, alb f, ast f, 0) := by
  unfold fo fw
  have e0 : hv (hset (hset (hset (hset (hset h a 0 (ath f)) a 1 (alo f)) a 2 (ahi f)) a 3 (alb f)) a 4 (ast f)) a 0 = ath f := by rw [ne_k (by decide), ne_k (by decide), ne_k (by decide), ne_k (by decide), eq_a]
  have e1 : hv (hset (hset (hset (hset (hset h a 0 (ath f)) a 1 (alo f)) a 2 (ahi f)) a 3 (alb f)) a 4 (ast f)) a 1 = alo f := by rw [ne_k (by decide), ne_k (by decide), ne_k (by decide), eq_a]
  have e2 : hv (hset (hset (hset (hset (hset h a 0 (ath f)) a 1 (alo f)) a 2 (ahi f)) a 3 (alb f)) a 4 (ast f)) a 2 = ahi f := by rw [ne_k (by decide), ne_k (by decide), eq_a]
  have e3 : hv (hset (hset (hset (hset (hset h a 0 (ath f)) a 1 (alo f)) a 2 (ahi f)) a 3 (alb f)) a 4 (ast f)) a 3 = alb f := by rw [ne_k (by decide), eq_a]
  rw [e0, e1, e2, e3, eq_a]
theorem fo_fw0 {h : MH} {a : Int} {f : FA} (e : asu f = 0) : fo (fw h a f) a = f := by
  rw [fo_fw]
  obtain ⟨f1, f2, f3, f4, f5, f6⟩ := f
  have e' : f6 = 0 := e
  subst e'
  rfl
theorem fo_ne {h : MH} {a b : Int} {f : FA} (e : b ≠ a) : fo (fw h a f) b = fo h b := by
  unfold fo
  rw [fw_ne e, fw_ne e, fw_ne e, fw_ne e, fw_ne e]
theorem fo_eq {h h' : MH} {a : Int} (e : ∀ j, hv h' a j = hv h a j) : fo h' a = fo h a := by
  unfold fo
  rw [e, e, e, e, e]
theorem fw_self {h : MH} {a : Int} : fw h a (fo h a) = h := by
  refine mh_ext rfl (fun b j => ?_)
  unfold fw
  by_cases eb : b = a
  · subst eb
    rw [hv_set, hv_set, hv_set, hv_set, hv_set]
    split
    · rename_i q; rw [q.2]; rfl
    · split
      · rename_i q; rw [q.2]; rfl
      · split
        · rename_i q; rw [q.2]; rfl
        · split
          · rename_i q; rw [q.2]; rfl
          · split
            · rename_i q; rw [q.2]; rfl
            · rfl
  · rw [ne_a eb, ne_a eb, ne_a eb, ne_a eb, ne_a eb]
/-- the first fact of a kind -/
def kfst (k : Int) : FA := if k = 0 then fv 0 0 0 0 else fs 1
theorem okv_obj8 {h : MH} {b : Int} (ob : okv h (8, b)) (hb : b ≠ 0) : obj h 4 b := tag_obj (g := 8) rfl (fun _ => hb) ob
section CF
variable {l : Launch} {G : JG} {h : MH} {a b : Int} {Q : Int → MH → Prop} {E : Nat → Int → MH → Prop}
theorem c_none (hG : gO G = true) (hQ : Q 0 (fw h a fz)) : S_X4_none l G [(2004, a)] h Q E := by
  refine s_X4_none rfl fun K ki => r_X4_none_0 ki hG ⟨Or.inl rfl, ?_⟩
  intro h1 e1 h2 e2 h3 e3 h4 e4 h5 e5
  subst e1 e2 e3 e4 e5
  exact hQ
theorem c_number (hG : gO G = true) {x y z : Int} (hQ : Q a (fw h a (fv x y z 0))) : S_X4_number l G [(2004, a), (0, x), (0, y), (0, z)] h Q E := by
  refine s_X4_number rfl fun K ki => r_X4_number_0 ki hG ⟨Or.inr rfl, ?_⟩
  intro h1 e1 h2 e2 h3 e3 h4 e4 h5 e5
  subst e1 e2 e3 e4 e5
  exact hQ
theorem c_sites (hG : gO G = true) {s : Int} (hQ : Q a (fw h a (fs s))) : S_X4_sites l G [(2004, a), (1, s)] h Q E := by
  refine s_X4_sites rfl fun K ki => r_X4_sites_0 ki hG ⟨Or.inr rfl, ?_⟩
  intro h1 e1 h2 e2 h3 e3 h4 e4 h5 e5
  subst e1 e2 e3 e4 e5
  exact hQ
theorem c_first (hG : gO G = true) {k : Int} (hQ : Q a (fw h a (kfst k))) : S_X4_first l G [(2004, a), (0, k)] h Q E := by
  refine s_X4_first rfl fun K ki => r_X4_first_0 ki hG ⟨fun e => ?_, fun e => ?_⟩
  · refine c_sites hG ?_
    rw [kfst, if_neg e] at hQ
    exact hQ
  · refine c_number hG ?_
    rw [kfst, if_pos e] at hQ
    exact hQ
theorem c_become (hG : gO G = true) (hb : b ≠ 0) (hQ : Q a (fw h a (fo h b))) : S_X4_become l G [(2004, a), (8, b)] h Q E := by
  refine Sem_hyp fun H ok => ?_
  have ob : okv h (8, b) := ok _ (by simp)
  have b1 : 1 ≤ b ∧ b ≤ hz h ∧ ht h b = 4 := by
    have := okv_obj8 ob hb
    exact this
  have z0 := okf_z (hok_fld H b1.1 b1.2.1 b1.2.2 (by decide) 0 (by decide))
  refine s_X4_become rfl fun K ki => r_X4_become_0 ki hG ⟨hb, z0, ?_⟩
  intro h1 e1
  refine ⟨hb, fun h2 e2 => ⟨hb, fun h3 e3 => ⟨hb, fun h4 e4 => ⟨hb, fun h5 e5 => ?_⟩⟩⟩⟩
  subst e1
  rw [ne_k (by decide)] at e2
  subst e2
  rw [ne_k (by decide), ne_k (by decide)] at e3
  subst e3
  rw [ne_k (by decide), ne_k (by decide), ne_k (by decide)] at e4
  subst e4
  rw [ne_k (by decide), ne_k (by decide), ne_k (by decide), ne_k (by decide)] at e5
  subst e5
  exact hQ
theorem and_not {x y : Int} : i_and x (i_xor y (-1)) = 0 ↔ ∀ s : Int, bi x s = true → bi y s = true := by
  rw [bi_eq0 (c32_i_and _ _)]
  constructor
  · intro q s hs
    by_cases s0 : 0 ≤ s
    · by_cases s1 : s < 32
      · have := q s s0 s1
        rw [bi_and, hs, bi_not s1] at this
        simpa using this
      · rw [bi_hi (by omega)] at hs
        cases hs
    · rw [bi_neg (by omega)] at hs ⊢
      have := q 0 (by decide) (by decide)
      rw [bi_and, hs, bi_not (by decide)] at this
      simpa using this
  · intro q s s0 s1
    rw [bi_and, bi_not s1]
    cases hb : bi x s with
    | false => rfl
    | true => rw [q s hb]; rfl
theorem land_not {x y : Int} : l_and x (l_xor y (-1)) = 0 ↔ ∀ s : Int, bl x s = true → bl y s = true := by
  rw [bl_eq0 (c64_l_and _ _)]
  constructor
  · intro q s hs
    by_cases s0 : 0 ≤ s
    · by_cases s1 : s < 64
      · have := q s s0 s1
        rw [bl_and, hs, bl_not s1] at this
        simpa using this
      · rw [bl_hi (by omega)] at hs
        cases hs
    · rw [bl_neg (by omega)] at hs ⊢
      have := q 0 (by decide) (by decide)
      rw [bl_and, hs, bl_not (by decide)] at this
      simpa using this
  · intro q s s0 s1
    rw [bl_and, bl_not s1]
    cases hb : bl x s with
    | false => rfl
    | true => rw [q s hb]; rfl
/-- joined: whether it is more than it was -/
theorem c_join (hG : gO G = true) (hb : b ≠ 0) (hQ : ∀ z, (z = 0 ∨ z = 1) → (z = 0 ↔ fle (fo h b) (fo h a)) → Q z (fw h a (fjoin (fo h a) (fo h b)))) : S_X4_join l G [(2004, a), (8, b)] h Q E := by
  refine Sem_hyp fun H ok => ?_
  have ob : okv h (8, b) := ok _ (by simp)
  have b1 := okv_obj8 ob hb
  have a1 := obj_of_nn (g := 2004) (by decide) (by decide) (ok (2004, a) (by simp))
  have zb := okf_z (hok_fld H b1.1 b1.2.1 b1.2.2 (by decide) 0 (by decide))
  have za := okf_z (hok_fld H a1.1 a1.2.1 a1.2.2 (by decide) 0 (by decide))
  refine s_X4_join rfl fun K ki => r_X4_join_0 ki hG ⟨hb, fun eb => ⟨fun ea => ?_, fun ea => ?_⟩, fun eb => ?_⟩
  · have ea1 : hv h a 0 = 1 := by rcases za with q | q; exact absurd q ea; exact q
    have eb1 : hv h b 0 = 1 := by rcases zb with q | q; exact absurd q eb; exact q
    refine ⟨hb, fun _ => ⟨hb, fun _ => ⟨hb, fun _ => hb⟩⟩, fun x ex => ⟨hb, fun h2 e2 => ⟨hb, fun h3 e3 => ⟨hb, fun h4 e4 => ⟨hb, fun h5 e5 => ?_⟩⟩⟩⟩⟩
    subst e2
    rw [ne_k (by decide), ne_k (by decide)] at e3
    subst e3
    rw [ne_k (by decide), ne_k (by decide), ne_k (by decide), ne_k (by decide)] at e4
    subst e4
    rw [ne_k (by decide), ne_k (by decide), ne_k (by decide), ne_k (by decide), ne_k (by decide), ne_k (by decide)] at e5
    have hj : fjoin (fo h a) (fo h b) = (1, min (hv h a 1) (hv h b 1), max (hv h a 2) (hv h b 2), i_or (hv h a 3) (hv h b 3), l_or (hv h a 4) (hv h b 4), i_and 0 0) := by
      unfold fjoin
      rw [if_neg (show ¬ ath (fo h b) = 0 from eb), if_neg (show ¬ ath (fo h a) = 0 from ea)]
      rfl
    have hh : h5 = fw h a (fjoin (fo h a) (fo h b)) := by
      rw [hj, e5]
      unfold fw
      congr 4
      have : hset h a 0 1 = h := by rw [← ea1]; exact hset_self
      rw [show ath (1, min (hv h a 1) (hv h b 1), max (hv h a 2) (hv h b 2), i_or (hv h a 3) (hv h b 3), l_or (hv h a 4) (hv h b 4), i_and 0 0) = 1 from rfl, this]
    have hx : (x = 0 ∨ x = 1) ∧ (x = 0 ↔ fle (fo h b) (fo h a)) := by
      have hle : fle (fo h b) (fo h a) ↔ (hv h a 1 ≤ hv h b 1 ∧ hv h b 2 ≤ hv h a 2 ∧ i_and (hv h b 3) (i_xor (hv h a 3) (-1)) = 0 ∧ l_and (hv h b 4) (l_xor (hv h a 4) (-1)) = 0) := by
        rw [and_not, land_not]
        constructor
        · intro q
          obtain ⟨-, q1, q2, q3, q4, -⟩ := q eb
          exact ⟨q1, q2, q3, q4⟩
        · intro ⟨q1, q2, q3, q4⟩ _
          exact ⟨ea, q1, q2, q3, q4, fun _ q => q⟩
      rw [hle]
      have c64x : c64 (l_and (hv h b 4) (l_xor (hv h a 4) (-1))) := c64_l_and _ _
      have hlc : lc (l_and (hv h b 4) (l_xor (hv h a 4) (-1))) 0 = 0 ↔ l_and (hv h b 4) (l_xor (hv h a 4) (-1)) = 0 := by
        unfold lc
        split
        · constructor <;> intro q <;> omega
        · split <;> constructor <;> intro q <;> omega
      rw [ex]
      split
      · constructor
        · exact Or.inr rfl
        · constructor <;> intro q <;> omega
      · split
        · constructor
          · exact Or.inr rfl
          · constructor <;> intro q <;> omega
        · split
          · rename_i q3
            split
            · rename_i q4
              exact ⟨Or.inl rfl, fun _ => ⟨by omega, by omega, q3, hlc.mp q4⟩, fun _ => rfl⟩
            · rename_i q4
              exact ⟨Or.inr rfl, fun q => by omega, fun q => absurd (hlc.mpr q.2.2.2) q4⟩
          · rename_i q3
            exact ⟨Or.inr rfl, fun q => by omega, fun q => absurd q.2.2.1 q3⟩
    rw [hh]
    exact ⟨hx.1, hQ x hx.1 hx.2⟩
  · refine c_become hG hb ⟨Or.inr rfl, ?_⟩
    have hj : fjoin (fo h a) (fo h b) = fo h b := by
      unfold fjoin
      rw [if_neg (show ¬ ath (fo h b) = 0 from eb), if_pos (show ath (fo h a) = 0 from ea)]
    rw [hj] at hQ
    exact hQ 1 (Or.inr rfl) ⟨fun q => by omega, fun q => absurd ea (q eb).1⟩
  · refine ⟨Or.inl rfl, ?_⟩
    have hj : fjoin (fo h a) (fo h b) = fo h a := by
      unfold fjoin
      rw [if_pos (show ath (fo h b) = 0 from eb)]
    rw [hj, fw_self] at hQ
    exact hQ 0 (Or.inl rfl) ⟨fun _ q => absurd eb q, fun _ => rfl⟩
end CF
