/-! Part 26: pure functions (by gen/mkpf.py) -/
set_option maxRecDepth 100000

def labs (x : Int) : Int := if x < 0 then w64 (-x) else x
def isin (v a b : Int) : Int := if a ≤ v ∧ v ≤ b then 1 else 0
def mayf (w l h l2 h2 : Int) : Int := if w = 0 then (if l ≤ h2 ∧ l2 ≤ h then 1 else 0) else if w = 1 then (if l = h ∧ l2 = h2 ∧ l = l2 then 0 else 1) else if w = 2 then (if l < h2 then 1 else 0) else if w = 3 then (if l2 ≤ h then 1 else 0) else if w = 4 then (if l2 < h then 1 else 0) else (if l ≤ h2 then 1 else 0)
def endsf (v : Int) : Int := if v = 15 then 1 else if v = 31 then 1 else if v = 32 then 1 else 0
def setsf (v : Int) : Int := if v = 24 then 1 else if v = 26 then 1 else if v = 28 then 1 else 0
def usesf (v : Int) : Int := if v = 25 then 1 else if v = 26 then 1 else if v = 23 then 2 else if v = 24 then 2 else if v = 27 then 3 else if v = 28 then 3 else 0
def readsf (o x : Int) : Int := if o = 2 then i_shl 1 x else if o = 18 then i_shl 1 x else if o = 19 then i_shl 1 x else if o = 17 then i_shl 1 (i_rem x 8) else 0
def pf_min : List Int → Int | [a, b] => min a b | _ => 0
def pf_max : List Int → Int | [a, b] => max a b | _ => 0
def pf_abs : List Int → Int | [a] => labs a | _ => 0
def pf_in : List Int → Int | [a, b, c] => isin a b c | _ => 0
def pf_fits : List Int → Int | [a] => isin a (-2147483648) 2147483647 | _ => 0
def pf_least : List Int → Int | [a, b, c, d] => min (min a b) (min c d) | _ => 0
def pf_most : List Int → Int | [a, b, c, d] => max (max a b) (max c d) | _ => 0
def pf_may : List Int → Int | [a, b, c, d, e] => mayf a b c d e | _ => 0
def pf_turned : List Int → Int | [a] => i_xor a 1 | _ => 0
def pf_ends : List Int → Int | [a] => endsf a | _ => 0
def pf_sets : List Int → Int | [a] => setsf a | _ => 0
def pf_uses : List Int → Int | [a] => usesf a | _ => 0
def pf_reads : List Int → Int | [a, b] => readsf a b | _ => 0
theorem isin_b (v a b : Int) : isin v a b = 0 ∨ isin v a b = 1 := by unfold isin; split <;> simp
theorem isin_1 {v a b : Int} : isin v a b = 1 ↔ a ≤ v ∧ v ≤ b := by unfold isin; split <;> simp_all
theorem isin_0 {v a b : Int} : isin v a b = 0 ↔ ¬ (a ≤ v ∧ v ≤ b) := by unfold isin; split <;> simp_all
theorem isin_eq (v a b : Int) : (if lc v a < 0 then 0 else if 0 < lc v b then 0 else (1 : Int)) = isin v a b := by
  unfold isin; simp only [lc_lt, lc_gt]; split <;> split <;> (try split) <;> (first | rfl | omega)
theorem mayf_b (w l h l2 h2 : Int) : mayf w l h l2 h2 = 0 ∨ mayf w l h l2 h2 = 1 := by unfold mayf; (repeat' split) <;> simp

abbrev rf_J8 : List (Nat × Nat × Nat) := []
abbrev rc_J8 : List (Nat × Int) := []
abbrev rl_J8 : List (Nat × Int) := []
abbrev rp_J8 : List (Nat × Nat × Nat × Bool) := []
abbrev rn_J8 : List (Nat × Nat × Nat) := []
abbrev ra_J8 : List (Nat × Nat) := []
/-! J8_min -/
abbrev S_J8_min (l : Launch) (G : JG) : MS := Sem l G yJ8_min (ws_ yJ8_min cJ8_min 2 (some .int)) 4 150 0
theorem yl_J8_min : YLk yJ8_min (ws_ yJ8_min cJ8_min 2 (some .int)) 2 2 := ⟨lw_meth q1371, q216, Or.inl ⟨_, _, q1371⟩, by decide, by decide +kernel⟩
theorem s_J8_min {l : Launch} {G : JG} {Q : Int → MH → Prop} {E : Nat → Int → MH → Prop} {h : MH} {as : List LV} (hn : Nat.ble (enl as).length 2 = true) (body : ∀ K : JC, KI K l G yJ8_min cJ8_min 2 (some .int) [] 4 150 0 Q E h → JW K 0 (lv0 as 2) [] h) : S_J8_min l G as h Q E :=
  Sem_of (by decide +kernel) (Nat.le_of_ble_eq_true hn) body
abbrev k_J8_min : List (Nat × List (Nat × Instr)) := [(19, [(0, .iload_n 0), (1, .iload_n 1), (2, .if_icmp .gt 7), (5, .iload_n 0), (6, .goto 4), (9, .iload_n 1), (10, .ireturn)])]
theorem ok_J8_min : CodeOK cJ8_min k_J8_min := okw 0 (by decide +kernel) (okn)
abbrev p_J8_min (l : Launch) (G : JG) : JP := (true, [], [], [], [], [], [], [], false, 0, [])
theorem pk_J8_min {K : JC} {l : Launch} {G : JG} {Q : Int → MH → Prop} {E : Nat → Int → MH → Prop} {h0 : MH} (ki : KI K l G yJ8_min cJ8_min 2 (some .int) [] 4 150 0 Q E h0) (hG : gO G = true) : POK K RJ8 (p_J8_min l G) :=
  POKi (y := yJ8_min) ki hG fmz fmz fmz fmz fmz fmz
  (pkE ki (by
    intro K e1 e2 e3 e4; subst e1; subst e2
    exact fmz)) (fun z => Bool.noConfusion z) rfl (pkP ki (by
    intro K e1 e2 e3 e4; subst e1; subst e2
    exact fmz))
theorem r_J8_min_0 {K : JC} {l : Launch} {G : JG} {Q : Int → MH → Prop} {E : Nat → Int → MH → Prop} {h0 : MH} (ki : KI K l G yJ8_min cJ8_min 2 (some .int) [] 4 150 0 Q E h0) (hG : gO G = true) {v0 v1 : Int} {h : MH} (H :
    Q (if v1 < v0 then v1 else v0 : Int) h) : JW K 0 [(0, v0), (0, v1)] [] h := by
  have e1 := ki.2.2.2.2.1
  have e2 := ki.2.2.2.2.2.1
  subst e1; subst e2
  exact run_ok (dia := [(2, 10)]) (cnr := []) (cuts := []) ki.1 (pk_J8_min ki hG) ok_J8_min (by decide) 5 true _ _ _ _ H
abbrev e_J8_min : PE := ([0, 0], 0, pf_min)
theorem pe_J8_min {K : JC} {F Lo idx : Nat} {own : String} (hG : gO (kG K) = true) (hF : F ≤ (kR K).frames) (hLo : Lo ≤ (kR K).locals) (hs : SLk own idx yJ8_min) (hb : ceb 0 4 F 150 Lo 2 = true) (_ : true = true) : PFok K own idx e_J8_min :=
  peK hF hLo yl_J8_min hs hb (by
    intro as h Q E hok e9 hq
    replace e9 : as.map (fun x => x.1) = [0, 0] := e9
    obtain ⟨a, bs0, f0, e90⟩ := as_cons e9; subst f0
    obtain ⟨b, bs1, f1, e91⟩ := as_cons e90; subst f1
    cases as_nil e91
    refine s_J8_min rfl fun K ki => r_J8_min_0 ki hG ?_
    rw [show (if b < a then b else a) = min a b by rw [Int.min_def]; split <;> split <;> omega]; exact hq)
/-! J8_max -/
abbrev S_J8_max (l : Launch) (G : JG) : MS := Sem l G yJ8_max (ws_ yJ8_max cJ8_max 2 (some .int)) 4 150 0
theorem yl_J8_max : YLk yJ8_max (ws_ yJ8_max cJ8_max 2 (some .int)) 2 2 := ⟨lw_meth q1374, q216, Or.inl ⟨_, _, q1374⟩, by decide, by decide +kernel⟩
theorem s_J8_max {l : Launch} {G : JG} {Q : Int → MH → Prop} {E : Nat → Int → MH → Prop} {h : MH} {as : List LV} (hn : Nat.ble (enl as).length 2 = true) (body : ∀ K : JC, KI K l G yJ8_max cJ8_max 2 (some .int) [] 4 150 0 Q E h → JW K 0 (lv0 as 2) [] h) : S_J8_max l G as h Q E :=
  Sem_of (by decide +kernel) (Nat.le_of_ble_eq_true hn) body
abbrev k_J8_max : List (Nat × List (Nat × Instr)) := [(19, [(0, .iload_n 0), (1, .iload_n 1), (2, .if_icmp .lt 7), (5, .iload_n 0), (6, .goto 4), (9, .iload_n 1), (10, .ireturn)])]
theorem ok_J8_max : CodeOK cJ8_max k_J8_max := okw 0 (by decide +kernel) (okn)
abbrev p_J8_max (l : Launch) (G : JG) : JP := (true, [], [], [], [], [], [], [], false, 0, [])
theorem pk_J8_max {K : JC} {l : Launch} {G : JG} {Q : Int → MH → Prop} {E : Nat → Int → MH → Prop} {h0 : MH} (ki : KI K l G yJ8_max cJ8_max 2 (some .int) [] 4 150 0 Q E h0) (hG : gO G = true) : POK K RJ8 (p_J8_max l G) :=
  POKi (y := yJ8_max) ki hG fmz fmz fmz fmz fmz fmz
  (pkE ki (by
    intro K e1 e2 e3 e4; subst e1; subst e2
    exact fmz)) (fun z => Bool.noConfusion z) rfl (pkP ki (by
    intro K e1 e2 e3 e4; subst e1; subst e2
    exact fmz))
theorem r_J8_max_0 {K : JC} {l : Launch} {G : JG} {Q : Int → MH → Prop} {E : Nat → Int → MH → Prop} {h0 : MH} (ki : KI K l G yJ8_max cJ8_max 2 (some .int) [] 4 150 0 Q E h0) (hG : gO G = true) {v0 v1 : Int} {h : MH} (H :
    Q (if v0 < v1 then v1 else v0 : Int) h) : JW K 0 [(0, v0), (0, v1)] [] h := by
  have e1 := ki.2.2.2.2.1
  have e2 := ki.2.2.2.2.2.1
  subst e1; subst e2
  exact run_ok (dia := [(2, 10)]) (cnr := []) (cuts := []) ki.1 (pk_J8_max ki hG) ok_J8_max (by decide) 5 true _ _ _ _ H
abbrev e_J8_max : PE := ([0, 0], 0, pf_max)
theorem pe_J8_max {K : JC} {F Lo idx : Nat} {own : String} (hG : gO (kG K) = true) (hF : F ≤ (kR K).frames) (hLo : Lo ≤ (kR K).locals) (hs : SLk own idx yJ8_max) (hb : ceb 0 4 F 150 Lo 2 = true) (_ : true = true) : PFok K own idx e_J8_max :=
  peK hF hLo yl_J8_max hs hb (by
    intro as h Q E hok e9 hq
    replace e9 : as.map (fun x => x.1) = [0, 0] := e9
    obtain ⟨a, bs0, f0, e90⟩ := as_cons e9; subst f0
    obtain ⟨b, bs1, f1, e91⟩ := as_cons e90; subst f1
    cases as_nil e91
    refine s_J8_max rfl fun K ki => r_J8_max_0 ki hG ?_
    rw [show (if a < b then b else a) = max a b by rw [Int.max_def]; split <;> split <;> omega]; exact hq)
/-! J8_min_2 -/
abbrev S_J8_min_2 (l : Launch) (G : JG) : MS := Sem l G yJ8_min_2 (ws_ yJ8_min_2 cJ8_min_2 4 (some .long)) 4 150 1
theorem yl_J8_min_2 : YLk yJ8_min_2 (ws_ yJ8_min_2 cJ8_min_2 4 (some .long)) 4 2 := ⟨lw_meth q1474, q216, Or.inl ⟨_, _, q1474⟩, by decide, by decide +kernel⟩
theorem s_J8_min_2 {l : Launch} {G : JG} {Q : Int → MH → Prop} {E : Nat → Int → MH → Prop} {h : MH} {as : List LV} (hn : Nat.ble (enl as).length 4 = true) (body : ∀ K : JC, KI K l G yJ8_min_2 cJ8_min_2 4 (some .long) [] 4 150 1 Q E h → JW K 0 (lv0 as 4) [] h) : S_J8_min_2 l G as h Q E :=
  Sem_of (by decide +kernel) (Nat.le_of_ble_eq_true hn) body
abbrev k_J8_min_2 : List (Nat × List (Nat × Instr)) := [(20, [(0, .lload_n 0), (1, .lload_n 2), (2, .lcmp), (3, .ifCond .gt 7), (6, .lload_n 0), (7, .goto 4), (10, .lload_n 2), (11, .lreturn)])]
theorem ok_J8_min_2 : CodeOK cJ8_min_2 k_J8_min_2 := okw 0 (by decide +kernel) (okn)
abbrev p_J8_min_2 (l : Launch) (G : JG) : JP := (true, [], [], [], [], [], [], [], false, 1, [])
theorem pk_J8_min_2 {K : JC} {l : Launch} {G : JG} {Q : Int → MH → Prop} {E : Nat → Int → MH → Prop} {h0 : MH} (ki : KI K l G yJ8_min_2 cJ8_min_2 4 (some .long) [] 4 150 1 Q E h0) (hG : gO G = true) : POK K RJ8 (p_J8_min_2 l G) :=
  POKi (y := yJ8_min_2) ki hG fmz fmz fmz fmz fmz fmz
  (pkE ki (by
    intro K e1 e2 e3 e4; subst e1; subst e2
    exact fmz)) (fun z => Bool.noConfusion z) rfl (pkP ki (by
    intro K e1 e2 e3 e4; subst e1; subst e2
    exact fmz))
theorem r_J8_min_2_0 {K : JC} {l : Launch} {G : JG} {Q : Int → MH → Prop} {E : Nat → Int → MH → Prop} {h0 : MH} (ki : KI K l G yJ8_min_2 cJ8_min_2 4 (some .long) [] 4 150 1 Q E h0) (hG : gO G = true) {v0 v2 : Int} {h : MH} (H :
    Q (if 0 < (lc v0 v2) then v2 else v0 : Int) h) : JW K 0 [(1, v0), (5000, 0), (1, v2), (5000, 0)] [] h := by
  have e1 := ki.2.2.2.2.1
  have e2 := ki.2.2.2.2.2.1
  subst e1; subst e2
  exact run_ok (dia := [(3, 11)]) (cnr := []) (cuts := []) ki.1 (pk_J8_min_2 ki hG) ok_J8_min_2 (by decide) 6 true _ _ _ _ H
abbrev e_J8_min_2 : PE := ([1, 1], 1, pf_min)
theorem pe_J8_min_2 {K : JC} {F Lo idx : Nat} {own : String} (hG : gO (kG K) = true) (hF : F ≤ (kR K).frames) (hLo : Lo ≤ (kR K).locals) (hs : SLk own idx yJ8_min_2) (hb : ceb 1 4 F 150 Lo 4 = true) (_ : true = true) : PFok K own idx e_J8_min_2 :=
  peK hF hLo yl_J8_min_2 hs hb (by
    intro as h Q E hok e9 hq
    replace e9 : as.map (fun x => x.1) = [1, 1] := e9
    obtain ⟨a, bs0, f0, e90⟩ := as_cons e9; subst f0
    obtain ⟨b, bs1, f1, e91⟩ := as_cons e90; subst f1
    cases as_nil e91
    refine s_J8_min_2 rfl fun K ki => r_J8_min_2_0 ki hG ?_
    rw [show (if 0 < lc a b then b else a) = min a b by rw [Int.min_def]; simp only [lc_gt]; split <;> split <;> omega]; exact hq)
/-! J8_max_2 -/
abbrev S_J8_max_2 (l : Launch) (G : JG) : MS := Sem l G yJ8_max_2 (ws_ yJ8_max_2 cJ8_max_2 4 (some .long)) 4 150 1
theorem yl_J8_max_2 : YLk yJ8_max_2 (ws_ yJ8_max_2 cJ8_max_2 4 (some .long)) 4 2 := ⟨lw_meth q1480, q216, Or.inl ⟨_, _, q1480⟩, by decide, by decide +kernel⟩
theorem s_J8_max_2 {l : Launch} {G : JG} {Q : Int → MH → Prop} {E : Nat → Int → MH → Prop} {h : MH} {as : List LV} (hn : Nat.ble (enl as).length 4 = true) (body : ∀ K : JC, KI K l G yJ8_max_2 cJ8_max_2 4 (some .long) [] 4 150 1 Q E h → JW K 0 (lv0 as 4) [] h) : S_J8_max_2 l G as h Q E :=
  Sem_of (by decide +kernel) (Nat.le_of_ble_eq_true hn) body
abbrev k_J8_max_2 : List (Nat × List (Nat × Instr)) := [(20, [(0, .lload_n 0), (1, .lload_n 2), (2, .lcmp), (3, .ifCond .lt 7), (6, .lload_n 0), (7, .goto 4), (10, .lload_n 2), (11, .lreturn)])]
theorem ok_J8_max_2 : CodeOK cJ8_max_2 k_J8_max_2 := okw 0 (by decide +kernel) (okn)
abbrev p_J8_max_2 (l : Launch) (G : JG) : JP := (true, [], [], [], [], [], [], [], false, 1, [])
theorem pk_J8_max_2 {K : JC} {l : Launch} {G : JG} {Q : Int → MH → Prop} {E : Nat → Int → MH → Prop} {h0 : MH} (ki : KI K l G yJ8_max_2 cJ8_max_2 4 (some .long) [] 4 150 1 Q E h0) (hG : gO G = true) : POK K RJ8 (p_J8_max_2 l G) :=
  POKi (y := yJ8_max_2) ki hG fmz fmz fmz fmz fmz fmz
  (pkE ki (by
    intro K e1 e2 e3 e4; subst e1; subst e2
    exact fmz)) (fun z => Bool.noConfusion z) rfl (pkP ki (by
    intro K e1 e2 e3 e4; subst e1; subst e2
    exact fmz))
theorem r_J8_max_2_0 {K : JC} {l : Launch} {G : JG} {Q : Int → MH → Prop} {E : Nat → Int → MH → Prop} {h0 : MH} (ki : KI K l G yJ8_max_2 cJ8_max_2 4 (some .long) [] 4 150 1 Q E h0) (hG : gO G = true) {v0 v2 : Int} {h : MH} (H :
    Q (if (lc v0 v2) < 0 then v2 else v0 : Int) h) : JW K 0 [(1, v0), (5000, 0), (1, v2), (5000, 0)] [] h := by
  have e1 := ki.2.2.2.2.1
  have e2 := ki.2.2.2.2.2.1
  subst e1; subst e2
  exact run_ok (dia := [(3, 11)]) (cnr := []) (cuts := []) ki.1 (pk_J8_max_2 ki hG) ok_J8_max_2 (by decide) 6 true _ _ _ _ H
abbrev e_J8_max_2 : PE := ([1, 1], 1, pf_max)
theorem pe_J8_max_2 {K : JC} {F Lo idx : Nat} {own : String} (hG : gO (kG K) = true) (hF : F ≤ (kR K).frames) (hLo : Lo ≤ (kR K).locals) (hs : SLk own idx yJ8_max_2) (hb : ceb 1 4 F 150 Lo 4 = true) (_ : true = true) : PFok K own idx e_J8_max_2 :=
  peK hF hLo yl_J8_max_2 hs hb (by
    intro as h Q E hok e9 hq
    replace e9 : as.map (fun x => x.1) = [1, 1] := e9
    obtain ⟨a, bs0, f0, e90⟩ := as_cons e9; subst f0
    obtain ⟨b, bs1, f1, e91⟩ := as_cons e90; subst f1
    cases as_nil e91
    refine s_J8_max_2 rfl fun K ki => r_J8_max_2_0 ki hG ?_
    rw [show (if lc a b < 0 then b else a) = max a b by rw [Int.max_def]; simp only [lc_lt]; split <;> split <;> omega]; exact hq)
/-! J8_abs -/
abbrev S_J8_abs (l : Launch) (G : JG) : MS := Sem l G yJ8_abs (ws_ yJ8_abs cJ8_abs 2 (some .long)) 4 150 1
theorem yl_J8_abs : YLk yJ8_abs (ws_ yJ8_abs cJ8_abs 2 (some .long)) 2 1 := ⟨lw_meth q1495, q216, Or.inl ⟨_, _, q1495⟩, by decide, by decide +kernel⟩
theorem s_J8_abs {l : Launch} {G : JG} {Q : Int → MH → Prop} {E : Nat → Int → MH → Prop} {h : MH} {as : List LV} (hn : Nat.ble (enl as).length 2 = true) (body : ∀ K : JC, KI K l G yJ8_abs cJ8_abs 2 (some .long) [] 4 150 1 Q E h → JW K 0 (lv0 as 2) [] h) : S_J8_abs l G as h Q E :=
  Sem_of (by decide +kernel) (Nat.le_of_ble_eq_true hn) body
abbrev k_J8_abs : List (Nat × List (Nat × Instr)) := [(21, [(0, .lload_n 0), (1, .lconst 0), (2, .lcmp), (3, .ifCond .ge 8), (6, .lload_n 0), (7, .lneg), (8, .goto 4), (11, .lload_n 0), (12, .lreturn)])]
theorem ok_J8_abs : CodeOK cJ8_abs k_J8_abs := okw 0 (by decide +kernel) (okn)
abbrev p_J8_abs (l : Launch) (G : JG) : JP := (true, [], [], [], [], [], [], [], false, 1, [])
theorem pk_J8_abs {K : JC} {l : Launch} {G : JG} {Q : Int → MH → Prop} {E : Nat → Int → MH → Prop} {h0 : MH} (ki : KI K l G yJ8_abs cJ8_abs 2 (some .long) [] 4 150 1 Q E h0) (hG : gO G = true) : POK K RJ8 (p_J8_abs l G) :=
  POKi (y := yJ8_abs) ki hG fmz fmz fmz fmz fmz fmz
  (pkE ki (by
    intro K e1 e2 e3 e4; subst e1; subst e2
    exact fmz)) (fun z => Bool.noConfusion z) rfl (pkP ki (by
    intro K e1 e2 e3 e4; subst e1; subst e2
    exact fmz))
theorem r_J8_abs_0 {K : JC} {l : Launch} {G : JG} {Q : Int → MH → Prop} {E : Nat → Int → MH → Prop} {h0 : MH} (ki : KI K l G yJ8_abs cJ8_abs 2 (some .long) [] 4 150 1 Q E h0) (hG : gO G = true) {v0 : Int} {h : MH} (H :
    Q (if (lc v0 0) < 0 then (w64 (-v0)) else v0 : Int) h) : JW K 0 [(1, v0), (5000, 0)] [] h := by
  have e1 := ki.2.2.2.2.1
  have e2 := ki.2.2.2.2.2.1
  subst e1; subst e2
  exact run_ok (dia := [(3, 12)]) (cnr := []) (cuts := []) ki.1 (pk_J8_abs ki hG) ok_J8_abs (by decide) 6 true _ _ _ _ H
abbrev e_J8_abs : PE := ([1], 1, pf_abs)
theorem pe_J8_abs {K : JC} {F Lo idx : Nat} {own : String} (hG : gO (kG K) = true) (hF : F ≤ (kR K).frames) (hLo : Lo ≤ (kR K).locals) (hs : SLk own idx yJ8_abs) (hb : ceb 1 4 F 150 Lo 2 = true) (_ : true = true) : PFok K own idx e_J8_abs :=
  peK hF hLo yl_J8_abs hs hb (by
    intro as h Q E hok e9 hq
    replace e9 : as.map (fun x => x.1) = [1] := e9
    obtain ⟨a, bs0, f0, e90⟩ := as_cons e9; subst f0
    cases as_nil e90
    refine s_J8_abs rfl fun K ki => r_J8_abs_0 ki hG ?_
    rw [show (if lc a 0 < 0 then w64 (-a) else a) = labs a by unfold labs; simp only [lc_lt]]; exact hq)
/-! X1_isIn -/
abbrev S_X1_isIn (l : Launch) (G : JG) : MS := Sem l G yX1_isIn (ws_ yX1_isIn cX1_isIn 6 (some .boolean)) 4 150 2
theorem yl_X1_isIn : YLk yX1_isIn (ws_ yX1_isIn cX1_isIn 6 (some .boolean)) 6 3 := ⟨lw_meth q810, q190, Or.inl ⟨_, _, q810⟩, by decide, by decide +kernel⟩
theorem s_X1_isIn {l : Launch} {G : JG} {Q : Int → MH → Prop} {E : Nat → Int → MH → Prop} {h : MH} {as : List LV} (hn : Nat.ble (enl as).length 6 = true) (body : ∀ K : JC, KI K l G yX1_isIn cX1_isIn 6 (some .boolean) [] 4 150 2 Q E h → JW K 0 (lv0 as 6) [] h) : S_X1_isIn l G as h Q E :=
  Sem_of (by decide +kernel) (Nat.le_of_ble_eq_true hn) body
abbrev k_X1_isIn : List (Nat × List (Nat × Instr)) := [(27, [(0, .lload_n 0), (1, .lload_n 2), (2, .lcmp), (3, .ifCond .lt 14), (6, .lload_n 0), (7, .lload 4), (9, .lcmp), (10, .ifCond .gt 7), (13, .iconst 1), (14, .goto 4), (17, .iconst 0), (18, .ireturn)])]
theorem ok_X1_isIn : CodeOK cX1_isIn k_X1_isIn := okw 0 (by decide +kernel) (okn)
abbrev p_X1_isIn (l : Launch) (G : JG) : JP := (true, [], [], [], [], [], [], [], false, 2, [])
theorem pk_X1_isIn {K : JC} {l : Launch} {G : JG} {Q : Int → MH → Prop} {E : Nat → Int → MH → Prop} {h0 : MH} (ki : KI K l G yX1_isIn cX1_isIn 6 (some .boolean) [] 4 150 2 Q E h0) (hG : gO G = true) : POK K RX1 (p_X1_isIn l G) :=
  POKi (y := yX1_isIn) ki hG fmz fmz fmz fmz fmz fmz
  (pkE ki (by
    intro K e1 e2 e3 e4; subst e1; subst e2
    exact fmz)) (fun z => Bool.noConfusion z) rfl (pkP ki (by
    intro K e1 e2 e3 e4; subst e1; subst e2
    exact fmz))
theorem r_X1_isIn_0 {K : JC} {l : Launch} {G : JG} {Q : Int → MH → Prop} {E : Nat → Int → MH → Prop} {h0 : MH} (ki : KI K l G yX1_isIn cX1_isIn 6 (some .boolean) [] 4 150 2 Q E h0) (hG : gO G = true) {v0 v2 v4 : Int} {h : MH} (H :
    (((if (lc v0 v2) < 0 then 0 else (if 0 < (lc v0 v4) then 0 else 1 : Int) : Int) = 0 ∨ (if (lc v0 v2) < 0 then 0 else (if 0 < (lc v0 v4) then 0 else 1 : Int) : Int) = 1) ∧ Q (if (lc v0 v2) < 0 then 0 else (if 0 < (lc v0 v4) then 0 else 1 : Int) : Int) h)) : JW K 0 [(1, v0), (5000, 0), (1, v2), (5000, 0), (1, v4), (5000, 0)] [] h := by
  have e1 := ki.2.2.2.2.1
  have e2 := ki.2.2.2.2.2.1
  subst e1; subst e2
  exact run_ok (dia := [(3, 18)]) (cnr := []) (cuts := []) ki.1 (pk_X1_isIn ki hG) ok_X1_isIn (by decide) 6 true _ _ _ _ H
abbrev e_X1_isIn : PE := ([1, 1, 1], 2, pf_in)
theorem pe_X1_isIn {K : JC} {F Lo idx : Nat} {own : String} (hG : gO (kG K) = true) (hF : F ≤ (kR K).frames) (hLo : Lo ≤ (kR K).locals) (hs : SLk own idx yX1_isIn) (hb : ceb 2 4 F 150 Lo 6 = true) (_ : true = true) : PFok K own idx e_X1_isIn :=
  peK hF hLo yl_X1_isIn hs hb (by
    intro as h Q E hok e9 hq
    replace e9 : as.map (fun x => x.1) = [1, 1, 1] := e9
    obtain ⟨a, bs0, f0, e90⟩ := as_cons e9; subst f0
    obtain ⟨b, bs1, f1, e91⟩ := as_cons e90; subst f1
    obtain ⟨c, bs2, f2, e92⟩ := as_cons e91; subst f2
    cases as_nil e92
    refine s_X1_isIn rfl fun K ki => r_X1_isIn_0 ki hG ?_
    rw [isin_eq]; exact ⟨isin_b _ _ _, hq⟩)
/-! X9_in -/
abbrev S_X9_in (l : Launch) (G : JG) : MS := Sem l G yX9_in (ws_ yX9_in cX9_in 6 (some .boolean)) 4 150 2
theorem yl_X9_in : YLk yX9_in (ws_ yX9_in cX9_in 6 (some .boolean)) 6 3 := ⟨lw_meth q2455, q198, Or.inl ⟨_, _, q2455⟩, by decide, by decide +kernel⟩
theorem s_X9_in {l : Launch} {G : JG} {Q : Int → MH → Prop} {E : Nat → Int → MH → Prop} {h : MH} {as : List LV} (hn : Nat.ble (enl as).length 6 = true) (body : ∀ K : JC, KI K l G yX9_in cX9_in 6 (some .boolean) [] 4 150 2 Q E h → JW K 0 (lv0 as 6) [] h) : S_X9_in l G as h Q E :=
  Sem_of (by decide +kernel) (Nat.le_of_ble_eq_true hn) body
abbrev k_X9_in : List (Nat × List (Nat × Instr)) := [(27, [(0, .lload_n 0), (1, .lload_n 2), (2, .lcmp), (3, .ifCond .lt 14), (6, .lload_n 0), (7, .lload 4), (9, .lcmp), (10, .ifCond .gt 7), (13, .iconst 1), (14, .goto 4), (17, .iconst 0), (18, .ireturn)])]
theorem ok_X9_in : CodeOK cX9_in k_X9_in := okw 0 (by decide +kernel) (okn)
abbrev p_X9_in (l : Launch) (G : JG) : JP := (true, [], [], [], [], [], [], [], false, 2, [])
theorem pk_X9_in {K : JC} {l : Launch} {G : JG} {Q : Int → MH → Prop} {E : Nat → Int → MH → Prop} {h0 : MH} (ki : KI K l G yX9_in cX9_in 6 (some .boolean) [] 4 150 2 Q E h0) (hG : gO G = true) : POK K RX9 (p_X9_in l G) :=
  POKi (y := yX9_in) ki hG fmz fmz fmz fmz fmz fmz
  (pkE ki (by
    intro K e1 e2 e3 e4; subst e1; subst e2
    exact fmz)) (fun z => Bool.noConfusion z) rfl (pkP ki (by
    intro K e1 e2 e3 e4; subst e1; subst e2
    exact fmz))
theorem r_X9_in_0 {K : JC} {l : Launch} {G : JG} {Q : Int → MH → Prop} {E : Nat → Int → MH → Prop} {h0 : MH} (ki : KI K l G yX9_in cX9_in 6 (some .boolean) [] 4 150 2 Q E h0) (hG : gO G = true) {v0 v2 v4 : Int} {h : MH} (H :
    (((if (lc v0 v2) < 0 then 0 else (if 0 < (lc v0 v4) then 0 else 1 : Int) : Int) = 0 ∨ (if (lc v0 v2) < 0 then 0 else (if 0 < (lc v0 v4) then 0 else 1 : Int) : Int) = 1) ∧ Q (if (lc v0 v2) < 0 then 0 else (if 0 < (lc v0 v4) then 0 else 1 : Int) : Int) h)) : JW K 0 [(1, v0), (5000, 0), (1, v2), (5000, 0), (1, v4), (5000, 0)] [] h := by
  have e1 := ki.2.2.2.2.1
  have e2 := ki.2.2.2.2.2.1
  subst e1; subst e2
  exact run_ok (dia := [(3, 18)]) (cnr := []) (cuts := []) ki.1 (pk_X9_in ki hG) ok_X9_in (by decide) 6 true _ _ _ _ H
abbrev e_X9_in : PE := ([1, 1, 1], 2, pf_in)
theorem pe_X9_in {K : JC} {F Lo idx : Nat} {own : String} (hG : gO (kG K) = true) (hF : F ≤ (kR K).frames) (hLo : Lo ≤ (kR K).locals) (hs : SLk own idx yX9_in) (hb : ceb 2 4 F 150 Lo 6 = true) (_ : true = true) : PFok K own idx e_X9_in :=
  peK hF hLo yl_X9_in hs hb (by
    intro as h Q E hok e9 hq
    replace e9 : as.map (fun x => x.1) = [1, 1, 1] := e9
    obtain ⟨a, bs0, f0, e90⟩ := as_cons e9; subst f0
    obtain ⟨b, bs1, f1, e91⟩ := as_cons e90; subst f1
    obtain ⟨c, bs2, f2, e92⟩ := as_cons e91; subst f2
    cases as_nil e92
    refine s_X9_in rfl fun K ki => r_X9_in_0 ki hG ?_
    rw [isin_eq]; exact ⟨isin_b _ _ _, hq⟩)
/-! X2_fits -/
abbrev S_X2_fits (l : Launch) (G : JG) : MS := Sem l G yX2_fits (ws_ yX2_fits cX2_fits 2 (some .boolean)) 4 150 2
theorem yl_X2_fits : YLk yX2_fits (ws_ yX2_fits cX2_fits 2 (some .boolean)) 2 1 := ⟨lw_meth q1417, q191, Or.inl ⟨_, _, q1417⟩, by decide, by decide +kernel⟩
theorem s_X2_fits {l : Launch} {G : JG} {Q : Int → MH → Prop} {E : Nat → Int → MH → Prop} {h : MH} {as : List LV} (hn : Nat.ble (enl as).length 2 = true) (body : ∀ K : JC, KI K l G yX2_fits cX2_fits 2 (some .boolean) [] 4 150 2 Q E h → JW K 0 (lv0 as 2) [] h) : S_X2_fits l G as h Q E :=
  Sem_of (by decide +kernel) (Nat.le_of_ble_eq_true hn) body
abbrev k_X2_fits : List (Nat × List (Nat × Instr)) := [(30, [(0, .lload_n 0), (1, .ldc2_w 234), (4, .lcmp), (5, .ifCond .lt 15), (8, .lload_n 0), (9, .ldc2_w 236), (12, .lcmp), (13, .ifCond .gt 7), (16, .iconst 1), (17, .goto 4), (20, .iconst 0), (21, .ireturn)])]
theorem ok_X2_fits : CodeOK cX2_fits k_X2_fits := okw 0 (by decide +kernel) (okn)
abbrev p_X2_fits (l : Launch) (G : JG) : JP := (true, [], [], [(234, (-2147483648)), (236, 2147483647)], [], [], [], [], false, 2, [])
theorem pk_X2_fits {K : JC} {l : Launch} {G : JG} {Q : Int → MH → Prop} {E : Nat → Int → MH → Prop} {h0 : MH} (ki : KI K l G yX2_fits cX2_fits 2 (some .boolean) [] 4 150 2 Q E h0) (hG : gO G = true) : POK K RX2 (p_X2_fits l G) :=
  POKi (y := yX2_fits) ki hG fmz fmz (subs (by decide +kernel) rl_X2_ok) fmz fmz fmz
  (pkE ki (by
    intro K e1 e2 e3 e4; subst e1; subst e2
    exact fmz)) (fun z => Bool.noConfusion z) rfl (pkP ki (by
    intro K e1 e2 e3 e4; subst e1; subst e2
    exact fmz))
theorem r_X2_fits_0 {K : JC} {l : Launch} {G : JG} {Q : Int → MH → Prop} {E : Nat → Int → MH → Prop} {h0 : MH} (ki : KI K l G yX2_fits cX2_fits 2 (some .boolean) [] 4 150 2 Q E h0) (hG : gO G = true) {v0 : Int} {h : MH} (H :
    (((if (lc v0 (-2147483648)) < 0 then 0 else (if 0 < (lc v0 2147483647) then 0 else 1 : Int) : Int) = 0 ∨ (if (lc v0 (-2147483648)) < 0 then 0 else (if 0 < (lc v0 2147483647) then 0 else 1 : Int) : Int) = 1) ∧ Q (if (lc v0 (-2147483648)) < 0 then 0 else (if 0 < (lc v0 2147483647) then 0 else 1 : Int) : Int) h)) : JW K 0 [(1, v0), (5000, 0)] [] h := by
  have e1 := ki.2.2.2.2.1
  have e2 := ki.2.2.2.2.2.1
  subst e1; subst e2
  exact run_ok (dia := [(5, 21)]) (cnr := []) (cuts := []) ki.1 (pk_X2_fits ki hG) ok_X2_fits (by decide) 6 true _ _ _ _ H
abbrev e_X2_fits : PE := ([1], 2, pf_fits)
theorem pe_X2_fits {K : JC} {F Lo idx : Nat} {own : String} (hG : gO (kG K) = true) (hF : F ≤ (kR K).frames) (hLo : Lo ≤ (kR K).locals) (hs : SLk own idx yX2_fits) (hb : ceb 2 4 F 150 Lo 2 = true) (_ : true = true) : PFok K own idx e_X2_fits :=
  peK hF hLo yl_X2_fits hs hb (by
    intro as h Q E hok e9 hq
    replace e9 : as.map (fun x => x.1) = [1] := e9
    obtain ⟨a, bs0, f0, e90⟩ := as_cons e9; subst f0
    cases as_nil e90
    refine s_X2_fits rfl fun K ki => r_X2_fits_0 ki hG ?_
    rw [isin_eq]; exact ⟨isin_b _ _ _, hq⟩)
/-! X2_least -/
abbrev S_X2_least (l : Launch) (G : JG) : MS := Sem l G yX2_least (ws_ yX2_least cX2_least 8 (some .long)) 5 173 1
theorem yl_X2_least : YLk yX2_least (ws_ yX2_least cX2_least 8 (some .long)) 8 4 := ⟨lw_meth q1471, q191, Or.inl ⟨_, _, q1471⟩, by decide, by decide +kernel⟩
theorem s_X2_least {l : Launch} {G : JG} {Q : Int → MH → Prop} {E : Nat → Int → MH → Prop} {h : MH} {as : List LV} (hn : Nat.ble (enl as).length 8 = true) (body : ∀ K : JC, KI K l G yX2_least cX2_least 8 (some .long) [] 5 173 1 Q E h → JW K 0 (lv0 as 8) [] h) : S_X2_least l G as h Q E :=
  Sem_of (by decide +kernel) (Nat.le_of_ble_eq_true hn) body
abbrev k_X2_least : List (Nat × List (Nat × Instr)) := [(24, [(0, .lload_n 0), (1, .lload_n 2), (2, .invokestatic 248), (5, .lload 4), (7, .lload 6), (9, .invokestatic 248), (12, .invokestatic 248), (15, .lreturn)])]
theorem ok_X2_least : CodeOK cX2_least k_X2_least := okw 0 (by decide +kernel) (okn)
abbrev p_X2_least (l : Launch) (G : JG) : JP := (true, [], [], [], [], [], [], [], false, 1, [(248, e_J8_min_2)])
theorem pk_X2_least {K : JC} {l : Launch} {G : JG} {Q : Int → MH → Prop} {E : Nat → Int → MH → Prop} {h0 : MH} (ki : KI K l G yX2_least cX2_least 8 (some .long) [] 5 173 1 Q E h0) (hG : gO G = true) : POK K RX2 (p_X2_least l G) :=
  POKi (y := yX2_least) ki hG fmz fmz fmz fmz fmz fmz
  (pkE ki (by
    intro K e1 e2 e3 e4; subst e1; subst e2
    exact fmz)) (fun z => Bool.noConfusion z) rfl (pkP ki (by
    intro K e1 e2 e3 e4; subst e1; subst e2
    exact fmP (pe_J8_min_2 hG e3 e4 ⟨q1473, Or.inl q1472⟩ rfl rfl) (fmz)))
theorem r_X2_least_0 {K : JC} {l : Launch} {G : JG} {Q : Int → MH → Prop} {E : Nat → Int → MH → Prop} {h0 : MH} (ki : KI K l G yX2_least cX2_least 8 (some .long) [] 5 173 1 Q E h0) (hG : gO G = true) {v0 v2 v4 v6 : Int} {h : MH} (H :
    Q (min (min v0 v2) (min v4 v6)) h) : JW K 0 [(1, v0), (5000, 0), (1, v2), (5000, 0), (1, v4), (5000, 0), (1, v6), (5000, 0)] [] h := by
  have e1 := ki.2.2.2.2.1
  have e2 := ki.2.2.2.2.2.1
  subst e1; subst e2
  exact run_ok (dia := []) (cnr := []) (cuts := []) ki.1 (pk_X2_least ki hG) ok_X2_least (by decide) 9 true _ _ _ _ H
abbrev e_X2_least : PE := ([1, 1, 1, 1], 1, pf_least)
theorem pe_X2_least {K : JC} {F Lo idx : Nat} {own : String} (hG : gO (kG K) = true) (hF : F ≤ (kR K).frames) (hLo : Lo ≤ (kR K).locals) (hs : SLk own idx yX2_least) (hb : ceb 1 5 F 173 Lo 8 = true) (_ : true = true) : PFok K own idx e_X2_least :=
  peK hF hLo yl_X2_least hs hb (by
    intro as h Q E hok e9 hq
    replace e9 : as.map (fun x => x.1) = [1, 1, 1, 1] := e9
    obtain ⟨a, bs0, f0, e90⟩ := as_cons e9; subst f0
    obtain ⟨b, bs1, f1, e91⟩ := as_cons e90; subst f1
    obtain ⟨c, bs2, f2, e92⟩ := as_cons e91; subst f2
    obtain ⟨d, bs3, f3, e93⟩ := as_cons e92; subst f3
    cases as_nil e93
    refine s_X2_least rfl fun K ki => r_X2_least_0 ki hG ?_
    exact hq)
/-! X2_most -/
abbrev S_X2_most (l : Launch) (G : JG) : MS := Sem l G yX2_most (ws_ yX2_most cX2_most 8 (some .long)) 5 173 1
theorem yl_X2_most : YLk yX2_most (ws_ yX2_most cX2_most 8 (some .long)) 8 4 := ⟨lw_meth q1477, q191, Or.inl ⟨_, _, q1477⟩, by decide, by decide +kernel⟩
theorem s_X2_most {l : Launch} {G : JG} {Q : Int → MH → Prop} {E : Nat → Int → MH → Prop} {h : MH} {as : List LV} (hn : Nat.ble (enl as).length 8 = true) (body : ∀ K : JC, KI K l G yX2_most cX2_most 8 (some .long) [] 5 173 1 Q E h → JW K 0 (lv0 as 8) [] h) : S_X2_most l G as h Q E :=
  Sem_of (by decide +kernel) (Nat.le_of_ble_eq_true hn) body
abbrev k_X2_most : List (Nat × List (Nat × Instr)) := [(24, [(0, .lload_n 0), (1, .lload_n 2), (2, .invokestatic 254), (5, .lload 4), (7, .lload 6), (9, .invokestatic 254), (12, .invokestatic 254), (15, .lreturn)])]
theorem ok_X2_most : CodeOK cX2_most k_X2_most := okw 0 (by decide +kernel) (okn)
abbrev p_X2_most (l : Launch) (G : JG) : JP := (true, [], [], [], [], [], [], [], false, 1, [(254, e_J8_max_2)])
theorem pk_X2_most {K : JC} {l : Launch} {G : JG} {Q : Int → MH → Prop} {E : Nat → Int → MH → Prop} {h0 : MH} (ki : KI K l G yX2_most cX2_most 8 (some .long) [] 5 173 1 Q E h0) (hG : gO G = true) : POK K RX2 (p_X2_most l G) :=
  POKi (y := yX2_most) ki hG fmz fmz fmz fmz fmz fmz
  (pkE ki (by
    intro K e1 e2 e3 e4; subst e1; subst e2
    exact fmz)) (fun z => Bool.noConfusion z) rfl (pkP ki (by
    intro K e1 e2 e3 e4; subst e1; subst e2
    exact fmP (pe_J8_max_2 hG e3 e4 ⟨q1479, Or.inl q1478⟩ rfl rfl) (fmz)))
theorem r_X2_most_0 {K : JC} {l : Launch} {G : JG} {Q : Int → MH → Prop} {E : Nat → Int → MH → Prop} {h0 : MH} (ki : KI K l G yX2_most cX2_most 8 (some .long) [] 5 173 1 Q E h0) (hG : gO G = true) {v0 v2 v4 v6 : Int} {h : MH} (H :
    Q (max (max v0 v2) (max v4 v6)) h) : JW K 0 [(1, v0), (5000, 0), (1, v2), (5000, 0), (1, v4), (5000, 0), (1, v6), (5000, 0)] [] h := by
  have e1 := ki.2.2.2.2.1
  have e2 := ki.2.2.2.2.2.1
  subst e1; subst e2
  exact run_ok (dia := []) (cnr := []) (cuts := []) ki.1 (pk_X2_most ki hG) ok_X2_most (by decide) 9 true _ _ _ _ H
abbrev e_X2_most : PE := ([1, 1, 1, 1], 1, pf_most)
theorem pe_X2_most {K : JC} {F Lo idx : Nat} {own : String} (hG : gO (kG K) = true) (hF : F ≤ (kR K).frames) (hLo : Lo ≤ (kR K).locals) (hs : SLk own idx yX2_most) (hb : ceb 1 5 F 173 Lo 8 = true) (_ : true = true) : PFok K own idx e_X2_most :=
  peK hF hLo yl_X2_most hs hb (by
    intro as h Q E hok e9 hq
    replace e9 : as.map (fun x => x.1) = [1, 1, 1, 1] := e9
    obtain ⟨a, bs0, f0, e90⟩ := as_cons e9; subst f0
    obtain ⟨b, bs1, f1, e91⟩ := as_cons e90; subst f1
    obtain ⟨c, bs2, f2, e92⟩ := as_cons e91; subst f2
    obtain ⟨d, bs3, f3, e93⟩ := as_cons e92; subst f3
    cases as_nil e93
    refine s_X2_most rfl fun K ki => r_X2_most_0 ki hG ?_
    exact hq)
/-! X2_may -/
abbrev S_X2_may (l : Launch) (G : JG) : MS := Sem l G yX2_may (ws_ yX2_may cX2_may 5 (some .boolean)) 4 150 2
theorem yl_X2_may : YLk yX2_may (ws_ yX2_may cX2_may 5 (some .boolean)) 5 5 := ⟨lw_meth q1502, q191, Or.inl ⟨_, _, q1502⟩, by decide, by decide +kernel⟩
theorem s_X2_may {l : Launch} {G : JG} {Q : Int → MH → Prop} {E : Nat → Int → MH → Prop} {h : MH} {as : List LV} (hn : Nat.ble (enl as).length 5 = true) (body : ∀ K : JC, KI K l G yX2_may cX2_may 5 (some .boolean) [] 4 150 2 Q E h → JW K 0 (lv0 as 5) [] h) : S_X2_may l G as h Q E :=
  Sem_of (by decide +kernel) (Nat.le_of_ble_eq_true hn) body
abbrev k_X2_may : List (Nat × List (Nat × Instr)) := [(1, [(0, .iload_n 0)]),
  (36, [(1, .tableswitch 108 0 4 #[35, 52, 74, 86, 97])]),
  (76, [(36, .iload_n 1), (37, .iload 4), (39, .if_icmp .gt 12), (42, .iload_n 3), (43, .iload_n 2), (44, .if_icmp .gt 7), (47, .iconst 1), (48, .goto 4), (51, .iconst 0), (52, .ireturn), (53, .iload_n 1), (54, .iload_n 2), (55, .if_icmp .ne 14), (58, .iload_n 3), (59, .iload 4), (61, .if_icmp .ne 8), (64, .iload_n 1), (65, .iload_n 3), (66, .if_icmp .eq 7), (69, .iconst 1), (70, .goto 4), (73, .iconst 0), (74, .ireturn), (75, .iload_n 1)]),
  (116, [(76, .iload 4), (78, .if_icmp .ge 7), (81, .iconst 1), (82, .goto 4), (85, .iconst 0), (86, .ireturn), (87, .iload_n 2), (88, .iload_n 3), (89, .if_icmp .lt 7), (92, .iconst 1), (93, .goto 4), (96, .iconst 0), (97, .ireturn), (98, .iload_n 2), (99, .iload_n 3), (100, .if_icmp .le 7), (103, .iconst 1), (104, .goto 4), (107, .iconst 0), (108, .ireturn), (109, .iload_n 1), (110, .iload 4), (112, .if_icmp .gt 7), (115, .iconst 1)]),
  (129, [(116, .goto 4), (119, .iconst 0), (120, .ireturn)])]
theorem ok_X2_may : CodeOK cX2_may k_X2_may := okw 0 (by decide +kernel) (okc (by decide +kernel) (okw 36 (by decide +kernel) (okw 76 (by decide +kernel) (okw 116 (by decide +kernel) (okn)))))
abbrev p_X2_may (l : Launch) (G : JG) : JP := (true, [], [], [], [], [], [], [], false, 2, [])
theorem pk_X2_may {K : JC} {l : Launch} {G : JG} {Q : Int → MH → Prop} {E : Nat → Int → MH → Prop} {h0 : MH} (ki : KI K l G yX2_may cX2_may 5 (some .boolean) [] 4 150 2 Q E h0) (hG : gO G = true) : POK K RX2 (p_X2_may l G) :=
  POKi (y := yX2_may) ki hG fmz fmz fmz fmz fmz fmz
  (pkE ki (by
    intro K e1 e2 e3 e4; subst e1; subst e2
    exact fmz)) (fun z => Bool.noConfusion z) rfl (pkP ki (by
    intro K e1 e2 e3 e4; subst e1; subst e2
    exact fmz))
theorem r_X2_may_0 {K : JC} {l : Launch} {G : JG} {Q : Int → MH → Prop} {E : Nat → Int → MH → Prop} {h0 : MH} (ki : KI K l G yX2_may cX2_may 5 (some .boolean) [] 4 150 2 Q E h0) (hG : gO G = true) {v0 v1 v2 v3 v4 : Int} {h : MH} (H :
    (((v0 = 0 →
      (((if v4 < v1 then 0 else (if v2 < v3 then 0 else 1 : Int) : Int) = 0 ∨ (if v4 < v1 then 0 else (if v2 < v3 then 0 else 1 : Int) : Int) = 1) ∧ Q (if v4 < v1 then 0 else (if v2 < v3 then 0 else 1 : Int) : Int) h)) ∧
    ((v0 = 0 + 1 →
      (((if v1 = v2 then (if v3 = v4 then (if v1 = v3 then 0 else 1 : Int) else 1 : Int) else 1 : Int) = 0 ∨ (if v1 = v2 then (if v3 = v4 then (if v1 = v3 then 0 else 1 : Int) else 1 : Int) else 1 : Int) = 1) ∧ Q (if v1 = v2 then (if v3 = v4 then (if v1 = v3 then 0 else 1 : Int) else 1 : Int) else 1 : Int) h)) ∧
    ((v0 = 0 + 1 + 1 →
      (((if v1 < v4 then 1 else 0 : Int) = 0 ∨ (if v1 < v4 then 1 else 0 : Int) = 1) ∧ Q (if v1 < v4 then 1 else 0 : Int) h)) ∧
    ((v0 = 0 + 1 + 1 + 1 →
      (((if v2 < v3 then 0 else 1 : Int) = 0 ∨ (if v2 < v3 then 0 else 1 : Int) = 1) ∧ Q (if v2 < v3 then 0 else 1 : Int) h)) ∧
    ((v0 = 0 + 1 + 1 + 1 + 1 →
      (((if v3 < v2 then 1 else 0 : Int) = 0 ∨ (if v3 < v2 then 1 else 0 : Int) = 1) ∧ Q (if v3 < v2 then 1 else 0 : Int) h)) ∧
    True))))) ∧ ((v0 < 0 ∨ 4 < v0) →
      (((if v4 < v1 then 0 else 1 : Int) = 0 ∨ (if v4 < v1 then 0 else 1 : Int) = 1) ∧ Q (if v4 < v1 then 0 else 1 : Int) h)))) : JW K 0 [(0, v0), (0, v1), (0, v2), (0, v3), (0, v4)] [] h := by
  have e1 := ki.2.2.2.2.1
  have e2 := ki.2.2.2.2.2.1
  subst e1; subst e2
  exact run_ok (dia := [(39, 52), (55, 74), (78, 86), (89, 97), (100, 108), (112, 120)]) (cnr := []) (cuts := []) ki.1 (pk_X2_may ki hG) ok_X2_may (by decide) 7 true _ _ _ _ H
abbrev e_X2_may : PE := ([0, 0, 0, 0, 0], 2, pf_may)
theorem pe_X2_may {K : JC} {F Lo idx : Nat} {own : String} (hG : gO (kG K) = true) (hF : F ≤ (kR K).frames) (hLo : Lo ≤ (kR K).locals) (hs : SLk own idx yX2_may) (hb : ceb 2 4 F 150 Lo 5 = true) (_ : true = true) : PFok K own idx e_X2_may :=
  peK hF hLo yl_X2_may hs hb (by
    intro as h Q E hok e9 hq
    replace e9 : as.map (fun x => x.1) = [0, 0, 0, 0, 0] := e9
    obtain ⟨a, bs0, f0, e90⟩ := as_cons e9; subst f0
    obtain ⟨b, bs1, f1, e91⟩ := as_cons e90; subst f1
    obtain ⟨c, bs2, f2, e92⟩ := as_cons e91; subst f2
    obtain ⟨d, bs3, f3, e93⟩ := as_cons e92; subst f3
    obtain ⟨e, bs4, f4, e94⟩ := as_cons e93; subst f4
    cases as_nil e94
    refine s_X2_may rfl fun K ki => r_X2_may_0 ki hG ?_
    have hq : Q (mayf a b c d e) h := hq
    refine ⟨⟨fun w => ?_, fun w => ?_, fun w => ?_, fun w => ?_, fun w => ?_, trivial⟩, fun w => ?_⟩
    · have e : mayf a b c d e = (if e < b then 0 else if c < d then 0 else 1) := by rw [mayf, if_pos (by omega)]; try ((repeat' split) <;> omega)
      rw [e] at hq; exact ⟨by (repeat' split) <;> simp, hq⟩
    · have e : mayf a b c d e = (if b = c then (if d = e then (if b = d then 0 else 1) else 1) else 1) := by rw [mayf, if_neg (by omega), if_pos (by omega)]; try ((repeat' split) <;> omega)
      rw [e] at hq; exact ⟨by (repeat' split) <;> simp, hq⟩
    · have e : mayf a b c d e = (if b < e then 1 else 0) := by rw [mayf, if_neg (by omega), if_neg (by omega), if_pos (by omega)]; try ((repeat' split) <;> omega)
      rw [e] at hq; exact ⟨by (repeat' split) <;> simp, hq⟩
    · have e : mayf a b c d e = (if c < d then 0 else 1) := by rw [mayf, if_neg (by omega), if_neg (by omega), if_neg (by omega), if_pos (by omega)]; try ((repeat' split) <;> omega)
      rw [e] at hq; exact ⟨by (repeat' split) <;> simp, hq⟩
    · have e : mayf a b c d e = (if d < c then 1 else 0) := by rw [mayf, if_neg (by omega), if_neg (by omega), if_neg (by omega), if_neg (by omega), if_pos (by omega)]; try ((repeat' split) <;> omega)
      rw [e] at hq; exact ⟨by (repeat' split) <;> simp, hq⟩
    · have e : mayf a b c d e = (if e < b then 0 else 1) := by rw [mayf, if_neg (by omega), if_neg (by omega), if_neg (by omega), if_neg (by omega), if_neg (by omega)]; try ((repeat' split) <;> omega)
      rw [e] at hq; exact ⟨by (repeat' split) <;> simp, hq⟩)
/-! X9_may -/
abbrev S_X9_may (l : Launch) (G : JG) : MS := Sem l G yX9_may (ws_ yX9_may cX9_may 5 (some .boolean)) 4 150 2
theorem yl_X9_may : YLk yX9_may (ws_ yX9_may cX9_may 5 (some .boolean)) 5 5 := ⟨lw_meth q2687, q198, Or.inl ⟨_, _, q2687⟩, by decide, by decide +kernel⟩
theorem s_X9_may {l : Launch} {G : JG} {Q : Int → MH → Prop} {E : Nat → Int → MH → Prop} {h : MH} {as : List LV} (hn : Nat.ble (enl as).length 5 = true) (body : ∀ K : JC, KI K l G yX9_may cX9_may 5 (some .boolean) [] 4 150 2 Q E h → JW K 0 (lv0 as 5) [] h) : S_X9_may l G as h Q E :=
  Sem_of (by decide +kernel) (Nat.le_of_ble_eq_true hn) body
abbrev k_X9_may : List (Nat × List (Nat × Instr)) := [(1, [(0, .iload_n 0)]),
  (36, [(1, .tableswitch 108 0 4 #[35, 52, 74, 86, 97])]),
  (76, [(36, .iload_n 1), (37, .iload 4), (39, .if_icmp .gt 12), (42, .iload_n 3), (43, .iload_n 2), (44, .if_icmp .gt 7), (47, .iconst 1), (48, .goto 4), (51, .iconst 0), (52, .ireturn), (53, .iload_n 1), (54, .iload_n 2), (55, .if_icmp .ne 14), (58, .iload_n 3), (59, .iload 4), (61, .if_icmp .ne 8), (64, .iload_n 1), (65, .iload_n 3), (66, .if_icmp .eq 7), (69, .iconst 1), (70, .goto 4), (73, .iconst 0), (74, .ireturn), (75, .iload_n 1)]),
  (116, [(76, .iload 4), (78, .if_icmp .ge 7), (81, .iconst 1), (82, .goto 4), (85, .iconst 0), (86, .ireturn), (87, .iload_n 2), (88, .iload_n 3), (89, .if_icmp .lt 7), (92, .iconst 1), (93, .goto 4), (96, .iconst 0), (97, .ireturn), (98, .iload_n 2), (99, .iload_n 3), (100, .if_icmp .le 7), (103, .iconst 1), (104, .goto 4), (107, .iconst 0), (108, .ireturn), (109, .iload_n 1), (110, .iload 4), (112, .if_icmp .gt 7), (115, .iconst 1)]),
  (129, [(116, .goto 4), (119, .iconst 0), (120, .ireturn)])]
theorem ok_X9_may : CodeOK cX9_may k_X9_may := okw 0 (by decide +kernel) (okc (by decide +kernel) (okw 36 (by decide +kernel) (okw 76 (by decide +kernel) (okw 116 (by decide +kernel) (okn)))))
abbrev p_X9_may (l : Launch) (G : JG) : JP := (true, [], [], [], [], [], [], [], false, 2, [])
theorem pk_X9_may {K : JC} {l : Launch} {G : JG} {Q : Int → MH → Prop} {E : Nat → Int → MH → Prop} {h0 : MH} (ki : KI K l G yX9_may cX9_may 5 (some .boolean) [] 4 150 2 Q E h0) (hG : gO G = true) : POK K RX9 (p_X9_may l G) :=
  POKi (y := yX9_may) ki hG fmz fmz fmz fmz fmz fmz
  (pkE ki (by
    intro K e1 e2 e3 e4; subst e1; subst e2
    exact fmz)) (fun z => Bool.noConfusion z) rfl (pkP ki (by
    intro K e1 e2 e3 e4; subst e1; subst e2
    exact fmz))
theorem r_X9_may_0 {K : JC} {l : Launch} {G : JG} {Q : Int → MH → Prop} {E : Nat → Int → MH → Prop} {h0 : MH} (ki : KI K l G yX9_may cX9_may 5 (some .boolean) [] 4 150 2 Q E h0) (hG : gO G = true) {v0 v1 v2 v3 v4 : Int} {h : MH} (H :
    (((v0 = 0 →
      (((if v4 < v1 then 0 else (if v2 < v3 then 0 else 1 : Int) : Int) = 0 ∨ (if v4 < v1 then 0 else (if v2 < v3 then 0 else 1 : Int) : Int) = 1) ∧ Q (if v4 < v1 then 0 else (if v2 < v3 then 0 else 1 : Int) : Int) h)) ∧
    ((v0 = 0 + 1 →
      (((if v1 = v2 then (if v3 = v4 then (if v1 = v3 then 0 else 1 : Int) else 1 : Int) else 1 : Int) = 0 ∨ (if v1 = v2 then (if v3 = v4 then (if v1 = v3 then 0 else 1 : Int) else 1 : Int) else 1 : Int) = 1) ∧ Q (if v1 = v2 then (if v3 = v4 then (if v1 = v3 then 0 else 1 : Int) else 1 : Int) else 1 : Int) h)) ∧
    ((v0 = 0 + 1 + 1 →
      (((if v1 < v4 then 1 else 0 : Int) = 0 ∨ (if v1 < v4 then 1 else 0 : Int) = 1) ∧ Q (if v1 < v4 then 1 else 0 : Int) h)) ∧
    ((v0 = 0 + 1 + 1 + 1 →
      (((if v2 < v3 then 0 else 1 : Int) = 0 ∨ (if v2 < v3 then 0 else 1 : Int) = 1) ∧ Q (if v2 < v3 then 0 else 1 : Int) h)) ∧
    ((v0 = 0 + 1 + 1 + 1 + 1 →
      (((if v3 < v2 then 1 else 0 : Int) = 0 ∨ (if v3 < v2 then 1 else 0 : Int) = 1) ∧ Q (if v3 < v2 then 1 else 0 : Int) h)) ∧
    True))))) ∧ ((v0 < 0 ∨ 4 < v0) →
      (((if v4 < v1 then 0 else 1 : Int) = 0 ∨ (if v4 < v1 then 0 else 1 : Int) = 1) ∧ Q (if v4 < v1 then 0 else 1 : Int) h)))) : JW K 0 [(0, v0), (0, v1), (0, v2), (0, v3), (0, v4)] [] h := by
  have e1 := ki.2.2.2.2.1
  have e2 := ki.2.2.2.2.2.1
  subst e1; subst e2
  exact run_ok (dia := [(39, 52), (55, 74), (78, 86), (89, 97), (100, 108), (112, 120)]) (cnr := []) (cuts := []) ki.1 (pk_X9_may ki hG) ok_X9_may (by decide) 7 true _ _ _ _ H
abbrev e_X9_may : PE := ([0, 0, 0, 0, 0], 2, pf_may)
theorem pe_X9_may {K : JC} {F Lo idx : Nat} {own : String} (hG : gO (kG K) = true) (hF : F ≤ (kR K).frames) (hLo : Lo ≤ (kR K).locals) (hs : SLk own idx yX9_may) (hb : ceb 2 4 F 150 Lo 5 = true) (_ : true = true) : PFok K own idx e_X9_may :=
  peK hF hLo yl_X9_may hs hb (by
    intro as h Q E hok e9 hq
    replace e9 : as.map (fun x => x.1) = [0, 0, 0, 0, 0] := e9
    obtain ⟨a, bs0, f0, e90⟩ := as_cons e9; subst f0
    obtain ⟨b, bs1, f1, e91⟩ := as_cons e90; subst f1
    obtain ⟨c, bs2, f2, e92⟩ := as_cons e91; subst f2
    obtain ⟨d, bs3, f3, e93⟩ := as_cons e92; subst f3
    obtain ⟨e, bs4, f4, e94⟩ := as_cons e93; subst f4
    cases as_nil e94
    refine s_X9_may rfl fun K ki => r_X9_may_0 ki hG ?_
    have hq : Q (mayf a b c d e) h := hq
    refine ⟨⟨fun w => ?_, fun w => ?_, fun w => ?_, fun w => ?_, fun w => ?_, trivial⟩, fun w => ?_⟩
    · have e : mayf a b c d e = (if e < b then 0 else if c < d then 0 else 1) := by rw [mayf, if_pos (by omega)]; try ((repeat' split) <;> omega)
      rw [e] at hq; exact ⟨by (repeat' split) <;> simp, hq⟩
    · have e : mayf a b c d e = (if b = c then (if d = e then (if b = d then 0 else 1) else 1) else 1) := by rw [mayf, if_neg (by omega), if_pos (by omega)]; try ((repeat' split) <;> omega)
      rw [e] at hq; exact ⟨by (repeat' split) <;> simp, hq⟩
    · have e : mayf a b c d e = (if b < e then 1 else 0) := by rw [mayf, if_neg (by omega), if_neg (by omega), if_pos (by omega)]; try ((repeat' split) <;> omega)
      rw [e] at hq; exact ⟨by (repeat' split) <;> simp, hq⟩
    · have e : mayf a b c d e = (if c < d then 0 else 1) := by rw [mayf, if_neg (by omega), if_neg (by omega), if_neg (by omega), if_pos (by omega)]; try ((repeat' split) <;> omega)
      rw [e] at hq; exact ⟨by (repeat' split) <;> simp, hq⟩
    · have e : mayf a b c d e = (if d < c then 1 else 0) := by rw [mayf, if_neg (by omega), if_neg (by omega), if_neg (by omega), if_neg (by omega), if_pos (by omega)]; try ((repeat' split) <;> omega)
      rw [e] at hq; exact ⟨by (repeat' split) <;> simp, hq⟩
    · have e : mayf a b c d e = (if e < b then 0 else 1) := by rw [mayf, if_neg (by omega), if_neg (by omega), if_neg (by omega), if_neg (by omega), if_neg (by omega)]; try ((repeat' split) <;> omega)
      rw [e] at hq; exact ⟨by (repeat' split) <;> simp, hq⟩)
/-! X2_turned -/
abbrev S_X2_turned (l : Launch) (G : JG) : MS := Sem l G yX2_turned (ws_ yX2_turned cX2_turned 1 (some .int)) 4 150 0
theorem yl_X2_turned : YLk yX2_turned (ws_ yX2_turned cX2_turned 1 (some .int)) 1 1 := ⟨lw_meth q1505, q191, Or.inl ⟨_, _, q1505⟩, by decide, by decide +kernel⟩
theorem s_X2_turned {l : Launch} {G : JG} {Q : Int → MH → Prop} {E : Nat → Int → MH → Prop} {h : MH} {as : List LV} (hn : Nat.ble (enl as).length 1 = true) (body : ∀ K : JC, KI K l G yX2_turned cX2_turned 1 (some .int) [] 4 150 0 Q E h → JW K 0 (lv0 as 1) [] h) : S_X2_turned l G as h Q E :=
  Sem_of (by decide +kernel) (Nat.le_of_ble_eq_true hn) body
abbrev k_X2_turned : List (Nat × List (Nat × Instr)) := [(12, [(0, .iload_n 0), (1, .iconst 1), (2, .ixor), (3, .ireturn)])]
theorem ok_X2_turned : CodeOK cX2_turned k_X2_turned := okw 0 (by decide +kernel) (okn)
abbrev p_X2_turned (l : Launch) (G : JG) : JP := (true, [], [], [], [], [], [], [], false, 0, [])
theorem pk_X2_turned {K : JC} {l : Launch} {G : JG} {Q : Int → MH → Prop} {E : Nat → Int → MH → Prop} {h0 : MH} (ki : KI K l G yX2_turned cX2_turned 1 (some .int) [] 4 150 0 Q E h0) (hG : gO G = true) : POK K RX2 (p_X2_turned l G) :=
  POKi (y := yX2_turned) ki hG fmz fmz fmz fmz fmz fmz
  (pkE ki (by
    intro K e1 e2 e3 e4; subst e1; subst e2
    exact fmz)) (fun z => Bool.noConfusion z) rfl (pkP ki (by
    intro K e1 e2 e3 e4; subst e1; subst e2
    exact fmz))
theorem r_X2_turned_0 {K : JC} {l : Launch} {G : JG} {Q : Int → MH → Prop} {E : Nat → Int → MH → Prop} {h0 : MH} (ki : KI K l G yX2_turned cX2_turned 1 (some .int) [] 4 150 0 Q E h0) (hG : gO G = true) {v0 : Int} {h : MH} (H :
    Q (i_xor v0 1) h) : JW K 0 [(0, v0)] [] h := by
  have e1 := ki.2.2.2.2.1
  have e2 := ki.2.2.2.2.2.1
  subst e1; subst e2
  exact run_ok (dia := []) (cnr := []) (cuts := []) ki.1 (pk_X2_turned ki hG) ok_X2_turned (by decide) 5 true _ _ _ _ H
abbrev e_X2_turned : PE := ([0], 0, pf_turned)
theorem pe_X2_turned {K : JC} {F Lo idx : Nat} {own : String} (hG : gO (kG K) = true) (hF : F ≤ (kR K).frames) (hLo : Lo ≤ (kR K).locals) (hs : SLk own idx yX2_turned) (hb : ceb 0 4 F 150 Lo 1 = true) (_ : true = true) : PFok K own idx e_X2_turned :=
  peK hF hLo yl_X2_turned hs hb (by
    intro as h Q E hok e9 hq
    replace e9 : as.map (fun x => x.1) = [0] := e9
    obtain ⟨a, bs0, f0, e90⟩ := as_cons e9; subst f0
    cases as_nil e90
    refine s_X2_turned rfl fun K ki => r_X2_turned_0 ki hG ?_
    exact hq)
/-! X9_ends -/
abbrev S_X9_ends (l : Launch) (G : JG) : MS := Sem l G yX9_ends (ws_ yX9_ends cX9_ends 1 (some .boolean)) 4 150 2
theorem yl_X9_ends : YLk yX9_ends (ws_ yX9_ends cX9_ends 1 (some .boolean)) 1 1 := ⟨lw_meth q2546, q198, Or.inl ⟨_, _, q2546⟩, by decide, by decide +kernel⟩
theorem s_X9_ends {l : Launch} {G : JG} {Q : Int → MH → Prop} {E : Nat → Int → MH → Prop} {h : MH} {as : List LV} (hn : Nat.ble (enl as).length 1 = true) (body : ∀ K : JC, KI K l G yX9_ends cX9_ends 1 (some .boolean) [] 4 150 2 Q E h → JW K 0 (lv0 as 1) [] h) : S_X9_ends l G as h Q E :=
  Sem_of (by decide +kernel) (Nat.le_of_ble_eq_true hn) body
abbrev k_X9_ends : List (Nat × List (Nat × Instr)) := [(32, [(0, .iload_n 0), (1, .bipush 15), (3, .if_icmp .eq 15), (6, .iload_n 0), (7, .bipush 31), (9, .if_icmp .eq 9), (12, .iload_n 0), (13, .bipush 32), (15, .if_icmp .ne 7), (18, .iconst 1), (19, .goto 4), (22, .iconst 0), (23, .ireturn)])]
theorem ok_X9_ends : CodeOK cX9_ends k_X9_ends := okw 0 (by decide +kernel) (okn)
abbrev p_X9_ends (l : Launch) (G : JG) : JP := (true, [], [], [], [], [], [], [], false, 2, [])
theorem pk_X9_ends {K : JC} {l : Launch} {G : JG} {Q : Int → MH → Prop} {E : Nat → Int → MH → Prop} {h0 : MH} (ki : KI K l G yX9_ends cX9_ends 1 (some .boolean) [] 4 150 2 Q E h0) (hG : gO G = true) : POK K RX9 (p_X9_ends l G) :=
  POKi (y := yX9_ends) ki hG fmz fmz fmz fmz fmz fmz
  (pkE ki (by
    intro K e1 e2 e3 e4; subst e1; subst e2
    exact fmz)) (fun z => Bool.noConfusion z) rfl (pkP ki (by
    intro K e1 e2 e3 e4; subst e1; subst e2
    exact fmz))
theorem r_X9_ends_0 {K : JC} {l : Launch} {G : JG} {Q : Int → MH → Prop} {E : Nat → Int → MH → Prop} {h0 : MH} (ki : KI K l G yX9_ends cX9_ends 1 (some .boolean) [] 4 150 2 Q E h0) (hG : gO G = true) {v0 : Int} {h : MH} (H :
    (((if v0 = 15 then 1 else (if v0 = 31 then 1 else (if v0 = 32 then 1 else 0 : Int) : Int) : Int) = 0 ∨ (if v0 = 15 then 1 else (if v0 = 31 then 1 else (if v0 = 32 then 1 else 0 : Int) : Int) : Int) = 1) ∧ Q (if v0 = 15 then 1 else (if v0 = 31 then 1 else (if v0 = 32 then 1 else 0 : Int) : Int) : Int) h)) : JW K 0 [(0, v0)] [] h := by
  have e1 := ki.2.2.2.2.1
  have e2 := ki.2.2.2.2.2.1
  subst e1; subst e2
  exact run_ok (dia := [(3, 23)]) (cnr := []) (cuts := []) ki.1 (pk_X9_ends ki hG) ok_X9_ends (by decide) 5 true _ _ _ _ H
abbrev e_X9_ends : PE := ([0], 2, pf_ends)
theorem pe_X9_ends {K : JC} {F Lo idx : Nat} {own : String} (hG : gO (kG K) = true) (hF : F ≤ (kR K).frames) (hLo : Lo ≤ (kR K).locals) (hs : SLk own idx yX9_ends) (hb : ceb 2 4 F 150 Lo 1 = true) (_ : true = true) : PFok K own idx e_X9_ends :=
  peK hF hLo yl_X9_ends hs hb (by
    intro as h Q E hok e9 hq
    replace e9 : as.map (fun x => x.1) = [0] := e9
    obtain ⟨a, bs0, f0, e90⟩ := as_cons e9; subst f0
    cases as_nil e90
    refine s_X9_ends rfl fun K ki => r_X9_ends_0 ki hG ?_
    exact ⟨by (repeat' split) <;> simp, hq⟩)
/-! X9_sets -/
abbrev S_X9_sets (l : Launch) (G : JG) : MS := Sem l G yX9_sets (ws_ yX9_sets cX9_sets 1 (some .boolean)) 4 150 2
theorem yl_X9_sets : YLk yX9_sets (ws_ yX9_sets cX9_sets 1 (some .boolean)) 1 1 := ⟨lw_meth q2843, q198, Or.inl ⟨_, _, q2843⟩, by decide, by decide +kernel⟩
theorem s_X9_sets {l : Launch} {G : JG} {Q : Int → MH → Prop} {E : Nat → Int → MH → Prop} {h : MH} {as : List LV} (hn : Nat.ble (enl as).length 1 = true) (body : ∀ K : JC, KI K l G yX9_sets cX9_sets 1 (some .boolean) [] 4 150 2 Q E h → JW K 0 (lv0 as 1) [] h) : S_X9_sets l G as h Q E :=
  Sem_of (by decide +kernel) (Nat.le_of_ble_eq_true hn) body
abbrev k_X9_sets : List (Nat × List (Nat × Instr)) := [(32, [(0, .iload_n 0), (1, .bipush 24), (3, .if_icmp .eq 15), (6, .iload_n 0), (7, .bipush 26), (9, .if_icmp .eq 9), (12, .iload_n 0), (13, .bipush 28), (15, .if_icmp .ne 7), (18, .iconst 1), (19, .goto 4), (22, .iconst 0), (23, .ireturn)])]
theorem ok_X9_sets : CodeOK cX9_sets k_X9_sets := okw 0 (by decide +kernel) (okn)
abbrev p_X9_sets (l : Launch) (G : JG) : JP := (true, [], [], [], [], [], [], [], false, 2, [])
theorem pk_X9_sets {K : JC} {l : Launch} {G : JG} {Q : Int → MH → Prop} {E : Nat → Int → MH → Prop} {h0 : MH} (ki : KI K l G yX9_sets cX9_sets 1 (some .boolean) [] 4 150 2 Q E h0) (hG : gO G = true) : POK K RX9 (p_X9_sets l G) :=
  POKi (y := yX9_sets) ki hG fmz fmz fmz fmz fmz fmz
  (pkE ki (by
    intro K e1 e2 e3 e4; subst e1; subst e2
    exact fmz)) (fun z => Bool.noConfusion z) rfl (pkP ki (by
    intro K e1 e2 e3 e4; subst e1; subst e2
    exact fmz))
theorem r_X9_sets_0 {K : JC} {l : Launch} {G : JG} {Q : Int → MH → Prop} {E : Nat → Int → MH → Prop} {h0 : MH} (ki : KI K l G yX9_sets cX9_sets 1 (some .boolean) [] 4 150 2 Q E h0) (hG : gO G = true) {v0 : Int} {h : MH} (H :
    (((if v0 = 24 then 1 else (if v0 = 26 then 1 else (if v0 = 28 then 1 else 0 : Int) : Int) : Int) = 0 ∨ (if v0 = 24 then 1 else (if v0 = 26 then 1 else (if v0 = 28 then 1 else 0 : Int) : Int) : Int) = 1) ∧ Q (if v0 = 24 then 1 else (if v0 = 26 then 1 else (if v0 = 28 then 1 else 0 : Int) : Int) : Int) h)) : JW K 0 [(0, v0)] [] h := by
  have e1 := ki.2.2.2.2.1
  have e2 := ki.2.2.2.2.2.1
  subst e1; subst e2
  exact run_ok (dia := [(3, 23)]) (cnr := []) (cuts := []) ki.1 (pk_X9_sets ki hG) ok_X9_sets (by decide) 5 true _ _ _ _ H
abbrev e_X9_sets : PE := ([0], 2, pf_sets)
theorem pe_X9_sets {K : JC} {F Lo idx : Nat} {own : String} (hG : gO (kG K) = true) (hF : F ≤ (kR K).frames) (hLo : Lo ≤ (kR K).locals) (hs : SLk own idx yX9_sets) (hb : ceb 2 4 F 150 Lo 1 = true) (_ : true = true) : PFok K own idx e_X9_sets :=
  peK hF hLo yl_X9_sets hs hb (by
    intro as h Q E hok e9 hq
    replace e9 : as.map (fun x => x.1) = [0] := e9
    obtain ⟨a, bs0, f0, e90⟩ := as_cons e9; subst f0
    cases as_nil e90
    refine s_X9_sets rfl fun K ki => r_X9_sets_0 ki hG ?_
    exact ⟨by (repeat' split) <;> simp, hq⟩)
/-! X9_uses -/
abbrev S_X9_uses (l : Launch) (G : JG) : MS := Sem l G yX9_uses (ws_ yX9_uses cX9_uses 1 (some .int)) 4 150 0
theorem yl_X9_uses : YLk yX9_uses (ws_ yX9_uses cX9_uses 1 (some .int)) 1 1 := ⟨lw_meth q2836, q198, Or.inl ⟨_, _, q2836⟩, by decide, by decide +kernel⟩
theorem s_X9_uses {l : Launch} {G : JG} {Q : Int → MH → Prop} {E : Nat → Int → MH → Prop} {h : MH} {as : List LV} (hn : Nat.ble (enl as).length 1 = true) (body : ∀ K : JC, KI K l G yX9_uses cX9_uses 1 (some .int) [] 4 150 0 Q E h → JW K 0 (lv0 as 1) [] h) : S_X9_uses l G as h Q E :=
  Sem_of (by decide +kernel) (Nat.le_of_ble_eq_true hn) body
abbrev k_X9_uses : List (Nat × List (Nat × Instr)) := [(48, [(0, .iload_n 0), (1, .bipush 25), (3, .if_icmp .eq 9), (6, .iload_n 0), (7, .bipush 26), (9, .if_icmp .ne 7), (12, .iconst 1), (13, .goto 36), (16, .iload_n 0), (17, .bipush 23), (19, .if_icmp .eq 9), (22, .iload_n 0), (23, .bipush 24), (25, .if_icmp .ne 7), (28, .iconst 2), (29, .goto 20), (32, .iload_n 0), (33, .bipush 27), (35, .if_icmp .eq 9), (38, .iload_n 0), (39, .bipush 28), (41, .if_icmp .ne 7), (44, .iconst 3), (45, .goto 4)]),
  (58, [(48, .iconst 0), (49, .ireturn)])]
theorem ok_X9_uses : CodeOK cX9_uses k_X9_uses := okw 0 (by decide +kernel) (okw 48 (by decide +kernel) (okn))
abbrev p_X9_uses (l : Launch) (G : JG) : JP := (true, [], [], [], [], [], [], [], false, 0, [])
theorem pk_X9_uses {K : JC} {l : Launch} {G : JG} {Q : Int → MH → Prop} {E : Nat → Int → MH → Prop} {h0 : MH} (ki : KI K l G yX9_uses cX9_uses 1 (some .int) [] 4 150 0 Q E h0) (hG : gO G = true) : POK K RX9 (p_X9_uses l G) :=
  POKi (y := yX9_uses) ki hG fmz fmz fmz fmz fmz fmz
  (pkE ki (by
    intro K e1 e2 e3 e4; subst e1; subst e2
    exact fmz)) (fun z => Bool.noConfusion z) rfl (pkP ki (by
    intro K e1 e2 e3 e4; subst e1; subst e2
    exact fmz))
theorem r_X9_uses_0 {K : JC} {l : Launch} {G : JG} {Q : Int → MH → Prop} {E : Nat → Int → MH → Prop} {h0 : MH} (ki : KI K l G yX9_uses cX9_uses 1 (some .int) [] 4 150 0 Q E h0) (hG : gO G = true) {v0 : Int} {h : MH} (H :
    Q (if v0 = 25 then 1 else (if v0 = 26 then 1 else (if v0 = 23 then 2 else (if v0 = 24 then 2 else (if v0 = 27 then 3 else (if v0 = 28 then 3 else 0 : Int) : Int) : Int) : Int) : Int) : Int) h) : JW K 0 [(0, v0)] [] h := by
  have e1 := ki.2.2.2.2.1
  have e2 := ki.2.2.2.2.2.1
  subst e1; subst e2
  exact run_ok (dia := [(3, 49)]) (cnr := []) (cuts := []) ki.1 (pk_X9_uses ki hG) ok_X9_uses (by decide) 5 true _ _ _ _ H
abbrev e_X9_uses : PE := ([0], 0, pf_uses)
theorem pe_X9_uses {K : JC} {F Lo idx : Nat} {own : String} (hG : gO (kG K) = true) (hF : F ≤ (kR K).frames) (hLo : Lo ≤ (kR K).locals) (hs : SLk own idx yX9_uses) (hb : ceb 0 4 F 150 Lo 1 = true) (_ : true = true) : PFok K own idx e_X9_uses :=
  peK hF hLo yl_X9_uses hs hb (by
    intro as h Q E hok e9 hq
    replace e9 : as.map (fun x => x.1) = [0] := e9
    obtain ⟨a, bs0, f0, e90⟩ := as_cons e9; subst f0
    cases as_nil e90
    refine s_X9_uses rfl fun K ki => r_X9_uses_0 ki hG ?_
    exact hq)
/-! X7_reads -/
abbrev S_X7_reads (l : Launch) (G : JG) : MS := Sem l G yX7_reads (ws_ yX7_reads cX7_reads 2 (some .int)) 4 150 0
theorem yl_X7_reads : YLk yX7_reads (ws_ yX7_reads cX7_reads 2 (some .int)) 2 2 := ⟨lw_meth q1635, q196, Or.inl ⟨_, _, q1635⟩, by decide, by decide +kernel⟩
theorem s_X7_reads {l : Launch} {G : JG} {Q : Int → MH → Prop} {E : Nat → Int → MH → Prop} {h : MH} {as : List LV} (hn : Nat.ble (enl as).length 2 = true) (body : ∀ K : JC, KI K l G yX7_reads cX7_reads 2 (some .int) [] 4 150 0 Q E h → JW K 0 (lv0 as 2) [] h) : S_X7_reads l G as h Q E :=
  Sem_of (by decide +kernel) (Nat.le_of_ble_eq_true hn) body
abbrev k_X7_reads : List (Nat × List (Nat × Instr)) := [(48, [(0, .iload_n 0), (1, .iconst 2), (2, .if_icmp .eq 15), (5, .iload_n 0), (6, .bipush 18), (8, .if_icmp .eq 9), (11, .iload_n 0), (12, .bipush 19), (14, .if_icmp .ne 9), (17, .iconst 1), (18, .iload_n 1), (19, .ishl), (20, .goto 19), (23, .iload_n 0), (24, .bipush 17), (26, .if_icmp .ne 12), (29, .iconst 1), (30, .iload_n 1), (31, .bipush 8), (33, .irem), (34, .ishl), (35, .goto 4), (38, .iconst 0), (39, .ireturn)])]
theorem ok_X7_reads : CodeOK cX7_reads k_X7_reads := okw 0 (by decide +kernel) (okn)
abbrev p_X7_reads (l : Launch) (G : JG) : JP := (true, [], [], [], [], [], [], [], false, 0, [])
theorem pk_X7_reads {K : JC} {l : Launch} {G : JG} {Q : Int → MH → Prop} {E : Nat → Int → MH → Prop} {h0 : MH} (ki : KI K l G yX7_reads cX7_reads 2 (some .int) [] 4 150 0 Q E h0) (hG : gO G = true) : POK K RX7 (p_X7_reads l G) :=
  POKi (y := yX7_reads) ki hG fmz fmz fmz fmz fmz fmz
  (pkE ki (by
    intro K e1 e2 e3 e4; subst e1; subst e2
    exact fmz)) (fun z => Bool.noConfusion z) rfl (pkP ki (by
    intro K e1 e2 e3 e4; subst e1; subst e2
    exact fmz))
theorem r_X7_reads_0 {K : JC} {l : Launch} {G : JG} {Q : Int → MH → Prop} {E : Nat → Int → MH → Prop} {h0 : MH} (ki : KI K l G yX7_reads cX7_reads 2 (some .int) [] 4 150 0 Q E h0) (hG : gO G = true) {v0 v1 : Int} {h : MH} (H :
    ((¬ v0 = 2 → (¬ v0 = 18 → (¬ v0 = 19 → (v0 = 17 → ¬ (8 : Int) = 0))))) ∧
    Q (if v0 = 2 then (i_shl 1 v1) else (if v0 = 18 then (i_shl 1 v1) else (if v0 = 19 then (i_shl 1 v1) else (if v0 = 17 then (i_shl 1 (i_rem v1 8)) else 0 : Int) : Int) : Int) : Int) h) : JW K 0 [(0, v0), (0, v1)] [] h := by
  have e1 := ki.2.2.2.2.1
  have e2 := ki.2.2.2.2.2.1
  subst e1; subst e2
  exact run_ok (dia := [(2, 39)]) (cnr := []) (cuts := []) ki.1 (pk_X7_reads ki hG) ok_X7_reads (by decide) 5 true _ _ _ _ H
abbrev e_X7_reads : PE := ([0, 0], 0, pf_reads)
theorem pe_X7_reads {K : JC} {F Lo idx : Nat} {own : String} (hG : gO (kG K) = true) (hF : F ≤ (kR K).frames) (hLo : Lo ≤ (kR K).locals) (hs : SLk own idx yX7_reads) (hb : ceb 0 4 F 150 Lo 2 = true) (_ : true = true) : PFok K own idx e_X7_reads :=
  peK hF hLo yl_X7_reads hs hb (by
    intro as h Q E hok e9 hq
    replace e9 : as.map (fun x => x.1) = [0, 0] := e9
    obtain ⟨a, bs0, f0, e90⟩ := as_cons e9; subst f0
    obtain ⟨b, bs1, f1, e91⟩ := as_cons e90; subst f1
    cases as_nil e91
    refine s_X7_reads rfl fun K ki => r_X7_reads_0 ki hG ?_
    exact ⟨fun _ _ _ _ => by decide, hq⟩)
