/-! Part 25: how a method's tables are shown right -/
def chk (cc : ByteArray) (code : List (Nat × Instr)) : Bool := code.all fun q => match decode cc q.1 with
  | .ok (i, len) => decide (i = q.2) && (isSw q.2 || Nat.beq len (iln q.2))
  | _ => false
theorem chk_ok {cc : ByteArray} {code : List (Nat × Instr)} (h : chk cc code = true) : ∀ q ∈ code, ∃ len, decode cc q.1 = .ok (q.2, len) ∧ (isSw q.2 = true ∨ len = iln q.2) := by
  intro q hq
  have h1 := List.all_eq_true.mp h q hq
  revert h1
  cases hd : decode cc q.1 with
  | error e => intro z; cases z
  | ok x =>
    obtain ⟨i, len⟩ := x
    intro z
    simp only [Bool.and_eq_true, Bool.or_eq_true, decide_eq_true_eq] at z
    obtain ⟨z1, z2⟩ := z
    refine ⟨len, by rw [z1], ?_⟩
    rcases z2 with z2 | z2
    · exact Or.inl z2
    · exact Or.inr (Nat.eq_of_beq_eq_true z2)
theorem okc {cc : ByteArray} {b : Nat} {ch : List (Nat × Instr)} {r : List (Nat × List (Nat × Instr))} (h : chk cc ch = true) (hr : CodeOK cc r) : CodeOK cc ((b, ch) :: r) := by
  intro p hp
  rcases List.mem_cons.mp hp with e | e
  · subst e; exact chk_ok h
  · exact hr p e
theorem okn {cc : ByteArray} : CodeOK cc [] := fun p hp => by cases hp
theorem subs {α : Type} [BEq α] [LawfulBEq α] {P : α → Prop} {l tbl : List α} (h : (l.all fun q => tbl.elem q) = true) (ht : ∀ q ∈ tbl, P q) : ∀ q ∈ l, P q := fun q hq => ht q (List.elem_iff.mp (List.all_eq_true.mp h q hq))
def rfb (on : Bool) (tbl : List (Nat × Nat × Nat)) (q : Nat × Nat × Nat × Nat × Nat) : Bool := tbl.elem (q.1, q.2.1, q.2.2.1) && cond (Nat.beq q.2.2.2.2 0) (Nat.beq q.2.2.2.1 (ft (fty q.2.1 q.2.2.1))) (on && (decide ((kof q.2.1 q.2.2.1).1 = Int.ofNat q.2.2.2.2) && (Nat.ble 4 (fty q.2.1 q.2.2.1) && Nat.beq q.2.2.2.1 (ktag (fty q.2.1 q.2.2.1) (kof q.2.1 q.2.2.1).2))))
theorem rfs {own : String} {on : Bool} {tbl : List (Nat × Nat × Nat)} {l : List (Nat × Nat × Nat × Nat × Nat)} (ht : ∀ q ∈ tbl, FLink own q.1 q.2.1 q.2.2) (h : (l.all (rfb on tbl)) = true) : ∀ q ∈ l, RFok own on q := by
  intro q hq
  have h1 := List.all_eq_true.mp h q hq
  unfold rfb at h1
  rw [Bool.and_eq_true] at h1
  obtain ⟨h2, h3⟩ := h1
  refine ⟨ht _ (List.elem_iff.mp h2), fun e => ?_, fun e => ?_⟩
  · rw [e] at h3
    exact Nat.eq_of_beq_eq_true h3
  · cases hb : Nat.beq q.2.2.2.2 0 with
    | true => exact absurd (Nat.eq_of_beq_eq_true hb) e
    | false =>
      rw [hb] at h3
      replace h3 : (on && (decide ((kof q.2.1 q.2.2.1).1 = Int.ofNat q.2.2.2.2) && (Nat.ble 4 (fty q.2.1 q.2.2.1) && Nat.beq q.2.2.2.1 (ktag (fty q.2.1 q.2.2.1) (kof q.2.1 q.2.2.1).2)))) = true := h3
      rw [Bool.and_eq_true, Bool.and_eq_true, Bool.and_eq_true] at h3
      exact ⟨h3.1, of_decide_eq_true h3.2.1, Nat.le_of_ble_eq_true h3.2.2.1, Nat.eq_of_beq_eq_true h3.2.2.2⟩
def rpb (on ini : Bool) (tbl : List (Nat × Nat × Nat × Bool)) (q : Nat × Nat × Nat × Nat) : Bool := ((tbl.elem (q.1, q.2.1, q.2.2.1, false)) || (ini && tbl.elem (q.1, q.2.1, q.2.2.1, true))) && ((decide ((kof q.2.1 q.2.2.1).1 < 0) || !on) && Nat.beq q.2.2.2 (fty q.2.1 q.2.2.1))
theorem rps {own : String} {on ini : Bool} {tbl : List (Nat × Nat × Nat × Bool)} {l : List (Nat × Nat × Nat × Nat)} (ht : ∀ q ∈ tbl, SLink own q.1 q.2.1 q.2.2.1 q.2.2.2) (h : (l.all (rpb on ini tbl)) = true) : ∀ q ∈ l, RPok own on ini q := by
  intro q hq
  have h1 := List.all_eq_true.mp h q hq
  unfold rpb at h1
  rw [Bool.and_eq_true, Bool.and_eq_true, Bool.or_eq_true, Bool.or_eq_true, Bool.and_eq_true] at h1
  obtain ⟨h2, h3, h4⟩ := h1
  have h5 : (kof q.2.1 q.2.2.1).1 < 0 ∨ on = false := by
    rcases h3 with h3 | h3
    · exact Or.inl (of_decide_eq_true h3)
    · cases on
      · exact Or.inr rfl
      · cases h3
  rcases h2 with h2 | ⟨h2, h6⟩
  · exact ⟨false, ht _ (List.elem_iff.mp h2), (fun z => Bool.noConfusion z), h5, Nat.eq_of_beq_eq_true h4⟩
  · exact ⟨true, ht _ (List.elem_iff.mp h6), fun _ => h2, h5, Nat.eq_of_beq_eq_true h4⟩
def retok (rt : Nat) (ret : Option FieldType) : Bool := match ret with
  | none => Nat.beq rt 700
  | some .int => Nat.beq rt 0
  | some .long => Nat.beq rt 1
  | some .boolean => Nat.beq rt 2
  | some (.object _) => Nat.ble 4 rt && Nat.blt rt 700
  | some (.array _) => Nat.ble 4 rt && Nat.blt rt 700
  | _ => false
theorem retok_s {rt : Nat} {ret : Option FieldType} (h : retok rt ret = true) : (rt = 0 ∧ ret = some .int) ∨ (rt = 1 ∧ ret = some .long) ∨ (rt = 2 ∧ ret = some .boolean) ∨ (rt = 700 ∧ ret = none) ∨ (4 ≤ rt ∧ rt < 700 ∧ ∃ ty, ret = some ty ∧ ((∃ n, ty = .object n) ∨ ∃ t, ty = .array t)) := by
  unfold retok at h
  split at h
  · exact Or.inr (Or.inr (Or.inr (Or.inl ⟨Nat.eq_of_beq_eq_true h, rfl⟩)))
  · exact Or.inl ⟨Nat.eq_of_beq_eq_true h, rfl⟩
  · exact Or.inr (Or.inl ⟨Nat.eq_of_beq_eq_true h, rfl⟩)
  · exact Or.inr (Or.inr (Or.inl ⟨Nat.eq_of_beq_eq_true h, rfl⟩))
  · rw [Bool.and_eq_true] at h
    exact Or.inr (Or.inr (Or.inr (Or.inr ⟨Nat.le_of_ble_eq_true h.1, (blt_iff _ _).mp h.2, _, rfl, Or.inl ⟨_, rfl⟩⟩)))
  · rw [Bool.and_eq_true] at h
    exact Or.inr (Or.inr (Or.inr (Or.inr ⟨Nat.le_of_ble_eq_true h.1, (blt_iff _ _).mp h.2, _, rfl, Or.inr ⟨_, rfl⟩⟩)))
  · cases h
section MK
variable {K : JC} {l : Launch} {G : JG} {y y' : MethodName} {cc : ByteArray} {nL F Lo rt F' Lo' rt' nLy idx t : Nat} {ret : Option FieldType} {Q : Int → MH → Prop} {E : Nat → Int → MH → Prop} {h : MH} {own : String} {ws : List Cond} {tgs : List Nat}
theorem POKi {on ini : Bool} {rf : List (Nat × Nat × Nat × Nat × Nat)} {rc rl : List (Nat × Int)} {rp : List (Nat × Nat × Nat × Nat)} {rn : List (Nat × Nat × Nat)} {ra : List (Nat × Nat)} {ca : List (Nat × CE)} {pf : List (Nat × PE)} (ki : KI K l G y cc nL ret [] F Lo rt Q E h) (hG : gO G = on)
    (h1 : ∀ q ∈ rf, RFok y.cls on q) (h2 : ∀ q ∈ rc, c32 q.2 ∧ Cond.constant y.cls q.1 (Int32.ofInt q.2) ∈ lw_all) (h3 : ∀ q ∈ rl, c64 q.2 ∧ Cond.constantLong y.cls q.1 (Int64.ofInt q.2) ∈ lw_all) (h4 : ∀ q ∈ rp, RPok y.cls on ini q) (h5 : ∀ q ∈ rn, NLink y.cls q.1 q.2.1 q.2.2) (h6 : ∀ q ∈ ra, ALink y.cls q.1 q.2) (h7 : ∀ q ∈ ca, CEok K y.cls q.1 q.2) (h8 : ini = true → y.name = "<init>") (h9 : retok rt ret = true) (h10 : ∀ q ∈ pf, PFok K y.cls q.1 q.2) :
    POK K y.cls (on, rf, rc, rl, rp, rn, ra, ca, ini, rt, pf) := by
  obtain ⟨k1, -, k2, k3, -, -, -, -, -, k9, -, k11, k12⟩ := ki
  refine ⟨fun z => by rw [k2, hG]; exact z, h1, h2, h3, h4, h5, h6, h7, fun z => by rw [k11]; exact h8 z, k3, fun pc => ar_out k1.2.2.2.2.2.2.2.1 (fun x hx => by rw [List.map_eq_nil_iff.mp k12] at hx; cases hx), fun z => by rw [k2, hG]; exact z, ?_, h10⟩
  rw [k9]
  exact retok_s h9
theorem fmE {i : Nat} {e : CE} {r : List (Nat × CE)} (a : CEok K own i e) (b : ∀ q ∈ r, CEok K own q.1 q.2) : ∀ q ∈ (i, e) :: r, CEok K own q.1 q.2 := fun q hq => by
  rcases List.mem_cons.mp hq with e | e
  · rw [e]; exact a
  · exact b q e
theorem fmP {i : Nat} {e : PE} {r : List (Nat × PE)} (a : PFok K own i e) (b : ∀ q ∈ r, PFok K own q.1 q.2) : ∀ q ∈ (i, e) :: r, PFok K own q.1 q.2 := fun q hq => by
  rcases List.mem_cons.mp hq with e | e
  · rw [e]; exact a
  · exact b q e
theorem pkE {hh : List (Nat × Nat × Nat × Nat)} {ca : List (Nat × CE)} (ki : KI K l G y cc nL ret hh F Lo rt Q E h) (b : ∀ K : JC, kL K = l → kG K = G → (kR K).frames = F → (kR K).locals = Lo → ∀ q ∈ ca, CEok K y.cls q.1 q.2) : ∀ q ∈ ca, CEok K y.cls q.1 q.2 :=
  b K ki.2.1 ki.2.2.1 ki.2.2.2.2.2.2.2.1 ki.2.2.2.2.2.2.2.2.1
theorem pkP {hh : List (Nat × Nat × Nat × Nat)} {pf : List (Nat × PE)} (ki : KI K l G y cc nL ret hh F Lo rt Q E h) (b : ∀ K : JC, kL K = l → kG K = G → F ≤ (kR K).frames → Lo ≤ (kR K).locals → ∀ q ∈ pf, PFok K y.cls q.1 q.2) : ∀ q ∈ pf, PFok K y.cls q.1 q.2 :=
  b K ki.2.1 ki.2.2.1 (Nat.le_of_eq ki.2.2.2.2.2.2.2.1.symm) (Nat.le_of_eq ki.2.2.2.2.2.2.2.2.1.symm)
end MK
section MK2
variable {K : JC} {y y' : MethodName} {F Lo F' Lo' rt' nLy idx t : Nat} {own : String} {ws : List Cond} {tgs : List Nat}
def ceb (rt F' F Lo' Lo nLy : Nat) : Bool := Nat.blt rt 800 && (Nat.ble (F' + 1) F && Nat.ble (8 + (nLy + 11) + Lo') Lo)
theorem ceb_s {rt F' F Lo' Lo nLy : Nat} (h : ceb rt F' F Lo' Lo nLy = true) : rt < 800 ∧ F' + 1 ≤ F ∧ 8 + (nLy + 11) + Lo' ≤ Lo := by
  unfold ceb at h
  rw [Bool.and_eq_true, Bool.and_eq_true] at h
  exact ⟨(blt_iff _ _).mp h.1, Nat.le_of_ble_eq_true h.2.1, Nat.le_of_ble_eq_true h.2.2⟩
theorem ceS (hF : (kR K).frames = F) (hLo : (kR K).locals = Lo) (hy : YLk y' ws nLy tgs.length) (hs : SLk own idx y') (hb : ceb rt' F' F Lo' Lo nLy = true) : CEok K own idx (0, tgs, rt', Sem (kL K) (kG K) y' ws F' Lo' rt') := by
  obtain ⟨b1, b2, b3⟩ := ceb_s hb
  exact Or.inl ⟨rfl, y', ws, F', Lo', nLy, rfl, hy, hs, b1, by rw [hF]; exact b2, by rw [hLo]; exact b3⟩
theorem ceV (t : Nat) (hF : (kR K).frames = F) (hLo : (kR K).locals = Lo) (hy : YLk y' ws nLy tgs.dropLast.length) (hs : VLk own idx y' t) (hb : (ceb rt' F' F Lo' Lo nLy && decide (tgs.getLast? = some (2000 + t))) = true) : CEok K own idx (1, tgs, rt', Sem (kL K) (kG K) y' ws F' Lo' rt') := by
  rw [Bool.and_eq_true] at hb
  obtain ⟨b1, b2, b3⟩ := ceb_s hb.1
  exact Or.inr (Or.inl ⟨rfl, y', ws, F', Lo', nLy, t, rfl, hy, hs, of_decide_eq_true hb.2, b1, by rw [hF]; exact b2, by rw [hLo]; exact b3⟩)
theorem ceI (hF : (kR K).frames = F) (hLo : (kR K).locals = Lo) (hy : YLk y' ws nLy tgs.dropLast.length) (hs : ILk own idx y') (hb : ceb rt' F' F Lo' Lo nLy = true) : CEok K own idx (2, tgs, rt', Sem (kL K) (kG K) y' ws F' Lo' rt') := by
  obtain ⟨b1, b2, b3⟩ := ceb_s hb
  exact Or.inr (Or.inr (Or.inl ⟨rfl, y', ws, F', Lo', nLy, rfl, hy, hs, b1, by rw [hF]; exact b2, by rw [hLo]; exact b3⟩))
theorem ceO {e : List Nat × Nat × MS} (hF : (kR K).frames = F) (hLo : (kR K).locals = Lo) (hm : Cond.methodLink own idx Lib.objectInit ∈ lw_all) (hb : (Nat.ble 1 F && Nat.ble 20 Lo) = true) : CEok K own idx (3, e) := by
  rw [Bool.and_eq_true] at hb
  exact Or.inr (Or.inr (Or.inr ⟨rfl, hm, by rw [hF]; exact Nat.le_of_ble_eq_true hb.1, by rw [hLo]; exact Nat.le_of_ble_eq_true hb.2⟩))
/-- a pure function's entry, out of its contract -/
theorem peK {f : List Int → Int} (hF : F ≤ (kR K).frames) (hLo : Lo ≤ (kR K).locals) (hy : YLk y' ws nLy tgs.length) (hs : SLk own idx y') (hb : ceb rt' F' F Lo' Lo nLy = true)
    (hsem : ∀ (as : List LV) (h : MH) (Q : Int → MH → Prop) (E : Nat → Int → MH → Prop), (∀ x ∈ as, okv h x) → as.map (fun x => x.1) = tgs.reverse → Q (f (as.map (fun x => x.2))) h → Sem (kL K) (kG K) y' ws F' Lo' rt' as h Q E) : PFok K own idx (tgs, rt', f) := by
  obtain ⟨b1, b2, b3⟩ := ceb_s hb
  exact ⟨y', ws, F', Lo', nLy, hsem, hy, hs, b1, Nat.le_trans b2 hF, Nat.le_trans b3 hLo⟩
theorem as1 {as : List LV} {g : Nat} (e : as.map (fun x => x.1) = [g]) : ∃ a, as = [(g, a)] := by
  match as, e with
  | [(_, a)], e => simp at e; subst e; exact ⟨a, rfl⟩
theorem as_cons {as : List LV} {g : Nat} {r : List Nat} (e : as.map (fun x => x.1) = g :: r) : ∃ a bs, as = (g, a) :: bs ∧ bs.map (fun x => x.1) = r := by
  match as, e with
  | (_, a) :: bs, e => simp at e; obtain ⟨e1, e2⟩ := e; subst e1; exact ⟨a, bs, rfl, e2⟩
theorem as_nil {as : List LV} (e : as.map (fun x => x.1) = []) : as = [] := List.map_eq_nil_iff.mp e
end MK2
