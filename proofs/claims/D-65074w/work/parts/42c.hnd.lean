/-! Part 42c: methods with handlers -/
theorem j_puX {K : JC} {own : String} {cc : ByteArray} {pc : Nat} {lv lv' r r' : List LV} {h : MH} {P : JP} {hp0 : Prop} (ko : KO K own cc) (po : POKx K own P hp0) {i : Instr} (hd : decode cc pc = .ok (i, iln i)) (hp : pst P 0 i lv r h = some ([], lv', r')) (kk : JW K (pc + iln i) lv' r' h) : JW K pc lv r h := by
  have := pst_ok (st := []) ko po (bw := 0) (Nat.le_refl _) hd hp (by rw [List.append_nil]; exact kk)
  rwa [List.append_nil] at this
/-- the handler for exceptions of type c at this place -/
def HDx (K : JC) (own : String) (pc c hp : Nat) : Prop := ∃ (pre : List ExceptionTableEntry) (x : ExceptionTableEntry) (rest : List ExceptionTableEntry) (C : String), (kC K).exceptionTable.toList = pre ++ x :: rest ∧ x.handlerPc = hp ∧ covers x pc = true ∧ x.catchType ≠ 0 ∧ Cond.classLink own x.catchType C ∈ lw_all ∧
  (∃ (T : u_T) (N : Nat), jcl[c]? = some (C, T, N)) ∧ ∀ y ∈ pre, covers y pc = true ∧ y.catchType ≠ 0 ∧ ∃ D, Cond.classLink own y.catchType D ∈ lw_all ∧ Cond.not (.castable C D) ∈ cnj 120 narrow_1
/-- the exceptions of Ex are caught at this place -/
theorem ar_inX {K : JC} {own : String} {cc : ByteArray} {pc : Nat} (ko : KO K own cc) {Ex : Nat → Int → MH → Prop} (hH : ∀ c a h', Ex c a h' → ∃ hp, HDx K own pc c hp ∧ JW K hp (List.replicate (kC K).maxLocals (5000, 0)) [(2000 + c, a)] h') : AR K Ex pc := by
  intro c a h' ls st U locs cs ss a1 a2 a3 e1 e2 e3 e4 e5 X
  obtain ⟨hp, ⟨pre, x, rest, C, d1, d2, d3, d4, d5, ⟨Tt, N, d6⟩, d8⟩, kk⟩ := hH c a h' a3
  have hob : obj h' c a := by
    have := obj_of_nn (g := 2000 + c) (by omega) (by omega) a2
    rwa [show (2000 + c) % 1000 = c by omega] at this
  obtain ⟨cell, c1, c2, c3, -⟩ := cell_o e3 hob a1
  have hpl : (kE K).platform.magicAccessors = ({} : Platform).magicAccessors := by rw [X.admits.platform]
  have hKn := ko.2.2.2.2.1.1 c _ d6
  obtain ⟨-, hfc, kX', hkX, -⟩ := hKn
  have hfit : (kS K).vm.assignable cell.cls (gC (kG K) c) = true := by
    rw [c3]
    show Vm.assignableAux _ (255 + 1) _ _ = true
    rw [Vm.assignableAux]
    simp
  have xt := ko.2.2.2.2.1.2.2.2.2
  have hpre : ∀ y ∈ pre, covers y pc = true ∧ y.catchType ≠ 0 ∧ ∃ (D : String) (cD : ClassId), Cond.classLink own y.catchType D ∈ lw_all ∧ (kS K).vm.findClass D = some cD ∧ (kS K).vm.assignable cell.cls cD = false := by
    intro y hy
    obtain ⟨y1, y2, D, y3, y4⟩ := d8 y hy
    obtain ⟨cD, hD, -⟩ := Cond.classLink_spec ko.2.2.1 (ko.2.2.2.1 _ y3) (kE K).platform hpl
    refine ⟨y1, y2, D, cD, y3, hD, ?_⟩
    obtain ⟨-, s0, s1, s2, s3, s4⟩ := xt
    have hn := cnj_ok _ _ s4 _ y4
    cases hb : (kS K).vm.assignable cell.cls cD with
    | false => rfl
    | true =>
      exfalso
      have f1 : s0.vm.findClass C = some (gC (kG K) c) := by rw [← s2.alike.findClass]; exact hfc
      have f2 : s0.vm.findClass D = some cD := by rw [← s2.alike.findClass]; exact hD
      have f3 : s0.vm.assignable (gC (kG K) c) cD = true := by rw [← s2.alike.assignable, ← c3]; exact hb
      have hn' : (Cond.not (.castable C D)).holds #[.ref (gX (kG K))] s0 none s0 [] = true := hn
      simp [Cond.holds, Cond.value, f1, f2, f3] at hn'
  obtain ⟨vm', w1, w2⟩ := x_find (f := F0 (kM K) pc ls st) (a := ad (kG K) a) hpl ko.2.2.1 ko.2.2.2.1 rfl (fun k q => by rw [c2] at q; cases q) (by rw [c3]; exact ⟨_, hkX⟩) d3 d4 d5 hfc hfit pre hpre ((U.setTop (F0 (kM K) pc ls st)).pushFrame (.throwing (ad (kG K) a))) (rest := rest) (by rw [Stand.throwing_vm]; exact X.warmed) (by rw [Stand.throwing_heap]; exact c1)
  have lh : lhas (kG K) ls (kC K).maxLocals (List.replicate (kC K).maxLocals (5000, 0)) := ⟨e1, e2, by simp, fun k y hy hy5 => by
    rw [List.getElem?_replicate] at hy
    split at hy
    · cases hy
      exact absurd rfl hy5
    · cases hy⟩
  have w := kk ls U.heap locs lh (fun y hy => by rw [(List.mem_replicate.mp hy).2]; exact okv_u _ _) (fun y hy => by rw [List.mem_singleton.mp hy]; exact a2) e3 ⟨e5, e4⟩
  obtain ⟨t, t1, t2⟩ := w (U.setVm vm') rfl (stand_tight (X.noted w1))
  refine ⟨t, x_caught (c := kC K) (hp := hp) (vm' := vm') X.here ?_ ?_, t2⟩
  · intro Q E d acts
    rw [W.findHandler_eq (meth := kT K) (code := kC K) (by rw [Stand.throwing_vm]; exact X.method') X.code, d1, w2, d2]
  · rw [List.map_cons, List.map_nil, show vl (kG K) (2000 + c, a) = .ref (ad (kG K) a) from vl_r (by omega) hob.1] at t1
    exact t1
section HN
variable {K : JC} {l : Launch} {G : JG} {y : MethodName} {cc : ByteArray} {nL F Lo rt : Nat} {ret : Option FieldType} {hh : List (Nat × Nat × Nat × Nat)} {Q : Int → MH → Prop} {E : Nat → Int → MH → Prop} {h : MH}
theorem POKh {on ini : Bool} {rf : List (Nat × Nat × Nat × Nat × Nat)} {rc rl : List (Nat × Int)} {rp : List (Nat × Nat × Nat × Nat)} {rn : List (Nat × Nat × Nat)} {ra : List (Nat × Nat)} {ca : List (Nat × CE)} {pf : List (Nat × PE)} (ki : KI K l G y cc nL ret hh F Lo rt Q E h) (hG : gO G = on)
    (h1 : ∀ q ∈ rf, RFok y.cls on q) (h2 : ∀ q ∈ rc, c32 q.2 ∧ Cond.constant y.cls q.1 (Int32.ofInt q.2) ∈ lw_all) (h3 : ∀ q ∈ rl, c64 q.2 ∧ Cond.constantLong y.cls q.1 (Int64.ofInt q.2) ∈ lw_all) (h4 : ∀ q ∈ rp, RPok y.cls on ini q) (h5 : ∀ q ∈ rn, NLink y.cls q.1 q.2.1 q.2.2) (h6 : ∀ q ∈ ra, ALink y.cls q.1 q.2) (h7 : ∀ q ∈ ca, CEok K y.cls q.1 q.2) (h8 : ini = true → y.name = "<init>") (h9 : retok rt ret = true) (h10 : ∀ q ∈ pf, PFok K y.cls q.1 q.2) :
    POKx K y.cls (on, rf, rc, rl, rp, rn, ra, ca, ini, rt, pf) True := by
  obtain ⟨-, -, k2, k3, -, -, -, -, -, k9, -, k11, k12⟩ := ki
  refine ⟨fun z => by rw [k2, hG]; exact z, h1, h2, h3, h4, h5, h6, h7, fun z => by rw [k11]; exact h8 z, k3, trivial, fun z => by rw [k2, hG]; exact z, ?_, h10⟩
  rw [k9]
  exact retok_s h9
theorem ki_no (ki : KI K l G y cc nL ret hh F Lo rt Q E h) {pc : Nat} (hp : ∀ q ∈ hh, pc < q.1 ∨ q.2.1 ≤ pc) : ∀ x ∈ (kC K).exceptionTable.toList, covers x pc = false := by
  intro x hx
  have hm := ki.2.2.2.2.2.2.2.2.2.2.2.2
  have h1 : (x.startPc, x.endPc, x.handlerPc, x.catchType) ∈ hh := by rw [← hm]; exact List.mem_map.mpr ⟨x, hx, rfl⟩
  have h2 : pc < x.startPc ∨ x.endPc ≤ pc := hp _ h1
  simp only [covers, Bool.and_eq_false_iff, decide_eq_false_iff_not]
  rcases h2 with q | q
  · exact Or.inl (by omega)
  · exact Or.inr (by omega)
theorem lkc_rng {code : List (Nat × List (Nat × Instr))} {lo hi : Nat} (hd : code.all (fun p => p.2.all (fun q => decide (lo ≤ q.1) && decide (q.1 < hi))) = true) {pc : Nat} {i : Instr} (q : lkc code pc = some i) : lo ≤ pc ∧ pc < hi := by
  obtain ⟨p, h1, h2⟩ := lkc_mem q
  have := List.all_eq_true.mp (List.all_eq_true.mp hd p h1) _ h2
  simpa using this
theorem lkc_out {code : List (Nat × List (Nat × Instr))} {lo hi : Nat} (hd : code.all (fun p => p.2.all (fun q => decide (q.1 < lo) || decide (hi ≤ q.1))) = true) {pc : Nat} {i : Instr} (q : lkc code pc = some i) : pc < lo ∨ hi ≤ pc := by
  obtain ⟨p, h1, h2⟩ := lkc_mem q
  have := List.all_eq_true.mp (List.all_eq_true.mp hd p h1) _ h2
  simpa using this
theorem hd_of {own : String} (hm : (kC K).exceptionTable.toList.map (fun x => (x.startPc, x.endPc, x.handlerPc, x.catchType)) = hh) {pc c hp : Nat} {pre' rest' : List (Nat × Nat × Nat × Nat)} {q : Nat × Nat × Nat × Nat} (e : hh = pre' ++ q :: rest') (h1 : q.1 ≤ pc ∧ pc < q.2.1) (h2 : q.2.2.1 = hp) (h3 : q.2.2.2 ≠ 0) {C : String}
    (h4 : Cond.classLink own q.2.2.2 C ∈ lw_all) (h5 : ∃ (T : u_T) (N : Nat), jcl[c]? = some (C, T, N)) (h7 : ∀ y ∈ pre', (y.1 ≤ pc ∧ pc < y.2.1) ∧ y.2.2.2 ≠ 0 ∧ ∃ D, Cond.classLink own y.2.2.2 D ∈ lw_all ∧ Cond.not (.castable C D) ∈ cnj 120 narrow_1) : HDx K own pc c hp := by
  rw [e] at hm
  obtain ⟨pre, r1, d1, d2, d3⟩ := List.map_eq_append_iff.mp hm
  obtain ⟨x, rest, d4, d5, d6⟩ := List.map_eq_cons_iff.mp d3
  subst d4
  have cv : ∀ (z : ExceptionTableEntry), z.startPc ≤ pc ∧ pc < z.endPc → covers z pc = true := fun z hz => by simp [covers, hz.1, hz.2]
  subst d5
  refine ⟨pre, x, rest, C, d1, h2, cv x h1, h3, h4, h5, fun z hz => ?_⟩
  obtain ⟨z1, z2, D, z3, z4⟩ := h7 (z.startPc, z.endPc, z.handlerPc, z.catchType) (by rw [← d2]; exact List.mem_map.mpr ⟨z, hz, rfl⟩)
  exact ⟨cv z z1, z2, D, z3, z4⟩
/-- a handler of the law's: it forgets the exception and returns a number -/
theorem hd_num {own : String} (ko : KO K own cc) {P : JP} (po : POKx K own P True) {hp k c : Nat} {z a : Int} {h' : MH} (iA iN : Instr) (hA : decode cc hp = .ok (iA, iln iA)) (hN : decode cc (hp + iln iA) = .ok (iN, iln iN)) (hr : decode cc (hp + iln iA + iln iN) = .ok (.ireturn, 1))
    (h1 : ∀ (lv st : List LV) (h0 : MH) (x : LV), k < lv.length → pR x.1 = true → pst P 0 iA lv (x :: st) h0 = some ([], stl lv k x, st)) (h2 : ∀ (lv st : List LV) (h0 : MH), pst P 0 iN lv st h0 = some ([], lv, (0, z) :: st)) (hk : k < (kC K).maxLocals) (hc : c < 100) (ht : (kT K).sig.returnType = some .int) (hv : kV K = 0) (hQ : kQ K z h') :
    JW K hp (List.replicate (kC K).maxLocals (5000, 0)) [(2000 + c, a)] h' := by
  have hp1 : pR (2000 + c) = true := by
    unfold pR
    rw [Bool.and_eq_true]
    refine ⟨Nat.ble_eq.mpr (by omega), ?_⟩
    cases hb : Nat.beq (2000 + c) 5000 with
    | false => rfl
    | true => have := Nat.eq_of_beq_eq_true hb; omega
  refine j_puX ko po hA (h1 _ _ _ _ (by simp; exact hk) hp1) ?_
  refine j_puX ko po hN (h2 _ _ _) ?_
  exact j_iret ko hr ht hv hQ
end HN
