/-! Part 25f: caught -/
/-- one entry of a table of handlers that covers the place: its class is resolved (if it was not yet), then looked at -/
theorem x_go {Q : Handler → Pre} {E : CtlPost} {e : Env} {d : Bool} {acts : List Action} {s : State} {f : JFrame} {a : Addr} {x : ExceptionTableEntry} {t : List ExceptionTableEntry} {c : ClassId} {cell : Cell} (hx : covers x f.pc = true) (h0 : x.catchType ≠ 0)
    (hl : s.vm.ClassLinks e.platform f.method.cls x.catchType c) (hcell : s.heap[a]? = some cell) (hobj : ∀ k, cell.vm ≠ .statics k) (hk : ∃ k, s.vm.classes[cell.cls]? = some k) (hc : ∃ k, s.vm.classes[c]? = some k) :
    wp (findHandler.go f a (x :: t)) Q E e d acts s ↔
      if s.vm.assignable cell.cls c = true then Q (.found x.handlerPc) d acts (s.setVm (s.vm.noted f.method.cls x.catchType (.cls c))) else wp (findHandler.go f a t) Q E e d acts (s.setVm (s.vm.noted f.method.cls x.catchType (.cls c))) := by
  simp only [covers] at hx
  obtain ⟨ha, ht⟩ := (resolveClass_links e.toSetting hl).op (op := VmOp.resolveClass f.method.cls x.catchType) rfl
  have hal : s.vm.Alike (s.vm.noted f.method.cls x.catchType (.cls c)) := (Vm.Alike.refl s.vm).noted _ _ _
  obtain ⟨k1, hk1⟩ := hk
  obtain ⟨k2, hk2⟩ := hc
  obtain ⟨k3, hk3, -⟩ := hal.2.2 _ _ hk1
  obtain ⟨k4, hk4, -⟩ := hal.2.2 _ _ hk2
  have hf := hal.assignable cell.cls c
  cases hfit : s.vm.assignable cell.cls c <;> rw [hfit] at hf <;> simp [findHandler.go, hx, h0, ha, ht, hcell, hobj, hk3, hk4, hf, VmOp.dirties, VmOp.acts]
section XF
variable {K : JC} {own : String} {cc : ByteArray} {pc : Nat}
/-- the search: the first entries that cover the place name other classes, the next one a class of the exception's -/
theorem x_find (hpl : (kE K).platform.magicAccessors = ({} : Platform).magicAccessors) (hown : (kS K).vm.findClass own = some (kM K).cls) (hw : ∀ w ∈ lw_all, w.before (kA K) (kS K) = true) {f : JFrame} (hf : f.method = (kM K)) {a : Addr} {cell : Cell} (hobj : ∀ k, cell.vm ≠ .statics k) (hk : ∃ k, (kS K).vm.classes[cell.cls]? = some k)
    {x : ExceptionTableEntry} {rest : List ExceptionTableEntry} (hx : covers x f.pc = true) (h0 : x.catchType ≠ 0) {C : String} {cX : ClassId} (hl : Cond.classLink own x.catchType C ∈ lw_all) (hcX : (kS K).vm.findClass C = some cX) (hfit : (kS K).vm.assignable cell.cls cX = true) :
    ∀ (pre : List ExceptionTableEntry), (∀ y ∈ pre, covers y f.pc = true ∧ y.catchType ≠ 0 ∧ ∃ (D : String) (cD : ClassId), Cond.classLink own y.catchType D ∈ lw_all ∧ (kS K).vm.findClass D = some cD ∧ (kS K).vm.assignable cell.cls cD = false) → ∀ (T : State), (kS K).WarmedH T.vm → T.heap[a]? = some cell →
      ∃ vm', (kS K).WarmedH vm' ∧ ∀ (Q : Handler → Pre) (E : CtlPost) (d : Bool) (acts : List Action), wp (findHandler.go f a (pre ++ x :: rest)) Q E (kE K) d acts T ↔ Q (.found x.handlerPc) d acts (T.setVm vm')
  | [], _, T, hW, hcell => by
    obtain ⟨c', hc', hcl⟩ := Cond.classLink_spec hown (hw _ hl) (kE K).platform hpl
    cases hcX.symm.trans hc'
    obtain ⟨dk, _, _, kt, hd, _, _, _, _, hkt, _, hop⟩ := hcl.here
    have hcl₀ := hW.classLinks hcl
    have hW' : (kS K).WarmedH (T.vm.noted (kM K).cls x.catchType (.cls cX)) := hW.noted hd hop (State.rightAt_cls hcl)
    have hal := hW.alike
    obtain ⟨kt', hkt', -⟩ := hal.2.2 _ _ hkt
    obtain ⟨k1, hk1⟩ := hk
    obtain ⟨k1', hk1', -⟩ := hal.2.2 _ _ hk1
    refine ⟨_, hW', fun Q E d acts => ?_⟩
    rw [List.nil_append, x_go hx h0 (by rw [hf]; exact hcl₀) hcell hobj ⟨k1', hk1'⟩ ⟨kt', hkt'⟩, if_pos (by rw [hal.assignable]; exact hfit), hf]
  | y :: pre, hp, T, hW, hcell => by
    obtain ⟨y1, y2, D, cD, y3, y4, y5⟩ := hp y List.mem_cons_self
    obtain ⟨c', hc', hcl⟩ := Cond.classLink_spec hown (hw _ y3) (kE K).platform hpl
    cases y4.symm.trans hc'
    obtain ⟨dk, _, _, kt, hd, _, _, _, _, hkt, _, hop⟩ := hcl.here
    have hcl₀ := hW.classLinks hcl
    have hW' : (kS K).WarmedH (T.vm.noted (kM K).cls y.catchType (.cls cD)) := hW.noted hd hop (State.rightAt_cls hcl)
    have hal := hW.alike
    obtain ⟨kt', hkt', -⟩ := hal.2.2 _ _ hkt
    obtain ⟨k1, hk1⟩ := hk
    obtain ⟨k1', hk1', -⟩ := hal.2.2 _ _ hk1
    obtain ⟨vm', q1, q2⟩ := x_find hpl hown hw hf hobj ⟨k1, hk1⟩ hx h0 hl hcX hfit pre (fun z hz => hp z (List.mem_cons_of_mem _ hz)) (T.setVm (T.vm.noted (kM K).cls y.catchType (.cls cD))) hW' hcell
    refine ⟨vm', q1, fun Q E d acts => ?_⟩
    rw [List.cons_append, x_go y1 y2 (by rw [hf]; exact hcl₀) hcell hobj ⟨k1', hk1'⟩ ⟨kt', hkt'⟩, if_neg (by rw [hal.assignable, y5]; decide), hf, q2]
    rfl
theorem x_step {e : Env} {s : State} {a : Addr} {f : JFrame} {r : List Frame} {hp : Nat} {vm' : Vm} (hfind : ∀ (Q : Handler → Pre) (E : CtlPost) (d : Bool) (acts : List Action), wp (findHandler f a) Q E e d acts s ↔ Q (.found hp) d acts (s.setVm vm')) :
    (stepThrowing e s a (.java f :: r)).Is ((s.setVm vm').setFrames (.java { f with pc := hp, stack := [.ref a] } :: r)) [] := by
  simp only [stepThrowing, searchFrame, vmDo]
  generalize hr : Sem.go _ e false [] s = res
  obtain ⟨as, rfl, ha⟩ := Sem.eq_ok_of hr (a := Handler.found hp) (s' := s.setVm vm') (acts' := []) (by simp [hfind _ _ _ _])
  exact ⟨rfl, ha⟩
theorem x_caught {tb : Tables} {e : Env} {s target : State} {g : JFrame} {c : Code} {below : List Frame} {a : Addr} (h : At s g.method c below) {hp : Nat} {vm' : Vm}
    (hfind : ∀ (Q : Handler → Pre) (E : CtlPost) (d : Bool) (acts : List Action), wp (findHandler g a) Q E e d acts ((s.setTop g).pushFrame (.throwing a)) ↔ Q (.found hp) d acts (((s.setTop g).pushFrame (.throwing a)).setVm vm'))
    (hrest : Steps tb e below ((s.setVm vm').setTop { g with pc := hp, stack := [.ref a] }) target) : Steps tb e below ((s.setTop g).pushFrame (.throwing a)) target := by
  obtain ⟨hgo, hw⟩ := h.throwing a
  refine Steps.head hgo hw ?_
  rw [stepThread_throwing (frames_entered h.top _), (x_step (s := (s.setTop g).pushFrame (.throwing a)) hfind).1]
  obtain ⟨g₀, hg⟩ := Option.isSome_iff_exists.mp h.top
  obtain ⟨r, hr⟩ := State.topJava?_eq_some.mp hg
  have hr' : (s.setVm vm').frames = .java g₀ :: r := hr
  rw [State.setTop_of_frames _ hr'] at hrest
  have sv : ∀ (u : State) (F' F'' : List Frame), ((u.setFrames F').setVm vm').setFrames F'' = (u.setVm vm').setFrames F'' := by
    intro u F' F''
    rw [show (u.setFrames F').setVm vm' = (u.setVm vm').setFrames F' from rfl, State.setFrames_setFrames]
  rw [hr, List.tail_cons, State.pushFrame, sv, State.setTop_of_frames _ hr, sv]
  exact hrest
/-- the handler for exceptions of type c at this place -/
def HD (K : JC) (own : String) (pc c hp : Nat) : Prop := ∃ (pre : List ExceptionTableEntry) (x : ExceptionTableEntry) (rest : List ExceptionTableEntry) (C : String), (kC K).exceptionTable.toList = pre ++ x :: rest ∧ x.handlerPc = hp ∧ covers x pc = true ∧ x.catchType ≠ 0 ∧ Cond.classLink own x.catchType C ∈ lw_all ∧
  (∃ (T : u_T) (N : Nat), jcl[c]? = some (C, T, N)) ∧ Cond.castable C C ∈ lw_all ∧ ∀ y ∈ pre, covers y pc = true ∧ y.catchType ≠ 0 ∧ ∃ D, Cond.classLink own y.catchType D ∈ lw_all ∧ Cond.not (.castable C D) ∈ cnj 120 narrow_1
/-- the exceptions of Ex are caught at this place -/
theorem ar_in (ko : KO K own cc) (hcl : (kT K).code = some (kC K)) {Ex : Nat → Int → MH → Prop} (hH : ∀ c a h', Ex c a h' → ∃ hp, HD K own pc c hp ∧ JW K hp (List.replicate (kC K).maxLocals (5000, 0)) [(2000 + c, a)] h') : AR K Ex pc := by
  intro c a h' ls st U locs cs ss a1 a2 a3 e1 e2 e3 e4 e5 X
  obtain ⟨hp, ⟨pre, x, rest, C, d1, d2, d3, d4, d5, ⟨Tt, N, d6⟩, d7, d8⟩, kk⟩ := hH c a h' a3
  have hob : obj h' c a := by
    have := obj_of_nn (g := 2000 + c) (by omega) (by omega) a2
    rwa [show (2000 + c) % 1000 = c by omega] at this
  obtain ⟨cell, c1, c2, c3, -⟩ := cell_o e3 hob a1
  have hpl : (kE K).platform.magicAccessors = ({} : Platform).magicAccessors := by rw [X.admits.platform]
  have hKn := ko.2.2.2.2.1.1 c _ d6
  obtain ⟨-, hfc, kX', hkX, -⟩ := hKn
  have hfit : (kS K).vm.assignable cell.cls (gC (kG K) c) = true := by
    obtain ⟨c5, c6, h5, h6, hasg⟩ := Cond.castable_spec (ko.2.2.2.1 _ d7)
    cases h5.symm.trans hfc
    cases h6.symm.trans hfc
    rw [c3]; exact hasg
  have xt := ko.2.2.2.2.1.2.2.2.2
  have hpre : ∀ y ∈ pre, covers y pc = true ∧ y.catchType ≠ 0 ∧ ∃ (D : String) (cD : ClassId), Cond.classLink own y.catchType D ∈ lw_all ∧ (kS K).vm.findClass D = some cD ∧ (kS K).vm.assignable cell.cls cD = false := by
    intro y hy
    obtain ⟨y1, y2, D, y3, y4⟩ := d8 y hy
    obtain ⟨cD, hD, -⟩ := Cond.classLink_spec ko.2.2.1 (ko.2.2.2.1 _ y3) (kE K).platform hpl
    refine ⟨y1, y2, D, cD, y3, hD, ?_⟩
    obtain ⟨-, s0, s1, s2, s3, s4⟩ := xt
    have hn := cnj_ok _ _ s4 _ y4
    cases hb : (kS K).vm.assignable cell.cls cD with
    | false => rfl
    | true =>
      exfalso
      have f1 : s0.vm.findClass C = some (gC (kG K) c) := by rw [← s2.alike.findClass]; exact hfc
      have f2 : s0.vm.findClass D = some cD := by rw [← s2.alike.findClass]; exact hD
      have f3 : s0.vm.assignable (gC (kG K) c) cD = true := by rw [← s2.alike.assignable, ← c3]; exact hb
      have hn' : (Cond.not (.castable C D)).holds #[.ref (gX (kG K))] s0 none s0 [] = true := hn
      simp [Cond.holds, Cond.value, f1, f2, f3] at hn'
  obtain ⟨vm', w1, w2⟩ := x_find (f := F0 (kM K) pc ls st) (a := ad (kG K) a) hpl ko.2.2.1 ko.2.2.2.1 rfl (fun k q => by rw [c2] at q; cases q) (by rw [c3]; exact ⟨_, hkX⟩) d3 d4 d5 hfc hfit pre hpre ((U.setTop (F0 (kM K) pc ls st)).pushFrame (.throwing (ad (kG K) a))) (rest := rest) (by rw [Stand.throwing_vm]; exact X.warmed) (by rw [Stand.throwing_heap]; exact c1)
  have lh : lhas (kG K) ls (kC K).maxLocals (List.replicate (kC K).maxLocals (5000, 0)) := ⟨e1, e2, by simp, fun k y hy hy5 => by
    rw [List.getElem?_replicate] at hy
    split at hy
    · cases hy
      exact absurd rfl hy5
    · cases hy⟩
  have w := kk ls U.heap locs lh (fun y hy => by rw [(List.mem_replicate.mp hy).2]; exact okv_u _ _) (fun y hy => by rw [List.mem_singleton.mp hy]; exact a2) e3 ⟨e5, e4⟩
  obtain ⟨t, t1, t2⟩ := w (U.setVm vm') rfl (stand_tight (X.noted w1))
  refine ⟨t, x_caught (c := kC K) (hp := hp) (vm' := vm') X.here ?_ ?_, t2⟩
  · intro Q E d acts
    rw [W.findHandler_eq (meth := kT K) (code := kC K) (by rw [Stand.throwing_vm]; exact X.method') hcl, d1, w2, d2]
  · rw [List.map_cons, List.map_nil, show vl (kG K) (2000 + c, a) = .ref (ad (kG K) a) from vl_r (by omega) hob.1] at t1
    exact t1
end XF
