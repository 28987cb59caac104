/-! J-layer, part 14: calls -/
theorem ao_spec {t : FieldType} {s : State} (h : (Cond.arrayOver (.array t)).before #[] s = true) : ∃ comp c k, s.vm.findClass (FieldType.array t).toString = some comp ∧ (s.vm.classes.findIdx? fun (x : Class) => match x.kind with | .array component _ => component == comp | _ => false) = some c ∧ s.vm.classes[c]? = some k ∧ (∃ comp', k.kind = .array comp' (.array t)) ∧ s.vm.findClass ("[" ++ (FieldType.array t).toString) = some c := by
  unfold Cond.before Cond.holds at h
  simp only [Cond.value] at h
  cases hc : s.vm.findClass (FieldType.array t).toString with
  | none => rw [hc] at h; simp at h
  | some comp =>
    rw [hc, Option.bind_some] at h
    generalize hi : (s.vm.classes.findIdx? _) = oi at h
    cases oi with
    | none => simp at h
    | some c =>
      rw [Option.bind_some] at h
      cases hk : s.vm.classes[c]? with
      | none => rw [hk] at h; simp at h
      | some k =>
        rw [hk] at h
        simp only [Option.map_some] at h
        cases hkind : k.kind with
        | array comp' ty =>
          rw [hkind] at h
          simp at h
          exact ⟨comp, c, k, rfl, hi, hk, ⟨comp', by rw [hkind, h.1]⟩, h.2⟩
        | _ => rw [hkind] at h; simp at h
theorem ao_moved {ty : FieldType} {u U : State} (hvm : u.vm.Alike U.vm) (hr : ty.isReference = true) (h : (Cond.arrayOver ty).before #[] u = true) : (Cond.arrayOver ty).before #[] U = true := by
  cases ty with
  | object C => exact va_AO.moved hvm h
  | array t =>
    obtain ⟨comp, c, k, h1, h2, h3, ⟨comp', h4⟩, h5⟩ := ao_spec h
    obtain ⟨k', hk', he⟩ := hvm.2.2 _ _ h3
    have hi : (U.vm.classes.findIdx? fun (x : Class) => match x.kind with | .array component _ => component == comp | _ => false) = some c := by
      have a1 := va_idx_bare U.vm comp
      have a2 := va_idx_bare u.vm comp
      refine a1.symm.trans ?_
      have a3 : U.vm.bare = u.vm.bare := by first | exact hvm.bare_eq | exact hvm.bare_eq.symm
      rw [a3]
      exact a2.trans h2
    have hkind : k'.kind = .array comp' (.array t) := by rw [he]; exact h4
    have f1 : U.vm.findClass (FieldType.array t).toString = some comp := by rw [hvm.findClass]; exact h1
    have f2 : U.vm.findClass ("[" ++ (FieldType.array t).toString) = some c := by rw [hvm.findClass]; exact h5
    unfold Cond.before Cond.holds
    simp only [Cond.value]
    rw [f1, Option.bind_some]
    refine (congrArg (fun o : Option Nat => (o.bind (fun c => (U.vm.classes[c]?).map fun (k : Class) => match k.kind with | .array _ ty => decide (ty = FieldType.array t) && decide (U.vm.findClass ("[" ++ (FieldType.array t).toString) = some c) | _ => false) == some true)) hi).trans ?_
    simp [hk', hkind, f2]
  | _ => simp [FieldType.isReference] at hr
theorem JT_warm {G : JG} {u U : State} (hW : u.WarmedH U.vm) (hH : ∀ q : Nat, q < gB G → U.heap[q]? = (gH G)[q]?) (h : JT G u) : JT G U := by
  have hvm := hW.alike
  refine ⟨fun t q hq => u_Kn_moved hvm (h.1 t q hq), fun t ty hty => ?_, fun q hq => va_Nw.warmM hW (h.2.2.1 q hq), fun q hq => va_Nw.warmF hW (h.2.2.2.1 q hq), hH, h.2.2.2.2.2.imp fun s0 e => ⟨e.1, State.WarmedH.trans e.2.1 hW, e.2.2⟩⟩
  obtain ⟨⟨kA, comp, e1, e2, e3, e4, e5⟩, e6⟩ := h.2.1 t ty hty
  obtain ⟨kA', hkA', he⟩ := hvm.2.2 _ _ e1
  refine ⟨⟨kA', comp, hkA', by rw [he]; exact e2, by rw [hvm.findClass]; exact e3, e4, fun q => ?_⟩, fun q => ?_⟩
  · obtain ⟨b1, b2, kc, b3⟩ := e5 q
    obtain ⟨kc', hkc', -⟩ := hvm.2.2 _ _ b3
    exact ⟨b1, by rw [hvm.assignable]; exact b2, kc', hkc'⟩
  · exact ao_moved hvm q (e6 q)
theorem stand_tight {p : Program} {l : Launch} {e : Env} {R : Room} {s : State} {m : MethodId} {args : Array Value} {below : List Frame} {meth : Method} {c : Code} {T : State} {locs : List Loc} {cs ss : Nat} (X : Stand p l e R s m args below meth c T locs cs ss) :
    Stand p l e R s m args below meth c T locs (T.heap.size - s.heap.size) (ssum T.heap s.heap.size) := by
  obtain ⟨h1, h2, h3, h4, h5, h6⟩ := X.same
  have h2' : s.heap.size ≤ T.heap.size := h2
  refine { X with same := ⟨h1, h2, ?_, h4, Nat.le_refl _, h6⟩ }
  show T.heap.size ≤ s.heap.size + (T.heap.size - s.heap.size)
  omega
section CA
variable {K : JC} {own : String} {cc : ByteArray} {pc : Nat} {lv st : List LV} {h : MH}
/-- a callee's invocation, from where the caller stands: it comes back, or its exception lies over the caller's frame -/
theorem j_back {y : MethodName} {ws : List Cond} {F Lo rt nLy : Nat} {as : List LV} {Q : Int → MH → Prop} {E : Nat → Int → MH → Prop} (hM : Sem (kL K) (kG K) y ws F Lo rt as h Q E) (ko : KO K own cc) {T : State} {locs : List Loc} {cs ss : Nat}
    (X : Stand (kP K) (kL K) (kE K) (kR K) (kS K) (kM K) (kA K) (kB K) (kT K) (kC K) T locs cs ss) (hR : JR (kG K) h T.heap) (hok : ∀ x ∈ as, okv h x) (hlo : ∀ q ∈ locs, gB (kG K) ≤ q.base) {Wt : Nat} (hframes : F + 1 ≤ (kR K).frames) (hlocals : Wt + (nLy + 11) + Lo ≤ (kR K).locals)
    (hws : ∀ w ∈ ws, ∀ (a' : Array Value) (U : State), (kS K).WarmedH U.vm → w.before a' U = true) (hini : (Cond.initialized y.cls).before (kA K) (kS K) = true) {mk : MethodId} (hn : T.methodNamed? y = some mk) (hmeth : ∃ (methY : Method) (cY : Code), T.vm.method? mk = some methY ∧ methY.code = some cY ∧ cY.maxLocals = nLy)
    {g : JFrame} (hg : g.method = kM K) (hsize : g.locals.size = (kC K).maxLocals) {ig : Instr} {len : Nat} (hdg : decode (kC K).code g.pc = .ok (ig, len)) (hW : 2 * g.monitorRoom + (g.stack.map fun v => v.category).sum ≤ Wt) :
    ∃ (s₂ : State) (h' : MH) (U : State) (locs' : List Loc), Steps (kP K).tables (kE K) (kB K) (doInvoke (kE K) (T.setTop g) [] mk (as.map (vl (kG K))).toArray).1 s₂ ∧ JR (kG K) h' U.heap ∧ ext h h' ∧
      Stand (kP K) (kL K) (kE K) (kR K) (kS K) (kM K) (kA K) (kB K) (kT K) (kC K) U locs' (U.heap.size - (kS K).heap.size) (ssum U.heap (kS K).heap.size) ∧ (∀ q ∈ locs', gB (kG K) ≤ q.base) ∧
      ((∃ z, okr h' rt z ∧ Q z h' ∧ s₂ = U.setTop { g with pc := g.pc + len, stack := (rv (kG K) rt z).toList ++ g.stack }) ∨ (∃ c a, c < 100 ∧ okv h' (2000 + c, a) ∧ E c a h' ∧ s₂ = (U.setTop g).pushFrame (.throwing (ad (kG K) a)))) := by
  have X := stand_tight X
  obtain ⟨k1, k2, k3, k4, k5, k6, k7, k8, k9⟩ := ko
  have hle : (kS K).heap.size ≤ T.heap.size := X.same.2.1
  have hsp : ssum T.heap (gB (kG K)) = ssum (kS K).heap (gB (kG K)) + ssum T.heap (kS K).heap.size := by
    refine ssum_split k9 hle ?_
    intro q c hc
    obtain ⟨c', e1, -, e3, -⟩ := X.same.2.2.2.2.2 q c hc
    exact ⟨c', e1, e3⟩
  have hzl : T.heap.size ≤ gB (kG K) + 1200384 := by
    rw [show T.heap.size = _ from hR.2.1]
    have h1 := hR.2.2.2.1
    have h1' : hz h ≤ 1200384 := h1
    have := hR.1
    omega
  have hsl : ssum T.heap (gB (kG K)) ≤ 5490346 := by
    have h1 : hs h ≤ 5490346 := hR.2.2.2.2.1
    have h2 := hR.2.2.1
    omega
  have hM1 := hM (gB (kG K) + 1200384 - T.heap.size) (5490346 - ssum T.heap (gB (kG K)))
  obtain ⟨methY, cY, hmY, hcY, hlY⟩ := hmeth
  obtain ⟨kY, hkY, -⟩ := className_of_methodNamed hn
  have hiniT : (Cond.initialized y.cls).before (as.map (vl (kG K))).toArray T = true := word_at X.warmed (Or.inl (by first | rfl | simp [Cond.onTables, Cond.keeps, Cond.steady])) hini
  have hinitY : kY.init = .initialized := Cond.initialized_spec (findClass_of_methodNamed hn) hkY hiniT
  have hAt : At T g.method (kC K) (kB K) := by rw [hg]; exact X.here
  have happ : (headSpec ws { frames := F, cells := gB (kG K) + 1200384 - T.heap.size, slots := 5490346 - ssum T.heap (gB (kG K)), locals := Lo }).appliesLoose y (kE K).platform (T.calling g mk (as.map (vl (kG K))).toArray) = true :=
    Spec.appliesLoose_calling (g := g) hAt hdg hn hkY hinitY
      (X.room_calling (g := g) (R' := { frames := F, cells := gB (kG K) + 1200384 - T.heap.size, slots := 5490346 - ssum T.heap (gB (kG K)), locals := Lo }) hsize hmY hcY hframes (by rw [hlY]; show _ + (nLy + 11) + Lo ≤ _; omega) (by show _ + (gB (kG K) + 1200384 - T.heap.size) ≤ _; omega) (by show _ + (5490346 - ssum T.heap (gB (kG K))) ≤ _; omega))
      (atoms_intro fun w hw => hws w hw _ _ X.warmed)
  obtain ⟨mid, hmid⟩ := hAt.above
  have hfr : (T.setTop g).frames = (.java g :: mid) ++ kB K := by rw [State.frames_setTop' g hAt.top, hmid]; rfl
  obtain ⟨o, s₂, hsteps, -, hend, hq⟩ := Steps.callFree hM1 (kP K) X.admits X.cas X.clock (acts := []) hfr happ ⟨rfl, JT_warm (U := T.calling g mk _) (show (kS K).WarmedH T.vm from X.warmed) (show ∀ q : Nat, q < gB (kG K) → T.heap[q]? = _ from hR.2.2.2.2.2.2.1) k5, hR, hok, (by show T.heap.size + _ = _; omega), (by show ssum T.heap _ + _ = _; omega)⟩ trivial
  have hq' : JEnd (kG K) h rt Q E (T.calling g mk (as.map (vl (kG K))).toArray) o s₂ := hq
  rw [State.frames_setTop' g hAt.top] at hend
  obtain ⟨hW₂, ⟨L, k, n, ⟨e2, q2, q3, q4, q5, q6⟩, hL⟩, h', hR', hext, hor⟩ := hq'
  have e3 : s₂ = ({ (T.calling g mk (as.map (vl (kG K))).toArray).setFrames s₂.frames with heap := s₂.heap, slotsUsed := s₂.slotsUsed } : State).setVm s₂.vm := by
    have : s₂ = ({ s₂ with vm := (T.calling g mk (as.map (vl (kG K))).toArray).vm } : State).setVm s₂.vm := rfl
    rw [e2] at this
    exact this
  have hW' : T.WarmedH s₂.vm := hW₂
  obtain ⟨g₀, hg0⟩ := Option.isSome_iff_exists.mp hAt.top
  obtain ⟨r, hr⟩ := State.topJava?_eq_some.mp hg0
  have hsame : T.sameButNew ({ T with heap := s₂.heap, slotsUsed := s₂.slotsUsed } : State) L k n := by
    refine ⟨?_, q2, q3, q4, q5, q6⟩
    obtain ⟨t, ht, -⟩ := State.frames_cons hr
    show ({ T with heap := s₂.heap, slotsUsed := s₂.slotsUsed } : State) = { T.setFrames T.frames with heap := s₂.heap, slotsUsed := s₂.slotsUsed }
    rw [State.setFrames_self ht]
  have XU : Stand (kP K) (kL K) (kE K) (kR K) (kS K) (kM K) (kA K) (kB K) (kT K) (kC K) (({ T with heap := s₂.heap, slotsUsed := s₂.slotsUsed } : State).setVm s₂.vm) (locs ++ L) _ _ :=
    ⟨X.admits, X.cas, X.clock, X.frames, X.room, X.hears, X.method, X.code, (X.here.setHeapUsed s₂.heap s₂.slotsUsed).setVm hW'.alike, X.tail, State.WarmedH.trans X.warmed hW', X.limits, X.bytes, X.same.trans (hsame.setVm (kS K).vm)⟩
  have hlocs : ∀ q ∈ locs ++ L, gB (kG K) ≤ q.base := fun q hq0 => by
    rcases List.mem_append.mp hq0 with z | z
    · exact hlo q z
    · exact hL q z
  refine ⟨s₂, h', ({ T with heap := s₂.heap, slotsUsed := s₂.slotsUsed } : State).setVm s₂.vm, locs ++ L, hsteps, hR', hext, stand_tight XU, hlocs, ?_⟩
  have hr' : (({ T with heap := s₂.heap, slotsUsed := s₂.slotsUsed } : State).setVm s₂.vm).frames = .java g₀ :: r := hr
  rcases hor with ⟨z, a1, a2, a3⟩ | ⟨c, a, a1, a2, a3, a4⟩
  · subst a1
    obtain ⟨c₂, i₂, len₂, hc₂, hd₂, hf₂⟩ := hend
    have hcc : c₂ = kC K := by
      have h1 : s₂.code? g.method = T.code? g.method := by
        rw [State.code?_eq, State.code?_eq, hW'.alike.method?]
      exact Option.some.inj (hc₂.symm.trans (h1.trans hAt.code))
    subst hcc
    have hlen : len₂ = len := by rw [hdg] at hd₂; cases hd₂; rfl
    subst hlen
    refine Or.inl ⟨z, a2, a3, ?_⟩
    refine e3.trans ?_
    rw [hf₂, State.calling_eq hAt.top, State.setFrames_setFrames, State.setTop_of_frames _ hr', hr]
    rfl
  · subst a1
    refine Or.inr ⟨c, a, a2, a3, a4, ?_⟩
    have hf₂ : s₂.frames = .throwing (ad (kG K) a) :: (.java g :: T.frames.tail) := hend
    refine e3.trans ?_
    rw [hf₂, State.calling_eq hAt.top, State.setFrames_setFrames, State.pushFrame, State.setTop_of_frames _ hr', hr]
    rw [State.setFrames_setFrames, State.frames_setFrames _ (State.cur_lt_of_frames hr')]
    rfl
end CA
