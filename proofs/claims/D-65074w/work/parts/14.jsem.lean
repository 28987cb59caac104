/-! J-layer, part 13: contracts (Sem), entry -/
def JPre (G : JG) (as : List LV) (h : MH) (nc ns : Nat) : Array Value → State → Prop := fun args s => args = (as.map (vl G)).toArray ∧ JT G s ∧ JR G h s.heap ∧ (∀ x ∈ as, okv h x) ∧ s.heap.size + nc = gB G + 1200384 ∧ ssum s.heap (gB G) + ns = 5490346
/-- A CONTRACT: method y, called with these arguments at this mini heap, comes back with Q, or throws with E -/
def Sem (l : Launch) (G : JG) (y : MethodName) (ws : List Cond) (F Lo rt : Nat) (as : List LV) (h : MH) (Q : Int → MH → Prop) (E : Nat → Int → MH → Prop) : Prop :=
  ∀ nc ns : Nat, MetFree l y (headSpec ws { frames := F, cells := nc, slots := ns, locals := Lo }) (JPre G as h nc ns) (fun _ _ _ _ _ => True) (fun _ s o t => JEnd G h rt Q E s o t)
theorem JEnd_mono {G : JG} {h : MH} {rt : Nat} {Q Q' : Int → MH → Prop} {E E' : Nat → Int → MH → Prop} {s t : State} {o : Outcome} (hQ : ∀ z h', ext h h' → Q z h' → Q' z h') (hE : ∀ c a h', ext h h' → E c a h' → E' c a h') (H : JEnd G h rt Q E s o t) : JEnd G h rt Q' E' s o t := by
  obtain ⟨h1, h2, h', h3, h4, h5⟩ := H
  refine ⟨h1, h2, h', h3, h4, ?_⟩
  rcases h5 with ⟨z, a1, a2, a3⟩ | ⟨c, a, a1, a2, a3, a4⟩
  · exact Or.inl ⟨z, a1, a2, hQ z h' h4 a3⟩
  · exact Or.inr ⟨c, a, a1, a2, a3, hE c a h' h4 a4⟩
theorem Sem_mono {l : Launch} {G : JG} {y : MethodName} {ws : List Cond} {F Lo rt : Nat} {as : List LV} {h : MH} {Q Q' : Int → MH → Prop} {E E' : Nat → Int → MH → Prop} (H : Sem l G y ws F Lo rt as h Q E) (hQ : ∀ z h', ext h h' → Q z h' → Q' z h') (hE : ∀ c a h', ext h h' → E c a h' → E' c a h') : Sem l G y ws F Lo rt as h Q' E' := by
  intro nc ns
  exact MetFree.mono (H nc ns) (fun _ _ q => q) (fun _ _ _ _ _ q => q) (fun a s o s' _ q => JEnd_mono hQ hE q)
def enl : List LV → List LV
  | [] => []
  | x :: r => cond (Nat.beq x.1 1) (x :: (5000, 0) :: enl r) (x :: enl r)
/-- the locals at a method's entry -/
def lv0 (as : List LV) (nL : Nat) : List LV := enl as ++ List.replicate (nL - (enl as).length) (5000, 0)
theorem enl_cons (x : LV) (r : List LV) : enl (x :: r) = if x.1 = 1 then x :: (5000, 0) :: enl r else x :: enl r := by
  show cond (Nat.beq x.1 1) _ _ = _
  by_cases h : x.1 = 1
  · rw [if_pos h, h]
    rfl
  · rw [if_neg h]
    cases hb : Nat.beq x.1 1 with
    | true => exact absurd (Nat.eq_of_beq_eq_true hb) h
    | false => rfl
theorem lg_cons (G : JG) (x : LV) (r : List LV) : lg_sl ((x :: r).map (vl G)) = if x.1 = 1 then .val (vl G x) :: .second :: lg_sl (r.map (vl G)) else .val (vl G x) :: lg_sl (r.map (vl G)) := by
  unfold lg_sl
  rw [List.map_cons, List.flatMap_cons, vl_cat]
  by_cases h : x.1 = 1
  · simp [h]
  · simp [h]
theorem enl_len (G : JG) : ∀ as : List LV, (enl as).length = (lg_sl (as.map (vl G))).length
  | [] => rfl
  | x :: r => by
    rw [enl_cons, lg_cons]
    by_cases h : x.1 = 1
    · simp [h, enl_len G r]
    · simp [h, enl_len G r]
theorem enl_get (G : JG) : ∀ (as : List LV) (k : Nat) (x : LV), (enl as)[k]? = some x → x.1 ≠ 5000 → (lg_sl (as.map (vl G)))[k]? = some (.val (vl G x))
  | [], k, x, h, _ => by simp [enl] at h
  | y :: r, k, x, h, hx => by
    rw [enl_cons] at h
    rw [lg_cons]
    by_cases hy : y.1 = 1
    · rw [if_pos hy] at h ⊢
      match k, h with
      | 0, h => simp at h; subst h; simp
      | 1, h => simp at h; subst h; exact absurd rfl hx
      | k + 2, h =>
        simp at h ⊢
        exact enl_get G r k x h hx
    · rw [if_neg hy] at h ⊢
      match k, h with
      | 0, h => simp at h; subst h; simp
      | k + 1, h =>
        simp at h ⊢
        exact enl_get G r k x h hx
theorem lhas_entry {G : JG} {as : List LV} {nL : Nat} (hn : (enl as).length ≤ nL) : lhas G ((lg_sl (as.map (vl G)) ++ List.replicate (nL - (lg_sl (as.map (vl G))).length) Slot.unset).toArray) nL (lv0 as nL) := by
  have h1 := lv_entry (as.map (vl G)) (n := nL) (by rw [← enl_len]; exact hn)
  refine ⟨h1.1, h1.2.1, by unfold lv0; simp; omega, fun k x hk hx => ?_⟩
  unfold lv0 at hk
  rw [List.getElem?_append] at hk
  split at hk
  · rename_i hlt
    rw [List.getElem?_toArray, List.getElem?_append, if_pos (by rw [← enl_len]; exact hlt)]
    exact enl_get G as k x hk hx
  · rw [List.getElem?_replicate] at hk
    split at hk
    · cases hk
      exact absurd rfl hx
    · cases hk
theorem lv0_ok {h : MH} {nL : Nat} : ∀ {as : List LV}, (∀ x ∈ as, okv h x) → ∀ x ∈ lv0 as nL, okv h x := by
  intro as ha x hx
  unfold lv0 at hx
  rcases List.mem_append.mp hx with q | q
  · clear hx
    induction as with
    | nil => simp [enl] at q
    | cons y r ih =>
      rw [enl_cons] at q
      by_cases hy : y.1 = 1
      · rw [if_pos hy] at q
        rcases List.mem_cons.mp q with e | q
        · rw [e]; exact ha y List.mem_cons_self
        · rcases List.mem_cons.mp q with e | q
          · rw [e]; exact okv_u h 0
          · exact ih (fun z hz => ha z (List.mem_cons_of_mem _ hz)) q
      · rw [if_neg hy] at q
        rcases List.mem_cons.mp q with e | q
        · rw [e]; exact ha y List.mem_cons_self
        · exact ih (fun z hz => ha z (List.mem_cons_of_mem _ hz)) q
  · rw [(List.mem_replicate.mp q).2]
    exact okv_u h 0
/-- what holds of the context inside a method's body -/
def KI (K : JC) (l : Launch) (G : JG) (y : MethodName) (cc : ByteArray) (nL : Nat) (ret : Option FieldType) (hh : List (Nat × Nat × Nat × Nat)) (F Lo rt : Nat) (Q : Int → MH → Prop) (E : Nat → Int → MH → Prop) (h : MH) : Prop :=
  KO K y.cls cc ∧ kL K = l ∧ kG K = G ∧ kV K = rt ∧ kQ K = Q ∧ kX K = E ∧ kH K = h ∧ (kR K).frames = F ∧ (kR K).locals = Lo ∧ (kT K).sig.returnType = ret ∧ (kC K).maxLocals = nL ∧ (kT K).name = y.name ∧ (kC K).exceptionTable.toList.map (fun x => (x.startPc, x.endPc, x.handlerPc, x.catchType)) = hh
theorem ssum_end (H : Heap) : ssum H H.size = 0 := by
  unfold ssum
  rw [List.drop_eq_nil_of_le (by simp)]
  rfl
theorem Sem_body {l : Launch} {G : JG} {y : MethodName} {ws : List Cond} {F Lo rt nL : Nat} {as : List LV} {h : MH} {Q : Int → MH → Prop} {E : Nat → Int → MH → Prop} {cc : ByteArray} {ret : Option FieldType} {hh : List (Nat × Nat × Nat × Nat)} (hlw : ∀ w ∈ lw_all, w ∈ ws)
    (hn : (enl as).length ≤ nL) (body : ∀ K : JC, KI K l G y cc nL ret hh F Lo rt Q E h → JW K 0 (lv0 as nL) [] h) {nc ns : Nat} {p : Program} {e : Env} {s s₁ : State} {m : MethodId} {args : Array Value} {below : List Frame} {meth : Method} {c : Code}
    (B : BodyLoose p l y (headSpec ws { frames := F, cells := nc, slots := ns, locals := Lo }) cc nL ret e s m args below meth c s₁) (hml : c.maxLocals = nL) (hP : JPre G as h nc ns args s) (hex : c.exceptionTable.toList.map (fun x => (x.startPc, x.endPc, x.handlerPc, x.catchType)) = hh) :
    ∃ s₂ o, Steps p.tables e below (s₁.setTop (entryFrame m args nL)) s₂ ∧ s₂.status = .running ∧ Ended s₂ below o ∧ JEnd G h rt Q E s o s₂ := by
  obtain ⟨rfl, hT, hR, hok, hnc, hns⟩ := hP
  have hts := atoms_spec (ws := ws) B.pre
  have hts' : ∀ w ∈ lw_all, w.before _ s = true := fun w hw => hts w (hlw w hw)
  have hh0 : s₁.heap = s.heap := by rw [B.state]; rfl
  have K0 : ∀ K : JC, K = (p, l, e, { frames := F, cells := nc, slots := ns, locals := Lo }, s, m, (as.map (vl G)).toArray, below, meth, c, G, rt, Q, E, h) → KI K l G y cc nL ret hh F Lo rt Q E h := by
    rintro K rfl
    exact ⟨⟨B.exec, B.bytes, findClass_of_methodNamed B.named, hts', hT, hnc, hns, B.notSynchronized, by rw [show s.heap.size = _ from hR.2.1]; show gB G ≤ _; omega⟩, rfl, rfl, rfl, rfl, rfl, rfl, rfl, rfl, B.returns, hml, (name_of_methodNamed B.named B.method).1, hex⟩
  have hJ := body _ (K0 _ rfl) _ s.heap [] (by
    show lhas G _ c.maxLocals (lv0 as nL)
    rw [hml]
    exact lhas_entry hn) (lv0_ok hok) (fun x hx => by cases hx) hR ⟨fun q hq => by (cases hq), ext_rfl h⟩
  have hJ' : W p l e { frames := F, cells := nc, slots := ns, locals := Lo } s m (as.map (vl G)).toArray below meth c s.heap [] 0 0 (JZ (p, l, e, { frames := F, cells := nc, slots := ns, locals := Lo }, s, m, (as.map (vl G)).toArray, below, meth, c, G, rt, Q, E, h)) (entryFrame m (as.map (vl G)).toArray nL) := by
    rw [lg_entry_eq]
    have e1 : s.heap.size - s.heap.size = 0 := Nat.sub_self _
    have e2 := ssum_end s.heap
    have h9 := hJ
    simp only [e1, e2] at h9
    exact h9
  obtain ⟨t, a1, o, b1, b2, b3⟩ := hJ' s₁ hh0 (Stand.of_body B)
  exact ⟨t, o, a1, b1, b2, b3⟩
/-- a contract out of a walk of the body -/
theorem Sem_of {l : Launch} {G : JG} {y : MethodName} {F Lo rt nL : Nat} {as : List LV} {h : MH} {Q : Int → MH → Prop} {E : Nat → Int → MH → Prop} {cc : ByteArray} {ret : Option FieldType} (hy : plainFor y = true) (hn : (enl as).length ≤ nL) (body : ∀ K : JC, KI K l G y cc nL ret [] F Lo rt Q E h → JW K 0 (lv0 as nL) [] h) :
    Sem l G y (ws_ y cc nL ret) F Lo rt as h Q E := by
  intro nc ns
  refine MetFree.of_bodySF (code := cc) (maxLocals := nL) (ret := ret) hy ?_ ?_
  · intro args s m h hn
    obtain ⟨meth, c, h1, h2, h3, h4, h5, h6, -, -⟩ := Cond.code_spec hn (atoms_spec (ws := ws_ y cc nL ret) h _ List.mem_cons_self)
    exact ⟨meth, c, h1, h2, h3, h4, h5, h6⟩
  · intro p e s m args below meth c s₁ B hml hP _
    have hcode : (Cond.code y cc nL ret).before args s = true := atoms_spec (ws := ws_ y cc nL ret) B.pre _ List.mem_cons_self
    have hem := BodyLoose.noHandlers B hcode
    exact Sem_body (fun w hw => List.mem_cons_of_mem _ hw) hn body B hml hP (by
      have h0 : c.exceptionTable.size = 0 := by simpa [Array.isEmpty] using hem
      have h1 : c.exceptionTable.toList = [] := List.eq_nil_of_length_eq_zero (by simpa using h0)
      rw [h1]
      rfl)
theorem Sem_ofW {l : Launch} {G : JG} {y : MethodName} {F Lo rt nL : Nat} {as : List LV} {h : MH} {Q : Int → MH → Prop} {E : Nat → Int → MH → Prop} {cc : ByteArray} {ret : Option FieldType} {hh : List (Nat × Nat × Nat × Nat)} (hy : plainFor y = true) (hn : (enl as).length ≤ nL) (body : ∀ K : JC, KI K l G y cc nL ret hh F Lo rt Q E h → JW K 0 (lv0 as nL) [] h) :
    Sem l G y (wsW_ y cc nL ret hh) F Lo rt as h Q E := by
  intro nc ns
  refine MetFree.of_bodySF (code := cc) (maxLocals := nL) (ret := ret) hy ?_ ?_
  · intro args s m h hn
    obtain ⟨m9, meth, c, hn9, h1, h2, h3, h4, -, h5, h6, -⟩ := Cond.codeWith_spec (atoms_spec (ws := wsW_ y cc nL ret hh) h _ List.mem_cons_self)
    cases hn.symm.trans hn9
    exact ⟨meth, c, h1, h2, h3, h4, h5, h6⟩
  · intro p e s m args below meth c s₁ B hml hP _
    obtain ⟨m9, meth9, c9, hn9, h1, h2, h3, h4, h8, h5, h6, -⟩ := Cond.codeWith_spec (atoms_spec (ws := wsW_ y cc nL ret hh) B.pre _ List.mem_cons_self)
    have e1 := B.named.symm.trans hn9
    cases e1
    cases B.method.symm.trans h1
    cases (Stand.of_body B).code.symm.trans h2
    exact Sem_body (fun w hw => List.mem_cons_of_mem _ hw) hn body B hml hP h8
