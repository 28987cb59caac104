/-! J-layer, part 15: the calling instructions -/
theorem okf_ext {h h' : MH} {vt : Nat} {z : Int} (e : ext h h') (h0 : okf h vt z) : okf h' vt z := by
  unfold okf at *
  split
  · rename_i e1; simpa [e1] using h0
  · split
    · rename_i e1 e2; simpa [e1, e2] using h0
    · split
      · rename_i e1 e2 e3; simpa [e1, e2, e3] using h0
      · split
        · rename_i e1 e2 e3 e4; simpa [e1, e2, e3, e4] using h0
        · rename_i e1 e2 e3 e4
          simp only [e1, e2, e3, e4, if_false] at h0
          rcases h0 with h0 | ⟨h1, h2, h3⟩
          · exact Or.inl h0
          · exact Or.inr ⟨h1, Int.le_trans h2 e.1, by rw [(e.2 z h1 h2).1]; exact h3⟩
theorem okv_ext {h h' : MH} {x : LV} (e : ext h h') (h0 : okv h x) : okv h' x := by
  unfold okv at *
  split
  · rename_i q
    simp only [q, if_true] at h0
    exact okf_ext e h0
  · rename_i q
    simp only [q, if_false] at h0
    split
    · rename_i e1; simpa [e1] using h0
    · rename_i e1
      simp only [e1, if_false] at h0
      split
      · rename_i e2; simpa [e2] using h0
      · rename_i e2
        simp only [e2, if_false] at h0
        split
        · trivial
        · rename_i e3
          simp only [e3, if_false] at h0
          obtain ⟨h1, h2, h3, h4⟩ := h0
          obtain ⟨p1, p2⟩ := e.2 _ h1 h2
          exact ⟨h1, Int.le_trans h2 e.1, by rw [p1]; exact h3, fun q => by rw [p2]; exact h4 q⟩
theorem wst_eq (G : JG) : ∀ st : List LV, ((st.map (vl G)).map fun v => v.category).sum = wst st
  | [] => rfl
  | x :: r => by
    simp only [List.map_cons, List.sum_cons, wst]
    rw [wst_eq G r, vl_cat, on1_eq]
    by_cases h : x.1 = 1
    · rw [if_pos h, h]; rfl
    · rw [if_neg h]
      cases hb : Nat.beq x.1 1 with
      | true => exact absurd (Nat.eq_of_beq_eq_true hb) h
      | false => rfl
/-- a method, as the tables have it -/
def MD (s : State) (y : MethodName) (nL n : Nat) : Prop := ∃ (mk : MethodId) (methM : Method) (cM : Code), s.methodNamed? y = some mk ∧ s.vm.method? mk = some methM ∧ methM.code = some cM ∧ cM.maxLocals = nL ∧ methM.sig.parameters.length = n
/-- what is known of a callee, whatever the call: its words are good, its code is there -/
def YLk (y : MethodName) (ws : List Cond) (nL n : Nat) : Prop := GoodIn lw_all ws ∧ Cond.initialized y.cls ∈ lw_all ∧ ((∃ b r, Cond.code y b nL r ∈ lw_all) ∨ ∃ b r hh, Cond.codeWith y b nL r hh ∈ lw_all) ∧ (y.cls ≠ "java/lang/invoke/MethodHandle" ∧ y.cls ≠ "java/lang/invoke/VarHandle") ∧ (parseMethodDescriptor y.desc).map (fun d => d.parameters.length) = some n
theorem md_of {args : Array Value} {s : State} {y : MethodName} {ws : List Cond} {nL n : Nat} (hts : ∀ w ∈ lw_all, w.before args s = true) (hy : YLk y ws nL n) : MD s y nL n := by
  obtain ⟨-, -, hc, -, hp⟩ := hy
  rcases hc with ⟨b, r, hc⟩ | ⟨b, r, hh, hc⟩
  · obtain ⟨mk, hn⟩ := Cond.code_named (hts _ hc)
    obtain ⟨methM, cM, h1, h2, -, h4, -, -, -, h5⟩ := Cond.code_spec hn (hts _ hc)
    rw [h5] at hp
    exact ⟨mk, methM, cM, hn, h1, h2, h4, by simpa using hp⟩
  · obtain ⟨mk, methM, cM, hn, h1, h2, -, h4, -, -, -, h5⟩ := Cond.codeWith_spec (hts _ hc)
    rw [h5] at hp
    exact ⟨mk, methM, cM, hn, h1, h2, h4, by simpa using hp⟩
/-- an exception of which Ex holds, come to this place of the method's own code: the invocation ends well -/
def AR (K : JC) (Ex : Nat → Int → MH → Prop) (pc : Nat) : Prop :=
  ∀ (c : Nat) (a : Int) (h' : MH) (ls : Array Slot) (st : List Value) (U : State) (locs : List Loc) (cs ss : Nat), c < 100 → okv h' (2000 + c, a) → Ex c a h' → ls.size = (kC K).maxLocals → lv_wf ls → JR (kG K) h' U.heap → ext (kH K) h' → (∀ q ∈ locs, gB (kG K) ≤ q.base) →
    Stand (kP K) (kL K) (kE K) (kR K) (kS K) (kM K) (kA K) (kB K) (kT K) (kC K) U locs cs ss → ∃ t, Steps (kP K).tables (kE K) (kB K) ((U.setTop (F0 (kM K) pc ls st)).pushFrame (.throwing (ad (kG K) a))) t ∧ JZ K t
theorem ar_no {K : JC} {pc : Nat} : AR K (fun _ _ _ => False) pc := fun _ _ _ _ _ _ _ _ _ _ _ q => q.elim
theorem ar_out {K : JC} {pc : Nat} (hlk : (kT K).locks = false) (hout : ∀ x ∈ (kC K).exceptionTable.toList, covers x pc = false) : AR K (kX K) pc := by
  intro c a h' ls st U locs cs ss a1 a2 a3 _ _ e2 e3 e5 e4
  obtain ⟨l1, l2, l3, l4, l5⟩ := e4.leaveThrown (ad (kG K) a) (g := F0 (kM K) pc ls st) rfl rfl rfl hout hlk
  exact ⟨_, l1, .threw (ad (kG K) a), l2, l3, l4, ⟨locs, _, _, l5, e5⟩, h', e2, e3, Or.inr ⟨c, a, rfl, a1, a2, a3⟩⟩
section IN
variable {Ex : Nat → Int → MH → Prop} {K : JC} {own : String} {cc : ByteArray} {pc : Nat} {lv st : List LV} {h : MH} {y : MethodName} {ws : List Cond} {F Lo rt nLy n idx : Nat} {as : List LV}
theorem okr_psh {h' : MH} {z : Int} (hr : okr h' rt z) (h8 : rt < 800) (hst : ∀ x ∈ st, okv h' x) : ∀ x ∈ psh rt z st, okv h' x := by
  unfold okr at hr
  unfold psh
  cases hb : Nat.beq rt 700 with
  | true => exact hst
  | false =>
    have : ¬ rt = 700 := fun e => by rw [e] at hb; cases hb
    rw [if_neg this] at hr
    exact all_cons (okv_ft hr h8) hst
theorem rv_psh {G : JG} {z : Int} : (rv G rt z).toList ++ st.map (vl G) = (psh rt z st).map (vl G) := by
  unfold rv psh
  by_cases hb : rt = 700
  · rw [if_pos hb, hb]
    rfl
  · rw [if_neg hb]
    cases hc : Nat.beq rt 700 with
    | true => exact absurd (Nat.eq_of_beq_eq_true hc) hb
    | false =>
      show [vl G (rt, z)] ++ _ = vl G (ft rt, z) :: _
      rw [vl_ft]
      rfl
/-- from the invocation's first state on -/
theorem j_inv (hM : Sem (kL K) (kG K) y ws F Lo rt as h (fun z h' => JW K (pc + 3) lv (psh rt z st) h') Ex) (ko : KO K own cc) (hy : YLk y ws nLy n) (hout : AR K Ex pc) (h8 : rt < 800) (hF : F + 1 ≤ (kR K).frames) (hLo : 8 + (nLy + 11) + Lo ≤ (kR K).locals) (hwt : wst st ≤ 8)
    {ls : Array Slot} {H : Heap} {locs : List Loc} {T : State} {cs ss : Nat} (hl : lhas (kG K) ls (kC K).maxLocals lv) (hlv : ∀ x ∈ lv, okv h x) (has : ∀ x ∈ as, okv h x) (hst : ∀ x ∈ st, okv h x) (hR : JR (kG K) h H) (hq : (∀ q ∈ locs, gB (kG K) ≤ q.base) ∧ ext (kH K) h)
    (hT : T.heap = H) (X : Stand (kP K) (kL K) (kE K) (kR K) (kS K) (kM K) (kA K) (kB K) (kT K) (kC K) T locs cs ss) {mk : MethodId} (hn : (kS K).methodNamed? y = some mk) {ig : Instr} (hd : decode cc pc = .ok (ig, 3))
    {Z : State} (hs : ∀ tg, Steps (kP K).tables (kE K) (kB K) (doInvoke (kE K) (T.setTop (F0 (kM K) pc ls (st.map (vl (kG K))))) [] mk (as.map (vl (kG K))).toArray).1 tg → Steps (kP K).tables (kE K) (kB K) Z tg) : ∃ t, Steps (kP K).tables (kE K) (kB K) Z t ∧ JZ K t := by
  subst hT
  obtain ⟨mk', methM, cM, m1, m2, m3, m4, m5⟩ := md_of ko.2.2.2.1 hy
  cases hn.symm.trans m1
  have hnT : T.methodNamed? y = some mk := X.named hn
  have hmT : T.vm.method? mk = some methM := by rw [X.warmed.alike.method?]; exact m2
  obtain ⟨s₂, h', U, locs', e1, e2, e3, e4, e5, e6⟩ := j_back hM ko X hR has hq.1 (Wt := 8) hF hLo (pay_in ko.2.2.2.1 hy.1) (ko.2.2.2.1 _ hy.2.1) hnT ⟨methM, cM, hmT, m3, m4⟩ (g := F0 (kM K) pc ls (st.map (vl (kG K)))) rfl hl.1 (by rw [ko.2.1]; exact hd) (lv_room (by rw [wst_eq]; exact hwt))
  rcases e6 with ⟨z, a1, a2, a3⟩ | ⟨c, a, a1, a2, a3, a4⟩
  · have w := a2 ls U.heap locs' hl (fun x hx => okv_ext e3 (hlv x hx)) (okr_psh a1 h8 (fun x hx => okv_ext e3 (hst x hx))) e2 ⟨e5, ext_trans hq.2 e3⟩
    obtain ⟨t, t1, t2⟩ := w U rfl e4
    refine ⟨t, hs t (e1.trans ?_), t2⟩
    rw [a3]
    rw [← rv_psh] at t1
    exact t1
  · obtain ⟨t, t1, t2⟩ := hout c a h' ls (st.map (vl (kG K))) U locs' _ _ a1 a2 a3 hl.1 hl.2.1 e2 (ext_trans hq.2 e3) e5 e4
    exact ⟨t, hs t (e1.trans (by rw [a4]; exact t1)), t2⟩
/-- invokestatic -/
def SLk (own : String) (idx : Nat) (y : MethodName) : Prop := Cond.static y ∈ lw_all ∧ (Cond.methodLink own idx y ∈ lw_all ∨ ∃ host, (own, idx, y, host) ∈ nestM)
theorem j_invS (hM : Sem (kL K) (kG K) y ws F Lo rt as h (fun z h' => JW K (pc + 3) lv (psh rt z st) h') Ex) (ko : KO K own cc) (hd : decode cc pc = .ok (.invokestatic idx, 3)) (hy : YLk y ws nLy as.length) (hs : SLk own idx y) (hout : AR K Ex pc) (h8 : rt < 800)
    (hF : F + 1 ≤ (kR K).frames) (hLo : 8 + (nLy + 11) + Lo ≤ (kR K).locals) (hwt : wst st ≤ 8) {sta : List LV} (hsta : sta.map (vl (kG K)) = (as.map (vl (kG K))).reverse ++ st.map (vl (kG K))) (hok : (∀ x ∈ sta, okv h x) → (∀ x ∈ as, okv h x) ∧ ∀ x ∈ st, okv h x) : JW K pc lv sta h := by
  intro ls H locs hl hlv hst hR hq T hT X
  obtain ⟨o1, o2⟩ := hok hst
  obtain ⟨mk, methM, cM, m1, m2, m3, m4, m5⟩ := md_of ko.2.2.2.1 hy
  have hstatic : methM.isStatic = true := Cond.static_spec m1 m2 (ko.2.2.2.1 _ hs.1)
  obtain ⟨kP', hkP, -⟩ := className_of_methodNamed m1
  have hinitP : kP'.init = .initialized := Cond.initialized_spec (findClass_of_methodNamed m1) hkP (ko.2.2.2.1 _ hy.2.1)
  have hdc : decode (kC K).code (F0 (kM K) pc ls (sta.map (vl (kG K)))).pc = .ok (.invokestatic idx, 3) := by rw [ko.2.1]; exact hd
  rcases hs.2 with hlk | ⟨host, hlk⟩
  · obtain ⟨vm₁, X₁, hstep₁⟩ := X.invokestatic ko.1 ko.2.2.1 (ko.2.2.2.1 _ hlk) m1 m2 hstatic hkP hinitP hy.2.2.2.1 (g := F0 (kM K) pc ls (sta.map (vl (kG K)))) rfl (argsL := as.map (vl (kG K))) (rest := st.map (vl (kG K))) (by rw [List.length_map]; exact m5.symm) hsta hdc
    exact j_inv hM ko hy hout h8 hF hLo hwt hl hlv o1 o2 hR hq (T := T.setVm vm₁) hT X₁ m1 hd (fun tg q => hstep₁ _ fun acts => by rw [doInvoke_state]; exact q)
  · obtain ⟨vm₁, X₁, hstep₁⟩ := X.invokestaticNest ko.1 ko.2.2.1 (va_Nw.use rfl (ko.2.2.2.2.1.2.2.1 _ hlk)) m1 m2 hstatic hkP hinitP hy.2.2.2.1 (g := F0 (kM K) pc ls (sta.map (vl (kG K)))) rfl (argsL := as.map (vl (kG K))) (rest := st.map (vl (kG K))) (by rw [List.length_map]; exact m5.symm) hsta hdc
    exact j_inv hM ko hy hout h8 hF hLo hwt hl hlv o1 o2 hR hq (T := T.setVm vm₁) hT X₁ m1 hd (fun tg q => hstep₁ _ fun acts => by rw [doInvoke_state]; exact q)
/-- invokevirtual: the receiver's type is t -/
def VLk (own : String) (idx : Nat) (y : MethodName) (t : Nat) : Prop := t < 100 ∧ (∃ (T : u_T) (N : Nat), jcl[t]? = some (y.cls, T, N)) ∧ Cond.instanceMethod y ∈ lw_all ∧ Cond.selects y.cls y y ∈ lw_all ∧ Cond.methodLink own idx y ∈ lw_all
theorem j_invV {t g g' : Nat} {a : Int} {ar : List LV} (hM : Sem (kL K) (kG K) y ws F Lo rt ((g', a) :: ar) h (fun z h' => JW K (pc + 3) lv (psh rt z st) h') Ex) (ko : KO K own cc) (hd : decode cc pc = .ok (.invokevirtual idx, 3)) (hy : YLk y ws nLy ar.length) (hs : VLk own idx y t) (hout : AR K Ex pc) (h8 : rt < 800)
    (hF : F + 1 ≤ (kR K).frames) (hLo : 8 + (nLy + 11) + Lo ≤ (kR K).locals) (hwt : wst st ≤ 8) (hg' : 4 ≤ g') {sta : List LV} (hsta : sta.map (vl (kG K)) = (ar.map (vl (kG K))).reverse ++ vl (kG K) (g', a) :: st.map (vl (kG K))) (hok : (∀ x ∈ sta, okv h x) → (okv h (g', a) ∧ obj h t a) ∧ (∀ x ∈ ar, okv h x) ∧ ∀ x ∈ st, okv h x) : JW K pc lv sta h := by
  intro ls H locs hl hlv hst hR hq T hT X
  obtain ⟨⟨o0, ob⟩, o1, o2⟩ := hok hst
  obtain ⟨v0, ⟨Tt, Nt, v1⟩, v2, v3, v4⟩ := hs
  obtain ⟨mk0, methM0, cM0, m1, m2, m3, m4, m5⟩ := md_of ko.2.2.2.1 hy
  obtain ⟨mk, methM, hnamed, hmethM, hstM, habM⟩ := Cond.instanceMethod_spec (ko.2.2.2.1 _ v2)
  cases hnamed.symm.trans m1
  cases hmethM.symm.trans m2
  obtain ⟨cellB, c1, c2, c3, -⟩ := cell_o hR ob v0
  have hcls : (kS K).vm.findClass y.cls = some cellB.cls := by rw [c3]; exact (ko.2.2.2.2.1.1 t _ v1).2.1
  obtain ⟨cc2, r2, mm2, q1, q2, q3, q4, kP', hkP, hkPi⟩ := Cond.selects_spec (ko.2.2.2.1 _ v3)
  cases hcls.symm.trans q1
  cases (State.methodFound?_of_named hnamed hy.2.2.2.1).symm.trans q2
  cases hnamed.symm.trans q3
  have hselP : selectMethod (kE K).platform (kS K).vm cellB.cls mk0 = .method mk0 := by rw [Launch.admits_selectMethod X.admits]; exact q4
  have hdc : decode (kC K).code (F0 (kM K) pc ls (sta.map (vl (kG K)))).pc = .ok (.invokevirtual idx, 3) := by rw [ko.2.1]; exact hd
  obtain ⟨vm₁, X₁, hstep₁⟩ := X.invokevirtual ko.1 ko.2.2.1 (ko.2.2.2.1 _ v4) hnamed hmethM hstM hkP hkPi hy.2.2.2.1 (a := ad (kG K) a) (cell := cellB) (by rw [hT]; exact c1)
    (fun z hz => by rw [c2] at hz; cases hz) hselP hmethM habM hkP hkPi (g := F0 (kM K) pc ls (sta.map (vl (kG K)))) rfl (argsL := ar.map (vl (kG K))) (rest := st.map (vl (kG K))) (by rw [List.length_map]; exact m5.symm) (by rw [← vl_r hg' ob.1]; exact hsta) hdc
  refine j_inv hM ko hy hout h8 hF hLo hwt hl hlv (all_cons o0 o1) o2 hR hq (T := T.setVm vm₁) hT X₁ m1 hd (fun tg q => hstep₁ _ fun acts => ?_)
  rw [doInvoke_state]
  rw [List.map_cons, vl_r hg' ob.1] at q
  exact q
/-- invokespecial of a constructor -/
def ILk (own : String) (idx : Nat) (y : MethodName) : Prop := y.name = "<init>" ∧ Cond.instanceMethod y ∈ lw_all ∧ (Cond.methodLink own idx y ∈ lw_all ∨ ∃ host, (own, idx, y, host) ∈ nestM) ∧ ∃ b L, Cond.code y b L none ∈ lw_all
theorem j_invI {g' : Nat} {a : Int} {ar : List LV} (hM : Sem (kL K) (kG K) y ws F Lo rt ((g', a) :: ar) h (fun z h' => JW K (pc + 3) lv (psh rt z st) h') Ex) (ko : KO K own cc) (hd : decode cc pc = .ok (.invokespecial idx, 3)) (hy : YLk y ws nLy ar.length) (hs : ILk own idx y) (hout : AR K Ex pc) (h8 : rt < 800)
    (hF : F + 1 ≤ (kR K).frames) (hLo : 8 + (nLy + 11) + Lo ≤ (kR K).locals) (hwt : wst st ≤ 8) (hg' : 4 ≤ g') {sta : List LV} (hsta : sta.map (vl (kG K)) = (ar.map (vl (kG K))).reverse ++ vl (kG K) (g', a) :: st.map (vl (kG K))) (hok : (∀ x ∈ sta, okv h x) → (okv h (g', a) ∧ 1 ≤ a) ∧ (∀ x ∈ ar, okv h x) ∧ ∀ x ∈ st, okv h x) : JW K pc lv sta h := by
  intro ls H locs hl hlv hst hR hq T hT X
  obtain ⟨⟨o0, ob⟩, o1, o2⟩ := hok hst
  obtain ⟨v1, v2, v3, bb, LL, v4⟩ := hs
  obtain ⟨mk0, methM0, cM0, m1, m2, m3, m4, m5⟩ := md_of ko.2.2.2.1 hy
  have hdc : decode (kC K).code (F0 (kM K) pc ls (sta.map (vl (kG K)))).pc = .ok (.invokespecial idx, 3) := by rw [ko.2.1]; exact hd
  have hpl : (kE K).platform.magicAccessors = ({} : Platform).magicAccessors := by rw [X.admits.platform]
  have hlen : ∀ sig, parseMethodDescriptor y.desc = some sig → (ar.map (vl (kG K))).length = sig.parameters.length := by
    intro sig h1
    have h2 := hy.2.2.2.2
    rw [h1] at h2
    simp only [Option.map_some, Option.some.injEq] at h2
    rw [List.length_map, h2]
  rcases v3 with hlk | ⟨host, hlk⟩
  · obtain ⟨mk, methM, cM, kP', vm₁, hnamed, hmethM, hcodeM, -, hlocalsM, -, hkP, -, hW₁, hstep₁⟩ := Steps.initColdArgs (e := kE K) X.here ko.1 X.warmed hpl ko.2.2.1 v1 hy.2.2.2.1 (ko.2.2.2.1 _ hlk) (ko.2.2.2.1 _ v2) (ko.2.2.2.1 _ v4) (f := F0 (kM K) pc ls (sta.map (vl (kG K)))) rfl hlen (by rw [← vl_r hg' ob]; exact hsta) hdc
    refine j_inv hM ko hy hout h8 hF hLo hwt hl hlv (all_cons o0 o1) o2 hR hq (T := T.setVm vm₁) hT (X.noted hW₁) hnamed hd (fun tg q => hstep₁ _ fun acts => ?_)
    rw [doInvoke_state]
    rw [List.map_cons, vl_r hg' ob] at q
    exact q
  · obtain ⟨mk, methM, cM, kP', vm₁, hnamed, hmethM, hcodeM, -, hlocalsM, -, hkP, -, hW₁, hstep₁⟩ := Steps.initColdArgsNest (e := kE K) X.here ko.1 X.warmed hpl ko.2.2.1 v1 hy.2.2.2.1 (va_Nw.use rfl (ko.2.2.2.2.1.2.2.1 _ hlk)) (ko.2.2.2.1 _ v2) (ko.2.2.2.1 _ v4) (f := F0 (kM K) pc ls (sta.map (vl (kG K)))) rfl hlen (by rw [← vl_r hg' ob]; exact hsta) hdc
    refine j_inv hM ko hy hout h8 hF hLo hwt hl hlv (all_cons o0 o1) o2 hR hq (T := T.setVm vm₁) hT (X.noted hW₁) hnamed hd (fun tg q => hstep₁ _ fun acts => ?_)
    rw [doInvoke_state]
    rw [List.map_cons, vl_r hg' ob] at q
    exact q
end IN
