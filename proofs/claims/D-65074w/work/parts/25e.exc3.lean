/-! Part 25e: the constructors without arguments, under a launch without stack traces -/
theorem dcl_of {args : Array Value} {s : State} {y : MethodName} {b : ByteArray} {L : Nat} {r : Option FieldType} (h1 : (Cond.code y b L r).before args s = true) (h2 : (Cond.instanceMethod y).before args s = true) : (Cond.declares y).before args s = true := by
  obtain ⟨mk, meth, e1, e2, e3, -⟩ := Cond.instanceMethod_spec h2
  obtain ⟨meth', cM, e4, -, -, -, -, -, -, e5⟩ := Cond.code_spec e1 h1
  cases e2.symm.trans e4
  show (Cond.declares y).holds args s none s [] = true
  simp [Cond.holds, Cond.value, e1, e2, e3, e5]
theorem xt_lst {G : JG} {s : State} (x : XT G s) {args : Array Value} {nm ds : String} (h1 : Cond.laysStatic tnN nm ds ∈ tables_1) : (Cond.laysStatic tnN nm ds).before args s = true := by
  obtain ⟨x1, s0, e1, e2, e3, e4⟩ := x
  obtain ⟨c, k, i, f, a, cell, hc, hi, hst, ha, hcell, hs, hcls, hlt, hty⟩ := Cond.laysStatic_spec (e3 _ h1)
  obtain ⟨k', hi', he⟩ := State.fieldFound?_setVm e2.alike hi
  rw [e1] at hcell
  exact Cond.laysStatic_of (by rw [e2.alike.findClass]; exact hc) hi' hst (by rw [he]; exact ha) (by rw [x1 _ (Array.getElem?_eq_some_iff.mp hcell).1]; exact hcell) hs hcls hlt (by rw [he]; exact hty)
/-- the cell of an exception after its constructor: what the mini heap sees is as it was -/
theorem JR_setV {G : JG} {h : MH} {H H' : Heap} {t : Nat} {a : Int} {cell cell' : Cell} (hR : JR G h H) (hob : obj h t a) (ht : t < 100) (hcell : H[ad G a]? = some cell) (hc' : H'[ad G a]? = some cell') (h1 : cell'.vm = .none) (h2 : cell'.cls = cell.cls) (h3 : cell'.slots.size = cell.slots.size) (h4 : cell'.monitor = cell.monitor)
    (h5 : ∀ k, k < (nft t).length → cell'.slots[gI G t k]? = cell.slots[gI G t k]?) (hsz : H'.size = H.size) (ho : ∀ q, q ≠ ad G a → H'[q]? = H[q]?) : JR G h H' := by
  have e : hset h a 0 (hv h a 0) = h := hset_self
  obtain ⟨cell1, c1, c2, c3, c4⟩ := cell_o hR hob ht
  cases hcell.symm.trans c1
  have := JR_set (k := 0) (x := hv h a 0) hR hob.1 hob.2.1 hcell hc' hsz h3 ho (by
    rw [e]
    refine ⟨_, hc', h1, Or.inl ?_⟩
    rw [hob.2.2]
    refine ⟨ht, ⟨h2.trans c3, fun q => by rw [h3, h4]; exact cell_x hR hob ht hcell q⟩, fun j hj => ?_⟩
    have s0 := c4 j hj
    unfold slotO at s0 ⊢
    rw [h5 j hj]
    exact s0) (by rw [e]; exact hR.2.2.2.2.2.2.2)
  rwa [e] at this
abbrev rteN : String := "java/lang/RuntimeException"
/-- what the tables have of a plain exception class -/
def X0k (t : Nat) (C : String) : Prop := 20 ≤ t ∧ XTy t C TBk ∧ Cond.methodLink C 1 (Bundle.init0 rteN) ∈ lw_all ∧ Cond.selects C Bundle.tFill0 Bundle.tFill0 ∈ lw_all ∧ Cond.selects C Bundle.tFill Bundle.tFill ∈ lw_all ∧ Cond.lays C Bundle.tN "cause" "Ljava/lang/Throwable;" ∈ lw_all ∧ Cond.lays C Bundle.tN "stackTrace" Bundle.steD ∈ lw_all ∧ Cond.lays C Bundle.tN "suppressedExceptions" Bundle.listD ∈ lw_all
theorem thr_at {args : Array Value} {G : JG} {s : State} (hw : ∀ w ∈ lw_all, w.before args s = true) (x : XT G s) : ∀ c ∈ Bundle.throwableAtoms, c.before args s = true := by
  have h1 : ∀ c ∈ ([.initialized Bundle.tN, .superclass Bundle.tN "java/lang/Object",
  .instanceMethod Bundle.tFill, .codeSync Bundle.tFill LibCode.Throwable.Fill.code 1 (some (.object Bundle.tN)), .instanceMethod Bundle.tFill0, .native Bundle.tFill0,
  .instanceMethod Bundle.tInit0, .code Bundle.tInit0 LibCode.Throwable.Init0.code 1 none, .instanceMethod Bundle.oInit, .code Bundle.oInit ⟨#[0xb1]⟩ 1 none,
  .methodLink Bundle.tN 1 Bundle.oInit, .methodLink Bundle.tN 27 Bundle.tFill, .methodLink Bundle.tN 202 Bundle.tFill0,
  .fieldLink Bundle.tN 7 Bundle.tN "cause" "Ljava/lang/Throwable;", .lays Bundle.tN Bundle.tN "cause" "Ljava/lang/Throwable;",
  .fieldLink Bundle.tN 17 Bundle.tN "stackTrace" Bundle.steD, .lays Bundle.tN Bundle.tN "stackTrace" Bundle.steD,
  .fieldLink Bundle.tN 24 Bundle.tN "suppressedExceptions" Bundle.listD, .lays Bundle.tN Bundle.tN "suppressedExceptions" Bundle.listD,
  .fieldLink Bundle.tN 13 Bundle.tN "UNASSIGNED_STACK" Bundle.steD, .laysStatic Bundle.tN "UNASSIGNED_STACK" Bundle.steD,
  .fieldLink Bundle.tN 20 Bundle.tN "SUPPRESSED_SENTINEL" Bundle.listD, .laysStatic Bundle.tN "SUPPRESSED_SENTINEL" Bundle.listD,
  .lays Bundle.tN Bundle.tN "detailMessage" "Ljava/lang/String;"] : List Cond), c.before args s = true := by
    refine List.forall_mem_cons.mpr ⟨hw _ q200, List.forall_mem_cons.mpr ⟨hw _ q836, List.forall_mem_cons.mpr ⟨hw _ q845, List.forall_mem_cons.mpr ⟨hw _ q852, List.forall_mem_cons.mpr ⟨hw _ q855, List.forall_mem_cons.mpr ⟨hw _ q857,
      List.forall_mem_cons.mpr ⟨hw _ q837, List.forall_mem_cons.mpr ⟨hw _ q838, List.forall_mem_cons.mpr ⟨hw _ q225, List.forall_mem_cons.mpr ⟨hw _ q226, List.forall_mem_cons.mpr ⟨hw _ q839, List.forall_mem_cons.mpr ⟨hw _ q844, List.forall_mem_cons.mpr ⟨hw _ q853,
      List.forall_mem_cons.mpr ⟨hw _ q874, List.forall_mem_cons.mpr ⟨hw _ q826, List.forall_mem_cons.mpr ⟨hw _ q875, List.forall_mem_cons.mpr ⟨hw _ q828, List.forall_mem_cons.mpr ⟨hw _ q876, List.forall_mem_cons.mpr ⟨hw _ q830,
      List.forall_mem_cons.mpr ⟨hw _ q840, List.forall_mem_cons.mpr ⟨xt_lst x xl_un, List.forall_mem_cons.mpr ⟨hw _ q842, List.forall_mem_cons.mpr ⟨xt_lst x xl_su, List.forall_mem_cons.mpr ⟨hw _ q832, fun c hc => by cases hc⟩⟩⟩⟩⟩⟩⟩⟩⟩⟩⟩⟩⟩⟩⟩⟩⟩⟩⟩⟩⟩⟩⟩⟩
  exact h1
theorem chn_at {args : Array Value} {s : State} (hw : ∀ w ∈ lw_all, w.before args s = true) : ∀ c ∈ Bundle.chain0Atoms rteN ["java/lang/Exception"], c.before args s = true := by
  have h1 : ∀ c ∈ ([.instanceMethod (Bundle.init0 rteN), .code (Bundle.init0 rteN) Bundle.five 1 none, .methodLink rteN 1 (Bundle.init0 "java/lang/Exception"), .instanceMethod (Bundle.init0 "java/lang/Exception"), .declares (Bundle.init0 "java/lang/Exception"),
    .instanceMethod (Bundle.init0 "java/lang/Exception"), .code (Bundle.init0 "java/lang/Exception") Bundle.five 1 none, .methodLink "java/lang/Exception" 1 (Bundle.init0 Bundle.tN), .instanceMethod (Bundle.init0 Bundle.tN), .declares (Bundle.init0 Bundle.tN)] : List Cond), c.before args s = true := by
    refine List.forall_mem_cons.mpr ⟨hw _ q1202, List.forall_mem_cons.mpr ⟨hw _ q1203, List.forall_mem_cons.mpr ⟨hw _ q1204, List.forall_mem_cons.mpr ⟨hw _ q1205, List.forall_mem_cons.mpr ⟨dcl_of (hw _ q1206) (hw _ q1205),
      List.forall_mem_cons.mpr ⟨hw _ q1205, List.forall_mem_cons.mpr ⟨hw _ q1206, List.forall_mem_cons.mpr ⟨hw _ q1207, List.forall_mem_cons.mpr ⟨hw _ q837, List.forall_mem_cons.mpr ⟨dcl_of (hw _ q838) (hw _ q837), fun c hc => by cases hc⟩⟩⟩⟩⟩⟩⟩⟩⟩⟩
  exact h1
theorem j_init0 {K : JC} {C : String} {cc : ByteArray} {t g : Nat} {a : Int} {lv : List LV} {h : MH} (ko : KO K C cc) (hd : decode cc 1 = .ok (.invokespecial 1, 3)) (hX : X0k t C) (hl : (kL K).stackTraces = false) (hF : 6 ≤ (kR K).frames) (hLo : 100 ≤ (kR K).locals) (hg : 4 ≤ g) (ho : okv h (g, a) → obj h t a) (hb : hv h a 0 = 0)
    (kk : JW K 4 lv [] h) : JW K 1 lv [(g, a)] h := by
  intro ls H locs hls hlv hst hR hq T' hT X
  have hob := ho (hst _ List.mem_cons_self)
  have hw := ko.2.2.2.1
  have hexec := ko.1
  obtain ⟨h20, ⟨x1, x2, x3, x4, x5, ti, x6⟩, w1, w2, w3, w4, w5, w6⟩ := hX
  obtain ⟨cell, c1, c2, c3, c4⟩ := cell_o hR hob x1
  obtain ⟨hsz6, hown, hcnt⟩ := cell_x hR hob x1 c1 x2
  have hKn := ko.2.2.2.2.1.1 t _ x3
  obtain ⟨hS, hfc, kX, hkX, hkind⟩ := hKn
  have howns : (kE K).platform.frameOwnsMonitors = true := by rw [X.admits.platform]
  have hfin : (kE K).platform.finalization = false := by rw [X.admits.platform]
  have hpl : (kE K).platform.magicAccessors = ({} : Platform).magicAccessors := by rw [X.admits.platform]
  have htr : (kE K).platform.stackTraces = false := by rw [X.admits.platform]; exact hl
  have xt := ko.2.2.2.2.1.2.2.2.2
  obtain ⟨TT, Z, L, LZ, Y⟩ := ThrowableC.of_atoms (args := kA K) howns hfin hpl (thr_at hw xt)
  obtain ⟨P1, Ps, hlen, L1, hL, hP1m, hlink1, hlink⟩   := Bundle.chain0 (args := kA K) hpl Y.init0 ["java/lang/Exception"] rteN (by decide +kernel) (fun n hn => by rw [List.mem_singleton.mp hn]; decide +kernel) (chn_at hw)
  have hsel0 : selectMethod (kE K).platform (kS K).vm cell.cls TT.fill0 = .method TT.fill0 := by
    obtain ⟨c2', r2, m2, q1, q2, q3, q4, -⟩ := Cond.selects_spec (hw _ w2)
    cases Option.some.inj (q1.symm.trans hfc)
    cases Option.some.inj (q2.symm.trans (State.methodFound?_of_named Y.fill0 (by decide)))
    cases Option.some.inj (q3.symm.trans Y.fill0)
    rw [Launch.admits_selectMethod X.admits, c3]; exact q4
  have hselF : selectMethod (kE K).platform (kS K).vm cell.cls TT.fill = .method TT.fill := by
    obtain ⟨c2', r2, m2, q1, q2, q3, q4, -⟩ := Cond.selects_spec (hw _ w3)
    cases Option.some.inj (q1.symm.trans hfc)
    cases Option.some.inj (q2.symm.trans (State.methodFound?_of_named Y.fill (by decide)))
    cases Option.some.inj (q3.symm.trans Y.fill)
    rw [Launch.admits_selectMethod X.admits, c3]; exact q4
  obtain ⟨cU, kU, iU, fU, aU, cellU, vU, u1, u2, u3, u4, u5, u6, u7, u8, u9⟩ := xt_stat xt xl_un xs_un
  obtain ⟨cV, kV', iV, fV, aV, cellV, vV, v1, v2, v3, v4, v5, v6, v7, v8, v9⟩ := xt_stat xt xl_su xs_su
  cases u1.symm.trans Y.unassigned
  cases v1.symm.trans Y.sentinel
  cases u3.symm.trans L.statics
  cases v3.symm.trans L.statics
  cases u5.symm.trans v5
  have hcellS : T'.heap[TT.aS]? = some cellU := by rw [hT, hR.2.2.2.2.2.2.1 _ u4]; exact u5
  have hneS : TT.aS ≠ ad (kG K) a := by
    intro e
    rw [e, ad_pos hob.1] at u4
    exact absurd u4 (Nat.not_lt.mpr (Nat.le_add_right _ _))
  obtain ⟨ci198, i198, fB, hk198, hg198, ha198, hsB, -, hnB, htB, hffB⟩ := Cond.ownField (t := .object "java/lang/Object") Y.found L.cls (by decide +kernel) (hw _ q835) (hw _ q834) (kE K).platform hpl
  obtain ⟨tyC, dC, hdC, hdnC⟩ := Cond.laysAt hfc hkX Y.cause (hw _ w4)
  obtain ⟨tyS, dS, hdS, hdnS⟩ := Cond.laysAt hfc hkX Y.stack (hw _ w5)
  obtain ⟨tyP, dP, hdP, hdnP⟩ := Cond.laysAt hfc hkX Y.supp (hw _ w6)
  have wB : Cond.lays C Bundle.tN "backtrace" "Ljava/lang/Object;" ∈ lw_all := x5 _ (u_in_lay (C := C) (T := TBk) (k := 0) Nat.zero_lt_one)
  obtain ⟨tyB, dB, hdB, hdnB⟩ := Cond.laysAt hfc hkX hffB (hw _ wB)
  have bC := Cond.laysApart hdB hdC hdnB hdnC (by rw [hnB, Y.causeName]; decide)
  have bS := Cond.laysApart hdB hdS hdnB hdnS (by rw [hnB, Y.stackName]; decide)
  have bP := Cond.laysApart hdB hdP hdnB hdnP (by rw [hnB, Y.suppName]; decide)
  obtain ⟨_, _, _, f0, hi0, e0⟩ := hS 0 Nat.zero_lt_one
  cases hffB.symm.trans hi0
  have hs0 := (c4 0 (by omega)).1
  have hnul : cell.slots[fB.slot]? = some .null := by
    rw [e0, hs0]
    show some (vl (kG K) (fty t 0, hv h a 0)) = _
    rw [hb, vl_0 (by
      have : t = 20 ∨ t = 21 ∨ t = 22 := by
        have := (List.getElem?_eq_some_iff.mp x3).1
        have h23 : t < 23 := this
        omega
      rcases this with e | e | e <;> subst e <;> decide)]
  obtain ⟨cI, kI, i1, i2, -, -, -, i3⟩ := Cond.instantiable_spec (hw _ q856)
  cases i1.symm.trans Y.found
  cases i2.symm.trans L.cls
  have hlt : ∀ {f : Field} {ty : FieldType}, TT.kT.instanceTypes[f.slot]? = some ty → f.slot < cell.slots.size := by
    intro f ty e
    have := (Array.getElem?_eq_some_iff.mp e).1
    omega
  have htC : Takes (kS K) cell TT.fCause (.ref (ad (kG K) a)) :=
    ⟨hlt (Cond.laysAt Y.found L.cls Y.cause (hw _ q826)).1, by rw [c3, c2]; exact (u_store hfc hkX hkind (hw _ w4) Y.cause (ty := .object "java/lang/Throwable") (by decide +kernel) (fits_r (v := .ref (ad (kG K) a)) rfl rfl).1 (fits_r (v := .ref (ad (kG K) a)) rfl rfl).2).2.2⟩
  have htS : Takes (kS K) cell TT.fStack vU :=
    ⟨hlt (Cond.laysAt Y.found L.cls Y.stack (hw _ q828)).1, by rw [c3, c2]; exact (u_store hfc hkX hkind (hw _ w5) Y.stack (ty := .array (.object "java/lang/StackTraceElement")) (by decide +kernel) (fits_r rfl u8).1 (fits_r rfl u8).2).2.2⟩
  have htP : Takes (kS K) cell TT.fSupp vV :=
    ⟨hlt (Cond.laysAt Y.found L.cls Y.supp (hw _ q830)).1, by rw [c3, c2]; exact (u_store hfc hkX hkind (hw _ w6) Y.supp (ty := .object "java/util/List") (by decide +kernel) (fits_r rfl v8).1 (fits_r rfl v8).2).2.2⟩
  have hskip : SkipFacts TT (kE K).platform (kS K) (fun u => u) ⟨vU, u8⟩ ((preparedCellV TT.toThrowableT cell (ad (kG K) a) ⟨vU, u8⟩ ⟨vV, v8⟩).withEntry T'.cur) :=
    ⟨{ ci198 := ci198, i198 := i198, fBack := fB }, ⟨hk198, hg198, ha198, hsB⟩, by
      simpa [preparedCellV, Cell.setSlot, Cell.withEntry, Array.getElem?_setIfInBounds, bC, bS, bP, bC.symm, bS.symm, bP.symm] using hnul, fun _ _ => rfl⟩
  obtain ⟨tm, methC, cdC, kC', vm₁, hnC, -, -, -, -, -, -, -, hW₁, st1⟩ := Steps.initCold (tb := (kP K).tables) (e := kE K) (below := kB K) (s := kS K) (U := T') X.here hexec X.warmed hpl ko.2.2.1 (t := Bundle.init0 rteN) rfl rfl (by decide +kernel) (hw _ w1) (hw _ q1202) (bytes := Bundle.five) (maxL := 1) (hw _ q1203)
    (f := F0 (kM K) 1 ls ([(g, a)].map (vl (kG K)))) rfl (a := ad (kG K) a) (rest := []) (by show [vl (kG K) (g, a)] = _; rw [vl_r hg hob.1]) (by rw [ko.2.1]; exact hd)
  cases Option.some.inj (hnC.symm.trans hP1m)
  have X₁ := X.noted hW₁
  have hlp : (P1 :: Ps).length = 2 := by rw [List.length_cons, hlen]; rfl
  obtain ⟨vm₂, X₂, st2⟩ := X₁.ctorPlainOffV hexec (g := F0 (kM K) 1 ls []) rfl hls.1 TT L Z LZ (P1 :: Ps)
    (fun P hP => by rcases List.mem_cons.mp hP with rfl | hP; exact L1; exact hL P hP) ⟨hlink1, hlink⟩ (u0 := ⟨vU, u8⟩) (sen := ⟨vV, v8⟩) (self := ad (kG K) a) (cell := cell) (cellS := cellU)
    (by show T'.heap[ad (kG K) a]? = _; rw [hT]; exact c1) (fun k e => by rw [c2] at e; cases e) (by rw [c2]; exact fun e => by cases e) hown hcnt hsel0 hselF hcellS hneS u6 u7 v7 htC htS htP Y.objLocals hskip htr [] (by rw [ko.2.1]; exact hd)
    (by rw [hlp]; omega) (by
      rw [hlp]
      show 2 * 0 + 0 + (13 * 2 + 41) ≤ _
      omega)
  generalize hce : (preparedCellV TT.toThrowableT cell (ad (kG K) a) ⟨vU, u8⟩ ⟨vV, v8⟩).setSlot TT.fStack.slot vU = cell' at X₂ st2
  have hlta : ad (kG K) a < T'.heap.size := by rw [hT]; exact (Array.getElem?_eq_some_iff.mp c1).1
  have hU : (((T'.setVm vm₁).setVm vm₂).setCell (ad (kG K) a) cell').heap = T'.heap.setIfInBounds (ad (kG K) a) cell' := rfl
  have e1 : (T'.heap.setIfInBounds (ad (kG K) a) cell')[ad (kG K) a]? = some cell' := by simp [hlta]
  have e2 : (T'.heap.setIfInBounds (ad (kG K) a) cell').size = H.size := by rw [← hT]; simp
  have e3 : ∀ q, q ≠ ad (kG K) a → (T'.heap.setIfInBounds (ad (kG K) a) cell')[q]? = H[q]? := by
    intro q hq'
    rw [← hT]
    simp [Array.getElem?_setIfInBounds, Ne.symm hq']
  have s3 : cell'.slots.size = cell.slots.size := by rw [← hce]; simp [preparedCellV, Cell.setSlot]
  have s5 : ∀ k, k < (nft t).length → cell'.slots[gI (kG K) t k]? = cell.slots[gI (kG K) t k]? := by
    intro k hk0
    have hk1 : k = 0 := by omega
    subst hk1
    rw [← e0, ← hce]
    simp [preparedCellV, Cell.setSlot, Array.getElem?_setIfInBounds, bC.symm, bS.symm, bP.symm]
  have hR' := JR_setV hR hob x1 c1 e1 (by rw [← hce]; exact c2) (by rw [← hce]; rfl) s3 (by rw [← hce]; rfl) s5 e2 e3
  have hss : ssum (T'.heap.setIfInBounds (ad (kG K) a) cell') (kS K).heap.size = ssum H (kS K).heap.size := by
    refine ssum_same _ e2 ?_
    intro q c c' d1 d2
    by_cases hq' : q = ad (kG K) a
    · subst hq'
      rw [c1] at d1
      rw [e1] at d2
      cases d1
      cases d2
      exact s3
    · rw [e3 q hq', d1] at d2
      cases d2
      rfl
  have k0 := kk ls (T'.heap.setIfInBounds (ad (kG K) a) cell') (locs ++ [⟨ad (kG K) a, TT.fCause.slot⟩, ⟨ad (kG K) a, TT.fStack.slot⟩, ⟨ad (kG K) a, TT.fSupp.slot⟩, ⟨ad (kG K) a, TT.fStack.slot⟩]) hls hlv (fun x hx => by cases hx) hR' ⟨by
    intro q hq'
    rcases List.mem_append.mp hq' with z | z
    · exact hq.1 q z
    · have hb' : q.base = ad (kG K) a := by
        simp only [List.mem_cons, List.not_mem_nil, or_false] at z
        rcases z with rfl | rfl | rfl | rfl <;> rfl
      rw [hb', ad_pos hob.1]
      exact Nat.le_add_right _ _, hq.2⟩
  rw [e2, hss] at k0
  obtain ⟨tt, t1, t2⟩ := k0 (((T'.setVm vm₁).setVm vm₂).setCell (ad (kG K) a) cell') hU X₂
  refine ⟨tt, st1 _ (fun acts => ?_), t2⟩
  rw [doInvoke_state]
  exact st2 _ t1
theorem x0_20 : X0k 20 RJ3 := ⟨by decide, ⟨by decide, Or.inr (Or.inr (by decide)), rfl, rfl, tk1 q1197, _, rfl⟩, q1201, q1192, q849, q1193, q1194, q1195⟩
theorem x0_21 : X0k 21 RJ4 := ⟨by decide, ⟨by decide, Or.inr (Or.inr (by decide)), rfl, rfl, tk1 q1221, _, rfl⟩, q1225, q1216, q850, q1217, q1218, q1219⟩
theorem x0_22 : X0k 22 RJ5 := ⟨by decide, ⟨by decide, Or.inr (Or.inr (by decide)), rfl, rfl, tk1 q1282, _, rfl⟩, q1286, q1277, q851, q1278, q1279, q1280⟩
theorem t_iae {l : Launch} (hl : l.stackTraces = false) {G : JG} (hG : gO G = true) {F Lo : Nat} (hF : 6 ≤ F) (hLo : 100 ≤ Lo) {h : MH} {a : Int} {Q : Int → MH → Prop} {E : Nat → Int → MH → Prop} (hb : hv h a 0 = 0) (hQ : Q 0 h) : Sem l G yJ3_init (ws_ yJ3_init cJ3_init 1 none) F Lo 700 [(2020, a)] h Q E := by
  refine Sem_of (by decide +kernel) (Nat.le_of_ble_eq_true rfl) fun K ki => ?_
  have ko : KO K RJ3 cJ3_init := ki.1
  have po : POK K RJ3 P0x := po0 ki hG
  refine j_pu ko po (i := .aload_n 0) (by decide +kernel) rfl ?_
  refine j_init0 (g := 2020) ko (by decide +kernel) x0_20 (by rw [ki.2.1]; exact hl) (by rw [ki.2.2.2.2.2.2.2.1]; omega) (by rw [ki.2.2.2.2.2.2.2.2.1]; omega) (by decide) (fun q => obj_of_nn (g := 2020) (by decide) (by decide) q) hb ?_
  exact j_vret ko (by decide +kernel) ki.2.2.2.2.2.2.2.2.2.1 ki.2.2.2.1 (by rw [ki.2.2.2.2.1]; exact hQ)
theorem t_ise {l : Launch} (hl : l.stackTraces = false) {G : JG} (hG : gO G = true) {F Lo : Nat} (hF : 6 ≤ F) (hLo : 100 ≤ Lo) {h : MH} {a : Int} {Q : Int → MH → Prop} {E : Nat → Int → MH → Prop} (hb : hv h a 0 = 0) (hQ : Q 0 h) : Sem l G yJ4_init (ws_ yJ4_init cJ4_init 1 none) F Lo 700 [(2021, a)] h Q E := by
  refine Sem_of (by decide +kernel) (Nat.le_of_ble_eq_true rfl) fun K ki => ?_
  have ko : KO K RJ4 cJ4_init := ki.1
  have po : POK K RJ4 P0x := po0 ki hG
  refine j_pu ko po (i := .aload_n 0) (by decide +kernel) rfl ?_
  refine j_init0 (g := 2021) ko (by decide +kernel) x0_21 (by rw [ki.2.1]; exact hl) (by rw [ki.2.2.2.2.2.2.2.1]; omega) (by rw [ki.2.2.2.2.2.2.2.2.1]; omega) (by decide) (fun q => obj_of_nn (g := 2021) (by decide) (by decide) q) hb ?_
  exact j_vret ko (by decide +kernel) ki.2.2.2.2.2.2.2.2.2.1 ki.2.2.2.1 (by rw [ki.2.2.2.2.1]; exact hQ)
theorem t_ioobe {l : Launch} (hl : l.stackTraces = false) {G : JG} (hG : gO G = true) {F Lo : Nat} (hF : 6 ≤ F) (hLo : 100 ≤ Lo) {h : MH} {a : Int} {Q : Int → MH → Prop} {E : Nat → Int → MH → Prop} (hb : hv h a 0 = 0) (hQ : Q 0 h) : Sem l G yJ5_init_2 (ws_ yJ5_init_2 cJ5_init_2 1 none) F Lo 700 [(2022, a)] h Q E := by
  refine Sem_of (by decide +kernel) (Nat.le_of_ble_eq_true rfl) fun K ki => ?_
  have ko : KO K RJ5 cJ5_init_2 := ki.1
  have po : POK K RJ5 P0x := po0 ki hG
  refine j_pu ko po (i := .aload_n 0) (by decide +kernel) rfl ?_
  refine j_init0 (g := 2022) ko (by decide +kernel) x0_22 (by rw [ki.2.1]; exact hl) (by rw [ki.2.2.2.2.2.2.2.1]; omega) (by rw [ki.2.2.2.2.2.2.2.2.1]; omega) (by decide) (fun q => obj_of_nn (g := 2022) (by decide) (by decide) q) hb ?_
  exact j_vret ko (by decide +kernel) ki.2.2.2.2.2.2.2.2.2.1 ki.2.2.2.1 (by rw [ki.2.2.2.2.1]; exact hQ)
