/-! Part 25d (by gen/gen25d.py): the exceptions' constructors, walked -/
abbrev P0x : JP := (true, [], [], [], [], [], [], [], false, 700, [])
theorem po0 {K : JC} {l : Launch} {G : JG} {y : MethodName} {cc : ByteArray} {nL F Lo : Nat} {Q : Int → MH → Prop} {E : Nat → Int → MH → Prop} {h : MH} (ki : KI K l G y cc nL none [] F Lo 700 Q E h) (hG : gO G = true) : POK K y.cls P0x :=
  POKi ki hG fmz fmz fmz fmz fmz fmz (fun q hq => by cases hq) (fun z => Bool.noConfusion z) rfl (fun q hq => by cases hq)
theorem ki_out {K : JC} {l : Launch} {G : JG} {y : MethodName} {cc : ByteArray} {nL F Lo rt : Nat} {ret : Option FieldType} {Q : Int → MH → Prop} {E : Nat → Int → MH → Prop} {h : MH} (ki : KI K l G y cc nL ret [] F Lo rt Q E h) {pc : Nat} : AR K (kX K) pc := by
  refine ar_out ki.1.2.2.2.2.2.2.2.1 fun x hx => ?_
  rw [List.map_eq_nil_iff.mp ki.2.2.2.2.2.2.2.2.2.2.2.2] at hx
  cases hx
theorem xty_13 : XTy 13 RX13 TW13 := ⟨by decide, Or.inl rfl, rfl, rfl, tk1 q877, _, rfl⟩
theorem xty_17 : XTy 17 RX17 TW17 := ⟨by decide, Or.inr (Or.inl rfl), rfl, rfl, tk1 q2479, _, rfl⟩
theorem xs_un : Cond.isRef (.static tnN "UNASSIGNED_STACK" "[Ljava/lang/StackTraceElement;") ∈ cnj 120 narrow_1 := List.mem_of_getElem? (i := 2) rfl
theorem xs_su : Cond.isRef (.static tnN "SUPPRESSED_SENTINEL" "Ljava/util/List;") ∈ cnj 120 narrow_1 := List.mem_of_getElem? (i := 3) rfl
theorem xl_un : Cond.laysStatic tnN "UNASSIGNED_STACK" "[Ljava/lang/StackTraceElement;" ∈ tables_1 := lw_t3 (List.mem_of_getElem? (i := 172) rfl)
theorem xl_su : Cond.laysStatic tnN "SUPPRESSED_SENTINEL" "Ljava/util/List;" ∈ tables_1 := lw_t3 (List.mem_of_getElem? (i := 174) rfl)

theorem t_thr13 {l : Launch} {G : JG} (hG : gO G = true) {h : MH} {a : Int} {Q : Int → MH → Prop} {E : Nat → Int → MH → Prop} (hQ : Q 0 h) : Sem l G yJ0_init_2 (ws_ yJ0_init_2 cJ0_init_2 5 none) 3 100 700 [(2013, a), (900, 0), (900, 0), (0, 0), (0, 0)] h Q E := by
  refine Sem_of (by decide +kernel) (Nat.le_of_ble_eq_true rfl) fun K ki => ?_
  have ko : KO K RJ0 cJ0_init_2 := ki.1
  have po : POK K RJ0 P0x := po0 ki hG
  have ho : okv h (2013, a) → obj h 13 a := fun q => obj_of_nn (g := 2013) (by decide) (by decide) q
  refine j_pu ko po (i := .aload_n 0) (by decide +kernel) rfl ?_
  refine j_obj (idx := 1) ko (by decide +kernel) q839 (by rw [ki.2.2.2.2.2.2.2.1]; decide) (by rw [ki.2.2.2.2.2.2.2.2.1]; decide) (by decide) (fun q => (ho q).1) (by decide) ?_
  refine j_pu ko po (i := .aload_n 0) (by decide +kernel) rfl ?_
  refine j_pu ko po (i := .aload_n 0) (by decide +kernel) rfl ?_
  refine j_putU (idx := 7) (ty := .object "java/lang/Throwable") ko (by decide +kernel) xty_13 q825 q826 q874 (by decide) (by decide +kernel) rfl (by decide) ho (by decide) ?_
  refine j_pu ko po (i := .aload_n 0) (by decide +kernel) rfl ?_
  refine j_gsp (idx := 17) (idx2 := 13) (ty := .array (.object "java/lang/StackTraceElement")) ko (by decide +kernel) (by decide +kernel) xty_13 xl_un xs_un q840 q827 q828 q875 (by decide) (by decide +kernel) rfl (by decide) ho ?_
  refine j_pu ko po (i := .aload_n 0) (by decide +kernel) rfl ?_
  refine j_gsp (idx := 24) (idx2 := 20) (ty := .object "java/util/List") ko (by decide +kernel) (by decide +kernel) xty_13 xl_su xs_su q842 q829 q830 q876 (by decide) (by decide +kernel) rfl (by decide) ho ?_
  refine j_pu ko po (i := .iload 4) (by decide +kernel) rfl ?_
  refine j_if (c := .eq) (off := 11) (pc' := 36) ko (by decide +kernel) (by decide) (fun _ => ?_) (fun q => absurd rfl q)
  refine j_pu ko po (i := .aload_n 0) (by decide +kernel) rfl ?_
  refine j_pu ko po (i := .aconst_null) (by decide +kernel) rfl ?_
  refine j_putU (idx := 17) (ty := .array (.object "java/lang/StackTraceElement")) ko (by decide +kernel) xty_13 q827 q828 q875 (by decide) (by decide +kernel) rfl (by decide) ho (by decide) ?_
  refine j_pu ko po (i := .aload_n 0) (by decide +kernel) rfl ?_
  refine j_pu ko po (i := .aload_n 1) (by decide +kernel) rfl ?_
  refine j_putU (idx := 31) (ty := .object "java/lang/String") ko (by decide +kernel) xty_13 q831 q832 q873 (by decide) (by decide +kernel) rfl (by decide) ho (by decide) ?_
  refine j_pu ko po (i := .aload_n 0) (by decide +kernel) rfl ?_
  refine j_pu ko po (i := .aload_n 2) (by decide +kernel) rfl ?_
  refine j_putU (idx := 7) (ty := .object "java/lang/Throwable") ko (by decide +kernel) xty_13 q825 q826 q874 (by decide) (by decide +kernel) rfl (by decide) ho (by decide) ?_
  refine j_pu ko po (i := .iload_n 3) (by decide +kernel) rfl ?_
  refine j_if (c := .ne) (off := 8) (pc' := 60) ko (by decide +kernel) (by decide) (fun q => absurd rfl q) (fun _ => ?_)
  refine j_pu ko po (i := .aload_n 0) (by decide +kernel) rfl ?_
  refine j_pu ko po (i := .aconst_null) (by decide +kernel) rfl ?_
  refine j_putU (idx := 24) (ty := .object "java/util/List") ko (by decide +kernel) xty_13 q829 q830 q876 (by decide) (by decide +kernel) rfl (by decide) ho (by decide) ?_
  exact j_vret ko (by decide +kernel) ki.2.2.2.2.2.2.2.2.2.1 ki.2.2.2.1 (by rw [ki.2.2.2.2.1]; exact hQ)
theorem t_exc13 {l : Launch} {G : JG} (hG : gO G = true) {h : MH} {a : Int} {Q : Int → MH → Prop} {E : Nat → Int → MH → Prop} (hQ : Q 0 h) : Sem l G yJ1_init (ws_ yJ1_init cJ1_init 5 none) 4 124 700 [(2013, a), (900, 0), (900, 0), (0, 0), (0, 0)] h Q E := by
  refine Sem_of (by decide +kernel) (Nat.le_of_ble_eq_true rfl) fun K ki => ?_
  have ko : KO K RJ1 cJ1_init := ki.1
  have po : POK K RJ1 P0x := po0 ki hG
  refine j_pu ko po (i := .aload_n 0) (by decide +kernel) rfl ?_
  refine j_pu ko po (i := .aload_n 1) (by decide +kernel) rfl ?_
  refine j_pu ko po (i := .aload_n 2) (by decide +kernel) rfl ?_
  refine j_pu ko po (i := .iload_n 3) (by decide +kernel) rfl ?_
  refine j_pu ko po (i := .iload 4) (by decide +kernel) rfl ?_
  refine j_invI (y := yJ0_init_2) (ws := ws_ yJ0_init_2 cJ0_init_2 5 none) (F := 3) (Lo := 100) (rt := 700) (nLy := 5) (idx := 16) (g' := 2013) (a := a) (ar := [(900, 0), (900, 0), (0, 0), (0, 0)]) (st := []) ?_ ko (by decide +kernel) ⟨lw_meth q869, q200, Or.inl ⟨_, _, q869⟩, by decide, by decide +kernel⟩ ⟨rfl, q868, Or.inl q867, _, _, q869⟩ (ki_out ki) (by decide) (by rw [ki.2.2.2.2.2.2.2.1]; decide) (by rw [ki.2.2.2.2.2.2.2.2.1]; decide) (by decide) (by decide) rfl ?_
  · rw [ki.2.1, ki.2.2.1]
    refine t_thr13 hG ?_
    exact j_vret ko (by decide +kernel) ki.2.2.2.2.2.2.2.2.2.1 ki.2.2.2.1 (by rw [ki.2.2.2.2.1]; exact hQ)
  · intro q
    have q0 : okv h (2013, a) := q _ (by simp)
    exact ⟨⟨q0, (obj_of_nn (g := 2013) (by decide) (by decide) q0).1⟩, fun x hx => q x (by simp at hx ⊢; rcases hx with e | e <;> simp [e]), fun x hx => by cases hx⟩
theorem t_rte13 {l : Launch} {G : JG} (hG : gO G = true) {h : MH} {a : Int} {Q : Int → MH → Prop} {E : Nat → Int → MH → Prop} (hQ : Q 0 h) : Sem l G yJ2_init (ws_ yJ2_init cJ2_init 5 none) 5 148 700 [(2013, a), (900, 0), (900, 0), (0, 0), (0, 0)] h Q E := by
  refine Sem_of (by decide +kernel) (Nat.le_of_ble_eq_true rfl) fun K ki => ?_
  have ko : KO K RJ2 cJ2_init := ki.1
  have po : POK K RJ2 P0x := po0 ki hG
  refine j_pu ko po (i := .aload_n 0) (by decide +kernel) rfl ?_
  refine j_pu ko po (i := .aload_n 1) (by decide +kernel) rfl ?_
  refine j_pu ko po (i := .aload_n 2) (by decide +kernel) rfl ?_
  refine j_pu ko po (i := .iload_n 3) (by decide +kernel) rfl ?_
  refine j_pu ko po (i := .iload 4) (by decide +kernel) rfl ?_
  refine j_invI (y := yJ1_init) (ws := ws_ yJ1_init cJ1_init 5 none) (F := 4) (Lo := 124) (rt := 700) (nLy := 5) (idx := 16) (g' := 2013) (a := a) (ar := [(900, 0), (900, 0), (0, 0), (0, 0)]) (st := []) ?_ ko (by decide +kernel) ⟨lw_meth q866, q201, Or.inl ⟨_, _, q866⟩, by decide, by decide +kernel⟩ ⟨rfl, q865, Or.inl q864, _, _, q866⟩ (ki_out ki) (by decide) (by rw [ki.2.2.2.2.2.2.2.1]; decide) (by rw [ki.2.2.2.2.2.2.2.2.1]; decide) (by decide) (by decide) rfl ?_
  · rw [ki.2.1, ki.2.2.1]
    refine t_exc13 hG ?_
    exact j_vret ko (by decide +kernel) ki.2.2.2.2.2.2.2.2.2.1 ki.2.2.2.1 (by rw [ki.2.2.2.2.1]; exact hQ)
  · intro q
    have q0 : okv h (2013, a) := q _ (by simp)
    exact ⟨⟨q0, (obj_of_nn (g := 2013) (by decide) (by decide) q0).1⟩, fun x hx => q x (by simp at hx ⊢; rcases hx with e | e <;> simp [e]), fun x hx => by cases hx⟩
theorem t_ex13 {l : Launch} {G : JG} (hG : gO G = true) {h : MH} {a e : Int} {F Lo : Nat} (hF : 6 ≤ F) (hLo : 200 ≤ Lo) {Q : Int → MH → Prop} {E : Nat → Int → MH → Prop} (hQ : Q 0 (hset h a 0 e)) : Sem l G yX13_init (ws_ yX13_init cX13_init 2 none) F Lo 700 [(2013, a), (0, e)] h Q E := by
  refine Sem_of (by decide +kernel) (Nat.le_of_ble_eq_true rfl) fun K ki => ?_
  have ko : KO K RX13 cX13_init := ki.1
  have po : POK K RX13 P0x := po0 ki hG
  have ho : okv h (2013, a) → obj h 13 a := fun q => obj_of_nn (g := 2013) (by decide) (by decide) q
  refine j_pu ko po (i := .aload_n 0) (by decide +kernel) rfl ?_
  refine j_pu ko po (i := .aconst_null) (by decide +kernel) rfl ?_
  refine j_pu ko po (i := .aconst_null) (by decide +kernel) rfl ?_
  refine j_pu ko po (i := .iconst 0) (by decide +kernel) rfl ?_
  refine j_pu ko po (i := .iconst 0) (by decide +kernel) rfl ?_
  refine j_invI (y := yJ2_init) (ws := ws_ yJ2_init cJ2_init 5 none) (F := 5) (Lo := 148) (rt := 700) (nLy := 5) (idx := 1) (g' := 2013) (a := a) (ar := [(900, 0), (900, 0), (0, 0), (0, 0)]) (st := []) ?_ ko (by decide +kernel) ⟨lw_meth q863, q202, Or.inl ⟨_, _, q863⟩, by decide, by decide +kernel⟩ ⟨rfl, q862, Or.inl q861, _, _, q863⟩ (ki_out ki) (by decide) (by rw [ki.2.2.2.2.2.2.2.1]; omega) (by rw [ki.2.2.2.2.2.2.2.2.1]; omega) (by decide) (by decide) rfl ?_
  · rw [ki.2.1, ki.2.2.1]
    refine t_rte13 hG ?_
    show JW K 8 _ [] h
    refine j_pu ko po (i := .aload_n 0) (by decide +kernel) rfl ?_
    refine j_pu ko po (i := .iload_n 1) (by decide +kernel) rfl ?_
    refine j_put (t := 13) (k := 0) (idx := 7) (fin := true) ko (by decide +kernel) (mS (own := RX13) (idx := 7) (k := 0) (fin := true) cf_13 rfl q870 rfl (fun _ => rfl)) (by decide) ho (fun _ => ki.2.2.2.2.2.2.2.2.2.2.2.1) (fun _ => by decide) rfl (fun q => q) ?_
    exact j_vret ko (by decide +kernel) ki.2.2.2.2.2.2.2.2.2.1 ki.2.2.2.1 (by rw [ki.2.2.2.2.1]; exact hQ)
  · intro q
    have q0 : okv h (2013, a) := q _ (by simp)
    exact ⟨⟨q0, (ho q0).1⟩, fun x hx => q x (by simp at hx ⊢; rcases hx with e | e <;> simp [e]), fun x hx => by cases hx⟩
theorem t_thr17 {l : Launch} {G : JG} (hG : gO G = true) {h : MH} {a : Int} {Q : Int → MH → Prop} {E : Nat → Int → MH → Prop} (hQ : Q 0 h) : Sem l G yJ0_init_2 (ws_ yJ0_init_2 cJ0_init_2 5 none) 3 100 700 [(2017, a), (900, 0), (900, 0), (0, 0), (0, 0)] h Q E := by
  refine Sem_of (by decide +kernel) (Nat.le_of_ble_eq_true rfl) fun K ki => ?_
  have ko : KO K RJ0 cJ0_init_2 := ki.1
  have po : POK K RJ0 P0x := po0 ki hG
  have ho : okv h (2017, a) → obj h 17 a := fun q => obj_of_nn (g := 2017) (by decide) (by decide) q
  refine j_pu ko po (i := .aload_n 0) (by decide +kernel) rfl ?_
  refine j_obj (idx := 1) ko (by decide +kernel) q839 (by rw [ki.2.2.2.2.2.2.2.1]; decide) (by rw [ki.2.2.2.2.2.2.2.2.1]; decide) (by decide) (fun q => (ho q).1) (by decide) ?_
  refine j_pu ko po (i := .aload_n 0) (by decide +kernel) rfl ?_
  refine j_pu ko po (i := .aload_n 0) (by decide +kernel) rfl ?_
  refine j_putU (idx := 7) (ty := .object "java/lang/Throwable") ko (by decide +kernel) xty_17 q2468 q826 q874 (by decide) (by decide +kernel) rfl (by decide) ho (by decide) ?_
  refine j_pu ko po (i := .aload_n 0) (by decide +kernel) rfl ?_
  refine j_gsp (idx := 17) (idx2 := 13) (ty := .array (.object "java/lang/StackTraceElement")) ko (by decide +kernel) (by decide +kernel) xty_17 xl_un xs_un q840 q2469 q828 q875 (by decide) (by decide +kernel) rfl (by decide) ho ?_
  refine j_pu ko po (i := .aload_n 0) (by decide +kernel) rfl ?_
  refine j_gsp (idx := 24) (idx2 := 20) (ty := .object "java/util/List") ko (by decide +kernel) (by decide +kernel) xty_17 xl_su xs_su q842 q2470 q830 q876 (by decide) (by decide +kernel) rfl (by decide) ho ?_
  refine j_pu ko po (i := .iload 4) (by decide +kernel) rfl ?_
  refine j_if (c := .eq) (off := 11) (pc' := 36) ko (by decide +kernel) (by decide) (fun _ => ?_) (fun q => absurd rfl q)
  refine j_pu ko po (i := .aload_n 0) (by decide +kernel) rfl ?_
  refine j_pu ko po (i := .aconst_null) (by decide +kernel) rfl ?_
  refine j_putU (idx := 17) (ty := .array (.object "java/lang/StackTraceElement")) ko (by decide +kernel) xty_17 q2469 q828 q875 (by decide) (by decide +kernel) rfl (by decide) ho (by decide) ?_
  refine j_pu ko po (i := .aload_n 0) (by decide +kernel) rfl ?_
  refine j_pu ko po (i := .aload_n 1) (by decide +kernel) rfl ?_
  refine j_putU (idx := 31) (ty := .object "java/lang/String") ko (by decide +kernel) xty_17 q2471 q832 q873 (by decide) (by decide +kernel) rfl (by decide) ho (by decide) ?_
  refine j_pu ko po (i := .aload_n 0) (by decide +kernel) rfl ?_
  refine j_pu ko po (i := .aload_n 2) (by decide +kernel) rfl ?_
  refine j_putU (idx := 7) (ty := .object "java/lang/Throwable") ko (by decide +kernel) xty_17 q2468 q826 q874 (by decide) (by decide +kernel) rfl (by decide) ho (by decide) ?_
  refine j_pu ko po (i := .iload_n 3) (by decide +kernel) rfl ?_
  refine j_if (c := .ne) (off := 8) (pc' := 60) ko (by decide +kernel) (by decide) (fun q => absurd rfl q) (fun _ => ?_)
  refine j_pu ko po (i := .aload_n 0) (by decide +kernel) rfl ?_
  refine j_pu ko po (i := .aconst_null) (by decide +kernel) rfl ?_
  refine j_putU (idx := 24) (ty := .object "java/util/List") ko (by decide +kernel) xty_17 q2470 q830 q876 (by decide) (by decide +kernel) rfl (by decide) ho (by decide) ?_
  exact j_vret ko (by decide +kernel) ki.2.2.2.2.2.2.2.2.2.1 ki.2.2.2.1 (by rw [ki.2.2.2.2.1]; exact hQ)
theorem t_exc17 {l : Launch} {G : JG} (hG : gO G = true) {h : MH} {a : Int} {Q : Int → MH → Prop} {E : Nat → Int → MH → Prop} (hQ : Q 0 h) : Sem l G yJ1_init (ws_ yJ1_init cJ1_init 5 none) 4 124 700 [(2017, a), (900, 0), (900, 0), (0, 0), (0, 0)] h Q E := by
  refine Sem_of (by decide +kernel) (Nat.le_of_ble_eq_true rfl) fun K ki => ?_
  have ko : KO K RJ1 cJ1_init := ki.1
  have po : POK K RJ1 P0x := po0 ki hG
  refine j_pu ko po (i := .aload_n 0) (by decide +kernel) rfl ?_
  refine j_pu ko po (i := .aload_n 1) (by decide +kernel) rfl ?_
  refine j_pu ko po (i := .aload_n 2) (by decide +kernel) rfl ?_
  refine j_pu ko po (i := .iload_n 3) (by decide +kernel) rfl ?_
  refine j_pu ko po (i := .iload 4) (by decide +kernel) rfl ?_
  refine j_invI (y := yJ0_init_2) (ws := ws_ yJ0_init_2 cJ0_init_2 5 none) (F := 3) (Lo := 100) (rt := 700) (nLy := 5) (idx := 16) (g' := 2017) (a := a) (ar := [(900, 0), (900, 0), (0, 0), (0, 0)]) (st := []) ?_ ko (by decide +kernel) ⟨lw_meth q869, q200, Or.inl ⟨_, _, q869⟩, by decide, by decide +kernel⟩ ⟨rfl, q868, Or.inl q867, _, _, q869⟩ (ki_out ki) (by decide) (by rw [ki.2.2.2.2.2.2.2.1]; decide) (by rw [ki.2.2.2.2.2.2.2.2.1]; decide) (by decide) (by decide) rfl ?_
  · rw [ki.2.1, ki.2.2.1]
    refine t_thr17 hG ?_
    exact j_vret ko (by decide +kernel) ki.2.2.2.2.2.2.2.2.2.1 ki.2.2.2.1 (by rw [ki.2.2.2.2.1]; exact hQ)
  · intro q
    have q0 : okv h (2017, a) := q _ (by simp)
    exact ⟨⟨q0, (obj_of_nn (g := 2017) (by decide) (by decide) q0).1⟩, fun x hx => q x (by simp at hx ⊢; rcases hx with e | e <;> simp [e]), fun x hx => by cases hx⟩
theorem t_rte17 {l : Launch} {G : JG} (hG : gO G = true) {h : MH} {a : Int} {Q : Int → MH → Prop} {E : Nat → Int → MH → Prop} (hQ : Q 0 h) : Sem l G yJ2_init (ws_ yJ2_init cJ2_init 5 none) 5 148 700 [(2017, a), (900, 0), (900, 0), (0, 0), (0, 0)] h Q E := by
  refine Sem_of (by decide +kernel) (Nat.le_of_ble_eq_true rfl) fun K ki => ?_
  have ko : KO K RJ2 cJ2_init := ki.1
  have po : POK K RJ2 P0x := po0 ki hG
  refine j_pu ko po (i := .aload_n 0) (by decide +kernel) rfl ?_
  refine j_pu ko po (i := .aload_n 1) (by decide +kernel) rfl ?_
  refine j_pu ko po (i := .aload_n 2) (by decide +kernel) rfl ?_
  refine j_pu ko po (i := .iload_n 3) (by decide +kernel) rfl ?_
  refine j_pu ko po (i := .iload 4) (by decide +kernel) rfl ?_
  refine j_invI (y := yJ1_init) (ws := ws_ yJ1_init cJ1_init 5 none) (F := 4) (Lo := 124) (rt := 700) (nLy := 5) (idx := 16) (g' := 2017) (a := a) (ar := [(900, 0), (900, 0), (0, 0), (0, 0)]) (st := []) ?_ ko (by decide +kernel) ⟨lw_meth q866, q201, Or.inl ⟨_, _, q866⟩, by decide, by decide +kernel⟩ ⟨rfl, q865, Or.inl q864, _, _, q866⟩ (ki_out ki) (by decide) (by rw [ki.2.2.2.2.2.2.2.1]; decide) (by rw [ki.2.2.2.2.2.2.2.2.1]; decide) (by decide) (by decide) rfl ?_
  · rw [ki.2.1, ki.2.2.1]
    refine t_exc17 hG ?_
    exact j_vret ko (by decide +kernel) ki.2.2.2.2.2.2.2.2.2.1 ki.2.2.2.1 (by rw [ki.2.2.2.2.1]; exact hQ)
  · intro q
    have q0 : okv h (2017, a) := q _ (by simp)
    exact ⟨⟨q0, (obj_of_nn (g := 2017) (by decide) (by decide) q0).1⟩, fun x hx => q x (by simp at hx ⊢; rcases hx with e | e <;> simp [e]), fun x hx => by cases hx⟩
theorem t_ex17 {l : Launch} {G : JG} (hG : gO G = true) {h : MH} {a e : Int} {F Lo : Nat} (hF : 6 ≤ F) (hLo : 200 ≤ Lo) {Q : Int → MH → Prop} {E : Nat → Int → MH → Prop} (hQ : Q 0 (hset h a 0 e)) : Sem l G yX17_init (ws_ yX17_init cX17_init 2 none) F Lo 700 [(2017, a), (0, e)] h Q E := by
  refine Sem_of (by decide +kernel) (Nat.le_of_ble_eq_true rfl) fun K ki => ?_
  have ko : KO K RX17 cX17_init := ki.1
  have po : POK K RX17 P0x := po0 ki hG
  have ho : okv h (2017, a) → obj h 17 a := fun q => obj_of_nn (g := 2017) (by decide) (by decide) q
  refine j_pu ko po (i := .aload_n 0) (by decide +kernel) rfl ?_
  refine j_pu ko po (i := .aconst_null) (by decide +kernel) rfl ?_
  refine j_pu ko po (i := .aconst_null) (by decide +kernel) rfl ?_
  refine j_pu ko po (i := .iconst 0) (by decide +kernel) rfl ?_
  refine j_pu ko po (i := .iconst 0) (by decide +kernel) rfl ?_
  refine j_invI (y := yJ2_init) (ws := ws_ yJ2_init cJ2_init 5 none) (F := 5) (Lo := 148) (rt := 700) (nLy := 5) (idx := 1) (g' := 2017) (a := a) (ar := [(900, 0), (900, 0), (0, 0), (0, 0)]) (st := []) ?_ ko (by decide +kernel) ⟨lw_meth q863, q202, Or.inl ⟨_, _, q863⟩, by decide, by decide +kernel⟩ ⟨rfl, q862, Or.inl q2476, _, _, q863⟩ (ki_out ki) (by decide) (by rw [ki.2.2.2.2.2.2.2.1]; omega) (by rw [ki.2.2.2.2.2.2.2.2.1]; omega) (by decide) (by decide) rfl ?_
  · rw [ki.2.1, ki.2.2.1]
    refine t_rte17 hG ?_
    show JW K 8 _ [] h
    refine j_pu ko po (i := .aload_n 0) (by decide +kernel) rfl ?_
    refine j_pu ko po (i := .iload_n 1) (by decide +kernel) rfl ?_
    refine j_put (t := 17) (k := 0) (idx := 7) (fin := true) ko (by decide +kernel) (mS (own := RX17) (idx := 7) (k := 0) (fin := true) cf_17 rfl q2477 rfl (fun _ => rfl)) (by decide) ho (fun _ => ki.2.2.2.2.2.2.2.2.2.2.2.1) (fun _ => by decide) rfl (fun q => q) ?_
    exact j_vret ko (by decide +kernel) ki.2.2.2.2.2.2.2.2.2.1 ki.2.2.2.1 (by rw [ki.2.2.2.2.1]; exact hQ)
  · intro q
    have q0 : okv h (2017, a) := q _ (by simp)
    exact ⟨⟨q0, (ho q0).1⟩, fun x hx => q x (by simp at hx ⊢; rcases hx with e | e <;> simp [e]), fun x hx => by cases hx⟩
