/-! J-layer, part 25c: the exceptions' constructors -/
/-- the parts of a word -/
def cnj : Nat → Cond → List Cond
  | n + 1, .and a b => cnj n a ++ cnj n b
  | _, c => [c]
theorem cnj_ok {args : Array Value} {s : State} : ∀ (n : Nat) (c : Cond), c.before args s = true → ∀ w ∈ cnj n c, w.before args s = true
  | 0, c, h, w, hw => by rw [show w = c from List.mem_singleton.mp (by simpa [cnj] using hw)]; exact h
  | n + 1, c, h, w, hw => by
    unfold cnj at hw
    split at hw
    · rename_i m a b e
      rw [Cond.before_and, Bool.and_eq_true] at h
      have e2 : m = n := by omega
      subst e2
      rcases List.mem_append.mp hw with q | q
      · exact cnj_ok m a h.1 w q
      · exact cnj_ok m b h.2 w q
    · rw [List.mem_singleton.mp hw]
      exact h
abbrev tnN : String := "java/lang/Throwable"
/-- a static of Throwable's: it lies in the heap of the law's start, and is a reference or null -/
theorem xt_stat {G : JG} {s : State} (x : XT G s) {nm ds : String} (h1 : Cond.laysStatic tnN nm ds ∈ tables_1) (h2 : Cond.isRef (.static tnN nm ds) ∈ cnj 120 narrow_1) :
    ∃ (c : ClassId) (k : Class) (i : Nat) (f : Field) (a : Addr) (cell : Cell) (v : Value), s.fieldFound? tnN nm ds = some (c, k, i, f) ∧ f.isStatic = true ∧ k.statics = some a ∧ a < gB G ∧ (gH G)[a]? = some cell ∧ cell.vm ≠ .unknown ∧ cell.slots[f.slot]? = some v ∧ v.isRef = true ∧ s.vm.findClass tnN = some c := by
  obtain ⟨x1, s0, e1, e2, e3, e4⟩ := x
  obtain ⟨c, k, i, f, a, cell, hc, hi, hst, ha, hcell, hs, hcls, hlt, hty⟩ := Cond.laysStatic_spec (e3 _ h1)
  obtain ⟨u, hu⟩ := Cond.staticRefV hi hst ha hcell hs (cnj_ok _ _ e4 _ h2)
  obtain ⟨k', hi', he⟩ := State.fieldFound?_setVm e2.alike hi
  rw [e1] at hcell
  refine ⟨c, k', i, f, a, cell, u.v, hi', hst, by rw [he]; exact ha, (Array.getElem?_eq_some_iff.mp hcell).1, hcell, ?_, hu, u.2, by rw [e2.alike.findClass]; exact hc⟩
  intro q
  rw [q] at hs
  cases hs
theorem hset_self {h : MH} {a k : Int} : hset h a k (hv h a k) = h := by
  obtain ⟨f, r⟩ := h
  show ((fun b j => if b = a ∧ j = k then f a k else f b j, r) : MH) = (f, r)
  congr 1
  funext b j
  split
  · rename_i e
    rw [e.1, e.2]
  · rfl
/-- a field that the mini heap doesn't see is written -/
theorem JR_setU {G : JG} {h : MH} {H H' : Heap} {t i : Nat} {a : Int} {cell : Cell} {v : Value} (hR : JR G h H) (hob : obj h t a) (ht : t < 100) (hap : ∀ k, k < (nft t).length → i ≠ gI G t k) (hcell : H[ad G a]? = some cell) (hc' : H'[ad G a]? = some (cell.setSlot i v))
    (hsz : H'.size = H.size) (ho : ∀ q, q ≠ ad G a → H'[q]? = H[q]?) : JR G h H' := by
  have e : hset h a 0 (hv h a 0) = h := hset_self
  obtain ⟨cell1, c1, c2, c3, c4⟩ := cell_o hR hob ht
  cases hcell.symm.trans c1
  have := JR_set (k := 0) (x := hv h a 0) hR hob.1 hob.2.1 hcell hc' hsz (set_size _ _ _) ho (by
    rw [e]
    refine ⟨_, hc', c2, Or.inl ?_⟩
    rw [hob.2.2]
    refine ⟨ht, ⟨c3, fun q => by rw [set_size]; exact cell_x hR hob ht hcell q⟩, fun j hj => ?_⟩
    have s0 := c4 j hj
    unfold slotO at s0 ⊢
    rw [set_ne (hap j hj)]
    exact s0) (by rw [e]; exact hR.2.2.2.2.2.2.2)
  rwa [e] at this
/-- a type of exceptions, as the tables have it -/
def XTy (t : Nat) (C : String) (T : u_T) : Prop := t < 100 ∧ (t = 13 ∨ t = 17 ∨ 20 ≤ t) ∧ jcl[t]? = some (C, T, 1) ∧ (nft t).length = 1 ∧ (∀ w ∈ u_ws C T 1, w ∈ lw_all) ∧ ∃ ti, parseFieldDescriptor (T 0).2.2.1 = some ti
theorem fits_r {ty : FieldType} {v : Value} (hr : ty.isReference = true) (hv : v.isRef = true) : narrow ty v = v ∧ fits ty v = true := by
  refine ⟨narrow_isRef ty hv, ?_⟩
  cases ty <;> first | (simp [FieldType.isReference] at hr; done) | (cases v <;> first | (simp [Value.isRef] at hv; done) | rfl)
section XC
variable {K : JC} {own : String} {cc : ByteArray} {pc : Nat} {lv st : List LV} {h : MH} {idx t : Nat} {a : Int}
theorem w_putU {C : String} {T : u_T} {f d : String} {ty : FieldType} {v : Value} (ko : KO K own cc) (hd : decode cc pc = .ok (.putfield idx, 3)) (hx : XTy t C T) (hl : Cond.lays C tnN f d ∈ lw_all) (hl2 : Cond.lays tnN tnN f d ∈ lw_all) (hk : Cond.fieldLink own idx tnN f d ∈ lw_all)
    (hne : f ≠ (T 0).2.1) (hdt : parseFieldDescriptor d = some ty) (hr : ty.isReference = true) (hv : v.isRef = true) (kk : JW K (pc + 3) lv st h) {ls : Array Slot} {H : Heap} {locs : List Loc} (hls : lhas (kG K) ls (kC K).maxLocals lv) (hlv : ∀ x ∈ lv, okv h x) (hst : ∀ x ∈ st, okv h x) (hR : JR (kG K) h H)
    (hq : (∀ q ∈ locs, gB (kG K) ≤ q.base) ∧ ext (kH K) h) (hob : obj h t a) : WK K H locs pc ls (v :: .ref (ad (kG K) a) :: st.map (vl (kG K))) := by
  obtain ⟨ko1, ko2, ko3, ko4, ko5, -⟩ := ko
  obtain ⟨x1, x2, x3, x4, x5, t0, x6⟩ := hx
  obtain ⟨cell, c1, c2, c3, c4⟩ := cell_o hR hob x1
  have hKn := ko5.1 t _ x3
  obtain ⟨hS, hfc, kCl, hkC, hkind⟩ := hKn
  obtain ⟨cX, kX, c', k', i, fd, l1, l2, hi, l4, -, -, l7, -⟩ := Cond.lays_spec (ko4 _ hl)
  cases l1.symm.trans hfc
  cases l2.symm.trans hkC
  obtain ⟨n1, n2⟩ := fits_r hr hv
  have h6 := u_store hfc hkC hkind (ko4 _ hl) hi hdt n1 n2
  obtain ⟨cTw, kTw, c2', k2', i2, fd2, m1, m2, hi2, -, -, -, m7, -⟩ := Cond.lays_spec (ko4 _ hl2)
  cases hi.symm.trans hi2
  obtain ⟨cI, kI, i1, i2, -, -, -, i3⟩ := Cond.instantiable_spec (ko4 _ q856)
  cases i1.symm.trans m1
  cases i2.symm.trans m2
  have hlt6 : fd.slot < 6 := by
    have := (Array.getElem?_eq_some_iff.mp m7).1
    omega
  have hcx := cell_x hR hob x1 c1 x2
  have hlt : fd.slot < cell.slots.size := by omega
  have hap : ∀ k, k < (nft t).length → fd.slot ≠ gI (kG K) t k := by
    intro k hk0
    have hk1 : k = 0 := by omega
    subst hk1
    obtain ⟨_, _, _, f0, hi0, e0⟩ := hS 0 Nat.zero_lt_one
    rw [← e0]
    refine u_apart (Or.inl (ko4 _ hl)) (u_lays ko4 x5 (by omega)) hi hi0 ?_
    rw [(State.fieldFound?_type hi hdt).1, (State.fieldFound?_type hi0 x6).1]
    exact hne
  have key : ∀ H' : Heap, H'[ad (kG K) a]? = some (cell.setSlot fd.slot v) → H'.size = H.size → (∀ q, q ≠ ad (kG K) a → H'[q]? = H[q]?) →
      W (kP K) (kL K) (kE K) (kR K) (kS K) (kM K) (kA K) (kB K) (kT K) (kC K) H' (locs ++ [⟨ad (kG K) a, fd.slot⟩]) (H.size - (kS K).heap.size) (ssum H (kS K).heap.size) (JZ K) (F0 (kM K) (pc + 3) ls (st.map (vl (kG K)))) := by
    intro H' e1 e2 e3
    have hss : ssum H' (kS K).heap.size = ssum H (kS K).heap.size := by
      refine ssum_same _ e2 ?_
      intro q c c' d1 d2
      by_cases hq : q = ad (kG K) a
      · subst hq
        rw [c1] at d1
        rw [e1] at d2
        cases d1
        cases d2
        exact set_size _ _ _
      · rw [e3 q hq, d1] at d2
        cases d2
        rfl
    have k0 := kk ls H' (locs ++ [⟨ad (kG K) a, fd.slot⟩]) hls hlv hst (JR_setU hR hob x1 hap c1 e1 e2 e3) ⟨by
      intro q hq'
      rcases List.mem_append.mp hq' with z | z
      · exact hq.1 q z
      · rw [List.mem_singleton.mp z]
        show gB (kG K) ≤ ad (kG K) a
        rw [ad_pos hob.1]
        omega, hq.2⟩
    rw [e2, hss] at k0
    exact k0
  exact W.putK ko1 ko2 (f := fd) ⟨ko3, ko4 _ hk, ⟨_, _, _, hi⟩, l4⟩ (by rw [c3]; exact h6) c1 c2 hlt rfl rfl hd key
/-- a field of Throwable's is written, with a reference of ours or null -/
theorem j_putU {C : String} {T : u_T} {f d : String} {ty : FieldType} {g gx : Nat} {x : Int} (ko : KO K own cc) (hd : decode cc pc = .ok (.putfield idx, 3)) (hx : XTy t C T) (hl : Cond.lays C tnN f d ∈ lw_all) (hl2 : Cond.lays tnN tnN f d ∈ lw_all) (hk : Cond.fieldLink own idx tnN f d ∈ lw_all)
    (hne : f ≠ (T 0).2.1) (hdt : parseFieldDescriptor d = some ty) (hr : ty.isReference = true) (hg : 4 ≤ g) (ho : okv h (g, a) → obj h t a) (hgx : 4 ≤ gx) (kk : JW K (pc + 3) lv st h) : JW K pc lv ((gx, x) :: (g, a) :: st) h := by
  intro ls H locs hls hlv hst hR hq
  have hob := ho (hst _ (List.mem_cons_of_mem _ List.mem_cons_self))
  show WK K H locs pc ls (vl (kG K) (gx, x) :: vl (kG K) (g, a) :: st.map (vl (kG K)))
  rw [vl_r hg hob.1]
  refine w_putU ko hd hx hl hl2 hk hne hdt hr ?_ kk hls hlv (all_tail (all_tail hst)) hR hq hob
  rcases vl_ref_or (G := kG K) (x := (gx, x)) hgx with e | ⟨q, e⟩ <;> rw [e] <;> rfl
/-- a field of Throwable's is written with one of its statics -/
theorem j_gsp {C : String} {T : u_T} {nm ds f : String} {ty : FieldType} {g idx2 : Nat} (ko : KO K own cc) (hd : decode cc pc = .ok (.getstatic idx2, 3)) (hd2 : decode cc (pc + 3) = .ok (.putfield idx, 3)) (hx : XTy t C T) (hs1 : Cond.laysStatic tnN nm ds ∈ tables_1) (hs2 : Cond.isRef (.static tnN nm ds) ∈ cnj 120 narrow_1)
    (hs3 : Cond.fieldLink own idx2 tnN nm ds ∈ lw_all) (hl : Cond.lays C tnN f ds ∈ lw_all) (hl2 : Cond.lays tnN tnN f ds ∈ lw_all) (hk : Cond.fieldLink own idx tnN f ds ∈ lw_all) (hne : f ≠ (T 0).2.1) (hdt : parseFieldDescriptor ds = some ty) (hr : ty.isReference = true) (hg : 4 ≤ g) (ho : okv h (g, a) → obj h t a)
    (kk : JW K (pc + 6) lv st h) : JW K pc lv ((g, a) :: st) h := by
  intro ls H locs hls hlv hst hR hq
  have hob := ho (hst _ List.mem_cons_self)
  show WK K H locs pc ls (vl (kG K) (g, a) :: st.map (vl (kG K)))
  rw [vl_r hg hob.1]
  obtain ⟨c, k, i, fd, a1, cell, v, e1, e2, e3, e4, e5, e6, e7, e8, e9⟩ := xt_stat ko.2.2.2.2.1.2.2.2.2 hs1 hs2
  have hin : k.init = .initialized := by
    obtain ⟨hk', -⟩ := State.fieldFound?_spec e1
    exact Cond.initialized_spec e9 hk' (ko.2.2.2.1 _ q200)
  refine W.gets ko.1 ko.2.1 ko.2.2.1 (ko.2.2.2.1 _ hs3) e1 e2 hin e3 (by rw [hR.2.2.2.2.2.2.1 _ e4]; exact e5) e6 e7 rfl hd ?_
  exact w_putU (pc := pc + 3) ko hd2 hx hl hl2 hk hne hdt hr e8 kk hls hlv (all_tail hst) hR hq hob
theorem j_pu {lv' r r' : List LV} {P : JP} (ko : KO K own cc) (po : POK K own P) {i : Instr} (hd : decode cc pc = .ok (i, iln i)) (hp : pst P 0 i lv r h = some ([], lv', r')) (kk : JW K (pc + iln i) lv' r' h) : JW K pc lv r h := by
  have := pst_ok (st := []) ko po (bw := 0) (Nat.le_refl _) hd hp (by rw [List.append_nil]; exact kk)
  rwa [List.append_nil] at this
end XC
