/-! J-layer, part 9: locals, the stack, branches, returns -/
/-- the listed known locals, for the kit's rows -/
def kl_ (G : JG) (lv : List LV) : List (Nat × Value) := (List.range lv.length).filterMap (fun k => match lv[k]? with
  | some x => if x.1 = 5000 then none else some (k, vl G x)
  | none => none)
theorem kl_mem {G : JG} {lv : List LV} {k : Nat} {v : Value} : (k, v) ∈ kl_ G lv ↔ ∃ x, lv[k]? = some x ∧ x.1 ≠ 5000 ∧ v = vl G x := by
  unfold kl_
  simp only [List.mem_filterMap, List.mem_range]
  constructor
  · rintro ⟨j, hj, e⟩
    have h1 : lv[j]? = some lv[j] := List.getElem?_eq_getElem hj
    rw [h1] at e
    simp only at e
    split at e
    · cases e
    · rename_i h2
      simp only [Option.some.injEq, Prod.mk.injEq] at e
      obtain ⟨rfl, rfl⟩ := e
      exact ⟨_, h1, h2, rfl⟩
  · rintro ⟨x, h1, h2, h3⟩
    refine ⟨k, (List.getElem?_eq_some_iff.mp h1).1, ?_⟩
    rw [h1]
    simp [h2, h3]
theorem lhas_lv {G : JG} {ls : Array Slot} {n : Nat} {lv : List LV} (h : lhas G ls n lv) : lv_has ls n (kl_ G lv) := by
  refine ⟨h.1, h.2.1, fun q hq => ?_⟩
  obtain ⟨k, v⟩ := q
  obtain ⟨x, h1, h2, h3⟩ := kl_mem.mp hq
  rw [h3]
  exact h.2.2.2 k x h1 h2
/-- a tag is looked at when the pair is taken apart -/
def on1 (x : LV) (f : Nat → Bool) : Bool := match x with
  | (g, _) => f g
theorem on1_eq (x : LV) (f : Nat → Bool) : on1 x f = f x.1 := rfl
def kil (lv : List LV) (k : Nat) : List LV := match k with
  | 0 => lv
  | j + 1 => match lv[j]? with
    | some x => if on1 x (fun g => Nat.beq g 1) then lv.set j (5000, 0) else lv
    | none => lv
/-- a local is set -/
def stl (lv : List LV) (k : Nat) (x : LV) : List LV := (kil lv k).set k x
def stl2 (lv : List LV) (k : Nat) (x : LV) : List LV := ((kil lv k).set k x).set (k + 1) (5000, 0)
theorem kil_len (lv : List LV) (k : Nat) : (kil lv k).length = lv.length := by
  unfold kil
  split
  · rfl
  · split
    · split <;> simp
    · rfl
theorem kil_get {lv : List LV} {k j : Nat} {y : LV} (h : (kil lv k)[j]? = some y) : (j + 1 = k ∧ y.1 = 5000) ∨ (lv[j]? = some y ∧ ¬ (j + 1 = k ∧ y.1 = 1)) := by
  unfold kil at h
  split at h
  · exact Or.inr ⟨h, by omega⟩
  · rename_i i
    split at h
    · rename_i x hx
      split at h
      · rename_i hb
        rw [List.getElem?_set] at h
        split at h
        · rename_i e
          subst e
          split at h
          · cases h
            exact Or.inl ⟨rfl, rfl⟩
          · cases h
        · rename_i e
          exact Or.inr ⟨h, by omega⟩
      · rename_i hb
        refine Or.inr ⟨h, ?_⟩
        rintro ⟨e1, e2⟩
        have : j = i := by omega
        subst this
        rw [hx] at h
        cases h
        rw [on1_eq, e2] at hb
        exact hb rfl
    · rename_i hx
      refine Or.inr ⟨h, ?_⟩
      rintro ⟨e1, -⟩
      have : j = i := by omega
      subst this
      rw [hx] at h
      cases h
theorem lhas_stl {G : JG} {ls ls' : Array Slot} {n i : Nat} {lv : List LV} {x : LV} (h : lhas G ls n lv) (hx : x.1 ≠ 1) (h' : lv_has ls' n ((i, vl G x) :: (kl_ G lv).filter (fun q => !(q.1 == i) && !(q.1 + 1 == i && q.2.category == 2)))) : lhas G ls' n (stl lv i x) := by
  refine ⟨h'.1, h'.2.1, by rw [← h.2.2.1]; unfold stl; rw [List.length_set, kil_len], fun k y hk hy => ?_⟩
  refine h'.2.2 (k, vl G y) ?_
  unfold stl at hk
  rw [List.getElem?_set] at hk
  split at hk
  · rename_i e
    subst e
    split at hk
    · cases hk
      exact List.mem_cons_self
    · cases hk
  · rename_i e
    refine List.mem_cons_of_mem _ (List.mem_filter.mpr ⟨?_, ?_⟩)
    · rcases kil_get hk with ⟨-, z⟩ | ⟨z, -⟩
      · exact absurd z hy
      · exact kl_mem.mpr ⟨y, z, hy, rfl⟩
    · rcases kil_get hk with ⟨-, z⟩ | ⟨-, z⟩
      · exact absurd z hy
      · simp only [vl_cat, Bool.and_eq_true, Bool.not_eq_true', beq_eq_false_iff_ne, Bool.and_eq_false_iff]
        refine ⟨fun q => e q.symm, ?_⟩
        by_cases e1 : k + 1 = i
        · right
          rw [if_neg (fun q => z ⟨e1, q⟩)]
          decide
        · exact Or.inl e1
theorem lhas_stl2 {G : JG} {ls ls' : Array Slot} {n i : Nat} {lv : List LV} {x : LV} (h : lhas G ls n lv) (h' : lv_has ls' n ((i, vl G x) :: (kl_ G lv).filter (fun q => !(q.1 == i) && (!(q.1 == i + 1) && !(q.1 + 1 == i && q.2.category == 2))))) : lhas G ls' n (stl2 lv i x) := by
  refine ⟨h'.1, h'.2.1, by rw [← h.2.2.1]; unfold stl2; rw [List.length_set, List.length_set, kil_len], fun k y hk hy => ?_⟩
  refine h'.2.2 (k, vl G y) ?_
  unfold stl2 at hk
  rw [List.getElem?_set] at hk
  split at hk
  · split at hk
    · cases hk
      exact absurd rfl hy
    · cases hk
  · rename_i e0
    rw [List.getElem?_set] at hk
    split at hk
    · rename_i e
      subst e
      split at hk
      · cases hk
        exact List.mem_cons_self
      · cases hk
    · rename_i e
      refine List.mem_cons_of_mem _ (List.mem_filter.mpr ⟨?_, ?_⟩)
      · rcases kil_get hk with ⟨-, z⟩ | ⟨z, -⟩
        · exact absurd z hy
        · exact kl_mem.mpr ⟨y, z, hy, rfl⟩
      · rcases kil_get hk with ⟨-, z⟩ | ⟨-, z⟩
        · exact absurd z hy
        · simp only [vl_cat, Bool.and_eq_true, Bool.not_eq_true', beq_eq_false_iff_ne, Bool.and_eq_false_iff]
          refine ⟨fun q => e q.symm, fun q => e0 q.symm, ?_⟩
          by_cases e1 : k + 1 = i
          · right
            rw [if_neg (fun q => z ⟨e1, q⟩)]
            decide
          · exact Or.inl e1
theorem kil_ok {h : MH} {lv : List LV} {k : Nat} (hl : ∀ y ∈ lv, okv h y) : ∀ y ∈ kil lv k, okv h y := by
  intro y hy
  obtain ⟨j, hj⟩ := List.getElem?_of_mem hy
  rcases kil_get hj with ⟨-, z⟩ | ⟨z, -⟩
  · unfold okv
    simp [z]
  · exact hl y (List.mem_of_getElem? z)
theorem okv_u (h : MH) (z : Int) : okv h (5000, z) := by
  unfold okv
  simp
theorem set_ok {h : MH} {lv : List LV} {k : Nat} {x : LV} (hl : ∀ y ∈ lv, okv h y) (hx : okv h x) : ∀ y ∈ lv.set k x, okv h y := by
  intro y hy
  rcases List.mem_or_eq_of_mem_set hy with z | z
  · exact hl y z
  · rw [z]; exact hx
section LO
variable {K : JC} {own : String} {cc : ByteArray} {pc pc' : Nat} {lv lv' st st' : List LV} {h : MH} {idx t n g i : Nat} {a b : Int} {x : LV}
theorem j_ld (hx : lv[i]? = some x) (h5 : x.1 ≠ 5000) (row : ∀ (H : Heap) (locs : List Loc) (ls : Array Slot) (rest : List Value), ls[i]? = some (.val (vl (kG K) x)) → WK K H locs pc' ls (vl (kG K) x :: rest) → WK K H locs pc ls rest)
    (kk : JW K pc' lv (x :: st) h) : JW K pc lv st h := by
  intro ls H locs hl hlv hst hR hq
  exact row H locs ls _ (hl.2.2.2 i x hx h5) (kk ls H locs hl hlv (all_cons (hlv x (List.mem_of_getElem? hx)) hst) hR hq)
theorem j_st (hi : i < lv.length) (hx1 : x.1 ≠ 1) (row : ∀ (H : Heap) (locs : List Loc) (ls : Array Slot) (rest : List Value) (L : List (Nat × Value)) (n : Nat), lv_has ls n L → i < n → (∀ ls' : Array Slot, lv_has ls' n ((i, vl (kG K) x) :: L.filter (fun q => !(q.1 == i) && !(q.1 + 1 == i && q.2.category == 2))) → WK K H locs pc' ls' rest) → WK K H locs pc ls (vl (kG K) x :: rest))
    (kk : JW K pc' (stl lv i x) st h) : JW K pc lv (x :: st) h := by
  intro ls H locs hl hlv hst hR hq
  refine row H locs ls _ _ _ (lhas_lv hl) (by rw [← hl.2.2.1]; exact hi) (fun ls' h' => ?_)
  exact kk ls' H locs (lhas_stl hl hx1 h') (set_ok (kil_ok hlv) (hst _ List.mem_cons_self)) (all_tail hst) hR hq
theorem j_st2 (hi : i + 1 < lv.length) (row : ∀ (H : Heap) (locs : List Loc) (ls : Array Slot) (rest : List Value) (L : List (Nat × Value)) (n : Nat), lv_has ls n L → i + 1 < n → (∀ ls' : Array Slot, lv_has ls' n ((i, vl (kG K) x) :: L.filter (fun q => !(q.1 == i) && (!(q.1 == i + 1) && !(q.1 + 1 == i && q.2.category == 2)))) → WK K H locs pc' ls' rest) → WK K H locs pc ls (vl (kG K) x :: rest))
    (kk : JW K pc' (stl2 lv i x) st h) : JW K pc lv (x :: st) h := by
  intro ls H locs hl hlv hst hR hq
  refine row H locs ls _ _ _ (lhas_lv hl) (by rw [← hl.2.2.1]; exact hi) (fun ls' h' => ?_)
  exact kk ls' H locs (lhas_stl2 hl h') (set_ok (set_ok (kil_ok hlv) (hst _ List.mem_cons_self)) (okv_u h 0)) (all_tail hst) hR hq
theorem vl_ref_or {G : JG} (hg : 4 ≤ x.1) : (vl G x = .null) ∨ ∃ q, vl G x = .ref q := by
  unfold vl
  rw [if_neg (by omega), if_neg (by omega)]
  split
  · exact Or.inl rfl
  · exact Or.inr ⟨_, rfl⟩
theorem j_iinc {z : Int} {dn : Int} (ko : KO K own cc) (hd : decode cc pc = .ok (.iinc i dn, 3)) (hx : lv[i]? = some (0, z)) (kk : JW K (pc + 3) (stl lv i (0, w32 (z + dn))) st h) : JW K pc lv st h := by
  intro ls H locs hl hlv hst hR hq
  have hi : i < lv.length := (List.getElem?_eq_some_iff.mp hx).1
  have hm : (i, Value.int (Int32.ofInt z)) ∈ kl_ (kG K) lv := kl_mem.mpr ⟨_, hx, (by show (0 : Nat) ≠ 5000; decide), rfl⟩
  obtain ⟨k, hk⟩ := List.getElem?_of_mem hm
  refine lv_iinc (v := Int32.ofInt (w32 (z + dn))) ko.1 ko.2.1 hd (lhas_lv hl) (k := k) hk (by rw [o32, Int32.ofInt_add]) (by rw [← hl.2.2.1]; exact hi) rfl (fun ls' h' => ?_)
  exact kk ls' H locs (lhas_stl (x := (0, w32 (z + dn))) hl (by show (0 : Nat) ≠ 1; decide) h') (set_ok (kil_ok hlv) (okv_i h (w32_c _))) hst hR hq
/-- conditions -/
def cnd (c : Jvm.ClassFile.Cond) (a b : Int) : Prop := match c with
  | .eq => a = b
  | .ne => ¬ a = b
  | .lt => a < b
  | .ge => b ≤ a
  | .gt => b < a
  | .le => a ≤ b
def neg (c : Jvm.ClassFile.Cond) : Jvm.ClassFile.Cond := match c with
  | .eq => .ne
  | .ne => .eq
  | .lt => .ge
  | .ge => .lt
  | .gt => .le
  | .le => .gt
theorem cnd_neg (c : Jvm.ClassFile.Cond) (a b : Int) : cnd (neg c) a b ↔ ¬ cnd c a b := by
  cases c <;> simp [cnd, neg] <;> omega
theorem j_icmp {c : Jvm.ClassFile.Cond} {off : Int} (ko : KO K own cc) (hd : decode cc pc = .ok (.if_icmp c off, 3)) (ht : (pc : Int) + off = (pc' : Int)) (kt : cnd c a b → JW K pc' lv st h) (kf : cnd (neg c) a b → JW K (pc + 3) lv st h) : JW K pc lv ((0, b) :: (0, a) :: st) h := by
  intro ls H locs hl hlv hst hR hq
  have ca := okv_i' (hst _ (List.mem_cons_of_mem _ List.mem_cons_self))
  have cb := okv_i' (hst _ List.mem_cons_self)
  have kt' : cnd c a b → WK K H locs pc' ls (st.map (vl (kG K))) := fun q => kt q ls H locs hl hlv (all_tail (all_tail hst)) hR hq
  have kf' : ¬ cnd c a b → WK K H locs (pc + 3) ls (st.map (vl (kG K))) := fun q => kf ((cnd_neg c a b).mpr q) ls H locs hl hlv (all_tail (all_tail hst)) hR hq
  show WK K H locs pc ls (.int (Int32.ofInt b) :: .int (Int32.ofInt a) :: st.map (vl (kG K)))
  cases c with
  | eq => exact lv_icmp_eq ko.1 ko.2.1 hd ht (fun q => kt' ((x32 ca cb).mp q)) (fun q => kf' (fun z => q ((x32 ca cb).mpr z)))
  | ne => exact lv_icmp_ne ko.1 ko.2.1 hd ht (fun q => kt' (fun z => q ((x32 ca cb).mpr z))) (fun q => kf' (fun z => z ((x32 ca cb).mp q)))
  | lt => exact lv_icmp_lt ko.1 ko.2.1 hd ht (fun q => kt' ((lt32 ca cb).mp q)) (fun q => kf' (fun z => q ((lt32 ca cb).mpr z)))
  | ge => exact lv_icmp_ge ko.1 ko.2.1 hd ht (fun q => kt' ((le32 cb ca).mp q)) (fun q => kf' (fun z => q ((le32 cb ca).mpr z)))
  | gt => exact lv_icmp_gt ko.1 ko.2.1 hd ht (fun q => kt' ((lt32 cb ca).mp q)) (fun q => kf' (fun z => q ((lt32 cb ca).mpr z)))
  | le => exact lv_icmp_le ko.1 ko.2.1 hd ht (fun q => kt' ((le32 ca cb).mp q)) (fun q => kf' (fun z => q ((le32 ca cb).mpr z)))
theorem j_if {c : Jvm.ClassFile.Cond} {off : Int} (ko : KO K own cc) (hd : decode cc pc = .ok (.ifCond c off, 3)) (ht : (pc : Int) + off = (pc' : Int)) (kt : cnd c a 0 → JW K pc' lv st h) (kf : cnd (neg c) a 0 → JW K (pc + 3) lv st h) : JW K pc lv ((0, a) :: st) h := by
  intro ls H locs hl hlv hst hR hq
  have ca := okv_i' (hst _ List.mem_cons_self)
  have kt' : cnd c a 0 → WK K H locs pc' ls (st.map (vl (kG K))) := fun q => kt q ls H locs hl hlv (all_tail hst) hR hq
  have kf' : ¬ cnd c a 0 → WK K H locs (pc + 3) ls (st.map (vl (kG K))) := fun q => kf ((cnd_neg c a 0).mpr q) ls H locs hl hlv (all_tail hst) hR hq
  show WK K H locs pc ls (.int (Int32.ofInt a) :: st.map (vl (kG K)))
  have e0 : (0 : Int32) = Int32.ofInt 0 := rfl
  cases c with
  | eq => exact lv_if_eq ko.1 ko.2.1 hd ht (fun q => kt' ((x32 ca c32_0).mp q)) (fun q => kf' (fun z => q ((x32 ca c32_0).mpr z)))
  | ne => exact lv_if_ne ko.1 ko.2.1 hd ht (fun q => kt' (fun z => q ((x32 ca c32_0).mpr z))) (fun q => kf' (fun z => z ((x32 ca c32_0).mp q)))
  | lt => exact lv_if_lt ko.1 ko.2.1 hd ht (fun q => kt' ((lt32 ca c32_0).mp q)) (fun q => kf' (fun z => q ((lt32 ca c32_0).mpr z)))
  | ge => exact lv_if_ge ko.1 ko.2.1 hd ht (fun q => kt' ((le32 c32_0 ca).mp q)) (fun q => kf' (fun z => q ((le32 c32_0 ca).mpr z)))
  | gt => exact lv_if_gt ko.1 ko.2.1 hd ht (fun q => kt' ((lt32 c32_0 ca).mp q)) (fun q => kf' (fun z => q ((lt32 c32_0 ca).mpr z)))
  | le => exact lv_if_le ko.1 ko.2.1 hd ht (fun q => kt' ((le32 ca c32_0).mp q)) (fun q => kf' (fun z => q ((le32 ca c32_0).mpr z)))
theorem vl_0 {G : JG} (hg : 4 ≤ g) : vl G (g, 0) = .null := by
  unfold vl
  rw [if_neg (by show ¬ g = 1; omega), if_neg (by show ¬ g < 4; omega), if_pos rfl]
theorem vl_n0 {G : JG} (hg : 4 ≤ g) (ha : a ≠ 0) : vl G (g, a) = .ref (ad G a) := by
  unfold vl
  rw [if_neg (by show ¬ g = 1; omega), if_neg (by show ¬ g < 4; omega), if_neg ha]
theorem j_ifnull {off : Int} (ko : KO K own cc) (hd : decode cc pc = .ok (.ifnull off, 3)) (hg : 4 ≤ g) (ht : (pc : Int) + off = (pc' : Int)) (kt : a = 0 → JW K pc' lv st h) (kf : ¬ a = 0 → JW K (pc + 3) lv st h) : JW K pc lv ((g, a) :: st) h := by
  intro ls H locs hl hlv hst hR hq
  show WK K H locs pc ls (vl (kG K) (g, a) :: st.map (vl (kG K)))
  by_cases ha : a = 0
  · have k0 := kt ha ls H locs hl hlv (all_tail hst) hR hq
    subst ha
    rw [vl_0 hg]
    exact lv_ifnullN ko.1 ko.2.1 hd ht k0
  · have k0 := kf ha ls H locs hl hlv (all_tail hst) hR hq
    rw [vl_n0 hg ha]
    exact lv_ifnull ko.1 ko.2.1 hd k0
theorem j_ifnonnull {off : Int} (ko : KO K own cc) (hd : decode cc pc = .ok (.ifnonnull off, 3)) (hg : 4 ≤ g) (ht : (pc : Int) + off = (pc' : Int)) (kt : ¬ a = 0 → JW K pc' lv st h) (kf : a = 0 → JW K (pc + 3) lv st h) : JW K pc lv ((g, a) :: st) h := by
  intro ls H locs hl hlv hst hR hq
  show WK K H locs pc ls (vl (kG K) (g, a) :: st.map (vl (kG K)))
  by_cases ha : a = 0
  · have k0 := kf ha ls H locs hl hlv (all_tail hst) hR hq
    subst ha
    rw [vl_0 hg]
    exact lv_ifnonnullN ko.1 ko.2.1 hd k0
  · have k0 := kt ha ls H locs hl hlv (all_tail hst) hR hq
    rw [vl_n0 hg ha]
    exact lv_ifnonnull ko.1 ko.2.1 hd ht k0
theorem j_goto {off : Int} (ko : KO K own cc) (hd : decode cc pc = .ok (.goto off, 3)) (ht : (pc : Int) + off = (pc' : Int)) (kk : JW K pc' lv st h) : JW K pc lv st h := by
  intro ls H locs hl hlv hst hR hq
  exact lv_goto ko.1 ko.2.1 hd ht (kk ls H locs hl hlv hst hR hq)
/-- a switch by a table -/
def swt (k : Nat → Prop) (x : Int) : Int → List Nat → Prop
  | _, [] => True
  | lo, t :: ts => (x = lo → k t) ∧ swt k x (lo + 1) ts
theorem swt_at {k : Nat → Prop} {x : Int} : ∀ (ts : List Nat) (lo : Int), swt k x lo ts → ∀ (j : Nat) (t : Nat), ts[j]? = some t → x = lo + j → k t
  | [], lo, _, j, t, hj, _ => by simp at hj
  | t0 :: ts, lo, hs, 0, t, hj, hx => by
    simp at hj
    subst hj
    exact hs.1 (by simpa using hx)
  | t0 :: ts, lo, hs, j + 1, t, hj, hx => swt_at ts (lo + 1) hs.2 j t (by simpa using hj) (by rw [hx]; push_cast; omega)
theorem j_switch {dflt lo hi : Int} {offs : Array Int} {len : Nat} {ts : List Nat} {dt : Nat} (ko : KO K own cc) (hd : decode cc pc = .ok (.tableswitch dflt lo hi offs, len)) (hdt : (pc : Int) + dflt = (dt : Int)) (hts : offs.toList.map (fun o => (pc : Int) + o) = ts.map (fun t : Nat => (t : Int))) (hhi : hi = lo + (ts.length : Int) - 1)
    (k1 : swt (fun t => JW K t lv st h) a lo ts) (k2 : (a < lo ∨ hi < a) → JW K dt lv st h) : JW K pc lv ((0, a) :: st) h := by
  intro ls H locs hl hlv hst hR hq
  have ca := okv_i' (hst _ List.mem_cons_self)
  have ea : (Int32.ofInt a).toInt = a := w32_id ca
  show WK K H locs pc ls (.int (Int32.ofInt a) :: st.map (vl (kG K)))
  by_cases hin : a < lo ∨ hi < a
  · exact lv_tableOut ko.1 ko.2.1 hd (by rw [ea]; exact hin) hdt (k2 hin ls H locs hl hlv (all_tail hst) hR hq)
  · have hj : (a - lo).toNat < ts.length := by omega
    have h1 : ts[(a - lo).toNat]? = some ts[(a - lo).toNat] := List.getElem?_eq_getElem hj
    have h2 : (offs.toList.map (fun o => (pc : Int) + o))[(a - lo).toNat]? = some (ts[(a - lo).toNat] : Int) := by rw [hts]; simp [h1]
    rw [List.getElem?_map] at h2
    cases h3 : offs.toList[(a - lo).toNat]? with
    | none => rw [h3] at h2; simp at h2
    | some off =>
      rw [h3] at h2
      simp only [Option.map_some, Option.some.injEq] at h2
      refine lv_tableIn ko.1 ko.2.1 hd (by rw [ea]; omega) (by rw [ea]; omega) (off := off) (by rw [ea, ← Array.getElem?_toList]; exact h3) h2 ?_
      exact swt_at ts lo k1 _ _ h1 (by omega) ls H locs hl hlv (all_tail hst) hR hq
theorem W_mono {H : Heap} {locs : List Loc} {cs ss : Nat} {Q Q' : State → Prop} {gf : JFrame} (hQ : ∀ t, Q t → Q' t) (k : W (kP K) (kL K) (kE K) (kR K) (kS K) (kM K) (kA K) (kB K) (kT K) (kC K) H locs cs ss Q gf) : W (kP K) (kL K) (kE K) (kR K) (kS K) (kM K) (kA K) (kB K) (kT K) (kC K) H locs cs ss Q' gf := by
  intro T hT X
  obtain ⟨t, e1, e2⟩ := k T hT X
  exact ⟨t, e1, hQ t e2⟩
theorem JZ_ret {H : Heap} {z : Int} {cs ss : Nat} {o : Outcome} (hR : JR (kG K) h H) (hE : ext (kH K) h) (ho : o = .returned (rv (kG K) (kV K) z)) (hz : okr h (kV K) z) (hQ : kQ K z h) (t : State) (hM : MQ (kB K) (fun _ _ o' t' => o' = o ∧ t'.heap = H) (kA K) (kS K) cs ss (fun q => gB (kG K) ≤ q) t) : JZ K t := by
  obtain ⟨o', m1, m2, ⟨m3, m4⟩, L, m5, m6⟩ := hM
  subst m3
  refine ⟨o', m1, m2, m5.2.1, ⟨L, cs, ss, m5.2.2, m6⟩, h, by rw [m4]; exact hR, hE, Or.inl ⟨z, ho, hz, hQ⟩⟩
theorem j_iret (ko : KO K own cc) (hd : decode cc pc = .ok (.ireturn, 1)) (hr : (kT K).sig.returnType = some .int) (hv : kV K = 0) (hQ : kQ K a h) : JW K pc lv [(0, a)] h := by
  intro ls H locs hl hlv hst hR hq
  have ca := okv_i' (hst _ List.mem_cons_self)
  refine W_mono (JZ_ret (cs := H.size - (kS K).heap.size) (ss := ssum H (kS K).heap.size) (o := .returned (some (.int (Int32.ofInt a)))) hR hq.2 (by rw [hv]; rfl) (by rw [hv]; unfold okr okf; simpa using ca) hQ) ?_
  exact W.iret ko.1 ko.2.1 hr (fun t e _ => ⟨rfl, e⟩) hq.1 hd ko.2.2.2.2.2.2.2.1
theorem j_zret (ko : KO K own cc) (hd : decode cc pc = .ok (.ireturn, 1)) (hr : (kT K).sig.returnType = some .boolean) (hv : kV K = 2) (h01 : a = 0 ∨ a = 1) (hQ : kQ K a h) : JW K pc lv [(0, a)] h := by
  intro ls H locs hl hlv hst hR hq
  refine W_mono (JZ_ret (cs := H.size - (kS K).heap.size) (ss := ssum H (kS K).heap.size) (o := .returned (some (.int (Int32.ofInt a)))) hR hq.2 (by rw [hv]; rfl) (by rw [hv]; unfold okr okf; simpa using h01) hQ) ?_
  exact W.zret ko.1 ko.2.1 hr (by rcases h01 with e | e <;> subst e <;> rfl) (fun t e _ => ⟨rfl, e⟩) hq.1 hd ko.2.2.2.2.2.2.2.1
theorem j_lret (ko : KO K own cc) (hd : decode cc pc = .ok (.lreturn, 1)) (hr : (kT K).sig.returnType = some .long) (hv : kV K = 1) (hQ : kQ K a h) : JW K pc lv [(1, a)] h := by
  intro ls H locs hl hlv hst hR hq
  have ca := okv_l' (hst _ List.mem_cons_self)
  refine W_mono (JZ_ret (cs := H.size - (kS K).heap.size) (ss := ssum H (kS K).heap.size) (o := .returned (some (.long (Int64.ofInt a)))) hR hq.2 (by rw [hv]; rfl) (by rw [hv]; unfold okr okf; simpa using ca) hQ) ?_
  exact W.lret ko.1 ko.2.1 hr (fun t e _ => ⟨rfl, e⟩) hq.1 hd ko.2.2.2.2.2.2.2.1
theorem j_vret (ko : KO K own cc) (hd : decode cc pc = .ok (.return_, 1)) (hr : (kT K).sig.returnType = none) (hv : kV K = 700) (hQ : kQ K 0 h) : JW K pc lv [] h := by
  intro ls H locs hl hlv hst hR hq
  refine W_mono (JZ_ret (cs := H.size - (kS K).heap.size) (ss := ssum H (kS K).heap.size) (o := .returned none) hR hq.2 (by rw [hv]; rfl) (by rw [hv]; rfl) hQ) ?_
  exact W.vret ko.1 ko.2.1 hr (fun t e _ => ⟨rfl, e⟩) hq.1 hd ko.2.2.2.2.2.2.2.1
theorem j_aret {rt : FieldType} (ko : KO K own cc) (hd : decode cc pc = .ok (.areturn, 1)) (hr : (kT K).sig.returnType = some rt) (hrt : (∃ n, rt = .object n) ∨ ∃ t, rt = .array t) (hv4 : 4 ≤ kV K) (hv7 : kV K < 700) (hg : 4 ≤ g) (hok : okv h (g, a) → okf h (kV K) a) (hQ : kQ K a h) : JW K pc lv [(g, a)] h := by
  intro ls H locs hl hlv hst hR hq
  have ho := hok (hst _ List.mem_cons_self)
  have e : vl (kG K) (kV K, a) = vl (kG K) (g, a) := by
    by_cases ha : a = 0
    · subst ha
      rw [vl_0 hg, vl_0 hv4]
    · rw [vl_n0 hg ha, vl_n0 hv4 ha]
  refine W_mono (JZ_ret (cs := H.size - (kS K).heap.size) (ss := ssum H (kS K).heap.size) (o := .returned (some (vl (kG K) (g, a)))) hR hq.2 (by unfold rv; rw [if_neg (by omega), e]) (by unfold okr; rw [if_neg (by omega)]; exact ho) hQ) ?_
  exact W.aret ko.1 ko.2.1 hr hrt (vl_ref_or (x := (g, a)) hg) (fun t e _ => ⟨rfl, e⟩) hq.1 hd ko.2.2.2.2.2.2.2.1
end LO
