/-! Part 25a: what the bytes decode to, by windows of three bytes (by gen/mkdec.py) -/
/-- a reader that looks at nothing but the bytes behind it -/
def Sh {α : Type} (r : Decoder α) : Prop := ∀ (cc W : ByteArray) (pc k : Nat) (a : α) (n : Nat), (∀ (j : Nat) (h : j < W.size), ∃ h' : pc + j < cc.size, cc[pc + j] = W[j]) → r.runAt W k = .ok (a, n) → r.runAt cc (pc + k) = .ok (a, pc + n)
theorem sh_pure {α : Type} (x : α) : Sh (pure x) := by
  intro cc W pc k a n _ h
  cases h
  rfl
theorem runAt_bind {α β : Type} (r : Decoder α) (f : α → Decoder β) (W : ByteArray) (k : Nat) : (r >>= f).runAt W k = (match r.runAt W k with | .ok (x, k') => (f x).runAt W k' | .error e => .error e) := by
  show (Except.bind (r W k) fun x => f x.1 W x.2) = _
  unfold Reader.runAt
  show _ = (match r W k with | .ok (x, k') => (f x) W k' | .error e => .error e)
  cases r W k with
  | error e => rfl
  | ok x => rfl
theorem sh_bind {α β : Type} {r : Decoder α} {f : α → Decoder β} (h1 : Sh r) (h2 : ∀ x, Sh (f x)) : Sh (r >>= f) := by
  intro cc W pc k a n hW h
  rw [runAt_bind] at h ⊢
  cases hr : r.runAt W k with
  | error e => rw [hr] at h; cases h
  | ok y =>
    obtain ⟨x, k'⟩ := y
    rw [hr] at h
    rw [h1 cc W pc k x k' hW hr]
    exact h2 x cc W pc k' a n hW h
theorem sh_u1 : Sh Reader.u1 := by
  intro cc W pc k a n hW h
  have e : ∀ (C : ByteArray) (q : Nat), (Reader.u1 : Decoder Nat).runAt C q = if h : q < C.size then .ok (C[q].toNat, q + 1) else .error (.truncated q) := by
    intro C q
    show ((if h : q < C.size then (do set (q + 1); pure C[q].toNat) else throw (HasTruncated.truncated q) : Decoder Nat)).runAt C q = _
    split <;> rfl
  rw [e] at h ⊢
  split at h
  · rename_i h1
    obtain ⟨h2, h3⟩ := hW k h1
    rw [dif_pos h2, h3]
    cases h
    rfl
  · cases h
theorem sh_u2 : Sh Reader.u2 := sh_bind sh_u1 fun _ => sh_bind sh_u1 fun _ => sh_pure _
theorem sh_map {α β : Type} {r : Decoder α} {f : α → β} (h1 : Sh r) : Sh (f <$> r) := by
  have : (f <$> r) = (r >>= fun x => pure (f x)) := by
    funext C q
    show Except.map _ _ = Except.bind _ _
    cases r C q <;> rfl
  rw [this]
  exact sh_bind h1 fun _ => sh_pure _
theorem sh_s1 : Sh Reader.s1 := sh_map sh_u1
theorem sh_s2 : Sh Reader.s2 := sh_map sh_u2
theorem sh_one {α : Type} {r : Decoder α} {f : α → Instr} (h1 : Sh r) : Sh (do pure (f (← r))) := sh_bind h1 fun _ => sh_pure _
theorem sh_two {α β : Type} {r : Decoder α} {r' : Decoder β} {f : α → β → Instr} (h1 : Sh r) (h2 : Sh r') : Sh (do pure (f (← r) (← r'))) := sh_bind h1 fun _ => sh_bind h2 fun _ => sh_pure _
def goodb : List Nat := [0, 1, 2, 3, 4, 5, 6, 7, 8, 9, 10, 11, 12, 13, 14, 15, 16, 17, 18, 19, 20, 21, 22, 23, 24, 25, 26, 27, 28, 29, 30, 31, 32, 33, 34, 35, 36, 37, 38, 39, 40, 41, 42, 43, 44, 45, 46, 47, 48, 49, 50, 51, 52, 53, 54, 55, 56, 57, 58, 59, 60, 61, 62, 63, 64, 65, 66, 67, 68, 69, 70, 71, 72, 73, 74, 75, 76, 77, 78, 79, 80, 81, 82, 83, 84, 85, 86, 87, 88, 89, 90, 91, 92, 93, 94, 95, 96, 97, 98, 99, 100, 101, 102, 103, 104, 105, 106, 107, 108, 109, 110, 111, 112, 113, 114, 115, 116, 117, 118, 119, 120, 121, 122, 123, 124, 125, 126, 127, 128, 129, 130, 131, 132, 133, 134, 135, 136, 137, 138, 139, 140, 141, 142, 143, 144, 145, 146, 147, 148, 149, 150, 151, 152, 153, 154, 155, 156, 157, 158, 159, 160, 161, 162, 163, 164, 165, 166, 167, 168, 169, 172, 173, 174, 175, 176, 177, 178, 179, 180, 181, 182, 183, 184, 187, 189, 190, 191, 192, 193, 194, 195, 198, 199]
theorem sh_instr (pc : Nat) : ∃ K : Nat → Decoder Instr, Decoder.instr pc = Reader.u1 >>= K ∧ ∀ b ∈ goodb, Sh (K b) := by
  refine ⟨_, rfl, ?_⟩
  unfold goodb
  refine List.forall_mem_cons.mpr ⟨sh_pure _, ?_⟩
  refine List.forall_mem_cons.mpr ⟨sh_pure _, ?_⟩
  refine List.forall_mem_cons.mpr ⟨sh_pure _, ?_⟩
  refine List.forall_mem_cons.mpr ⟨sh_pure _, ?_⟩
  refine List.forall_mem_cons.mpr ⟨sh_pure _, ?_⟩
  refine List.forall_mem_cons.mpr ⟨sh_pure _, ?_⟩
  refine List.forall_mem_cons.mpr ⟨sh_pure _, ?_⟩
  refine List.forall_mem_cons.mpr ⟨sh_pure _, ?_⟩
  refine List.forall_mem_cons.mpr ⟨sh_pure _, ?_⟩
  refine List.forall_mem_cons.mpr ⟨sh_pure _, ?_⟩
  refine List.forall_mem_cons.mpr ⟨sh_pure _, ?_⟩
  refine List.forall_mem_cons.mpr ⟨sh_pure _, ?_⟩
  refine List.forall_mem_cons.mpr ⟨sh_pure _, ?_⟩
  refine List.forall_mem_cons.mpr ⟨sh_pure _, ?_⟩
  refine List.forall_mem_cons.mpr ⟨sh_pure _, ?_⟩
  refine List.forall_mem_cons.mpr ⟨sh_pure _, ?_⟩
  refine List.forall_mem_cons.mpr ⟨sh_one sh_s1, ?_⟩
  refine List.forall_mem_cons.mpr ⟨sh_one sh_s2, ?_⟩
  refine List.forall_mem_cons.mpr ⟨sh_one sh_u1, ?_⟩
  refine List.forall_mem_cons.mpr ⟨sh_one sh_u2, ?_⟩
  refine List.forall_mem_cons.mpr ⟨sh_one sh_u2, ?_⟩
  refine List.forall_mem_cons.mpr ⟨sh_one sh_u1, ?_⟩
  refine List.forall_mem_cons.mpr ⟨sh_one sh_u1, ?_⟩
  refine List.forall_mem_cons.mpr ⟨sh_one sh_u1, ?_⟩
  refine List.forall_mem_cons.mpr ⟨sh_one sh_u1, ?_⟩
  refine List.forall_mem_cons.mpr ⟨sh_one sh_u1, ?_⟩
  refine List.forall_mem_cons.mpr ⟨sh_pure _, ?_⟩
  refine List.forall_mem_cons.mpr ⟨sh_pure _, ?_⟩
  refine List.forall_mem_cons.mpr ⟨sh_pure _, ?_⟩
  refine List.forall_mem_cons.mpr ⟨sh_pure _, ?_⟩
  refine List.forall_mem_cons.mpr ⟨sh_pure _, ?_⟩
  refine List.forall_mem_cons.mpr ⟨sh_pure _, ?_⟩
  refine List.forall_mem_cons.mpr ⟨sh_pure _, ?_⟩
  refine List.forall_mem_cons.mpr ⟨sh_pure _, ?_⟩
  refine List.forall_mem_cons.mpr ⟨sh_pure _, ?_⟩
  refine List.forall_mem_cons.mpr ⟨sh_pure _, ?_⟩
  refine List.forall_mem_cons.mpr ⟨sh_pure _, ?_⟩
  refine List.forall_mem_cons.mpr ⟨sh_pure _, ?_⟩
  refine List.forall_mem_cons.mpr ⟨sh_pure _, ?_⟩
  refine List.forall_mem_cons.mpr ⟨sh_pure _, ?_⟩
  refine List.forall_mem_cons.mpr ⟨sh_pure _, ?_⟩
  refine List.forall_mem_cons.mpr ⟨sh_pure _, ?_⟩
  refine List.forall_mem_cons.mpr ⟨sh_pure _, ?_⟩
  refine List.forall_mem_cons.mpr ⟨sh_pure _, ?_⟩
  refine List.forall_mem_cons.mpr ⟨sh_pure _, ?_⟩
  refine List.forall_mem_cons.mpr ⟨sh_pure _, ?_⟩
  refine List.forall_mem_cons.mpr ⟨sh_pure _, ?_⟩
  refine List.forall_mem_cons.mpr ⟨sh_pure _, ?_⟩
  refine List.forall_mem_cons.mpr ⟨sh_pure _, ?_⟩
  refine List.forall_mem_cons.mpr ⟨sh_pure _, ?_⟩
  refine List.forall_mem_cons.mpr ⟨sh_pure _, ?_⟩
  refine List.forall_mem_cons.mpr ⟨sh_pure _, ?_⟩
  refine List.forall_mem_cons.mpr ⟨sh_pure _, ?_⟩
  refine List.forall_mem_cons.mpr ⟨sh_pure _, ?_⟩
  refine List.forall_mem_cons.mpr ⟨sh_one sh_u1, ?_⟩
  refine List.forall_mem_cons.mpr ⟨sh_one sh_u1, ?_⟩
  refine List.forall_mem_cons.mpr ⟨sh_one sh_u1, ?_⟩
  refine List.forall_mem_cons.mpr ⟨sh_one sh_u1, ?_⟩
  refine List.forall_mem_cons.mpr ⟨sh_one sh_u1, ?_⟩
  refine List.forall_mem_cons.mpr ⟨sh_pure _, ?_⟩
  refine List.forall_mem_cons.mpr ⟨sh_pure _, ?_⟩
  refine List.forall_mem_cons.mpr ⟨sh_pure _, ?_⟩
  refine List.forall_mem_cons.mpr ⟨sh_pure _, ?_⟩
  refine List.forall_mem_cons.mpr ⟨sh_pure _, ?_⟩
  refine List.forall_mem_cons.mpr ⟨sh_pure _, ?_⟩
  refine List.forall_mem_cons.mpr ⟨sh_pure _, ?_⟩
  refine List.forall_mem_cons.mpr ⟨sh_pure _, ?_⟩
  refine List.forall_mem_cons.mpr ⟨sh_pure _, ?_⟩
  refine List.forall_mem_cons.mpr ⟨sh_pure _, ?_⟩
  refine List.forall_mem_cons.mpr ⟨sh_pure _, ?_⟩
  refine List.forall_mem_cons.mpr ⟨sh_pure _, ?_⟩
  refine List.forall_mem_cons.mpr ⟨sh_pure _, ?_⟩
  refine List.forall_mem_cons.mpr ⟨sh_pure _, ?_⟩
  refine List.forall_mem_cons.mpr ⟨sh_pure _, ?_⟩
  refine List.forall_mem_cons.mpr ⟨sh_pure _, ?_⟩
  refine List.forall_mem_cons.mpr ⟨sh_pure _, ?_⟩
  refine List.forall_mem_cons.mpr ⟨sh_pure _, ?_⟩
  refine List.forall_mem_cons.mpr ⟨sh_pure _, ?_⟩
  refine List.forall_mem_cons.mpr ⟨sh_pure _, ?_⟩
  refine List.forall_mem_cons.mpr ⟨sh_pure _, ?_⟩
  refine List.forall_mem_cons.mpr ⟨sh_pure _, ?_⟩
  refine List.forall_mem_cons.mpr ⟨sh_pure _, ?_⟩
  refine List.forall_mem_cons.mpr ⟨sh_pure _, ?_⟩
  refine List.forall_mem_cons.mpr ⟨sh_pure _, ?_⟩
  refine List.forall_mem_cons.mpr ⟨sh_pure _, ?_⟩
  refine List.forall_mem_cons.mpr ⟨sh_pure _, ?_⟩
  refine List.forall_mem_cons.mpr ⟨sh_pure _, ?_⟩
  refine List.forall_mem_cons.mpr ⟨sh_pure _, ?_⟩
  refine List.forall_mem_cons.mpr ⟨sh_pure _, ?_⟩
  refine List.forall_mem_cons.mpr ⟨sh_pure _, ?_⟩
  refine List.forall_mem_cons.mpr ⟨sh_pure _, ?_⟩
  refine List.forall_mem_cons.mpr ⟨sh_pure _, ?_⟩
  refine List.forall_mem_cons.mpr ⟨sh_pure _, ?_⟩
  refine List.forall_mem_cons.mpr ⟨sh_pure _, ?_⟩
  refine List.forall_mem_cons.mpr ⟨sh_pure _, ?_⟩
  refine List.forall_mem_cons.mpr ⟨sh_pure _, ?_⟩
  refine List.forall_mem_cons.mpr ⟨sh_pure _, ?_⟩
  refine List.forall_mem_cons.mpr ⟨sh_pure _, ?_⟩
  refine List.forall_mem_cons.mpr ⟨sh_pure _, ?_⟩
  refine List.forall_mem_cons.mpr ⟨sh_pure _, ?_⟩
  refine List.forall_mem_cons.mpr ⟨sh_pure _, ?_⟩
  refine List.forall_mem_cons.mpr ⟨sh_pure _, ?_⟩
  refine List.forall_mem_cons.mpr ⟨sh_pure _, ?_⟩
  refine List.forall_mem_cons.mpr ⟨sh_pure _, ?_⟩
  refine List.forall_mem_cons.mpr ⟨sh_pure _, ?_⟩
  refine List.forall_mem_cons.mpr ⟨sh_pure _, ?_⟩
  refine List.forall_mem_cons.mpr ⟨sh_pure _, ?_⟩
  refine List.forall_mem_cons.mpr ⟨sh_pure _, ?_⟩
  refine List.forall_mem_cons.mpr ⟨sh_pure _, ?_⟩
  refine List.forall_mem_cons.mpr ⟨sh_pure _, ?_⟩
  refine List.forall_mem_cons.mpr ⟨sh_pure _, ?_⟩
  refine List.forall_mem_cons.mpr ⟨sh_pure _, ?_⟩
  refine List.forall_mem_cons.mpr ⟨sh_pure _, ?_⟩
  refine List.forall_mem_cons.mpr ⟨sh_pure _, ?_⟩
  refine List.forall_mem_cons.mpr ⟨sh_pure _, ?_⟩
  refine List.forall_mem_cons.mpr ⟨sh_pure _, ?_⟩
  refine List.forall_mem_cons.mpr ⟨sh_pure _, ?_⟩
  refine List.forall_mem_cons.mpr ⟨sh_pure _, ?_⟩
  refine List.forall_mem_cons.mpr ⟨sh_pure _, ?_⟩
  refine List.forall_mem_cons.mpr ⟨sh_pure _, ?_⟩
  refine List.forall_mem_cons.mpr ⟨sh_pure _, ?_⟩
  refine List.forall_mem_cons.mpr ⟨sh_pure _, ?_⟩
  refine List.forall_mem_cons.mpr ⟨sh_pure _, ?_⟩
  refine List.forall_mem_cons.mpr ⟨sh_pure _, ?_⟩
  refine List.forall_mem_cons.mpr ⟨sh_pure _, ?_⟩
  refine List.forall_mem_cons.mpr ⟨sh_pure _, ?_⟩
  refine List.forall_mem_cons.mpr ⟨sh_pure _, ?_⟩
  refine List.forall_mem_cons.mpr ⟨sh_pure _, ?_⟩
  refine List.forall_mem_cons.mpr ⟨sh_pure _, ?_⟩
  refine List.forall_mem_cons.mpr ⟨sh_pure _, ?_⟩
  refine List.forall_mem_cons.mpr ⟨sh_pure _, ?_⟩
  refine List.forall_mem_cons.mpr ⟨sh_pure _, ?_⟩
  refine List.forall_mem_cons.mpr ⟨sh_two sh_u1 sh_s1, ?_⟩
  refine List.forall_mem_cons.mpr ⟨sh_pure _, ?_⟩
  refine List.forall_mem_cons.mpr ⟨sh_pure _, ?_⟩
  refine List.forall_mem_cons.mpr ⟨sh_pure _, ?_⟩
  refine List.forall_mem_cons.mpr ⟨sh_pure _, ?_⟩
  refine List.forall_mem_cons.mpr ⟨sh_pure _, ?_⟩
  refine List.forall_mem_cons.mpr ⟨sh_pure _, ?_⟩
  refine List.forall_mem_cons.mpr ⟨sh_pure _, ?_⟩
  refine List.forall_mem_cons.mpr ⟨sh_pure _, ?_⟩
  refine List.forall_mem_cons.mpr ⟨sh_pure _, ?_⟩
  refine List.forall_mem_cons.mpr ⟨sh_pure _, ?_⟩
  refine List.forall_mem_cons.mpr ⟨sh_pure _, ?_⟩
  refine List.forall_mem_cons.mpr ⟨sh_pure _, ?_⟩
  refine List.forall_mem_cons.mpr ⟨sh_pure _, ?_⟩
  refine List.forall_mem_cons.mpr ⟨sh_pure _, ?_⟩
  refine List.forall_mem_cons.mpr ⟨sh_pure _, ?_⟩
  refine List.forall_mem_cons.mpr ⟨sh_pure _, ?_⟩
  refine List.forall_mem_cons.mpr ⟨sh_pure _, ?_⟩
  refine List.forall_mem_cons.mpr ⟨sh_pure _, ?_⟩
  refine List.forall_mem_cons.mpr ⟨sh_pure _, ?_⟩
  refine List.forall_mem_cons.mpr ⟨sh_pure _, ?_⟩
  refine List.forall_mem_cons.mpr ⟨sh_one sh_s2, ?_⟩
  refine List.forall_mem_cons.mpr ⟨sh_one sh_s2, ?_⟩
  refine List.forall_mem_cons.mpr ⟨sh_one sh_s2, ?_⟩
  refine List.forall_mem_cons.mpr ⟨sh_one sh_s2, ?_⟩
  refine List.forall_mem_cons.mpr ⟨sh_one sh_s2, ?_⟩
  refine List.forall_mem_cons.mpr ⟨sh_one sh_s2, ?_⟩
  refine List.forall_mem_cons.mpr ⟨sh_one sh_s2, ?_⟩
  refine List.forall_mem_cons.mpr ⟨sh_one sh_s2, ?_⟩
  refine List.forall_mem_cons.mpr ⟨sh_one sh_s2, ?_⟩
  refine List.forall_mem_cons.mpr ⟨sh_one sh_s2, ?_⟩
  refine List.forall_mem_cons.mpr ⟨sh_one sh_s2, ?_⟩
  refine List.forall_mem_cons.mpr ⟨sh_one sh_s2, ?_⟩
  refine List.forall_mem_cons.mpr ⟨sh_one sh_s2, ?_⟩
  refine List.forall_mem_cons.mpr ⟨sh_one sh_s2, ?_⟩
  refine List.forall_mem_cons.mpr ⟨sh_one sh_s2, ?_⟩
  refine List.forall_mem_cons.mpr ⟨sh_one sh_s2, ?_⟩
  refine List.forall_mem_cons.mpr ⟨sh_one sh_u1, ?_⟩
  refine List.forall_mem_cons.mpr ⟨sh_pure _, ?_⟩
  refine List.forall_mem_cons.mpr ⟨sh_pure _, ?_⟩
  refine List.forall_mem_cons.mpr ⟨sh_pure _, ?_⟩
  refine List.forall_mem_cons.mpr ⟨sh_pure _, ?_⟩
  refine List.forall_mem_cons.mpr ⟨sh_pure _, ?_⟩
  refine List.forall_mem_cons.mpr ⟨sh_pure _, ?_⟩
  refine List.forall_mem_cons.mpr ⟨sh_one sh_u2, ?_⟩
  refine List.forall_mem_cons.mpr ⟨sh_one sh_u2, ?_⟩
  refine List.forall_mem_cons.mpr ⟨sh_one sh_u2, ?_⟩
  refine List.forall_mem_cons.mpr ⟨sh_one sh_u2, ?_⟩
  refine List.forall_mem_cons.mpr ⟨sh_one sh_u2, ?_⟩
  refine List.forall_mem_cons.mpr ⟨sh_one sh_u2, ?_⟩
  refine List.forall_mem_cons.mpr ⟨sh_one sh_u2, ?_⟩
  refine List.forall_mem_cons.mpr ⟨sh_one sh_u2, ?_⟩
  refine List.forall_mem_cons.mpr ⟨sh_one sh_u2, ?_⟩
  refine List.forall_mem_cons.mpr ⟨sh_pure _, ?_⟩
  refine List.forall_mem_cons.mpr ⟨sh_pure _, ?_⟩
  refine List.forall_mem_cons.mpr ⟨sh_one sh_u2, ?_⟩
  refine List.forall_mem_cons.mpr ⟨sh_one sh_u2, ?_⟩
  refine List.forall_mem_cons.mpr ⟨sh_pure _, ?_⟩
  refine List.forall_mem_cons.mpr ⟨sh_pure _, ?_⟩
  refine List.forall_mem_cons.mpr ⟨sh_one sh_s2, ?_⟩
  refine List.forall_mem_cons.mpr ⟨sh_one sh_s2, ?_⟩
  exact fun b hb => absurd hb (List.not_mem_nil)
/-- the list's bytes as a window -/
def win (l : List UInt8) : ByteArray := ByteArray.mk l.toArray
def dck (b0 : UInt8) (t : List UInt8) (q : Nat) (i : Instr) : Bool := goodb.elem b0.toNat && match (Decoder.instr q).runAt (win (b0 :: t.take 2)) 0 with
  | .ok (i', n) => decide (i' = i) && Nat.beq n (iln i)
  | _ => false
def wlk : List UInt8 → Nat → List (Nat × Instr) → Bool
  | _, _, [] => true
  | l, p, (q, i) :: r => Nat.ble p q && (match l.drop (q - p) with
    | [] => false
    | b0 :: t => dck b0 t q i && wlk (b0 :: t) q r)
theorem win_ok {cc : ByteArray} {l : List UInt8} {q : Nat} {r : List UInt8} (h : cc.data.toList.drop q = l ++ r) : ∀ (j : Nat) (h : j < (win l).size), ∃ h' : q + j < cc.size, cc[q + j] = (win l)[j] := by
  intro j hj
  have hj' : j < l.length := by simpa [win, ByteArray.size] using hj
  have h1 : (cc.data.toList.drop q)[j]? = l[j]? := by rw [h, List.getElem?_append_left hj']
  rw [List.getElem?_drop, List.getElem?_eq_getElem hj'] at h1
  obtain ⟨h2, h3⟩ := List.getElem?_eq_some_iff.mp h1
  have h4 : q + j < cc.size := by rw [Array.length_toList] at h2; exact h2
  refine ⟨h4, ?_⟩
  show cc.data[q + j] = l.toArray[j]
  rw [← Array.getElem_toList, h3]
  simp
theorem dck_ok {cc : ByteArray} {b0 : UInt8} {t : List UInt8} {q : Nat} {i : Instr} (h : cc.data.toList.drop q = b0 :: t) (hd : dck b0 t q i = true) : decode cc q = .ok (i, iln i) := by
  unfold dck at hd
  rw [Bool.and_eq_true] at hd
  obtain ⟨hg, hd⟩ := hd
  obtain ⟨K, hK, hS⟩ := sh_instr q
  have hw := win_ok (cc := cc) (l := b0 :: t.take 2) (q := q) (r := t.drop 2) (by rw [h, List.cons_append, List.take_append_drop])
  split at hd
  · rename_i i' n hr
    rw [Bool.and_eq_true] at hd
    have e1 : i' = i := of_decide_eq_true hd.1
    have e2 := Nat.eq_of_beq_eq_true hd.2
    subst e1; subst e2
    have hr' := hr
    rw [hK, runAt_bind] at hr
    have hb : (Reader.u1 : Decoder Nat).runAt (win (b0 :: t.take 2)) 0 = .ok (b0.toNat, 1) := rfl
    rw [hb] at hr
    have h5 := hS b0.toNat (List.elem_iff.mp hg) cc _ q 1 i' (iln i') hw hr
    have h6 := sh_u1 cc _ q 0 b0.toNat 1 hw hb
    have h7 : (Decoder.instr q).runAt cc q = .ok (i', q + iln i') := by
      rw [hK, runAt_bind]
      rw [Nat.add_zero] at h6
      rw [h6]
      exact h5
    unfold decode
    rw [h7]
    show Except.ok (i', q + iln i' - q) = _
    rw [Nat.add_sub_cancel_left]
  · cases hd
theorem wlk_ok {cc : ByteArray} : ∀ {code : List (Nat × Instr)} {l : List UInt8} {p : Nat}, cc.data.toList.drop p = l → wlk l p code = true → ∀ e ∈ code, ∃ len, decode cc e.1 = .ok (e.2, len) ∧ (isSw e.2 = true ∨ len = iln e.2)
  | [], _, _, _, _, e, he => by cases he
  | (q, i) :: r, l, p, hl, h, e, he => by
    unfold wlk at h
    rw [Bool.and_eq_true] at h
    obtain ⟨h1, h2⟩ := h
    have h1 := Nat.le_of_ble_eq_true h1
    split at h2
    · cases h2
    · rename_i b0 t hd
      rw [Bool.and_eq_true] at h2
      have h3 : cc.data.toList.drop q = b0 :: t := by
        rw [← hd, ← hl, List.drop_drop]
        congr 1
        omega
      rcases List.mem_cons.mp he with e1 | e1
      · subst e1
        exact ⟨_, dck_ok h3 h2.1, Or.inr rfl⟩
      · exact wlk_ok h3 h2.2 e e1
theorem okw {cc : ByteArray} {b : Nat} (p : Nat) {ch : List (Nat × Instr)} {r : List (Nat × List (Nat × Instr))} (h : wlk (cc.data.toList.drop p) p ch = true) (hr : CodeOK cc r) : CodeOK cc ((b, ch) :: r) := by
  intro x hx
  rcases List.mem_cons.mp hx with e | e
  · subst e; exact wlk_ok rfl h
  · exact hr x e
