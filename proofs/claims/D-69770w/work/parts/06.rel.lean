/-- of Wrong only its own field counts -/
def TX6w : u_T := fun _ => ("AlgolMill$Wrong", "place", "I", false)
def tyX6w : Nat → FieldType := fun _ => .int
/-- the classes by their kinds -/
def zcl : List vw_C := [(RX4, TX4, 2), (RX1, TX1, 9), (RX2, TX2, 11), (RX3, TX3, 7), (RX4, TX4, 2), (RX5, TX5, 2), (RX6, TX6w, 1), (RX7, TX7, 13), (RX8, TX8, 2), (RX9, TX9, 12), (RX10, TX10, 142), (RX11, TX11, 12), (RX12, TX12, 4), (RX4, TX4, 2), (RX14, TX14, 13), (RX15, TX15, 2), (RX16, TX16, 2), (RX17, TX17, 13), (RX4, TX4, 2), (RX19, TX19, 3), (RX20, TX20, 3), (RX21, TX21, 5), (RX22, TX22, 2), (RX23, TX23, 3), (RX24, TX24, 4), (RX25, TX25, 2), (RX26, TX26, 3), (RX27, TX27, 2), (RX28, TX28, 2), (RX29, TX29, 2), (RX30, TX30, 4), (RX31, TX31, 7), (RX32, TX32, 3), (RX33, TX33, 1), (RX34, TX34, 2), (RX35, TX35, 3), (RX36, TX36, 5), (RX4, TX4, 2), (RX4, TX4, 2), (RX4, TX4, 2), (RJ3, TJ3, 0), (RJ4, TJ4, 0), (RJ7, TJ7, 0), (RJ11, TJ11, 0)]
def ztyl : List (Nat → FieldType) := [tyX4, tyX1, tyX2, tyX3, tyX4, tyX5, tyX6w, tyX7, tyX8, tyX9, tyX10, tyX11, tyX12, tyX4, tyX14, tyX15, tyX16, tyX17, tyX4, tyX19, tyX20, tyX21, tyX22, tyX23, tyX24, tyX25, tyX26, tyX27, tyX28, tyX29, tyX30, tyX31, tyX32, tyX33, tyX34, tyX35, tyX36, tyX4, tyX4, tyX4, tyJ3, tyJ4, tyJ7, tyJ11]
def zcn (k : Nat) : vw_C := zcl.getD k (RX4, TX4, 2)
def zty (k j : Nat) : FieldType := (ztyl.getD k tyX4) j
/-- a field type's code: 0 int, 1 long, 2 reference, 3 boolean -/
def ztc : FieldType → Nat
  | .long => 1
  | .object _ => 2
  | .array _ => 2
  | .boolean => 3
  | _ => 0
def zft (k j : Nat) : Nat := ztc (zty k j)
def i64 (n : Int) : Prop := -9223372036854775808 ≤ n ∧ n ≤ 9223372036854775807
section Rel
variable (D : va_G) (dA : Nat → ClassId) (H00 : Heap) (b0 L0 : Nat) (xs : Nat → Int32) (sa : Nat → Nat)
def zad (ad : Nat → Nat) (p : Ptr) : Option Nat := match p with
  | none => none
  | some q => some (if q.1 = 200 then b0 else if q.1 = 201 then sa q.2.2 else ad q.2.2)
def zrv (ad : Nat → Nat) : AV → Value
  | .inl n => .int (Int32.ofInt n)
  | .inr (.inl n) => .long (Int64.ofInt n)
  | .inr (.inr p) => va_rf (zad b0 sa ad p)
def zwp (S : List (Nat × Nat)) (p : Ptr) : Prop := match p with
  | none => True
  | some q => (q.1 = 200 ∧ q.2.1 = L0 ∧ q.2.2 = 1000000000) ∨ (q.1 = 201 ∧ q.2.1 = q.2.2 ∧ q.2.2 < 33) ∨ (q.1 < 200 ∧ S[q.2.2]? = some (q.1, q.2.1))
def zwv (S : List (Nat × Nat)) : AV → Prop
  | .inl n => i32 n
  | .inr (.inl n) => i64 n
  | .inr (.inr p) => zwp L0 S p
def zce (ad : Nat → Nat) (h : AH) (a : Nat) (kn : Nat × Nat) : va_E :=
  if kn.1 < 100 then .inr (kn.1, (List.range (zcn kn.1).2.2).map (fun j => zrv b0 sa ad (gv (zft kn.1 j) h a j)))
  else if kn.1 = 102 then .inl (dA 1, kn.2, .inr (.inl (fun j => Int64.ofInt (hL h a j))))
  else if kn.1 < 110 then .inl (dA (kn.1 - 101), kn.2, .inl (fun j => Int32.ofInt (hI h a j)))
  else .inl (dA (kn.1 - 106), kn.2, .inr (.inr (.inr (.inr (fun j => zad b0 sa ad (hP h a j))))))
def zwd (ad : Nat → Nat) (h : AH) (S : List (Nat × Nat)) : va_W := S.mapIdx (fun a kn => (ad a, zce dA b0 sa ad h a kn))
/-- kinds that there are -/
def zkd (k : Nat) : Bool := decide (k < 44) || (decide (101 ≤ k) && decide (k ≤ 104)) || (decide (110 ≤ k) && decide (k ≤ 116))
def ztys : List (ClassId × FieldType) := [(dA 0, .int), (dA 1, .long), (dA 2, .byte), (dA 3, .boolean), (dA 4, .object "AlgolMill$Thing"), (dA 5, .object "AlgolMill$Expr"), (dA 6, .object "AlgolMill$Statement"), (dA 7, .object "AlgolMill$Rows"), (dA 8, .object "AlgolMill$Element"), (dA 9, .object "AlgolMill$Thunk"), (dA 10, .object "java/lang/String")]
/-- the abstract heap's own order -/
def zok (h : AH) (S : List (Nat × Nat)) : Prop :=
  (∀ a j, i32 (hI h a j) ∧ i64 (hL h a j) ∧ zwp L0 S (hP h a j)) ∧
  (∀ a, hz h ≤ a → a < 1000000000 → ∀ j, hI h a j = 0 ∧ hL h a j = 0 ∧ hP h a j = none) ∧
  (∀ j, j < L0 → hI h 1000000000 j = (xs j).toInt) ∧ (∀ (a : Nat) kn, S[a]? = some kn → zkd kn.1 = true ∧ kn.2 ≤ 1000000)
/-- the heap holds what the abstract heap says -/
def RelH (h : AH) (S : List (Nat × Nat)) (ad : Nat → Nat) (H : Heap) : Prop :=
  S.length = hz h ∧ hz h ≤ 100000000 ∧ va_P D zcl (zwd dA b0 sa ad h S) H ∧ va_D (fun q => H00.size ≤ q) (zwd dA b0 sa ad h S) ∧
  H00.size ≤ H.size ∧ (∀ q : Nat, q < H00.size → H[q]? = H00[q]?) ∧ zok L0 xs h S
def zls (ad : Nat → Nat) (lsA : SL) : List (Nat × Value) := (List.range lsA.length).filterMap (fun i => (lk lsA i).map (fun v => (i, zrv b0 sa ad v)))
def RelL (S : List (Nat × Nat)) (ad : Nat → Nat) (lsA : SL) (ls : Array Slot) : Prop :=
  lv_has ls lsA.length (zls b0 sa ad lsA) ∧ ∀ i v, lk lsA i = some v → zwv L0 S v
end Rel
theorem o32 {n : Int} (h : i32 n) : (Int32.ofInt n).toInt = n := Int32.toInt_ofInt_of_le (by have := h.1; omega) (by have := h.2; omega)
theorem o64 {n : Int} (h : i64 n) : (Int64.ofInt n).toInt = n := Int64.toInt_ofInt_of_le (by have := h.1; omega) (by have := h.2; omega)
theorem i32_o (x : Int32) : i32 x.toInt := ⟨Int32.le_toInt x, by have := Int32.toInt_lt x; omega⟩
theorem i64_o (x : Int64) : i64 x.toInt := ⟨Int64.le_toInt x, by have := Int64.toInt_lt x; omega⟩
theorem lk_lt {ls : SL} {i : Nat} {v : AV} (h : lk ls i = some v) : i < ls.length := by
  induction ls generalizing i with
  | nil => simp [lk] at h
  | cons x r ih =>
    cases i with
    | zero => simp
    | succ i => have := ih h; simp; omega
theorem zls_mem {b0 : Nat} {sa ad : Nat → Nat} {lsA : SL} {q : Nat × Value} : q ∈ zls b0 sa ad lsA ↔ ∃ v, lk lsA q.1 = some v ∧ q.2 = zrv b0 sa ad v := by
  simp only [zls, List.mem_filterMap, List.mem_range, Option.map_eq_some_iff]
  constructor
  · rintro ⟨i, -, v, hv, rfl⟩
    exact ⟨v, hv, rfl⟩
  · rintro ⟨v, hv, e⟩
    exact ⟨q.1, lk_lt hv, v, hv, by rw [← e]⟩
theorem RelL.at {L0 b0 : Nat} {sa ad : Nat → Nat} {S : List (Nat × Nat)} {lsA : SL} {ls : Array Slot} (h : RelL b0 L0 sa S ad lsA ls) {i : Nat} {v : AV} (hv : lk lsA i = some v) : ls[i]? = some (.val (zrv b0 sa ad v)) :=
  h.1.2.2 (i, _) (zls_mem.mpr ⟨v, hv, rfl⟩)
theorem st1_len (ls : SL) (i : Nat) (v : Option AV) : (st1 ls i v).length = ls.length := by
  induction ls generalizing i with
  | nil => rfl
  | cons x r ih => cases i <;> simp [st1, ih]
theorem lk_st1 (ls : SL) (i j : Nat) (v : Option AV) : lk (st1 ls i v) j = if j = i ∧ i < ls.length then v else lk ls j := by
  induction ls generalizing i j with
  | nil => simp [st1, lk]
  | cons x r ih =>
    cases i with
    | zero => cases j <;> simp [st1, lk]
    | succ i =>
      cases j with
      | zero => simp [st1, lk]
      | succ j => simp [st1, lk, ih]
theorem kil_len (ls : SL) (i : Nat) : (kil ls i).length = ls.length := by
  unfold kil
  split
  · rfl
  · split
    · exact st1_len _ _ _
    · rfl
theorem lk_kil {ls : SL} {i j : Nat} {v : AV} (h : lk (kil ls i) j = some v) : lk ls j = some v ∧ ¬ (j + 1 = i ∧ ∃ n, v = .inr (.inl n)) := by
  unfold kil at h
  split at h
  · exact ⟨h, by omega⟩
  · next k =>
    split at h
    · next n hn =>
      rw [lk_st1] at h
      split at h
      · cases h
      · next hne => exact ⟨h, fun ⟨e, _⟩ => hne ⟨by omega, lk_lt hn⟩⟩
    · next hn =>
      refine ⟨h, fun ⟨e, n, en⟩ => ?_⟩
      have : j = k := by omega
      subst this
      subst en
      exact hn n h
