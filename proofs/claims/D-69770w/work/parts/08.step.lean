def zpc : SC → Nat
  | [] => 0
  | q :: _ => q.1
section Gd
variable (p : Program) (l : Launch) (e : Env) (R : Room) (s : State) (m : MethodId) (args : Array Value) (below : List Frame) (meth : Method) (c : Code) (Q : State → Prop)
variable (D : va_G) (dA : Nat → ClassId) (H00 : Heap) (b0 L0 : Nat) (xs : Nat → Int32) (sa : Nat → Nat) (S0 : List (Nat × Nat)) (ad0 : Nat → Nat) (z0 u0 nL : Nat)
/-- what holds between a state of the interpreter and one of the machine -/
def Std (lsA : SL) (stA : List AV) (h : AH) (S : List (Nat × Nat)) (ad : Nat → Nat) (H : Heap) (locs : List Loc) (ls : Array Slot) : Prop :=
  RelH D dA H00 b0 L0 xs sa h S ad H ∧ RelL b0 L0 sa S ad lsA ls ∧ lsA.length = nL ∧ (∀ v ∈ stA, zwv L0 S v) ∧ va_S (fun q => H00.size ≤ q) s.heap H locs ∧ S0 <+: S ∧ (∀ a, a < S0.length → ad a = ad0 a) ∧ z0 ≤ hz h ∧ u0 ≤ hu h
def Gd (pc : Nat) (lsA : SL) (stA : List AV) (h : AH) : Prop := ∀ S ad H locs ls, Std s D dA H00 b0 L0 xs sa S0 ad0 z0 u0 nL lsA stA h S ad H locs ls →
  W p l e R s m args below meth c H locs (hz h - z0) (hu h - u0) Q (F0 m pc ls (stA.map (zrv b0 sa ad)))
end Gd
section Step
variable {p : Program} {l : Launch} {e : Env} {R : Room} {s : State} {m : MethodId} {args : Array Value} {below : List Frame} {meth : Method} {c : Code} {Q : State → Prop}
variable {D : va_G} {dA : Nat → ClassId} {H00 : Heap} {b0 L0 : Nat} {xs : Nat → Int32} {sa : Nat → Nat} {S0 : List (Nat × Nat)} {ad0 : Nat → Nat} {z0 u0 nL : Nat}
variable {cc : ByteArray} {pc : Nat} {lsA : SL} {st : List AV} {h : AH}
theorem Std.stk {S : List (Nat × Nat)} {ad : Nat → Nat} {H : Heap} {locs : List Loc} {ls : Array Slot} {st' : List AV} (hs : Std s D dA H00 b0 L0 xs sa S0 ad0 z0 u0 nL lsA st h S ad H locs ls) (hv : (∀ v ∈ st, zwv L0 S v) → ∀ v ∈ st', zwv L0 S v) : Std s D dA H00 b0 L0 xs sa S0 ad0 z0 u0 nL lsA st' h S ad H locs ls :=
  ⟨hs.1, hs.2.1, hs.2.2.1, hv hs.2.2.2.1, hs.2.2.2.2⟩
theorem zfa2 {P : AV → Prop} {a : AV} {r : List AV} (h : ∀ v ∈ a :: r, P v) : P a ∧ ∀ v ∈ r, P v := List.forall_mem_cons.mp h
theorem zfa {P : AV → Prop} {a : AV} {r : List AV} (h1 : P a) (h2 : ∀ v ∈ r, P v) : ∀ v ∈ a :: r, P v := List.forall_mem_cons.mpr ⟨h1, h2⟩
theorem i64_w (n : Int) : i64 (w64 n) := by
  have h1 := Int.le_bmod (x := n) (m := 18446744073709551616) (by decide)
  have h2 := Int.bmod_lt (x := n) (m := 18446744073709551616) (by decide)
  unfold w64 i64
  omega
theorem i32_w (n : Int) : i32 (w32 n) := by
  have h1 := Int.le_bmod (x := n) (m := 4294967296) (by decide)
  have h2 := Int.bmod_lt (x := n) (m := 4294967296) (by decide)
  unfold w32
  exact ⟨by omega, by omega⟩
theorem i32_w8 (n : Int) : i32 (w8 n) := by
  have h1 := Int.le_bmod (x := n) (m := 256) (by decide)
  have h2 := Int.bmod_lt (x := n) (m := 256) (by decide)
  unfold w8
  exact ⟨by omega, by omega⟩
theorem zbm64 (n : Int) : Int64.ofInt (Int.bmod n 18446744073709551616) = Int64.ofInt n := by
  apply Int64.toInt.inj
  rw [Int64.toInt_ofInt, Int64.toInt_ofInt]
  exact Int.bmod_bmod
theorem zi3264 {n : Int} (h : i32 n) : i64 n := ⟨by have := h.1; omega, by have := h.2; omega⟩
theorem zi2l {n : Int} (h : i32 n) : Int64.ofInt n = (Int32.ofInt n).toInt64 := by
  apply Int64.toInt.inj
  rw [Int32.toInt_toInt64, o32 h, o64 (zi3264 h)]
theorem zl2i {n : Int} (h : i64 n) : Int32.ofInt (w32 n) = (Int64.ofInt n).toInt32 := by
  apply Int32.toInt.inj
  rw [Int64.toInt_toInt32, o64 h, Int32.toInt_ofInt]
  exact Int.bmod_bmod
theorem zi2b {n : Int} (h : i32 n) : Int32.ofInt (w8 n) = (Int32.ofInt n).toInt8.toInt32 := by
  apply Int32.toInt.inj
  rw [o32 (i32_w8 n), Int8.toInt_toInt32, Int32.toInt_toInt8, o32 h]
  rfl
theorem zceq {x y : Int} (h1 : i32 x) (h2 : i32 y) : Int32.ofInt x = Int32.ofInt y ↔ x = y := ⟨fun q => by have := congrArg Int32.toInt q; rwa [o32 h1, o32 h2] at this, fun q => by rw [q]⟩
theorem zclt {x y : Int} (h1 : i32 x) (h2 : i32 y) : Int32.ofInt x < Int32.ofInt y ↔ x < y := by rw [Int32.lt_iff_toInt_lt, o32 h1, o32 h2]
theorem zcle {x y : Int} (h1 : i32 x) (h2 : i32 y) : Int32.ofInt x ≤ Int32.ofInt y ↔ x ≤ y := by rw [Int32.le_iff_toInt_le, o32 h1, o32 h2]
theorem i32_0 : i32 0 := ⟨by decide, by decide⟩
theorem zcmp {x y : Int} (h1 : i64 x) (h2 : i64 y) : Int32.ofInt (cmpL x y) = lg_cmp (Int64.ofInt x) (Int64.ofInt y) := by
  have e : Int64.ofInt x = Int64.ofInt y ↔ x = y := ⟨fun q => by have := congrArg Int64.toInt q; rwa [o64 h1, o64 h2] at this, fun q => by rw [q]⟩
  unfold lg_cmp cmpL
  simp only [gt_iff_lt, Int64.lt_iff_toInt_lt, o64 h1, o64 h2, e]
  by_cases a : x < y
  · rw [if_pos a, if_neg (by omega), if_neg (by omega)]; rfl
  · by_cases b : x = y
    · rw [if_neg a, if_pos b, if_neg (by omega), if_pos b]; rfl
    · rw [if_neg a, if_neg b, if_pos (by omega)]; rfl
theorem i32_cmp (x y : Int) : i32 (cmpL x y) := by
  unfold cmpL
  split
  · exact ⟨by decide, by decide⟩
  · split <;> exact ⟨by decide, by decide⟩
theorem i64_0 : i64 0 := ⟨by decide, by decide⟩
theorem zceq6 {x y : Int} (h1 : i64 x) (h2 : i64 y) : Int64.ofInt x = Int64.ofInt y ↔ x = y := ⟨fun q => by have := congrArg Int64.toInt q; rwa [o64 h1, o64 h2] at this, fun q => by rw [q]⟩
theorem zidiv {x y : Int} (h1 : i32 x) (h2 : i32 y) (h3 : i32 (x.tdiv y)) : Int32.ofInt (x.tdiv y) = Int32.ofInt x / Int32.ofInt y := by
  apply Int32.toInt.inj
  rw [Int32.toInt_div, o32 h1, o32 h2, o32 h3]
  exact (Int.bmod_eq_of_le (by have := h3.1; omega) (by have := h3.2; omega)).symm
theorem zldiv {x y : Int} (h1 : i64 x) (h2 : i64 y) : Int64.ofInt (w64 (x.tdiv y)) = Int64.ofInt x / Int64.ofInt y := by
  apply Int64.toInt.inj
  rw [Int64.toInt_div, o64 h1, o64 h2, o64 (i64_w _)]
  rfl
theorem zlrem {x y : Int} (h1 : i64 x) (h2 : i64 y) : Int64.ofInt (w64 (x.tmod y)) = Int64.ofInt x - Int64.ofInt x / Int64.ofInt y * Int64.ofInt y := by
  apply Int64.toInt.inj
  rw [Int64.toInt_sub, Int64.toInt_mul, Int64.toInt_div, o64 h1, o64 h2, o64 (i64_w _)]
  rw [show x.tmod y = x - x.tdiv y * y by have := Int.tmod_add_tdiv_mul x y; omega]
  show Int.bmod _ 18446744073709551616 = Int.bmod _ 18446744073709551616
  simp
theorem zi32sh {x : Int} (h : i32 x) (n : Nat) : i32 (x / 2 ^ n) := by
  have hp : (0 : Int) < 2 ^ n := Int.pow_pos (by decide)
  obtain ⟨h1, h2⟩ := h
  constructor
  · rw [Int.le_ediv_iff_mul_le hp]
    have : (1 : Int) ≤ 2 ^ n := hp
    generalize (2 : Int) ^ n = P at *
    omega
  · apply Int.le_of_lt_add_one
    rw [Int.ediv_lt_iff_lt_mul hp]
    have : (1 : Int) ≤ 2 ^ n := hp
    generalize (2 : Int) ^ n = P at *
    omega
theorem zi64sh {x : Int} (h : i64 x) (n : Nat) : i64 (x / 2 ^ n) := by
  have hp : (0 : Int) < 2 ^ n := Int.pow_pos (by decide)
  obtain ⟨h1, h2⟩ := h
  constructor
  · rw [Int.le_ediv_iff_mul_le hp]
    have : (1 : Int) ≤ 2 ^ n := hp
    generalize (2 : Int) ^ n = P at *
    omega
  · apply Int.le_of_lt_add_one
    rw [Int.ediv_lt_iff_lt_mul hp]
    have : (1 : Int) ≤ 2 ^ n := hp
    generalize (2 : Int) ^ n = P at *
    omega
theorem zishr {x y : Int} (h1 : i32 x) (h : 0 ≤ y ∧ y < 32) : Int32.ofInt (x / 2 ^ y.toNat) = Int32.ofInt x >>> (Int32.ofInt y &&& 31) := by
  obtain ⟨n, rfl⟩ := Int.eq_ofNat_of_zero_le h.1
  have hn : n < 32 := by omega
  apply Int32.toInt.inj
  rw [o32 (zi32sh h1 _), pk_shr (Int32.ofInt x) _ n ?_, o32 h1, Int.shiftRight_eq_div_pow]
  · simp
  · have : ∀ k, k < 32 → ((Int32.ofInt (k : Nat) &&& 31).toBitVec.smod 32).toNat = k := by decide +kernel
    exact this n hn
theorem zlsk (n : Nat) (hn : n < 64) : ((Int32.ofInt (n : Int)).toInt64 &&& 63) = Int64.ofNat n := by
  have : ∀ k, k < 64 → ((Int32.ofInt (k : Nat)).toInt64 &&& 63) = Int64.ofNat k := by decide +kernel
  exact this n hn
theorem zlshl {x y : Int} (h1 : i64 x) (h : 0 ≤ y ∧ y < 64) : Int64.ofInt (w64 (x * 2 ^ y.toNat)) = Int64.ofInt x <<< ((Int32.ofInt y).toInt64 &&& 63) := by
  obtain ⟨n, rfl⟩ := Int.eq_ofNat_of_zero_le h.1
  have hn : n < 64 := by omega
  rw [zlsk n hn]
  apply Int64.toInt.inj
  rw [o64 (i64_w _)]
  have hs : ((Int64.ofNat n).toBitVec.smod 64).toNat = n := by
    have : ∀ k, k < 64 → ((Int64.ofNat k).toBitVec.smod 64).toNat = k := by decide +kernel
    exact this n hn
  show _ = ((Int64.ofInt x).toBitVec <<< ((Int64.ofNat n).toBitVec.smod 64).toNat).toInt
  rw [hs, BitVec.toInt_shiftLeft, Nat.shiftLeft_eq]
  have e : x = ((Int64.ofInt x).toBitVec.toNat : Int).bmod (2 ^ 64) := by
    have := o64 h1
    rw [← BitVec.toInt_eq_toNat_bmod]
    exact this.symm
  have h64 : (2 : Nat) ^ 64 = 18446744073709551616 := by decide
  generalize (Int64.ofInt x).toBitVec.toNat = N at e ⊢
  rw [h64] at e ⊢
  rw [e]
  unfold w64
  rw [Int.toNat_natCast, Int.bmod_mul_bmod, Int.natCast_mul, Int.natCast_pow]
  rfl
theorem zlshr {x y : Int} (h1 : i64 x) (h : 0 ≤ y ∧ y < 64) : Int64.ofInt (x / 2 ^ y.toNat) = Int64.ofInt x >>> ((Int32.ofInt y).toInt64 &&& 63) := by
  obtain ⟨n, rfl⟩ := Int.eq_ofNat_of_zero_le h.1
  have hn : n < 64 := by omega
  rw [zlsk n hn]
  apply Int64.toInt.inj
  rw [o64 (zi64sh h1 _)]
  have hs : ((Int64.ofNat n).toBitVec.smod 64).toNat = n := by
    have : ∀ k, k < 64 → ((Int64.ofNat k).toBitVec.smod 64).toNat = k := by decide +kernel
    exact this n hn
  show _ = ((Int64.ofInt x).toBitVec.sshiftRight ((Int64.ofNat n).toBitVec.smod 64).toNat).toInt
  rw [hs, BitVec.toInt_sshiftRight]
  have e : (Int64.ofInt x).toBitVec.toInt = x := o64 h1
  rw [e, Int.shiftRight_eq_div_pow]
  simp
theorem zbi {v : Int} (h : -128 ≤ v ∧ v ≤ 127) : (Int8.ofInt v).toInt32 = Int32.ofInt v := by
  apply Int32.toInt.inj
  rw [Int8.toInt_toInt32, o32 ⟨by omega, by omega⟩]
  exact Int8.toInt_ofInt_of_le (by omega) (by omega)
theorem zsi {v : Int} (h : -32768 ≤ v ∧ v ≤ 32767) : (Int16.ofInt v).toInt32 = Int32.ofInt v := by
  apply Int32.toInt.inj
  rw [Int16.toInt_toInt32, o32 ⟨by omega, by omega⟩]
  exact Int16.toInt_ofInt_of_le (by omega) (by omega)
theorem zlc : ∀ v : Fin 2, Int64.ofNat (v : Nat) = Int64.ofInt ((v : Nat) : Int) := by decide
theorem gd_iadd (hx : p.tables.exec = Jvm.exec) (hb : c.code = cc) {x y : Int} (hi : i32 (x + y)) (hd : decode cc pc = .ok (.iadd, 1)) (k : Gd p l e R s m args below meth c Q D dA H00 b0 L0 xs sa S0 ad0 z0 u0 nL (pc + 1) lsA (.inl (x + y) :: st) h) : Gd p l e R s m args below meth c Q D dA H00 b0 L0 xs sa S0 ad0 z0 u0 nL pc lsA (.inl y :: .inl x :: st) h := by
  intro S ad H locs ls hs
  have hv := hs.2.2.2.1
  have k2 := k S ad H locs ls (hs.stk (fun hv => zfa hi (zfa2 (zfa2 hv).2).2))
  refine lv_iadd hx hb hd ?_
  simpa only [List.map_cons, zrv, Int32.ofInt_add] using k2
theorem gd_isub (hx : p.tables.exec = Jvm.exec) (hb : c.code = cc) {x y : Int} (hi : i32 (x - y)) (hd : decode cc pc = .ok (.isub, 1)) (k : Gd p l e R s m args below meth c Q D dA H00 b0 L0 xs sa S0 ad0 z0 u0 nL (pc + 1) lsA (.inl (x - y) :: st) h) : Gd p l e R s m args below meth c Q D dA H00 b0 L0 xs sa S0 ad0 z0 u0 nL pc lsA (.inl y :: .inl x :: st) h := by
  intro S ad H locs ls hs
  have hv := hs.2.2.2.1
  have k2 := k S ad H locs ls (hs.stk (fun hv => zfa hi (zfa2 (zfa2 hv).2).2))
  refine lv_isub hx hb hd ?_
  simpa only [List.map_cons, zrv, Int32.ofInt_sub] using k2
theorem gd_imul (hx : p.tables.exec = Jvm.exec) (hb : c.code = cc) {x y : Int} (hi : i32 (x * y)) (hd : decode cc pc = .ok (.imul, 1)) (k : Gd p l e R s m args below meth c Q D dA H00 b0 L0 xs sa S0 ad0 z0 u0 nL (pc + 1) lsA (.inl (x * y) :: st) h) : Gd p l e R s m args below meth c Q D dA H00 b0 L0 xs sa S0 ad0 z0 u0 nL pc lsA (.inl y :: .inl x :: st) h := by
  intro S ad H locs ls hs
  have hv := hs.2.2.2.1
  have k2 := k S ad H locs ls (hs.stk (fun hv => zfa hi (zfa2 (zfa2 hv).2).2))
  refine lv_imul hx hb hd ?_
  simpa only [List.map_cons, zrv, Int32.ofInt_mul] using k2
theorem gd_ineg (hx : p.tables.exec = Jvm.exec) (hb : c.code = cc) {x : Int} (hi : i32 (-x)) (hd : decode cc pc = .ok (.ineg, 1)) (k : Gd p l e R s m args below meth c Q D dA H00 b0 L0 xs sa S0 ad0 z0 u0 nL (pc + 1) lsA (.inl (-x) :: st) h) : Gd p l e R s m args below meth c Q D dA H00 b0 L0 xs sa S0 ad0 z0 u0 nL pc lsA (.inl x :: st) h := by
  intro S ad H locs ls hs
  have hv := hs.2.2.2.1
  have k2 := k S ad H locs ls (hs.stk (fun hv => zfa hi (zfa2 hv).2))
  refine lv_ineg hx hb hd ?_
  simpa only [List.map_cons, zrv, Int32.ofInt_neg] using k2
theorem gd_iand (hx : p.tables.exec = Jvm.exec) (hb : c.code = cc) {x y : Int} (hd : decode cc pc = .ok (.iand, 1)) (k : Gd p l e R s m args below meth c Q D dA H00 b0 L0 xs sa S0 ad0 z0 u0 nL (pc + 1) lsA (.inl (andI x y) :: st) h) : Gd p l e R s m args below meth c Q D dA H00 b0 L0 xs sa S0 ad0 z0 u0 nL pc lsA (.inl y :: .inl x :: st) h := by
  intro S ad H locs ls hs
  have hv := hs.2.2.2.1
  have k2 := k S ad H locs ls (hs.stk (fun hv => zfa (i32_o _) (zfa2 (zfa2 hv).2).2))
  refine lv_iand hx hb hd ?_
  simpa only [List.map_cons, zrv, andI, Int32.ofInt_toInt] using k2
theorem gd_ladd (hx : p.tables.exec = Jvm.exec) (hb : c.code = cc) {x y : Int} (hd : decode cc pc = .ok (.ladd, 1)) (k : Gd p l e R s m args below meth c Q D dA H00 b0 L0 xs sa S0 ad0 z0 u0 nL (pc + 1) lsA (.inr (.inl (w64 (x + y))) :: st) h) : Gd p l e R s m args below meth c Q D dA H00 b0 L0 xs sa S0 ad0 z0 u0 nL pc lsA (.inr (.inl y) :: .inr (.inl x) :: st) h := by
  intro S ad H locs ls hs
  have hv := hs.2.2.2.1
  have k2 := k S ad H locs ls (hs.stk (fun hv => zfa (i64_w _) (zfa2 (zfa2 hv).2).2))
  refine lv_ladd hx hb hd ?_
  simpa only [List.map_cons, zrv, w64, zbm64, Int64.ofInt_add] using k2
theorem gd_lsub (hx : p.tables.exec = Jvm.exec) (hb : c.code = cc) {x y : Int} (hd : decode cc pc = .ok (.lsub, 1)) (k : Gd p l e R s m args below meth c Q D dA H00 b0 L0 xs sa S0 ad0 z0 u0 nL (pc + 1) lsA (.inr (.inl (w64 (x - y))) :: st) h) : Gd p l e R s m args below meth c Q D dA H00 b0 L0 xs sa S0 ad0 z0 u0 nL pc lsA (.inr (.inl y) :: .inr (.inl x) :: st) h := by
  intro S ad H locs ls hs
  have hv := hs.2.2.2.1
  have k2 := k S ad H locs ls (hs.stk (fun hv => zfa (i64_w _) (zfa2 (zfa2 hv).2).2))
  refine lv_lsub hx hb hd ?_
  simpa only [List.map_cons, zrv, w64, zbm64, Int64.ofInt_sub] using k2
theorem gd_lmul (hx : p.tables.exec = Jvm.exec) (hb : c.code = cc) {x y : Int} (hd : decode cc pc = .ok (.lmul, 1)) (k : Gd p l e R s m args below meth c Q D dA H00 b0 L0 xs sa S0 ad0 z0 u0 nL (pc + 1) lsA (.inr (.inl (w64 (x * y))) :: st) h) : Gd p l e R s m args below meth c Q D dA H00 b0 L0 xs sa S0 ad0 z0 u0 nL pc lsA (.inr (.inl y) :: .inr (.inl x) :: st) h := by
  intro S ad H locs ls hs
  have hv := hs.2.2.2.1
  have k2 := k S ad H locs ls (hs.stk (fun hv => zfa (i64_w _) (zfa2 (zfa2 hv).2).2))
  refine lv_lmul hx hb hd ?_
  simpa only [List.map_cons, zrv, w64, zbm64, Int64.ofInt_mul] using k2
theorem gd_lneg (hx : p.tables.exec = Jvm.exec) (hb : c.code = cc) {x : Int} (hd : decode cc pc = .ok (.lneg, 1)) (k : Gd p l e R s m args below meth c Q D dA H00 b0 L0 xs sa S0 ad0 z0 u0 nL (pc + 1) lsA (.inr (.inl (w64 (-x))) :: st) h) : Gd p l e R s m args below meth c Q D dA H00 b0 L0 xs sa S0 ad0 z0 u0 nL pc lsA (.inr (.inl x) :: st) h := by
  intro S ad H locs ls hs
  have hv := hs.2.2.2.1
  have k2 := k S ad H locs ls (hs.stk (fun hv => zfa (i64_w _) (zfa2 hv).2))
  refine lv_lneg hx hb hd ?_
  simpa only [List.map_cons, zrv, w64, zbm64, Int64.ofInt_neg] using k2
theorem gd_land (hx : p.tables.exec = Jvm.exec) (hb : c.code = cc) {x y : Int} (hd : decode cc pc = .ok (.land, 1)) (k : Gd p l e R s m args below meth c Q D dA H00 b0 L0 xs sa S0 ad0 z0 u0 nL (pc + 1) lsA (.inr (.inl (andL x y)) :: st) h) : Gd p l e R s m args below meth c Q D dA H00 b0 L0 xs sa S0 ad0 z0 u0 nL pc lsA (.inr (.inl y) :: .inr (.inl x) :: st) h := by
  intro S ad H locs ls hs
  have hv := hs.2.2.2.1
  have k2 := k S ad H locs ls (hs.stk (fun hv => zfa (i64_o _) (zfa2 (zfa2 hv).2).2))
  refine lv_land hx hb hd ?_
  simpa only [List.map_cons, zrv, andL, Int64.ofInt_toInt] using k2
theorem gd_lor (hx : p.tables.exec = Jvm.exec) (hb : c.code = cc) {x y : Int} (hd : decode cc pc = .ok (.lor, 1)) (k : Gd p l e R s m args below meth c Q D dA H00 b0 L0 xs sa S0 ad0 z0 u0 nL (pc + 1) lsA (.inr (.inl (orL x y)) :: st) h) : Gd p l e R s m args below meth c Q D dA H00 b0 L0 xs sa S0 ad0 z0 u0 nL pc lsA (.inr (.inl y) :: .inr (.inl x) :: st) h := by
  intro S ad H locs ls hs
  have hv := hs.2.2.2.1
  have k2 := k S ad H locs ls (hs.stk (fun hv => zfa (i64_o _) (zfa2 (zfa2 hv).2).2))
  refine lv_lor hx hb hd ?_
  simpa only [List.map_cons, zrv, orL, Int64.ofInt_toInt] using k2
theorem gd_lxor (hx : p.tables.exec = Jvm.exec) (hb : c.code = cc) {x y : Int} (hd : decode cc pc = .ok (.lxor, 1)) (k : Gd p l e R s m args below meth c Q D dA H00 b0 L0 xs sa S0 ad0 z0 u0 nL (pc + 1) lsA (.inr (.inl (xorL x y)) :: st) h) : Gd p l e R s m args below meth c Q D dA H00 b0 L0 xs sa S0 ad0 z0 u0 nL pc lsA (.inr (.inl y) :: .inr (.inl x) :: st) h := by
  intro S ad H locs ls hs
  have hv := hs.2.2.2.1
  have k2 := k S ad H locs ls (hs.stk (fun hv => zfa (i64_o _) (zfa2 (zfa2 hv).2).2))
  refine lv_lxor hx hb hd ?_
  simpa only [List.map_cons, zrv, xorL, Int64.ofInt_toInt] using k2
theorem gd_iconst (hx : p.tables.exec = Jvm.exec) (hb : c.code = cc) {v : Int} (hi : i32 v) (hd : decode cc pc = .ok (.iconst v, 1)) (k : Gd p l e R s m args below meth c Q D dA H00 b0 L0 xs sa S0 ad0 z0 u0 nL (pc + 1) lsA (.inl v :: st) h) : Gd p l e R s m args below meth c Q D dA H00 b0 L0 xs sa S0 ad0 z0 u0 nL pc lsA (st) h := by
  intro S ad H locs ls hs
  have hv := hs.2.2.2.1
  have k2 := k S ad H locs ls (hs.stk (fun hv => zfa hi hv))
  refine lv_iconst hx hb hd rfl ?_
  simpa only [List.map_cons, zrv] using k2
theorem gd_bipush (hx : p.tables.exec = Jvm.exec) (hb : c.code = cc) {v : Int} (hi : -128 ≤ v ∧ v ≤ 127) (hd : decode cc pc = .ok (.bipush v, 2)) (k : Gd p l e R s m args below meth c Q D dA H00 b0 L0 xs sa S0 ad0 z0 u0 nL (pc + 2) lsA (.inl v :: st) h) : Gd p l e R s m args below meth c Q D dA H00 b0 L0 xs sa S0 ad0 z0 u0 nL pc lsA (st) h := by
  intro S ad H locs ls hs
  have hv := hs.2.2.2.1
  have k2 := k S ad H locs ls (hs.stk (fun hv => zfa (show i32 v from ⟨by omega, by omega⟩) hv))
  refine lv_bipush hx hb hd (zbi hi) ?_
  simpa only [List.map_cons, zrv] using k2
theorem gd_sipush (hx : p.tables.exec = Jvm.exec) (hb : c.code = cc) {v : Int} (hi : -32768 ≤ v ∧ v ≤ 32767) (hd : decode cc pc = .ok (.sipush v, 3)) (k : Gd p l e R s m args below meth c Q D dA H00 b0 L0 xs sa S0 ad0 z0 u0 nL (pc + 3) lsA (.inl v :: st) h) : Gd p l e R s m args below meth c Q D dA H00 b0 L0 xs sa S0 ad0 z0 u0 nL pc lsA (st) h := by
  intro S ad H locs ls hs
  have hv := hs.2.2.2.1
  have k2 := k S ad H locs ls (hs.stk (fun hv => zfa (show i32 v from ⟨by omega, by omega⟩) hv))
  refine lv_sipush hx hb hd (zsi hi) ?_
  simpa only [List.map_cons, zrv] using k2
theorem gd_null (hx : p.tables.exec = Jvm.exec) (hb : c.code = cc) (hd : decode cc pc = .ok (.aconst_null, 1)) (k : Gd p l e R s m args below meth c Q D dA H00 b0 L0 xs sa S0 ad0 z0 u0 nL (pc + 1) lsA (.inr (.inr none) :: st) h) : Gd p l e R s m args below meth c Q D dA H00 b0 L0 xs sa S0 ad0 z0 u0 nL pc lsA (st) h := by
  intro S ad H locs ls hs
  have hv := hs.2.2.2.1
  have k2 := k S ad H locs ls (hs.stk (fun hv => zfa trivial hv))
  refine lv_null hx hb hd ?_
  exact k2
theorem gd_i2l (hx : p.tables.exec = Jvm.exec) (hb : c.code = cc) {x : Int} (hd : decode cc pc = .ok (.i2l, 1)) (k : Gd p l e R s m args below meth c Q D dA H00 b0 L0 xs sa S0 ad0 z0 u0 nL (pc + 1) lsA (.inr (.inl x) :: st) h) : Gd p l e R s m args below meth c Q D dA H00 b0 L0 xs sa S0 ad0 z0 u0 nL pc lsA (.inl x :: st) h := by
  intro S ad H locs ls hs
  have hv := hs.2.2.2.1
  have k2 := k S ad H locs ls (hs.stk (fun hv => zfa (zi3264 (zfa2 hv).1) (zfa2 hv).2))
  refine lv_i2l hx hb hd rfl ?_
  simpa only [List.map_cons, zrv, zi2l (zfa2 hv).1] using k2
theorem gd_l2i (hx : p.tables.exec = Jvm.exec) (hb : c.code = cc) {x : Int} (hd : decode cc pc = .ok (.l2i, 1)) (k : Gd p l e R s m args below meth c Q D dA H00 b0 L0 xs sa S0 ad0 z0 u0 nL (pc + 1) lsA (.inl (w32 x) :: st) h) : Gd p l e R s m args below meth c Q D dA H00 b0 L0 xs sa S0 ad0 z0 u0 nL pc lsA (.inr (.inl x) :: st) h := by
  intro S ad H locs ls hs
  have hv := hs.2.2.2.1
  have k2 := k S ad H locs ls (hs.stk (fun hv => zfa (i32_w _) (zfa2 hv).2))
  refine lv_l2i hx hb hd rfl ?_
  simpa only [List.map_cons, zrv, zl2i (zfa2 hv).1] using k2
theorem gd_i2b (hx : p.tables.exec = Jvm.exec) (hb : c.code = cc) {x : Int} (hd : decode cc pc = .ok (.i2b, 1)) (k : Gd p l e R s m args below meth c Q D dA H00 b0 L0 xs sa S0 ad0 z0 u0 nL (pc + 1) lsA (.inl (w8 x) :: st) h) : Gd p l e R s m args below meth c Q D dA H00 b0 L0 xs sa S0 ad0 z0 u0 nL pc lsA (.inl x :: st) h := by
  intro S ad H locs ls hs
  have hv := hs.2.2.2.1
  have k2 := k S ad H locs ls (hs.stk (fun hv => zfa (i32_w8 _) (zfa2 hv).2))
  refine lv_i2b hx hb hd rfl ?_
  simpa only [List.map_cons, zrv, zi2b (zfa2 hv).1] using k2
theorem gd_pop1 (hx : p.tables.exec = Jvm.exec) (hb : c.code = cc) {x : Int} (hd : decode cc pc = .ok (.pop, 1)) (k : Gd p l e R s m args below meth c Q D dA H00 b0 L0 xs sa S0 ad0 z0 u0 nL (pc + 1) lsA (st) h) : Gd p l e R s m args below meth c Q D dA H00 b0 L0 xs sa S0 ad0 z0 u0 nL pc lsA (.inl x :: st) h := by
  intro S ad H locs ls hs
  have hv := hs.2.2.2.1
  have k2 := k S ad H locs ls (hs.stk (fun hv => (zfa2 hv).2))
  refine lv_pop hx hb hd rfl ?_
  simpa only [List.map_cons, zrv] using k2
theorem gd_pop2 (hx : p.tables.exec = Jvm.exec) (hb : c.code = cc) {q : Ptr} (hd : decode cc pc = .ok (.pop, 1)) (k : Gd p l e R s m args below meth c Q D dA H00 b0 L0 xs sa S0 ad0 z0 u0 nL (pc + 1) lsA (st) h) : Gd p l e R s m args below meth c Q D dA H00 b0 L0 xs sa S0 ad0 z0 u0 nL pc lsA (.inr (.inr q) :: st) h := by
  intro S ad H locs ls hs
  have hv := hs.2.2.2.1
  have k2 := k S ad H locs ls (hs.stk (fun hv => (zfa2 hv).2))
  refine lv_pop hx hb hd (zrv_cat (.inr (.inr q))) ?_
  simpa only [List.map_cons, zrv] using k2
theorem gd_dup1 (hx : p.tables.exec = Jvm.exec) (hb : c.code = cc) {x : Int} (hd : decode cc pc = .ok (.dup, 1)) (k : Gd p l e R s m args below meth c Q D dA H00 b0 L0 xs sa S0 ad0 z0 u0 nL (pc + 1) lsA (.inl x :: .inl x :: st) h) : Gd p l e R s m args below meth c Q D dA H00 b0 L0 xs sa S0 ad0 z0 u0 nL pc lsA (.inl x :: st) h := by
  intro S ad H locs ls hs
  have hv := hs.2.2.2.1
  have k2 := k S ad H locs ls (hs.stk (fun hv => zfa (zfa2 hv).1 hv))
  refine lv_dup hx hb hd rfl ?_
  simpa only [List.map_cons, zrv] using k2
theorem gd_dup2 (hx : p.tables.exec = Jvm.exec) (hb : c.code = cc) {q : Ptr} (hd : decode cc pc = .ok (.dup, 1)) (k : Gd p l e R s m args below meth c Q D dA H00 b0 L0 xs sa S0 ad0 z0 u0 nL (pc + 1) lsA (.inr (.inr q) :: .inr (.inr q) :: st) h) : Gd p l e R s m args below meth c Q D dA H00 b0 L0 xs sa S0 ad0 z0 u0 nL pc lsA (.inr (.inr q) :: st) h := by
  intro S ad H locs ls hs
  have hv := hs.2.2.2.1
  have k2 := k S ad H locs ls (hs.stk (fun hv => zfa (zfa2 hv).1 hv))
  refine lv_dup hx hb hd (zrv_cat (.inr (.inr q))) ?_
  simpa only [List.map_cons, zrv] using k2
theorem gd_dup22 (hx : p.tables.exec = Jvm.exec) (hb : c.code = cc) {x : Int} {q : Ptr} (hd : decode cc pc = .ok (.dup2, 1)) (k : Gd p l e R s m args below meth c Q D dA H00 b0 L0 xs sa S0 ad0 z0 u0 nL (pc + 1) lsA (.inl x :: .inr (.inr q) :: .inl x :: .inr (.inr q) :: st) h) : Gd p l e R s m args below meth c Q D dA H00 b0 L0 xs sa S0 ad0 z0 u0 nL pc lsA (.inl x :: .inr (.inr q) :: st) h := by
  intro S ad H locs ls hs
  have hv := hs.2.2.2.1
  have k2 := k S ad H locs ls (hs.stk (fun hv => zfa (zfa2 hv).1 (zfa (zfa2 (zfa2 hv).2).1 hv)))
  refine lv_dup2_11 hx hb hd rfl (zrv_cat (.inr (.inr q))) ?_
  simpa only [List.map_cons, zrv] using k2
theorem gd_dupx2 (hx : p.tables.exec = Jvm.exec) (hb : c.code = cc) {x y : Int} {q : Ptr} (hd : decode cc pc = .ok (.dup_x2, 1)) (k : Gd p l e R s m args below meth c Q D dA H00 b0 L0 xs sa S0 ad0 z0 u0 nL (pc + 1) lsA (.inl x :: .inl y :: .inr (.inr q) :: .inl x :: st) h) : Gd p l e R s m args below meth c Q D dA H00 b0 L0 xs sa S0 ad0 z0 u0 nL pc lsA (.inl x :: .inl y :: .inr (.inr q) :: st) h := by
  intro S ad H locs ls hs
  have hv := hs.2.2.2.1
  have k2 := k S ad H locs ls (hs.stk (fun hv => zfa (zfa2 hv).1 (zfa (zfa2 (zfa2 hv).2).1 (zfa (zfa2 (zfa2 (zfa2 hv).2).2).1 (zfa (zfa2 hv).1 (zfa2 (zfa2 (zfa2 hv).2).2).2)))))
  refine lv_dup_x2 hx hb hd rfl rfl (zrv_cat (.inr (.inr q))) ?_
  simpa only [List.map_cons, zrv] using k2
theorem gd_lcmp (hx : p.tables.exec = Jvm.exec) (hb : c.code = cc) {x y : Int} (hd : decode cc pc = .ok (.lcmp, 1)) (k : Gd p l e R s m args below meth c Q D dA H00 b0 L0 xs sa S0 ad0 z0 u0 nL (pc + 1) lsA (.inl (cmpL x y) :: st) h) : Gd p l e R s m args below meth c Q D dA H00 b0 L0 xs sa S0 ad0 z0 u0 nL pc lsA (.inr (.inl y) :: .inr (.inl x) :: st) h := by
  intro S ad H locs ls hs
  have hv := hs.2.2.2.1
  have k2 := k S ad H locs ls (hs.stk (fun hv => zfa (i32_cmp _ _) (zfa2 (zfa2 hv).2).2))
  refine W.lcmp hx hb hd ?_
  simpa only [List.map_cons, zrv, zcmp (zfa2 (zfa2 hv).2).1 (zfa2 hv).1] using k2
theorem gd_lconst (hx : p.tables.exec = Jvm.exec) (hb : c.code = cc) {v : Fin 2} (hd : decode cc pc = .ok (.lconst v, 1)) (k : Gd p l e R s m args below meth c Q D dA H00 b0 L0 xs sa S0 ad0 z0 u0 nL (pc + 1) lsA (.inr (.inl (v : Nat)) :: st) h) : Gd p l e R s m args below meth c Q D dA H00 b0 L0 xs sa S0 ad0 z0 u0 nL pc lsA (st) h := by
  intro S ad H locs ls hs
  have hv := hs.2.2.2.1
  have k2 := k S ad H locs ls (hs.stk (fun hv => zfa (by unfold zwv i64; have := v.isLt; omega) hv))
  refine lv_lconst hx hb hd (zlc v) ?_
  simpa only [List.map_cons, zrv] using k2
theorem gd_idiv (hx : p.tables.exec = Jvm.exec) (hb : c.code = cc) {x y : Int} (hi : y ≠ 0 ∧ i32 (x.tdiv y)) (hd : decode cc pc = .ok (.idiv, 1)) (k : Gd p l e R s m args below meth c Q D dA H00 b0 L0 xs sa S0 ad0 z0 u0 nL (pc + 1) lsA (.inl (x.tdiv y) :: st) h) : Gd p l e R s m args below meth c Q D dA H00 b0 L0 xs sa S0 ad0 z0 u0 nL pc lsA (.inl y :: .inl x :: st) h := by
  intro S ad H locs ls hs
  have hv := hs.2.2.2.1
  have k2 := k S ad H locs ls (hs.stk (fun hv => zfa hi.2 (zfa2 (zfa2 hv).2).2))
  refine lv_idiv hx hb hd (fun q => hi.1 ((zceq (zfa2 hv).1 i32_0).mp q)) ?_
  simpa only [List.map_cons, zrv, zidiv (zfa2 (zfa2 hv).2).1 (zfa2 hv).1 hi.2] using k2
theorem gd_ldiv (hx : p.tables.exec = Jvm.exec) (hb : c.code = cc) {x y : Int} (hi : y ≠ 0) (hd : decode cc pc = .ok (.ldiv, 1)) (k : Gd p l e R s m args below meth c Q D dA H00 b0 L0 xs sa S0 ad0 z0 u0 nL (pc + 1) lsA (.inr (.inl (w64 (x.tdiv y))) :: st) h) : Gd p l e R s m args below meth c Q D dA H00 b0 L0 xs sa S0 ad0 z0 u0 nL pc lsA (.inr (.inl y) :: .inr (.inl x) :: st) h := by
  intro S ad H locs ls hs
  have hv := hs.2.2.2.1
  have k2 := k S ad H locs ls (hs.stk (fun hv => zfa (i64_w _) (zfa2 (zfa2 hv).2).2))
  refine lv_ldiv hx hb hd (fun q => hi ((zceq6 (zfa2 hv).1 i64_0).mp q)) ?_
  simpa only [List.map_cons, zrv, zldiv (zfa2 (zfa2 hv).2).1 (zfa2 hv).1] using k2
theorem gd_lrem (hx : p.tables.exec = Jvm.exec) (hb : c.code = cc) {x y : Int} (hi : y ≠ 0) (hd : decode cc pc = .ok (.lrem, 1)) (k : Gd p l e R s m args below meth c Q D dA H00 b0 L0 xs sa S0 ad0 z0 u0 nL (pc + 1) lsA (.inr (.inl (w64 (x.tmod y))) :: st) h) : Gd p l e R s m args below meth c Q D dA H00 b0 L0 xs sa S0 ad0 z0 u0 nL pc lsA (.inr (.inl y) :: .inr (.inl x) :: st) h := by
  intro S ad H locs ls hs
  have hv := hs.2.2.2.1
  have k2 := k S ad H locs ls (hs.stk (fun hv => zfa (i64_w _) (zfa2 (zfa2 hv).2).2))
  refine lv_lrem hx hb hd (fun q => hi ((zceq6 (zfa2 hv).1 i64_0).mp q)) ?_
  simpa only [List.map_cons, zrv, zlrem (zfa2 (zfa2 hv).2).1 (zfa2 hv).1] using k2
theorem gd_ishr (hx : p.tables.exec = Jvm.exec) (hb : c.code = cc) {x y : Int} (hi : 0 ≤ y ∧ y < 32) (hd : decode cc pc = .ok (.ishr, 1)) (k : Gd p l e R s m args below meth c Q D dA H00 b0 L0 xs sa S0 ad0 z0 u0 nL (pc + 1) lsA (.inl (x / 2 ^ y.toNat) :: st) h) : Gd p l e R s m args below meth c Q D dA H00 b0 L0 xs sa S0 ad0 z0 u0 nL pc lsA (.inl y :: .inl x :: st) h := by
  intro S ad H locs ls hs
  have hv := hs.2.2.2.1
  have k2 := k S ad H locs ls (hs.stk (fun hv => zfa (zi32sh (zfa2 (zfa2 hv).2).1 _) (zfa2 (zfa2 hv).2).2))
  refine lv_ishr hx hb hd ?_
  simpa only [List.map_cons, zrv, zishr (zfa2 (zfa2 hv).2).1 hi] using k2
theorem gd_lshl (hx : p.tables.exec = Jvm.exec) (hb : c.code = cc) {x y : Int} (hi : 0 ≤ y ∧ y < 64) (hd : decode cc pc = .ok (.lshl, 1)) (k : Gd p l e R s m args below meth c Q D dA H00 b0 L0 xs sa S0 ad0 z0 u0 nL (pc + 1) lsA (.inr (.inl (w64 (x * 2 ^ y.toNat))) :: st) h) : Gd p l e R s m args below meth c Q D dA H00 b0 L0 xs sa S0 ad0 z0 u0 nL pc lsA (.inl y :: .inr (.inl x) :: st) h := by
  intro S ad H locs ls hs
  have hv := hs.2.2.2.1
  have k2 := k S ad H locs ls (hs.stk (fun hv => zfa (i64_w _) (zfa2 (zfa2 hv).2).2))
  refine lv_lshl hx hb hd rfl ?_
  simpa only [List.map_cons, zrv, zlshl (zfa2 (zfa2 hv).2).1 hi] using k2
theorem gd_lshr (hx : p.tables.exec = Jvm.exec) (hb : c.code = cc) {x y : Int} (hi : 0 ≤ y ∧ y < 64) (hd : decode cc pc = .ok (.lshr, 1)) (k : Gd p l e R s m args below meth c Q D dA H00 b0 L0 xs sa S0 ad0 z0 u0 nL (pc + 1) lsA (.inr (.inl (x / 2 ^ y.toNat)) :: st) h) : Gd p l e R s m args below meth c Q D dA H00 b0 L0 xs sa S0 ad0 z0 u0 nL pc lsA (.inl y :: .inr (.inl x) :: st) h := by
  intro S ad H locs ls hs
  have hv := hs.2.2.2.1
  have k2 := k S ad H locs ls (hs.stk (fun hv => zfa (zi64sh (zfa2 (zfa2 hv).2).1 _) (zfa2 (zfa2 hv).2).2))
  refine lv_lshr hx hb hd rfl ?_
  simpa only [List.map_cons, zrv, zlshr (zfa2 (zfa2 hv).2).1 hi] using k2
theorem gd_iload (hx : p.tables.exec = Jvm.exec) (hb : c.code = cc) {i : Nat} {x : Int} (hl : lk lsA i = some (.inl x)) (hd : decode cc pc = .ok (.iload i, 2)) (k : Gd p l e R s m args below meth c Q D dA H00 b0 L0 xs sa S0 ad0 z0 u0 nL (pc + 2) lsA (.inl x :: st) h) : Gd p l e R s m args below meth c Q D dA H00 b0 L0 xs sa S0 ad0 z0 u0 nL pc lsA st h := by
  intro S ad H locs ls hs
  have k2 := k S ad H locs ls (hs.stk (fun hv => zfa (hs.2.1.2 _ _ hl) hv))
  exact lv_iload hx hb hd (hs.2.1.at hl) k2
theorem gd_iload_n (hx : p.tables.exec = Jvm.exec) (hb : c.code = cc) {i : Fin 4} {x : Int} (hl : lk lsA (i : Nat) = some (.inl x)) (hd : decode cc pc = .ok (.iload_n i, 1)) (k : Gd p l e R s m args below meth c Q D dA H00 b0 L0 xs sa S0 ad0 z0 u0 nL (pc + 1) lsA (.inl x :: st) h) : Gd p l e R s m args below meth c Q D dA H00 b0 L0 xs sa S0 ad0 z0 u0 nL pc lsA st h := by
  intro S ad H locs ls hs
  have k2 := k S ad H locs ls (hs.stk (fun hv => zfa (hs.2.1.2 _ _ hl) hv))
  exact lv_iload_n hx hb hd rfl (hs.2.1.at hl) k2
theorem gd_lload (hx : p.tables.exec = Jvm.exec) (hb : c.code = cc) {i : Nat} {x : Int} (hl : lk lsA i = some (.inr (.inl x))) (hd : decode cc pc = .ok (.lload i, 2)) (k : Gd p l e R s m args below meth c Q D dA H00 b0 L0 xs sa S0 ad0 z0 u0 nL (pc + 2) lsA (.inr (.inl x) :: st) h) : Gd p l e R s m args below meth c Q D dA H00 b0 L0 xs sa S0 ad0 z0 u0 nL pc lsA st h := by
  intro S ad H locs ls hs
  have k2 := k S ad H locs ls (hs.stk (fun hv => zfa (hs.2.1.2 _ _ hl) hv))
  exact lv_lload hx hb hd (hs.2.1.at hl) k2
theorem gd_lload_n (hx : p.tables.exec = Jvm.exec) (hb : c.code = cc) {i : Fin 4} {x : Int} (hl : lk lsA (i : Nat) = some (.inr (.inl x))) (hd : decode cc pc = .ok (.lload_n i, 1)) (k : Gd p l e R s m args below meth c Q D dA H00 b0 L0 xs sa S0 ad0 z0 u0 nL (pc + 1) lsA (.inr (.inl x) :: st) h) : Gd p l e R s m args below meth c Q D dA H00 b0 L0 xs sa S0 ad0 z0 u0 nL pc lsA st h := by
  intro S ad H locs ls hs
  have k2 := k S ad H locs ls (hs.stk (fun hv => zfa (hs.2.1.2 _ _ hl) hv))
  exact lv_lload_n hx hb hd rfl (hs.2.1.at hl) k2
theorem gd_aload (hx : p.tables.exec = Jvm.exec) (hb : c.code = cc) {i : Nat} {x : Ptr} (hl : lk lsA i = some (.inr (.inr x))) (hd : decode cc pc = .ok (.aload i, 2)) (k : Gd p l e R s m args below meth c Q D dA H00 b0 L0 xs sa S0 ad0 z0 u0 nL (pc + 2) lsA (.inr (.inr x) :: st) h) : Gd p l e R s m args below meth c Q D dA H00 b0 L0 xs sa S0 ad0 z0 u0 nL pc lsA st h := by
  intro S ad H locs ls hs
  have k2 := k S ad H locs ls (hs.stk (fun hv => zfa (hs.2.1.2 _ _ hl) hv))
  have a2 := hs.2.1.at hl
  simp only [List.map_cons, zrv] at k2 a2
  cases hz : zad b0 sa ad x with
  | none =>
    rw [hz] at k2 a2
    exact lv_aloadN hx hb hd a2 k2
  | some y =>
    rw [hz] at k2 a2
    exact lv_aload hx hb hd a2 k2
theorem gd_aload_n (hx : p.tables.exec = Jvm.exec) (hb : c.code = cc) {i : Fin 4} {x : Ptr} (hl : lk lsA (i : Nat) = some (.inr (.inr x))) (hd : decode cc pc = .ok (.aload_n i, 1)) (k : Gd p l e R s m args below meth c Q D dA H00 b0 L0 xs sa S0 ad0 z0 u0 nL (pc + 1) lsA (.inr (.inr x) :: st) h) : Gd p l e R s m args below meth c Q D dA H00 b0 L0 xs sa S0 ad0 z0 u0 nL pc lsA st h := by
  intro S ad H locs ls hs
  have k2 := k S ad H locs ls (hs.stk (fun hv => zfa (hs.2.1.2 _ _ hl) hv))
  have a2 := hs.2.1.at hl
  simp only [List.map_cons, zrv] at k2 a2
  cases hz : zad b0 sa ad x with
  | none =>
    rw [hz] at k2 a2
    exact lv_aload_nN hx hb hd rfl a2 k2
  | some y =>
    rw [hz] at k2 a2
    exact lv_aload_n hx hb hd rfl a2 k2
theorem Std.loc {S : List (Nat × Nat)} {ad : Nat → Nat} {H : Heap} {locs : List Loc} {ls ls' : Array Slot} {lsA' : SL} {st' : List AV} (hs : Std s D dA H00 b0 L0 xs sa S0 ad0 z0 u0 nL lsA st h S ad H locs ls) (hl : RelL b0 L0 sa S ad lsA' ls') (hn : lsA'.length = nL) (hv : ∀ v ∈ st', zwv L0 S v) : Std s D dA H00 b0 L0 xs sa S0 ad0 z0 u0 nL lsA' st' h S ad H locs ls' :=
  ⟨hs.1, hl, hn, hv, hs.2.2.2.2⟩
theorem sto_len (ls : SL) (i : Nat) (v : AV) : (sto ls i v).length = ls.length := by rw [sto, st1_len, kil_len]
theorem stoL_len (ls : SL) (i : Nat) (v : AV) : (stoL ls i v).length = ls.length := by rw [stoL, st1_len, st1_len, kil_len]
theorem gd_istore (hx : p.tables.exec = Jvm.exec) (hb : c.code = cc) {i : Nat} {x : Int} (hl : i < lsA.length) (hd : decode cc pc = .ok (.istore i, 2)) (k : Gd p l e R s m args below meth c Q D dA H00 b0 L0 xs sa S0 ad0 z0 u0 nL (pc + 2) (sto lsA i (.inl x)) st h) : Gd p l e R s m args below meth c Q D dA H00 b0 L0 xs sa S0 ad0 z0 u0 nL pc lsA (.inl x :: st) h := by
  intro S ad H locs ls hs
  have hv := hs.2.2.2.1
  refine lv_istore hx hb hd hs.2.1.1 hl rfl (fun ls' h' => ?_)
  exact k S ad H locs ls' (hs.loc (RelL_sto hs.2.1 (zfa2 hv).1 hl rfl h') (by rw [sto_len]; exact hs.2.2.1) (zfa2 hv).2)
theorem gd_istore_n (hx : p.tables.exec = Jvm.exec) (hb : c.code = cc) {i : Fin 4} {x : Int} (hl : (i : Nat) < lsA.length) (hd : decode cc pc = .ok (.istore_n i, 1)) (k : Gd p l e R s m args below meth c Q D dA H00 b0 L0 xs sa S0 ad0 z0 u0 nL (pc + 1) (sto lsA (i : Nat) (.inl x)) st h) : Gd p l e R s m args below meth c Q D dA H00 b0 L0 xs sa S0 ad0 z0 u0 nL pc lsA (.inl x :: st) h := by
  intro S ad H locs ls hs
  have hv := hs.2.2.2.1
  refine lv_istore_n hx hb hd rfl hs.2.1.1 hl rfl (fun ls' h' => ?_)
  exact k S ad H locs ls' (hs.loc (RelL_sto hs.2.1 (zfa2 hv).1 hl rfl h') (by rw [sto_len]; exact hs.2.2.1) (zfa2 hv).2)
theorem gd_lstore (hx : p.tables.exec = Jvm.exec) (hb : c.code = cc) {i : Nat} {x : Int} (hl : i + 1 < lsA.length) (hd : decode cc pc = .ok (.lstore i, 2)) (k : Gd p l e R s m args below meth c Q D dA H00 b0 L0 xs sa S0 ad0 z0 u0 nL (pc + 2) (stoL lsA i (.inr (.inl x))) st h) : Gd p l e R s m args below meth c Q D dA H00 b0 L0 xs sa S0 ad0 z0 u0 nL pc lsA (.inr (.inl x) :: st) h := by
  intro S ad H locs ls hs
  have hv := hs.2.2.2.1
  refine lv_lstore hx hb hd hs.2.1.1 hl rfl (fun ls' h' => ?_)
  exact k S ad H locs ls' (hs.loc (RelL_stoL hs.2.1 (zfa2 hv).1 hl rfl h') (by rw [stoL_len]; exact hs.2.2.1) (zfa2 hv).2)
theorem gd_lstore_n (hx : p.tables.exec = Jvm.exec) (hb : c.code = cc) {i : Fin 4} {x : Int} (hl : (i : Nat) + 1 < lsA.length) (hd : decode cc pc = .ok (.lstore_n i, 1)) (k : Gd p l e R s m args below meth c Q D dA H00 b0 L0 xs sa S0 ad0 z0 u0 nL (pc + 1) (stoL lsA (i : Nat) (.inr (.inl x))) st h) : Gd p l e R s m args below meth c Q D dA H00 b0 L0 xs sa S0 ad0 z0 u0 nL pc lsA (.inr (.inl x) :: st) h := by
  intro S ad H locs ls hs
  have hv := hs.2.2.2.1
  refine lv_lstore_n hx hb hd rfl hs.2.1.1 hl rfl (fun ls' h' => ?_)
  exact k S ad H locs ls' (hs.loc (RelL_stoL hs.2.1 (zfa2 hv).1 hl rfl h') (by rw [stoL_len]; exact hs.2.2.1) (zfa2 hv).2)
theorem gd_astore (hx : p.tables.exec = Jvm.exec) (hb : c.code = cc) {i : Nat} {x : Ptr} (hl : i < lsA.length) (hd : decode cc pc = .ok (.astore i, 2)) (k : Gd p l e R s m args below meth c Q D dA H00 b0 L0 xs sa S0 ad0 z0 u0 nL (pc + 2) (sto lsA i (.inr (.inr x))) st h) : Gd p l e R s m args below meth c Q D dA H00 b0 L0 xs sa S0 ad0 z0 u0 nL pc lsA (.inr (.inr x) :: st) h := by
  intro S ad H locs ls hs
  have hv := hs.2.2.2.1
  show W p l e R s m args below meth c H locs (hz h - z0) (hu h - u0) Q (F0 m pc ls (va_rf (zad b0 sa ad x) :: st.map (zrv b0 sa ad)))
  cases hzz : zad b0 sa ad x with
  | none =>
    refine lv_astoreN hx hb hd hs.2.1.1 hl rfl (fun ls' h' => ?_)
    exact k S ad H locs ls' (hs.loc (RelL_sto hs.2.1 (zfa2 hv).1 hl (by show _ = va_rf (zad b0 sa ad x); rw [hzz]; rfl) h') (by rw [sto_len]; exact hs.2.2.1) (zfa2 hv).2)
  | some y =>
    refine lv_astore hx hb hd hs.2.1.1 hl rfl (fun ls' h' => ?_)
    exact k S ad H locs ls' (hs.loc (RelL_sto hs.2.1 (zfa2 hv).1 hl (by show _ = va_rf (zad b0 sa ad x); rw [hzz]; rfl) h') (by rw [sto_len]; exact hs.2.2.1) (zfa2 hv).2)
theorem gd_astore_n (hx : p.tables.exec = Jvm.exec) (hb : c.code = cc) {i : Fin 4} {x : Ptr} (hl : (i : Nat) < lsA.length) (hd : decode cc pc = .ok (.astore_n i, 1)) (k : Gd p l e R s m args below meth c Q D dA H00 b0 L0 xs sa S0 ad0 z0 u0 nL (pc + 1) (sto lsA (i : Nat) (.inr (.inr x))) st h) : Gd p l e R s m args below meth c Q D dA H00 b0 L0 xs sa S0 ad0 z0 u0 nL pc lsA (.inr (.inr x) :: st) h := by
  intro S ad H locs ls hs
  have hv := hs.2.2.2.1
  show W p l e R s m args below meth c H locs (hz h - z0) (hu h - u0) Q (F0 m pc ls (va_rf (zad b0 sa ad x) :: st.map (zrv b0 sa ad)))
  cases hzz : zad b0 sa ad x with
  | none =>
    refine lv_astore_nN hx hb hd rfl hs.2.1.1 hl rfl (fun ls' h' => ?_)
    exact k S ad H locs ls' (hs.loc (RelL_sto hs.2.1 (zfa2 hv).1 hl (by show _ = va_rf (zad b0 sa ad x); rw [hzz]; rfl) h') (by rw [sto_len]; exact hs.2.2.1) (zfa2 hv).2)
  | some y =>
    refine lv_astore_n hx hb hd rfl hs.2.1.1 hl rfl (fun ls' h' => ?_)
    exact k S ad H locs ls' (hs.loc (RelL_sto hs.2.1 (zfa2 hv).1 hl (by show _ = va_rf (zad b0 sa ad x); rw [hzz]; rfl) h') (by rw [sto_len]; exact hs.2.2.1) (zfa2 hv).2)
theorem gd_iinc (hx : p.tables.exec = Jvm.exec) (hb : c.code = cc) {i : Nat} {n x : Int} (hl : lk lsA i = some (.inl x)) (hi : i32 (x + n)) (hd : decode cc pc = .ok (.iinc i n, 3)) (k : Gd p l e R s m args below meth c Q D dA H00 b0 L0 xs sa S0 ad0 z0 u0 nL (pc + 3) (sto lsA i (.inl (x + n))) st h) : Gd p l e R s m args below meth c Q D dA H00 b0 L0 xs sa S0 ad0 z0 u0 nL pc lsA st h := by
  intro S ad H locs ls hs
  have hv := hs.2.2.2.1
  obtain ⟨kk, hkk⟩ := List.mem_iff_getElem?.mp (zls_mem (b0 := b0) (sa := sa) (ad := ad) (q := (i, .int (Int32.ofInt x))).mpr ⟨_, hl, rfl⟩)
  refine lv_iinc (v := Int32.ofInt (x + n)) hx hb hd hs.2.1.1 hkk (Int32.ofInt_add _ _).symm (lk_lt hl) rfl (fun ls' h' => ?_)
  exact k S ad H locs ls' (hs.loc (RelL_sto hs.2.1 hi (lk_lt hl) rfl h') (by rw [sto_len]; exact hs.2.2.1) hv)
theorem gd_goto (hx : p.tables.exec = Jvm.exec) (hb : c.code = cc) {off : Int} {t : Nat} (ht : (pc : Int) + off = (t : Int)) (hd : decode cc pc = .ok (.goto off, 3)) (k : Gd p l e R s m args below meth c Q D dA H00 b0 L0 xs sa S0 ad0 z0 u0 nL t lsA st h) : Gd p l e R s m args below meth c Q D dA H00 b0 L0 xs sa S0 ad0 z0 u0 nL pc lsA st h := by
  intro S ad H locs ls hs
  exact lv_goto hx hb hd ht (k S ad H locs ls hs)
theorem gd_if (hx : p.tables.exec = Jvm.exec) (hb : c.code = cc) {off x : Int} {cn : Jvm.ClassFile.Cond} {t : Nat} (ht : (pc : Int) + off = (t : Int)) (hd : decode cc pc = .ok (.ifCond cn off, 3)) (k1 : cnd cn x 0 → Gd p l e R s m args below meth c Q D dA H00 b0 L0 xs sa S0 ad0 z0 u0 nL t lsA st h) (k2 : ¬ cnd cn x 0 → Gd p l e R s m args below meth c Q D dA H00 b0 L0 xs sa S0 ad0 z0 u0 nL (pc + 3) lsA st h) : Gd p l e R s m args below meth c Q D dA H00 b0 L0 xs sa S0 ad0 z0 u0 nL pc lsA (.inl x :: st) h := by
  intro S ad H locs ls hs
  have hv := hs.2.2.2.1
  have hs2 := hs.stk (fun hv => (zfa2 hv).2)
  have w := (zfa2 hv).1
  have e1 : Int32.ofInt x = 0 ↔ x = 0 := zceq w i32_0
  have e2 : Int32.ofInt x < 0 ↔ x < 0 := zclt w i32_0
  have e3 : 0 ≤ Int32.ofInt x ↔ 0 ≤ x := zcle i32_0 w
  have e4 : 0 < Int32.ofInt x ↔ 0 < x := zclt i32_0 w
  have e5 : Int32.ofInt x ≤ 0 ↔ x ≤ 0 := zcle w i32_0
  cases cn
  · exact lv_if_eq hx hb hd ht (fun q => k1 (e1.mp q) S ad H locs ls hs2) (fun q => k2 (fun r => q (e1.mpr r)) S ad H locs ls hs2)
  · exact lv_if_ne hx hb hd ht (fun q => k1 (fun r => q (e1.mpr r)) S ad H locs ls hs2) (fun q => k2 (fun r => r (e1.mp q)) S ad H locs ls hs2)
  · exact lv_if_lt hx hb hd ht (fun q => k1 (e2.mp q) S ad H locs ls hs2) (fun q => k2 (fun r => q (e2.mpr r)) S ad H locs ls hs2)
  · exact lv_if_ge hx hb hd ht (fun q => k1 (e3.mp q) S ad H locs ls hs2) (fun q => k2 (fun r => q (e3.mpr r)) S ad H locs ls hs2)
  · exact lv_if_gt hx hb hd ht (fun q => k1 (e4.mp q) S ad H locs ls hs2) (fun q => k2 (fun r => q (e4.mpr r)) S ad H locs ls hs2)
  · exact lv_if_le hx hb hd ht (fun q => k1 (e5.mp q) S ad H locs ls hs2) (fun q => k2 (fun r => q (e5.mpr r)) S ad H locs ls hs2)
theorem gd_icmp (hx : p.tables.exec = Jvm.exec) (hb : c.code = cc) {off x y : Int} {cn : Jvm.ClassFile.Cond} {t : Nat} (ht : (pc : Int) + off = (t : Int)) (hd : decode cc pc = .ok (.if_icmp cn off, 3)) (k1 : cnd cn x y → Gd p l e R s m args below meth c Q D dA H00 b0 L0 xs sa S0 ad0 z0 u0 nL t lsA st h) (k2 : ¬ cnd cn x y → Gd p l e R s m args below meth c Q D dA H00 b0 L0 xs sa S0 ad0 z0 u0 nL (pc + 3) lsA st h) : Gd p l e R s m args below meth c Q D dA H00 b0 L0 xs sa S0 ad0 z0 u0 nL pc lsA (.inl y :: .inl x :: st) h := by
  intro S ad H locs ls hs
  have hv := hs.2.2.2.1
  have hs2 := hs.stk (fun hv => (zfa2 (zfa2 hv).2).2)
  have wy := (zfa2 hv).1
  have w := (zfa2 (zfa2 hv).2).1
  have e1 : Int32.ofInt x = Int32.ofInt y ↔ x = y := zceq w wy
  have e2 : Int32.ofInt x < Int32.ofInt y ↔ x < y := zclt w wy
  have e3 : Int32.ofInt y ≤ Int32.ofInt x ↔ y ≤ x := zcle wy w
  have e4 : Int32.ofInt y < Int32.ofInt x ↔ y < x := zclt wy w
  have e5 : Int32.ofInt x ≤ Int32.ofInt y ↔ x ≤ y := zcle w wy
  cases cn
  · exact lv_icmp_eq hx hb hd ht (fun q => k1 (e1.mp q) S ad H locs ls hs2) (fun q => k2 (fun r => q (e1.mpr r)) S ad H locs ls hs2)
  · exact lv_icmp_ne hx hb hd ht (fun q => k1 (fun r => q (e1.mpr r)) S ad H locs ls hs2) (fun q => k2 (fun r => r (e1.mp q)) S ad H locs ls hs2)
  · exact lv_icmp_lt hx hb hd ht (fun q => k1 (e2.mp q) S ad H locs ls hs2) (fun q => k2 (fun r => q (e2.mpr r)) S ad H locs ls hs2)
  · exact lv_icmp_ge hx hb hd ht (fun q => k1 (e3.mp q) S ad H locs ls hs2) (fun q => k2 (fun r => q (e3.mpr r)) S ad H locs ls hs2)
  · exact lv_icmp_gt hx hb hd ht (fun q => k1 (e4.mp q) S ad H locs ls hs2) (fun q => k2 (fun r => q (e4.mpr r)) S ad H locs ls hs2)
  · exact lv_icmp_le hx hb hd ht (fun q => k1 (e5.mp q) S ad H locs ls hs2) (fun q => k2 (fun r => q (e5.mpr r)) S ad H locs ls hs2)
theorem zad_none {ad : Nat → Nat} {x : Ptr} : zad b0 sa ad x = none ↔ x = none := by cases x <;> simp [zad]
theorem gd_ifnull (hx : p.tables.exec = Jvm.exec) (hb : c.code = cc) {off : Int} {x : Ptr} {t : Nat} (ht : (pc : Int) + off = (t : Int)) (hd : decode cc pc = .ok (.ifnull off, 3)) (k1 : x = none → Gd p l e R s m args below meth c Q D dA H00 b0 L0 xs sa S0 ad0 z0 u0 nL t lsA st h) (k2 : ¬ x = none → Gd p l e R s m args below meth c Q D dA H00 b0 L0 xs sa S0 ad0 z0 u0 nL (pc + 3) lsA st h) : Gd p l e R s m args below meth c Q D dA H00 b0 L0 xs sa S0 ad0 z0 u0 nL pc lsA (.inr (.inr x) :: st) h := by
  intro S ad H locs ls hs
  have hs2 := hs.stk (fun hv => (zfa2 hv).2)
  show W p l e R s m args below meth c H locs (hz h - z0) (hu h - u0) Q (F0 m pc ls (va_rf (zad b0 sa ad x) :: st.map (zrv b0 sa ad)))
  cases x with
  | none => exact lv_ifnullN hx hb hd ht (k1 rfl S ad H locs ls hs2)
  | some q => exact lv_ifnull hx hb hd (k2 (fun h => by cases h) S ad H locs ls hs2)
theorem gd_ifnonnull (hx : p.tables.exec = Jvm.exec) (hb : c.code = cc) {off : Int} {x : Ptr} {t : Nat} (ht : (pc : Int) + off = (t : Int)) (hd : decode cc pc = .ok (.ifnonnull off, 3)) (k1 : x ≠ none → Gd p l e R s m args below meth c Q D dA H00 b0 L0 xs sa S0 ad0 z0 u0 nL t lsA st h) (k2 : ¬ x ≠ none → Gd p l e R s m args below meth c Q D dA H00 b0 L0 xs sa S0 ad0 z0 u0 nL (pc + 3) lsA st h) : Gd p l e R s m args below meth c Q D dA H00 b0 L0 xs sa S0 ad0 z0 u0 nL pc lsA (.inr (.inr x) :: st) h := by
  intro S ad H locs ls hs
  have hs2 := hs.stk (fun hv => (zfa2 hv).2)
  show W p l e R s m args below meth c H locs (hz h - z0) (hu h - u0) Q (F0 m pc ls (va_rf (zad b0 sa ad x) :: st.map (zrv b0 sa ad)))
  cases x with
  | none => exact lv_ifnonnullN hx hb hd (k2 (fun h => h rfl) S ad H locs ls hs2)
  | some q => exact lv_ifnonnull hx hb hd ht (k1 (fun h => by cases h) S ad H locs ls hs2)
theorem swi_eq (ps : List (Int × Int)) (d x : Int) : swi ps d x = Op.lookupswitch.offset ps d x := by
  induction ps with
  | nil => rfl
  | cons a r ih =>
    obtain ⟨a, t⟩ := a
    rw [Op.lookupswitch.offset_cons, swi, ih]
    by_cases h : x = a
    · rw [if_pos h, if_pos h.symm]
    · rw [if_neg h, if_neg (fun q => h q.symm)]
theorem gd_lookup (hx : p.tables.exec = Jvm.exec) (hb : c.code = cc) {dflt x : Int} {ps : Array (Int × Int)} {len t : Nat} (hp : (ps.toList.zip (ps.toList.drop 1)).all (fun (a, next) => a.1 < next.1) = true) (ht : (pc : Int) + swi ps.toList dflt x = (t : Int)) (hd : decode cc pc = .ok (.lookupswitch dflt ps, len)) (k : Gd p l e R s m args below meth c Q D dA H00 b0 L0 xs sa S0 ad0 z0 u0 nL t lsA st h) : Gd p l e R s m args below meth c Q D dA H00 b0 L0 xs sa S0 ad0 z0 u0 nL pc lsA (.inl x :: st) h := by
  intro S ad H locs ls hs
  have hv := hs.2.2.2.1
  refine lv_lookup hx hb hd hp (by rw [o32 (zfa2 hv).1]) (by rw [← swi_eq]; exact ht) (k S ad H locs ls (hs.stk (fun hv => (zfa2 hv).2)))
theorem gd_table (hx : p.tables.exec = Jvm.exec) (hb : c.code = cc) {dflt lo hi x : Int} {offs : Array Int} {len t : Nat} (ht : (pc : Int) + (if x < lo ∨ hi < x then dflt else offs.getD (x - lo).toNat 0) = (t : Int)) (hsz : offs.size = (hi - lo + 1).toNat) (hd : decode cc pc = .ok (.tableswitch dflt lo hi offs, len)) (k : Gd p l e R s m args below meth c Q D dA H00 b0 L0 xs sa S0 ad0 z0 u0 nL t lsA st h) : Gd p l e R s m args below meth c Q D dA H00 b0 L0 xs sa S0 ad0 z0 u0 nL pc lsA (.inl x :: st) h := by
  intro S ad H locs ls hs
  have hv := hs.2.2.2.1
  have k2 := k S ad H locs ls (hs.stk (fun hv => (zfa2 hv).2))
  have e := o32 (zfa2 hv).1
  by_cases hc : x < lo ∨ hi < x
  · rw [if_pos hc] at ht
    exact lv_tableOut hx hb hd (by rw [e]; exact hc) ht k2
  · rw [if_neg hc] at ht
    have hlt : (x - lo).toNat < offs.size := by omega
    refine lv_tableIn hx hb hd (by rw [e]; omega) (by rw [e]; omega) (off := offs.getD (x - lo).toNat 0) ?_ ht k2
    rw [e, Array.getD_eq_getD_getElem?, Array.getElem?_eq_getElem hlt]; rfl
end Step
