/-! SJ: a small interpreter of resolved bytecode over an abstract heap.
An int is an Int in range, a long an Int in range, a pointer none or (kind, length, address). -/
abbrev Ptr : Type := Option (Nat × Nat × Nat)
abbrev AV : Type := Int ⊕ (Int ⊕ Ptr)
abbrev AH : Type := (Nat × Nat) × (Nat → Nat → Int) × (Nat → Nat → Int) × (Nat → Nat → Ptr)
abbrev AO : Type := Option AV ⊕ (Nat × Nat × Nat)
abbrev SL : Type := List (Option AV)
abbrev SC : Type := List (Nat × Instr)
abbrev SH : Type := List (Nat × Nat × Nat × Nat)
def hI (h : AH) : Nat → Nat → Int := h.2.1
def hL (h : AH) : Nat → Nat → Int := h.2.2.1
def hP (h : AH) : Nat → Nat → Ptr := h.2.2.2
def hz (h : AH) : Nat := h.1.1
def hu (h : AH) : Nat := h.1.2
def up2 {α : Type} (f : Nat → Nat → α) (a j : Nat) (v : α) : Nat → Nat → α := fun b k => if b = a ∧ k = j then v else f b k
def sI (h : AH) (a j : Nat) (v : Int) : AH := (h.1, up2 h.2.1 a j v, h.2.2.1, h.2.2.2)
def sL (h : AH) (a j : Nat) (v : Int) : AH := (h.1, h.2.1, up2 h.2.2.1 a j v, h.2.2.2)
def sP (h : AH) (a j : Nat) (v : Ptr) : AH := (h.1, h.2.1, h.2.2.1, up2 h.2.2.2 a j v)
def al (h : AH) (n : Nat) : AH := ((h.1.1 + 1, h.1.2 + n), h.2)
theorem hI_sI (h : AH) (a j : Nat) (v : Int) (b k : Nat) : hI (sI h a j v) b k = if b = a ∧ k = j then v else hI h b k := rfl
theorem hI_sL (h : AH) (a j : Nat) (v : Int) : hI (sL h a j v) = hI h := rfl
theorem hI_sP (h : AH) (a j : Nat) (v : Ptr) : hI (sP h a j v) = hI h := rfl
theorem hI_al (h : AH) (n : Nat) : hI (al h n) = hI h := rfl
theorem hL_sI (h : AH) (a j : Nat) (v : Int) : hL (sI h a j v) = hL h := rfl
theorem hL_sL (h : AH) (a j : Nat) (v : Int) (b k : Nat) : hL (sL h a j v) b k = if b = a ∧ k = j then v else hL h b k := rfl
theorem hL_sP (h : AH) (a j : Nat) (v : Ptr) : hL (sP h a j v) = hL h := rfl
theorem hL_al (h : AH) (n : Nat) : hL (al h n) = hL h := rfl
theorem hP_sI (h : AH) (a j : Nat) (v : Int) : hP (sI h a j v) = hP h := rfl
theorem hP_sL (h : AH) (a j : Nat) (v : Int) : hP (sL h a j v) = hP h := rfl
theorem hP_sP (h : AH) (a j : Nat) (v : Ptr) (b k : Nat) : hP (sP h a j v) b k = if b = a ∧ k = j then v else hP h b k := rfl
theorem hP_al (h : AH) (n : Nat) : hP (al h n) = hP h := rfl
theorem hz_sI (h : AH) (a j : Nat) (v : Int) : hz (sI h a j v) = hz h := rfl
theorem hz_sL (h : AH) (a j : Nat) (v : Int) : hz (sL h a j v) = hz h := rfl
theorem hz_sP (h : AH) (a j : Nat) (v : Ptr) : hz (sP h a j v) = hz h := rfl
theorem hz_al (h : AH) (n : Nat) : hz (al h n) = hz h + 1 := rfl
theorem hu_sI (h : AH) (a j : Nat) (v : Int) : hu (sI h a j v) = hu h := rfl
theorem hu_sL (h : AH) (a j : Nat) (v : Int) : hu (sL h a j v) = hu h := rfl
theorem hu_sP (h : AH) (a j : Nat) (v : Ptr) : hu (sP h a j v) = hu h := rfl
theorem hu_al (h : AH) (n : Nat) : hu (al h n) = hu h + n := rfl
/-- a field's value by its type: 0 int, 1 long, 2 reference, 3 boolean -/
def gv (t : Nat) (h : AH) (a j : Nat) : AV := match t with
  | 1 => .inr (.inl (hL h a j))
  | 2 => .inr (.inr (hP h a j))
  | _ => .inl (hI h a j)
/-- ranges and arithmetic -/
abbrev i32 (n : Int) : Prop := -2147483648 ≤ n ∧ n ≤ 2147483647
def w64 (n : Int) : Int := Int.bmod n 18446744073709551616
def w32 (n : Int) : Int := Int.bmod n 4294967296
def w8 (n : Int) : Int := Int.bmod n 256
def andI (x y : Int) : Int := (Int32.ofInt x &&& Int32.ofInt y).toInt
def andL (x y : Int) : Int := (Int64.ofInt x &&& Int64.ofInt y).toInt
def orL (x y : Int) : Int := (Int64.ofInt x ||| Int64.ofInt y).toInt
def xorL (x y : Int) : Int := (Int64.ofInt x ^^^ Int64.ofInt y).toInt
def cmpL (x y : Int) : Int := if x < y then -1 else if x = y then 0 else 1
def lk : SL → Nat → Option AV
  | [], _ => none
  | x :: _, 0 => x
  | _ :: r, i + 1 => lk r i
def st1 : SL → Nat → Option AV → SL
  | [], _, _ => []
  | _ :: r, 0, v => v :: r
  | x :: r, i + 1, v => x :: st1 r i v
/-- a long just below is spoilt -/
def kil (ls : SL) (i : Nat) : SL := match i with
  | 0 => ls
  | k + 1 => match lk ls k with
    | some (.inr (.inl _)) => st1 ls k none
    | _ => ls
def sto (ls : SL) (i : Nat) (v : AV) : SL := st1 (kil ls i) i (some v)
def stoL (ls : SL) (i : Nat) (v : AV) : SL := st1 (st1 (kil ls i) i (some v)) (i + 1) none
/-- words of an operand stack -/
def zcat : List AV → Nat
  | [] => 0
  | .inr (.inl _) :: r => 2 + zcat r
  | _ :: r => 1 + zcat r
def jmp (cd : SC) (t : Nat) : SC := cd.dropWhile (fun q => !(q.1 == t))
/-- kinds: 900 any Expr, 901 any Statement -/
def kok (k kd : Nat) : Bool := if k = 900 then [19, 20, 21, 22, 23, 24].contains kd else if k = 901 then [14, 25, 26, 27, 28, 30, 31, 33].contains kd else k == kd
/-- what may lie in an array of references: Thing, Expr, Statement, Rows, Element, Thunk, String -/
def ael (k kd : Nat) : Bool := match k with
  | 110 => kd == 17
  | 111 => kok 900 kd
  | 112 => kok 901 kd
  | 113 => kd == 15
  | 114 => kd == 32
  | 115 => kd == 36
  | 116 => kd == 201
  | _ => false
def cnd (c : Jvm.ClassFile.Cond) (x y : Int) : Prop := match c with
  | .eq => x = y
  | .ne => x ≠ y
  | .lt => x < y
  | .ge => y ≤ x
  | .gt => y < x
  | .le => x ≤ y
def acnd (c : Jvm.ClassFile.ACond) (x y : Ptr) : Prop := match c with
  | .eq => x = y
  | .ne => x ≠ y
def swi : List (Int × Int) → Int → Int → Int
  | [], d, _ => d
  | (a, t) :: r, d, x => if x = a then t else swi r d x
section
variable (disp : Nat → Nat → Option Nat) (C : Nat → List AV → AH → AO → AH → Prop) (cd : SC) (hs : SH) (rt : Nat) (F : AO → AH → Prop) (K : SC → SL → List AV → AH → Prop)
def thr (pc : Nat) (ls : SL) (q : Nat × Nat × Nat) (h : AH) : Prop :=
  q.1 < 44 ∧ hs.all (fun e => !(decide (e.1 ≤ pc) && decide (pc < e.2.1)) || (e.2.2.2 == q.1) || (q.1 == 43 && e.2.2.2 == 42)) = true ∧
  match hs.find? (fun e => decide (e.1 ≤ pc) && decide (pc < e.2.1) && (e.2.2.2 == q.1)) with
  | some e => K (jmp cd e.2.2.1) ls [.inr (.inr (some q))] h
  | none => F (.inr q) h
def cal (rk y : Nat) (args : List AV) (pc : Nat) (rest : SC) (ls : SL) (st : List AV) (h : AH) : Prop :=
  (match rk with
  | 0 => ∃ h1, C y args h (.inl none) h1 ∧ K rest ls st h1
  | 1 => ∃ n h1, C y args h (.inl (some (.inl n))) h1 ∧ K rest ls (.inl n :: st) h1
  | 2 => ∃ n h1, C y args h (.inl (some (.inr (.inl n)))) h1 ∧ K rest ls (.inr (.inl n) :: st) h1
  | _ => ∃ p h1, C y args h (.inl (some (.inr (.inr p)))) h1 ∧ K rest ls (.inr (.inr p) :: st) h1) ∨
  ∃ q h1, C y args h (.inr q) h1 ∧ thr cd hs F K pc ls q h1
def br (c : Prop) (A B : Prop) : Prop := (c → A) ∧ (¬ c → B)
def wp1 : SC → SL → List AV → AH → Prop
  | [], _, _, _ => False
  | (pc, i) :: rest, ls, st, h => match i with
    | .iload i => match lk ls i with
      | some (.inl x) => K rest ls (.inl x :: st) h
      | _ => False
    | .lload i => match lk ls i with
      | some (.inr (.inl x)) => K rest ls (.inr (.inl x) :: st) h
      | _ => False
    | .aload i => match lk ls i with
      | some (.inr (.inr p)) => K rest ls (.inr (.inr p) :: st) h
      | _ => False
    | .istore i => match st with
      | .inl x :: s => i < ls.length ∧ K rest (sto ls i (.inl x)) s h
      | _ => False
    | .lstore i => match st with
      | .inr (.inl x) :: s => i + 1 < ls.length ∧ K rest (stoL ls i (.inr (.inl x))) s h
      | _ => False
    | .astore i => match st with
      | .inr (.inr p) :: s => i < ls.length ∧ K rest (sto ls i (.inr (.inr p))) s h
      | _ => False
    | .iinc i n => match lk ls i with
      | some (.inl x) => i32 (x + n) ∧ K rest (sto ls i (.inl (x + n))) st h
      | _ => False
    | .sipush v => K rest ls (.inl v :: st) h
    | .jsr_w v => K rest ls (.inr (.inl v) :: st) h
    | .aconst_null => K rest ls (.inr (.inr none) :: st) h
    | .ldc i => K rest ls (.inr (.inr (some (201, i, i))) :: st) h
    | .getfield x => match st with
      | .inr (.inr p) :: s => ∃ q, p = some q ∧ kok (x / 1024) q.1 = true ∧ K rest ls (gv (x % 4) h q.2.2 (x / 4 % 256) :: s) h
      | _ => False
    | .putfield x => match x % 4, st with
      | 0, .inl v :: .inr (.inr p) :: s => ∃ q, p = some q ∧ kok (x / 1024) q.1 = true ∧ K rest ls s (sI h q.2.2 (x / 4 % 256) v)
      | 1, .inr (.inl v) :: .inr (.inr p) :: s => ∃ q, p = some q ∧ kok (x / 1024) q.1 = true ∧ K rest ls s (sL h q.2.2 (x / 4 % 256) v)
      | 2, .inr (.inr v) :: .inr (.inr p) :: s => ∃ q, p = some q ∧ kok (x / 1024) q.1 = true ∧ K rest ls s (sP h q.2.2 (x / 4 % 256) v)
      | 3, .inl v :: .inr (.inr p) :: s => ∃ q, p = some q ∧ kok (x / 1024) q.1 = true ∧ (v = 0 ∨ v = 1) ∧ K rest ls s (sI h q.2.2 (x / 4 % 256) v)
      | _, _ => False
    | .iadd => match st with
      | .inl y :: .inl x :: s => i32 (x + y) ∧ K rest ls (.inl (x + y) :: s) h
      | _ => False
    | .isub => match st with
      | .inl y :: .inl x :: s => i32 (x - y) ∧ K rest ls (.inl (x - y) :: s) h
      | _ => False
    | .imul => match st with
      | .inl y :: .inl x :: s => i32 (x * y) ∧ K rest ls (.inl (x * y) :: s) h
      | _ => False
    | .idiv => match st with
      | .inl y :: .inl x :: s => (y ≠ 0 ∧ i32 (x.tdiv y)) ∧ K rest ls (.inl (x.tdiv y) :: s) h
      | _ => False
    | .ineg => match st with
      | .inl x :: s => i32 (-x) ∧ K rest ls (.inl (-x) :: s) h
      | _ => False
    | .ishr => match st with
      | .inl y :: .inl x :: s => (0 ≤ y ∧ y < 32) ∧ K rest ls (.inl (x / 2 ^ y.toNat) :: s) h
      | _ => False
    | .iand => match st with
      | .inl y :: .inl x :: s => K rest ls (.inl (andI x y) :: s) h
      | _ => False
    | .ladd => match st with
      | .inr (.inl y) :: .inr (.inl x) :: s => K rest ls (.inr (.inl (w64 (x + y))) :: s) h
      | _ => False
    | .lsub => match st with
      | .inr (.inl y) :: .inr (.inl x) :: s => K rest ls (.inr (.inl (w64 (x - y))) :: s) h
      | _ => False
    | .lmul => match st with
      | .inr (.inl y) :: .inr (.inl x) :: s => K rest ls (.inr (.inl (w64 (x * y))) :: s) h
      | _ => False
    | .ldiv => match st with
      | .inr (.inl y) :: .inr (.inl x) :: s => y ≠ 0 ∧ K rest ls (.inr (.inl (w64 (x.tdiv y))) :: s) h
      | _ => False
    | .lrem => match st with
      | .inr (.inl y) :: .inr (.inl x) :: s => y ≠ 0 ∧ K rest ls (.inr (.inl (w64 (x.tmod y))) :: s) h
      | _ => False
    | .lneg => match st with
      | .inr (.inl x) :: s => K rest ls (.inr (.inl (w64 (-x))) :: s) h
      | _ => False
    | .land => match st with
      | .inr (.inl y) :: .inr (.inl x) :: s => K rest ls (.inr (.inl (andL x y)) :: s) h
      | _ => False
    | .lor => match st with
      | .inr (.inl y) :: .inr (.inl x) :: s => K rest ls (.inr (.inl (orL x y)) :: s) h
      | _ => False
    | .lxor => match st with
      | .inr (.inl y) :: .inr (.inl x) :: s => K rest ls (.inr (.inl (xorL x y)) :: s) h
      | _ => False
    | .lshl => match st with
      | .inl y :: .inr (.inl x) :: s => (0 ≤ y ∧ y < 64) ∧ K rest ls (.inr (.inl (w64 (x * 2 ^ y.toNat))) :: s) h
      | _ => False
    | .lshr => match st with
      | .inl y :: .inr (.inl x) :: s => (0 ≤ y ∧ y < 64) ∧ K rest ls (.inr (.inl (x / 2 ^ y.toNat)) :: s) h
      | _ => False
    | .lcmp => match st with
      | .inr (.inl y) :: .inr (.inl x) :: s => K rest ls (.inl (cmpL x y) :: s) h
      | _ => False
    | .i2l => match st with
      | .inl x :: s => K rest ls (.inr (.inl x) :: s) h
      | _ => False
    | .l2i => match st with
      | .inr (.inl x) :: s => K rest ls (.inl (w32 x) :: s) h
      | _ => False
    | .i2b => match st with
      | .inl x :: s => K rest ls (.inl (w8 x) :: s) h
      | _ => False
    | .dup => match st with
      | .inl x :: s => K rest ls (.inl x :: .inl x :: s) h
      | .inr (.inr p) :: s => K rest ls (.inr (.inr p) :: .inr (.inr p) :: s) h
      | _ => False
    | .pop => match st with
      | .inl _ :: s => K rest ls s h
      | .inr (.inr _) :: s => K rest ls s h
      | _ => False
    | .dup2 => match st with
      | .inl x :: .inr (.inr p) :: s => K rest ls (.inl x :: .inr (.inr p) :: .inl x :: .inr (.inr p) :: s) h
      | _ => False
    | .dup_x1 => match st with
      | .inl x :: .inr (.inr p) :: s => K rest ls (.inl x :: .inr (.inr p) :: .inl x :: s) h
      | _ => False
    | .dup_x2 => match st with
      | .inl x :: .inl y :: .inr (.inr p) :: s => K rest ls (.inl x :: .inl y :: .inr (.inr p) :: .inl x :: s) h
      | _ => False
    | .ifCond c t => match st with
      | .inl x :: s => br (cnd c x 0) (K (jmp cd t.toNat) ls s h) (K rest ls s h)
      | _ => False
    | .if_icmp c t => match st with
      | .inl y :: .inl x :: s => br (cnd c x y) (K (jmp cd t.toNat) ls s h) (K rest ls s h)
      | _ => False
    | .if_acmp c t => match st with
      | .inr (.inr y) :: .inr (.inr x) :: s => ((∀ q, x = some q → q.1 < 200) ∧ ∀ q, y = some q → q.1 < 200) ∧ br (acnd c x y) (K (jmp cd t.toNat) ls s h) (K rest ls s h)
      | _ => False
    | .ifnull t => match st with
      | .inr (.inr p) :: s => br (p = none) (K (jmp cd t.toNat) ls s h) (K rest ls s h)
      | _ => False
    | .ifnonnull t => match st with
      | .inr (.inr p) :: s => br (p ≠ none) (K (jmp cd t.toNat) ls s h) (K rest ls s h)
      | _ => False
    | .goto t => K (jmp cd t.toNat) ls st h
    | .lookupswitch d ps => match st with
      | .inl x :: s => K (jmp cd (swi ps.toList d x).toNat) ls s h
      | _ => False
    | .iaload => match st with
      | .inl i :: .inr (.inr p) :: s => ∃ q, p = some q ∧ (q.1 = 101 ∨ q.1 = 200) ∧ (0 ≤ i ∧ i < (q.2.1 : Int)) ∧ K rest ls (.inl (hI h q.2.2 i.toNat) :: s) h
      | _ => False
    | .baload => match st with
      | .inl i :: .inr (.inr p) :: s => ∃ q, p = some q ∧ (q.1 = 103 ∨ q.1 = 104) ∧ (0 ≤ i ∧ i < (q.2.1 : Int)) ∧ K rest ls (.inl (hI h q.2.2 i.toNat) :: s) h
      | _ => False
    | .laload => match st with
      | .inl i :: .inr (.inr p) :: s => ∃ q, p = some q ∧ q.1 = 102 ∧ (0 ≤ i ∧ i < (q.2.1 : Int)) ∧ K rest ls (.inr (.inl (hL h q.2.2 i.toNat)) :: s) h
      | _ => False
    | .aaload => match st with
      | .inl i :: .inr (.inr p) :: s => ∃ q, p = some q ∧ (110 ≤ q.1 ∧ q.1 ≤ 116) ∧ (0 ≤ i ∧ i < (q.2.1 : Int)) ∧ K rest ls (.inr (.inr (hP h q.2.2 i.toNat)) :: s) h
      | _ => False
    | .iastore => match st with
      | .inl v :: .inl i :: .inr (.inr p) :: s => ∃ q, p = some q ∧ q.1 = 101 ∧ (0 ≤ i ∧ i < (q.2.1 : Int)) ∧ K rest ls s (sI h q.2.2 i.toNat v)
      | _ => False
    | .bastore => match st with
      | .inl v :: .inl i :: .inr (.inr p) :: s => ∃ q, p = some q ∧ ((q.1 = 103 ∧ w8 v = v) ∨ (q.1 = 104 ∧ (v = 0 ∨ v = 1))) ∧ (0 ≤ i ∧ i < (q.2.1 : Int)) ∧ K rest ls s (sI h q.2.2 i.toNat v)
      | _ => False
    | .lastore => match st with
      | .inr (.inl v) :: .inl i :: .inr (.inr p) :: s => ∃ q, p = some q ∧ q.1 = 102 ∧ (0 ≤ i ∧ i < (q.2.1 : Int)) ∧ K rest ls s (sL h q.2.2 i.toNat v)
      | _ => False
    | .aastore => match st with
      | .inr (.inr v) :: .inl i :: .inr (.inr p) :: s => ∃ q, p = some q ∧ (110 ≤ q.1 ∧ q.1 ≤ 116) ∧ (0 ≤ i ∧ i < (q.2.1 : Int)) ∧ (∀ r, v = some r → ael q.1 r.1 = true ∧ (q.1 = 116 → r.2.2 < 31)) ∧ K rest ls s (sP h q.2.2 i.toNat v)
      | _ => False
    | .arraylength => match st with
      | .inr (.inr p) :: s => ∃ q, p = some q ∧ ((101 ≤ q.1 ∧ q.1 ≤ 104) ∨ (110 ≤ q.1 ∧ q.1 ≤ 116) ∨ q.1 = 200) ∧ K rest ls (.inl (q.2.1 : Int) :: s) h
      | _ => False
    | .new x => K rest ls (.inr (.inr (some (x / 256, 0, hz h))) :: st) (al h (x % 256))
    | .getstatic x => (C 530 [] h (.inl none) h ∧ zcat st ≤ 8) ∧ K rest ls (.inr (.inr (some (x / 256, 0, hz h))) :: st) (al h (x % 256))
    | .newarray t => match st with
      | .inl n :: s => (0 ≤ n ∧ n ≤ 1000000) ∧ K rest ls (.inr (.inr (some (match t with | .int => 101 | .long => 102 | .byte => 103 | _ => 104, n.toNat, hz h))) :: s) (al h n.toNat)
      | _ => False
    | .anewarray x => match st with
      | .inl n :: s => (0 ≤ n ∧ n ≤ 1000000) ∧ K rest ls (.inr (.inr (some (x, n.toNat, hz h))) :: s) (al h n.toNat)
      | _ => False
    | .checkcast x => match st with
      | .inr (.inr p) :: s => ∃ q, p = some q ∧ q.1 = x ∧ K rest ls (.inr (.inr p) :: s) h
      | _ => False
    | .instanceof x => match st with
      | .inr (.inr p) :: s => ∃ q, p = some q ∧ kok 900 q.1 = true ∧ br (q.1 = x) (K rest ls (.inl 1 :: s) h) (K rest ls (.inl 0 :: s) h)
      | _ => False
    | .invokestatic x => ((st.take (x / 4 % 16)).length = x / 4 % 16 ∧ zcat (st.drop (x / 4 % 16)) ≤ 8) ∧ cal C cd hs F K (x % 4) (x / 64000) (st.take (x / 4 % 16)).reverse pc rest ls (st.drop (x / 4 % 16)) h
    | .invokespecial x => match st.drop (x / 4 % 16 - 1) with
      | .inr (.inr p) :: s => ∃ q, p = some q ∧ zcat s ≤ 8 ∧
          cal C cd hs F K (x % 4) (x / 64000) (.inr (.inr (some q)) :: (st.take (x / 4 % 16 - 1)).reverse) pc rest ls s h
      | _ => False
    | .invokevirtual x => match st.drop (x / 4 % 16 - 1) with
      | .inr (.inr p) :: s => ∃ q, p = some q ∧ ∃ y, ((if x / 64 % 1000 < 999 then (if kok (x / 64 % 1000) q.1 = true then some (x / 64000) else none) else disp (x / 64000) q.1) = some y ∧ zcat s ≤ 8) ∧
          cal C cd hs F K (x % 4) y (.inr (.inr (some q)) :: (st.take (x / 4 % 16 - 1)).reverse) pc rest ls s h
      | _ => False
    | .athrow => match st with
      | .inr (.inr p) :: _ => ∃ q, p = some q ∧ thr cd hs F K pc ls q h
      | _ => False
    | .ireturn => match st with
      | [.inl v] => (rt = 1 ∨ (rt = 4 ∧ (v = 0 ∨ v = 1))) ∧ F (.inl (some (.inl v))) h
      | _ => False
    | .lreturn => match st with
      | [.inr (.inl v)] => rt = 2 ∧ F (.inl (some (.inr (.inl v)))) h
      | _ => False
    | .areturn => match st with
      | [.inr (.inr v)] => rt = 3 ∧ F (.inl (some (.inr (.inr v)))) h
      | _ => False
    | .return_ => match st with
      | [] => rt = 0 ∧ F (.inl none) h
      | _ => False
    | _ => False
end
