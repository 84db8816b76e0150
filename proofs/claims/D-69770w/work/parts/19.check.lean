/-- a link stands in the list -/
def lkm (LK : List (Nat × Instr)) (k : Nat) (i : Instr) : Bool := LK.any (fun a => decide (a.1 = k) && decide (a.2 = i))
theorem lkm_mem {LK : List (Nat × Instr)} {k : Nat} {i : Instr} (h : lkm LK k i = true) : (k, i) ∈ LK := by
  obtain ⟨a, h1, h2⟩ := List.any_eq_true.mp h
  have h3 := (Bool.and_eq_true _ _).mp h2
  have e1 := of_decide_eq_true h3.1
  have e2 := of_decide_eq_true h3.2
  subst e1; subst e2
  exact h1
/-- a real instruction against the interpreter's: what is linked stands in LK -/
def rz (LK : List (Nat × Instr)) (pc : Nat) (r i : Instr) : Bool := match r with
  | .iload k => decide (i = .iload k)
  | .iload_n k => decide (i = .iload (k : Nat))
  | .lload k => decide (i = .lload k)
  | .lload_n k => decide (i = .lload (k : Nat))
  | .aload k => decide (i = .aload k)
  | .aload_n k => decide (i = .aload (k : Nat))
  | .istore k => decide (i = .istore k)
  | .istore_n k => decide (i = .istore (k : Nat))
  | .lstore k => decide (i = .lstore k)
  | .lstore_n k => decide (i = .lstore (k : Nat))
  | .astore k => decide (i = .astore k)
  | .astore_n k => decide (i = .astore (k : Nat))
  | .iinc k n => decide (i = .iinc k n)
  | .iconst v => decide (i = .sipush v) && decide (-128 ≤ v ∧ v ≤ 127)
  | .bipush v => decide (i = .sipush v) && decide (-128 ≤ v ∧ v ≤ 127)
  | .sipush v => decide (i = .sipush v) && decide (-32768 ≤ v ∧ v ≤ 32767)
  | .lconst v => decide (i = .jsr_w ((v : Nat) : Int))
  | .goto o => decide (i = .goto (pc + o)) && decide (0 ≤ pc + o)
  | .ifCond c o => decide (i = .ifCond c (pc + o)) && decide (0 ≤ pc + o)
  | .if_icmp c o => decide (i = .if_icmp c (pc + o)) && decide (0 ≤ pc + o)
  | .if_acmp c o => decide (i = .if_acmp c (pc + o)) && decide (0 ≤ pc + o)
  | .ifnull o => decide (i = .ifnull (pc + o)) && decide (0 ≤ pc + o)
  | .ifnonnull o => decide (i = .ifnonnull (pc + o)) && decide (0 ≤ pc + o)
  | .lookupswitch d ps => decide (i = .lookupswitch (pc + d) (ps.toList.map (fun a => (a.1, (pc : Int) + a.2))).toArray) && (decide (0 ≤ (pc : Int) + d) && ps.toList.all (fun a => decide (0 ≤ (pc : Int) + a.2))) && (ps.toList.zip (ps.toList.drop 1)).all (fun a => decide (a.1.1 < a.2.1))
  | .tableswitch d lo hi os => decide (i = .lookupswitch (pc + d) ((List.range os.size).map (fun (j : Nat) => (lo + (j : Int), (pc : Int) + os.getD j 0))).toArray) && (decide (0 ≤ (pc : Int) + d) && (List.range os.size).all (fun (j : Nat) => decide (0 ≤ (pc : Int) + os.getD j 0))) && decide (os.size = (hi - lo + 1).toNat ∧ lo ≤ hi)
  | .getfield k => lkm LK k i && (match i with | .getfield _ => true | _ => false)
  | .putfield k => lkm LK k i && (match i with | .putfield _ => true | _ => false)
  | .invokevirtual k => lkm LK k i && (match i with | .invokevirtual _ => true | _ => false)
  | .invokespecial k => lkm LK k i && (match i with | .invokespecial _ => true | _ => false)
  | .invokestatic k => lkm LK k i && (match i with | .invokestatic _ => true | _ => false)
  | .new k => lkm LK k i && (match i with | .new _ => true | _ => false)
  | .anewarray k => lkm LK k i && (match i with | .anewarray _ => true | _ => false)
  | .checkcast k => lkm LK k i && (match i with | .checkcast _ => true | _ => false)
  | .instanceof k => lkm LK k i && (match i with | .instanceof _ => true | _ => false)
  | .ldc k => lkm LK k i && (match i with | .ldc _ => true | .sipush _ => true | _ => false)
  | .ldc_w k => lkm LK k i && (match i with | .ldc _ => true | .sipush _ => true | _ => false)
  | .ldc2_w k => lkm LK k i && (match i with | .jsr_w _ => true | _ => false)
  | .newarray t => decide (i = .newarray t) && (match t with | .int => true | .long => true | .byte => true | .boolean => true | _ => false)
  | .iadd => decide (i = .iadd)
  | .isub => decide (i = .isub)
  | .imul => decide (i = .imul)
  | .idiv => decide (i = .idiv)
  | .ineg => decide (i = .ineg)
  | .ishr => decide (i = .ishr)
  | .iand => decide (i = .iand)
  | .ladd => decide (i = .ladd)
  | .lsub => decide (i = .lsub)
  | .lmul => decide (i = .lmul)
  | .ldiv => decide (i = .ldiv)
  | .lrem => decide (i = .lrem)
  | .lneg => decide (i = .lneg)
  | .land => decide (i = .land)
  | .lor => decide (i = .lor)
  | .lxor => decide (i = .lxor)
  | .lshl => decide (i = .lshl)
  | .lshr => decide (i = .lshr)
  | .lcmp => decide (i = .lcmp)
  | .i2l => decide (i = .i2l)
  | .l2i => decide (i = .l2i)
  | .i2b => decide (i = .i2b)
  | .dup => decide (i = .dup)
  | .pop => decide (i = .pop)
  | .dup2 => decide (i = .dup2)
  | .dup_x2 => decide (i = .dup_x2)
  | .iaload => decide (i = .iaload)
  | .baload => decide (i = .baload)
  | .laload => decide (i = .laload)
  | .aaload => decide (i = .aaload)
  | .iastore => decide (i = .iastore)
  | .bastore => decide (i = .bastore)
  | .lastore => decide (i = .lastore)
  | .aastore => decide (i = .aastore)
  | .arraylength => decide (i = .arraylength)
  | .athrow => decide (i = .athrow)
  | .ireturn => decide (i = .ireturn)
  | .lreturn => decide (i = .lreturn)
  | .areturn => decide (i = .areturn)
  | .return_ => decide (i = .return_)
  | .aconst_null => decide (i = .aconst_null)
  | _ => false
/-- how long an instruction is -/
def rl (r : Instr) (len : Nat) : Bool := match r with
  | .tableswitch .. => true
  | .lookupswitch .. => true
  | .iload _ | .lload _ | .aload _ | .istore _ | .lstore _ | .astore _ | .bipush _ | .newarray _ | .ldc _ => decide (len = 2)
  | .iinc _ _ | .sipush _ | .goto _ | .ifCond _ _ | .if_icmp _ _ | .if_acmp _ _ | .ifnull _ | .ifnonnull _ | .getfield _ | .putfield _ | .invokevirtual _ | .invokespecial _ | .invokestatic _ | .new _ | .anewarray _ | .checkcast _ | .instanceof _ | .ldc_w _ | .ldc2_w _ => decide (len = 3)
  | _ => decide (len = 1)
/-- 'new X; dup; invokespecial X.<init>' of an exception: one step -/
def akx (LK : List (Nat × Instr)) (cc : ByteArray) (pc x : Nat) : Bool := match decode cc pc with
  | .ok (.new k, 3) => (match decode cc (pc + 3) with
    | .ok (.dup, 1) => (match decode cc (pc + 4) with
      | .ok (.invokespecial k2, 3) => lkm LK k (.putstatic x) && lkm LK k2 (.getstatic x)
      | _ => false)
    | _ => false)
  | _ => false
/-- the code as it stands: every row decodes to what the interpreter has -/
def ak (LK : List (Nat × Instr)) (cc : ByteArray) : SC → Bool
  | [] => true
  | (pc, .getstatic x) :: rest => (akx LK cc pc x && (rest.isEmpty || zpc rest == pc + 7)) && ak LK cc rest
  | (pc, i) :: rest => (match decode cc pc with
    | .ok (r, len) => (rz LK pc r i && rl r len) && (rest.isEmpty || zpc rest == pc + len)
    | .error _ => false) && ak LK cc rest
theorem ak_x {LK : List (Nat × Instr)} {cc : ByteArray} {pc x : Nat} {rest : SC} (h : ak LK cc ((pc, .getstatic x) :: rest) = true) :
    (∃ k k2, decode cc pc = .ok (.new k, 3) ∧ decode cc (pc + 3) = .ok (.dup, 1) ∧ decode cc (pc + 4) = .ok (.invokespecial k2, 3) ∧ (k, .putstatic x) ∈ LK ∧ (k2, .getstatic x) ∈ LK ∧ (rest ≠ [] → zpc rest = pc + 7)) ∧ ak LK cc rest = true := by
  simp only [ak, Bool.and_eq_true] at h
  obtain ⟨⟨h1, h2⟩, h3⟩ := h
  refine ⟨?_, h3⟩
  unfold akx at h1
  split at h1
  · next k e1 =>
    split at h1
    · next e2 =>
      split at h1
      · next k2 e3 =>
        have h4 := (Bool.and_eq_true _ _).mp h1
        refine ⟨k, k2, e1, e2, e3, lkm_mem h4.1, lkm_mem h4.2, fun hn => ?_⟩
        simp only [Bool.or_eq_true, beq_iff_eq] at h2
        rcases h2 with h2 | h2
        · simp at h2; exact absurd h2 hn
        · exact h2
      · cases h1
    · cases h1
  · cases h1
theorem ak_cons {LK : List (Nat × Instr)} {cc : ByteArray} {pc : Nat} {i : Instr} {rest : SC} (hi : ∀ x, i ≠ .getstatic x) (h : ak LK cc ((pc, i) :: rest) = true) :
    (∃ r len, decode cc pc = .ok (r, len) ∧ rz LK pc r i = true ∧ rl r len = true ∧ (rest ≠ [] → zpc rest = pc + len)) ∧ ak LK cc rest = true := by
  rw [ak] at h
  rotate_left
  · intro x hx; exact hi x hx
  simp only [Bool.and_eq_true] at h
  refine ⟨?_, h.2⟩
  have h1 := h.1
  split at h1
  · next r len hd =>
    simp only [Bool.and_eq_true, Bool.or_eq_true, beq_iff_eq] at h1
    refine ⟨r, len, hd, h1.1.1, h1.1.2, fun hn => ?_⟩
    rcases h1.2 with h2 | h2
    · simp at h2; exact absurd h2 hn
    · exact h2
  · cases h1
theorem ak_rest {LK : List (Nat × Instr)} {cc : ByteArray} {q : Nat × Instr} {rest : SC} (h : ak LK cc (q :: rest) = true) : ak LK cc rest = true := by
  obtain ⟨pc, i⟩ := q
  by_cases hi : ∃ x, i = .getstatic x
  · obtain ⟨x, rfl⟩ := hi
    exact (ak_x h).2
  · exact (ak_cons (fun x hx => hi ⟨x, hx⟩) h).2
theorem zpc_jmp {cd : SC} {t : Nat} (h : jmp cd t ≠ []) : zpc (jmp cd t) = t := by
  induction cd with
  | nil => exact absurd rfl h
  | cons q r ih =>
    unfold jmp at h ih ⊢
    rw [List.dropWhile_cons] at h ⊢
    by_cases hq : q.1 = t
    · rw [if_neg (by simp [hq])]; exact hq
    · rw [if_pos (by simp [hq])] at h ⊢
      exact ih h
theorem swi_map (pc : Nat) (ps : List (Int × Int)) (d x : Int) : swi (ps.map (fun a => (a.1, (pc : Int) + a.2))) (pc + d) x = pc + swi ps d x := by
  induction ps with
  | nil => rfl
  | cons a r ih =>
    simp only [List.map_cons, swi, ih]
    split <;> rfl
theorem swi_nn {ps : List (Int × Int)} {d : Int} (hd : 0 ≤ d) (hp : ∀ a ∈ ps, 0 ≤ a.2) (x : Int) : 0 ≤ swi ps d x := by
  induction ps with
  | nil => exact hd
  | cons a r ih =>
    simp only [swi]
    split
    · exact hp a List.mem_cons_self
    · exact ih (fun b hb => hp b (List.mem_cons_of_mem _ hb))
theorem swi_range (f : Nat → Int) (lo d x : Int) (n k : Nat) : swi ((List.range' k n).map (fun (j : Nat) => (lo + (j : Int), f j))) d x = if lo + k ≤ x ∧ x < lo + k + n then f (x - lo).toNat else d := by
  induction n generalizing k with
  | zero => rw [if_neg (by omega)]; rfl
  | succ n ih =>
    rw [List.range'_succ, List.map_cons, swi, ih]
    by_cases h : x = lo + (k : Int)
    · rw [if_pos h, if_pos (by omega)]
      congr 1; omega
    · rw [if_neg h]
      by_cases h2 : lo + (k : Int) ≤ x ∧ x < lo + (k : Int) + ((n + 1 : Nat) : Int)
      · rw [if_pos h2, if_pos (by omega)]
      · rw [if_neg h2, if_neg (by omega)]
section LOk
variable (ynm : Nat → MethodName) (ycc : Nat → ByteArray) (yml : Nat → Nat) (yret : Nat → Option FieldType) (yhh : Nat → List (Nat × Nat × Nat × Nat)) (ycw : Nat → Cond) (disp : Nat → Nat → Option Nat) (PLk : String → Nat → Nat → Nat → Prop)
def MLk (own : String) (k : Nat) (x : MethodName) : Prop := Cond.methodLink own k x ∈ lw_all ∨ ∃ host, Cond.methodLinkNest own k x host ∈ lw_tbl
def NMh (x : MethodName) : Prop := x.cls ≠ "java/lang/invoke/MethodHandle" ∧ x.cls ≠ "java/lang/invoke/VarHandle"
def NAr (x : MethodName) (n : Nat) : Prop := ∀ sig, parseMethodDescriptor x.desc = some sig → n = sig.parameters.length
/-- the exceptions: by kind, the class and those above it -/
def zxn (k : Nat) : String × List String := match k with
  | 6 => ("AlgolMill$Wrong", ["java/lang/RuntimeException", "java/lang/Exception"])
  | 40 => ("java/lang/ArithmeticException", ["java/lang/RuntimeException", "java/lang/Exception"])
  | 41 => ("java/lang/IndexOutOfBoundsException", ["java/lang/RuntimeException", "java/lang/Exception"])
  | 42 => ("java/lang/IllegalArgumentException", ["java/lang/RuntimeException", "java/lang/Exception"])
  | _ => ("java/lang/IllegalStateException", ["java/lang/RuntimeException", "java/lang/Exception"])
def XOk (x : Nat) : Prop := x = 6 * 256 + 7 ∨ x = 40 * 256 + 6 ∨ x = 41 * 256 + 6 ∨ x = 42 * 256 + 6 ∨ x = 43 * 256 + 6
/-- what the tables say of a link of the class own; ini: in a constructor -/
def LOk (own : String) (ini : Prop) (q : Nat × Instr) : Prop := match q.2 with
  | .getfield x => FOk own q.1 x
  | .putfield x => FOk own q.1 x ∧ POk own q.1 x ini
  | .new x => NOk own q.1 x
  | .putstatic x => XOk x ∧ Cond.classLink own q.1 (zxn (x / 256)).1 ∈ lw_all
  | .getstatic x => XOk x ∧ (Cond.methodLink own q.1 ⟨(zxn (x / 256)).1, "<init>", "()V"⟩ ∈ lw_all ∨ ∃ host, Cond.methodLinkNest own q.1 ⟨(zxn (x / 256)).1, "<init>", "()V"⟩ host ∈ lw_tbl)
  | .anewarray x => ∃ n ∈ [(110, "AlgolMill$Thing"), (111, "AlgolMill$Expr"), (112, "AlgolMill$Statement"), (113, "AlgolMill$Rows"), (114, "AlgolMill$Element"), (115, "AlgolMill$Thunk"), (116, "java/lang/String")], n.1 = x ∧ Cond.classLink own q.1 n.2 ∈ lw_all ∧ Cond.arrayOver (.object n.2) ∈ lw_tbl
  | .checkcast x => x < 44 ∧ Cond.classLink own q.1 (zcn x).1 ∈ lw_all ∧ Cond.castable (zcn x).1 (zcn x).1 ∈ lw_tbl
  | .instanceof x => x = 21 ∧ Cond.classLink own q.1 (zcn 21).1 ∈ lw_all ∧ Cond.castable (zcn 21).1 (zcn 21).1 ∈ lw_tbl
  | .ldc i => i < 31 ∧ (zso i).1 = own ∧ (zso i).2.1 = q.1
  | .sipush v => i32 v ∧ Cond.constant own q.1 (Int32.ofInt v) ∈ lw_all
  | .jsr_w v => i64 v ∧ Cond.constantLong own q.1 (Int64.ofInt v) ∈ lw_all
  | .invokestatic x => if x / 64000 < 500 then YOk ynm ycc yml yret yhh ycw (x / 64000) ∧ MLk own q.1 (ynm (x / 64000)) ∧ Cond.static (ynm (x / 64000)) ∈ lw_all ∧ NMh (ynm (x / 64000)) ∧ NAr (ynm (x / 64000)) (x / 4 % 16) else PLk own 0 q.1 x
  | .invokespecial x => if x / 64000 < 500 then YOk ynm ycc yml yret yhh ycw (x / 64000) ∧ MLk own q.1 (ynm (x / 64000)) ∧ Cond.instanceMethod (ynm (x / 64000)) ∈ lw_all ∧ NMh (ynm (x / 64000)) ∧ NAr (ynm (x / 64000)) (x / 4 % 16 - 1) ∧ (ynm (x / 64000)).name = "<init>" ∧ Cond.code (ynm (x / 64000)) (ycc (x / 64000)) (yml (x / 64000)) none ∈ lw_all else PLk own 1 q.1 x
  | .invokevirtual x => if x / 64 % 1000 < 999 then
      (if x / 64000 < 500 then YOk ynm ycc yml yret yhh ycw (x / 64000) ∧ MLk own q.1 (ynm (x / 64000)) ∧ Cond.instanceMethod (ynm (x / 64000)) ∈ lw_all ∧ NMh (ynm (x / 64000)) ∧ NAr (ynm (x / 64000)) (x / 4 % 16 - 1) ∧ ∀ kd, kok (x / 64 % 1000) kd = true → kd < 44 ∧ Cond.selects (zcn kd).1 (ynm (x / 64000)) (ynm (x / 64000)) ∈ lw_all else PLk own 2 q.1 x)
      else ∃ x0 : MethodName, Cond.methodLink own q.1 x0 ∈ lw_all ∧ Cond.sameMethod x0.cls x0.cls x0.name x0.desc ∈ lw_all ∧ (Cond.declares x0 ∈ lw_tbl ∨ Cond.instanceMethod x0 ∈ lw_all ∧ ∃ b m ret, Cond.code x0 b m ret ∈ lw_all) ∧ NMh x0 ∧ NAr x0 (x / 4 % 16 - 1) ∧
        ∀ kd y, disp (x / 64000) kd = some y → kd < 44 ∧ y < 500 ∧ YOk ynm ycc yml yret yhh ycw y ∧ Cond.selects (zcn kd).1 x0 (ynm y) ∈ lw_all ∧ Cond.instanceMethod (ynm y) ∈ lw_all
  | _ => False
end LOk
def RtOk (rt : Nat) (ret : Option FieldType) : Prop := (rt = 0 → ret = none) ∧ (rt = 1 → ret = some .int) ∧ (rt = 2 → ret = some .long) ∧ (rt = 3 → ∃ t, ret = some t ∧ ((∃ n, t = .object n) ∨ ∃ u, t = .array u)) ∧ (rt = 4 → ret = some .boolean)
