/-- the strings of the program: where, and what -/
def zsl : List (String × Nat × String) := [("AlgolMill$Scanner", 92, "begin end own integer boolean array procedure value label switch goto if then else for do step until while true false and or impl equiv not div mod print "), ("AlgolMillModel", 37, "begin"), ("AlgolMillModel", 39, "end"), ("AlgolMillModel", 41, "own"), ("AlgolMillModel", 43, "integer"), ("AlgolMillModel", 45, "boolean"), ("AlgolMillModel", 47, "array"), ("AlgolMillModel", 49, "procedure"), ("AlgolMillModel", 51, "value"), ("AlgolMillModel", 53, "label"), ("AlgolMillModel", 55, "switch"), ("AlgolMillModel", 57, "goto"), ("AlgolMillModel", 59, "if"), ("AlgolMillModel", 61, "then"), ("AlgolMillModel", 63, "else"), ("AlgolMillModel", 65, "for"), ("AlgolMillModel", 67, "do"), ("AlgolMillModel", 69, "step"), ("AlgolMillModel", 71, "until"), ("AlgolMillModel", 73, "while"), ("AlgolMillModel", 75, "true"), ("AlgolMillModel", 77, "false"), ("AlgolMillModel", 79, "and"), ("AlgolMillModel", 81, "or"), ("AlgolMillModel", 83, "impl"), ("AlgolMillModel", 85, "equiv"), ("AlgolMillModel", 87, "not"), ("AlgolMillModel", 89, "div"), ("AlgolMillModel", 91, "mod"), ("AlgolMillModel", 93, "print"), ("AlgolMillModel", 438, "+-*^<=>,;:()[]")]
def zso (i : Nat) : String × Nat × String := zsl.getD i ("", 0, "")
/-- their letters -/
def zchl : List (List Nat) := [[98, 101, 103, 105, 110, 32, 101, 110, 100, 32, 111, 119, 110, 32, 105, 110, 116, 101, 103, 101, 114, 32, 98, 111, 111, 108, 101, 97, 110, 32, 97, 114, 114, 97, 121, 32, 112, 114, 111, 99, 101, 100, 117, 114, 101, 32, 118, 97, 108, 117, 101, 32, 108, 97, 98, 101, 108, 32, 115, 119, 105, 116, 99, 104, 32, 103, 111, 116, 111, 32, 105, 102, 32, 116, 104, 101, 110, 32, 101, 108, 115, 101, 32, 102, 111, 114, 32, 100, 111, 32, 115, 116, 101, 112, 32, 117, 110, 116, 105, 108, 32, 119, 104, 105, 108, 101, 32, 116, 114, 117, 101, 32, 102, 97, 108, 115, 101, 32, 97, 110, 100, 32, 111, 114, 32, 105, 109, 112, 108, 32, 101, 113, 117, 105, 118, 32, 110, 111, 116, 32, 100, 105, 118, 32, 109, 111, 100, 32, 112, 114, 105, 110, 116, 32], [98, 101, 103, 105, 110], [101, 110, 100], [111, 119, 110], [105, 110, 116, 101, 103, 101, 114], [98, 111, 111, 108, 101, 97, 110], [97, 114, 114, 97, 121], [112, 114, 111, 99, 101, 100, 117, 114, 101], [118, 97, 108, 117, 101], [108, 97, 98, 101, 108], [115, 119, 105, 116, 99, 104], [103, 111, 116, 111], [105, 102], [116, 104, 101, 110], [101, 108, 115, 101], [102, 111, 114], [100, 111], [115, 116, 101, 112], [117, 110, 116, 105, 108], [119, 104, 105, 108, 101], [116, 114, 117, 101], [102, 97, 108, 115, 101], [97, 110, 100], [111, 114], [105, 109, 112, 108], [101, 113, 117, 105, 118], [110, 111, 116], [100, 105, 118], [109, 111, 100], [112, 114, 105, 110, 116], [43, 45, 42, 94, 60, 61, 62, 44, 59, 58, 40, 41, 91, 93]]
def zch (i : Nat) : List Nat := zchl.getD i []
section Zw
variable (D : va_G) (dA : Nat → ClassId) (H00 : Heap) (b0 L0 : Nat) (xs : Nat → Int32) (sa : Nat → Nat)
/-- the strings' cells -/
def zST (sv : Nat → Nat) (s : State) (H : Heap) : Prop := ∀ i, i < 31 → va_O "java/lang/String" (sa i) (fun q => H00.size ≤ q) s H ∧ va_OF "java/lang/String" "coder" "B" (.int 0) (sa i) (fun q => H00.size ≤ q) s H ∧ va_OF "java/lang/String" "value" "[B" (.ref (sv i)) (sa i) (fun q => H00.size ≤ q) s H ∧ va_T .byte (sv i) (zch i).length (fun j => .int (Int32.ofNat ((zch i).getD j 0))) (fun q => H00.size ≤ q) s H
/-- a static field's place and value, as the table's word says it -/
def zLS (C n d : String) (v : Value) (s : State) (H : Heap) : Prop := ∃ (c : ClassId) (k : Class) (i : Nat) (f : Field) (a : Nat) (cell : Cell), s.vm.findClass C = some c ∧ s.fieldFound? C n d = some (c, k, i, f) ∧ f.isStatic = true ∧ k.statics = some a ∧ H[a]? = some cell ∧ cell.vm.isStatics = true ∧ cell.cls = c ∧ f.slot < cell.slots.size ∧ k.staticTypes[f.slot]? = some f.type ∧ cell.slots[f.slot]? = some v ∧ a < H00.size
/-- the statics that are read -/
def zZZ (s : State) (H : Heap) : Prop := va_Z "java/lang/String" "COMPACT_STRINGS" "Z" (.int 1) (fun q => H00.size ≤ q) s H ∧ va_Zq "jdk/internal/util/Preconditions" "SIOOBE_FORMATTER" "Ljava/util/function/BiFunction;" (fun q => H00.size ≤ q) s H ∧
  (∃ u : RefV, zLS H00 "java/lang/Throwable" "UNASSIGNED_STACK" "[Ljava/lang/StackTraceElement;" u.v s H) ∧ ∃ u : RefV, zLS H00 "java/lang/Throwable" "SUPPRESSED_SENTINEL" "Ljava/util/List;" u.v s H
/-- what holds of the tables all through a run -/
def ZW (args : Array Value) (s : State) : Prop := va_K D zcl (ztys dA) s ∧ TBs args s ∧ (∀ i, i < 31 → vk_R (zso i).1 (zso i).2.1 (zso i).2.2 (sa i) s) ∧ (∀ k ∈ [19, 20, 22, 23, 24], va_Nc (zcn k).1 (zcn 21).1 s) ∧ va_Nc (zcn 43).1 (zcn 42).1 s ∧ va_X b0 L0 xs s H00 ∧ L0 ≤ 384 ∧ b0 < H00.size ∧ (∃ sv, zST H00 sa sv s H00) ∧ zZZ H00 s H00
theorem zLS.moved {H00 : Heap} {C n d : String} {v : Value} {s U : State} {H : Heap} (hvm : s.vm.Alike U.vm) (h : zLS H00 C n d v s H) : zLS H00 C n d v U H := by
  obtain ⟨c, k, i, f, a, cell, h1, h2, h3, h4, h5, h6, h7, h8, h9, h10, h11⟩ := h
  obtain ⟨k', hi', he⟩ := State.fieldFound?_setVm hvm h2
  exact ⟨c, k', i, f, a, cell, by rw [hvm.findClass]; exact h1, hi', h3, by rw [he]; exact h4, h5, h6, h7, h8, by rw [he]; exact h9, h10, h11⟩
theorem zLS.word {H00 : Heap} {C n d : String} {v : Value} {s : State} {args : Array Value} (h : zLS H00 C n d v s s.heap) : (Cond.laysStatic C n d).before args s = true := by
  obtain ⟨c, k, i, f, a, cell, h1, h2, h3, h4, h5, h6, h7, h8, h9, h10, h11⟩ := h
  show (Cond.laysStatic C n d).holds args s none s [] = true
  simp [Cond.holds, Cond.value, h1, h2, h3, h4, h5, h6, h7, h8, h9]
theorem ZW.warm {D : va_G} {dA : Nat → ClassId} {H00 : Heap} {b0 L0 : Nat} {xs : Nat → Int32} {sa : Nat → Nat} {args a' : Array Value} {s U : State} (hW : s.WarmedH U.vm) (h : ZW D dA H00 b0 L0 xs sa args s) : ZW D dA H00 b0 L0 xs sa a' U := by
  obtain ⟨h1, h2, h3, h4, h5, h6, h7, h8, ⟨sv, h9⟩, g1, g2, ⟨w3, g3⟩, w4, g4⟩ := h
  exact ⟨h1.moved hW.alike, h2.warm hW, fun i hi => (h3 i hi).warm hW, fun k hk => (h4 k hk).moved hW.alike, h5.moved hW.alike, h6.moved hW.alike, h7, h8, ⟨sv, fun i hi => ⟨va_O.moved hW.alike (h9 i hi).1, va_OF.moved hW.alike (h9 i hi).2.1, va_OF.moved hW.alike (h9 i hi).2.2.1, va_T.moved hW.alike (h9 i hi).2.2.2⟩⟩, va_Z.moved hW.alike g1, va_Zq.moved hW.alike g2, ⟨w3, zLS.moved hW.alike g3⟩, w4, zLS.moved hW.alike g4⟩
theorem zST.kept {H00 : Heap} {sa sv : Nat → Nat} {s : State} {H : Heap} (h : zST H00 sa sv s H00) (hq : ∀ q : Nat, q < H00.size → H[q]? = H00[q]?) : zST H00 sa sv s H :=
  fun i hi => ⟨(h i hi).1.kept (fun q h1 _ => hq q h1), (h i hi).2.1.kept (fun q h1 _ => hq q h1), (h i hi).2.2.1.kept (fun q h1 _ => hq q h1), (h i hi).2.2.2.kept (fun q h1 _ => hq q h1)⟩
end Zw
section Zx
variable {L0 b0 : Nat} {sa ad ad' : Nat → Nat} {S S' : List (Nat × Nat)}
theorem zad_ext {p : Ptr} (hp : zwp L0 S p) (ha : ∀ a, a < S.length → ad' a = ad a) : zad b0 sa ad' p = zad b0 sa ad p := by
  cases p with
  | none => rfl
  | some x =>
    simp only [zad]
    rcases hp with ⟨e, -⟩ | ⟨e, -⟩ | ⟨e, hs⟩
    · simp [e]
    · simp [e]
    · rw [ha _ (List.getElem?_eq_some_iff.mp hs).1]
theorem zrv_ext {v : AV} (hv : zwv L0 S v) (ha : ∀ a, a < S.length → ad' a = ad a) : zrv b0 sa ad' v = zrv b0 sa ad v := by
  match v with
  | .inl n => rfl
  | .inr (.inl n) => rfl
  | .inr (.inr p) => exact congrArg va_rf (zad_ext hv ha)
theorem zwp_pre {p : Ptr} (hS : S <+: S') (hp : zwp L0 S p) : zwp L0 S' p := by
  obtain ⟨t, rfl⟩ := hS
  cases p with
  | none => trivial
  | some x =>
    rcases hp with h1 | h1 | ⟨h1, hs⟩
    · exact Or.inl h1
    · exact Or.inr (Or.inl h1)
    · exact Or.inr (Or.inr ⟨h1, by rw [List.getElem?_append_left (List.getElem?_eq_some_iff.mp hs).1]; exact hs⟩)
theorem zwv_pre {v : AV} (hS : S <+: S') (hv : zwv L0 S v) : zwv L0 S' v := by
  match v with
  | .inl n => exact hv
  | .inr (.inl n) => exact hv
  | .inr (.inr p) => exact zwp_pre hS hv
theorem zls_ext {lsA : SL} (hw : ∀ i v, lk lsA i = some v → zwv L0 S v) (ha : ∀ a, a < S.length → ad' a = ad a) : zls b0 sa ad' lsA = zls b0 sa ad lsA := by
  unfold zls
  congr 1
  funext i
  cases hi : lk lsA i with
  | none => rfl
  | some v => simp only [Option.map_some]; rw [zrv_ext (hw i v hi) ha]
theorem zmap_ext {st : List AV} (hv : ∀ v ∈ st, zwv L0 S v) (ha : ∀ a, a < S.length → ad' a = ad a) : st.map (zrv b0 sa ad') = st.map (zrv b0 sa ad) :=
  List.map_congr_left (fun v hm => zrv_ext (hv v hm) ha)
end Zx
theorem zcat_sum {b0 : Nat} {sa ad : Nat → Nat} (st : List AV) : (((st.map (zrv b0 sa ad)).map fun v => v.category).sum) = zcat st := by
  induction st with
  | nil => rfl
  | cons v r ih =>
    rw [List.map_cons, List.map_cons, List.sum_cons, ih, zrv_cat]
    match v with
    | .inl n => rfl
    | .inr (.inl n) => rfl
    | .inr (.inr q) => rfl
section Zy
variable (ynm : Nat → MethodName) (ycc : Nat → ByteArray) (yml : Nat → Nat) (yret : Nat → Option FieldType) (yhh : Nat → List (Nat × Nat × Nat × Nat)) (ycw : Nat → Cond)
/-- what a method's word says -/
def YOk (y : Nat) : Prop := ycw y ∈ lw_tbl ∧ zwarm (ycw y) = true ∧ (ycw y = .code (ynm y) (ycc y) (yml y) (yret y) ∧ yhh y = [] ∨ ycw y = .codeWith (ynm y) (ycc y) (yml y) (yret y) (yhh y)) ∧ plainName (ynm y).cls = true ∧ yml y ≤ 21 ∧
  Cond.initialized (ynm y).cls ∈ lw_all
variable {ynm ycc yml yret yhh ycw}
theorem YOk.spec {y : Nat} (h : YOk ynm ycc yml yret yhh ycw y) {args : Array Value} {s : State} (hw : (ycw y).before args s = true) :
    ∃ mk mt c, s.methodNamed? (ynm y) = some mk ∧ s.vm.method? mk = some mt ∧ mt.code = some c ∧ c.code = ycc y ∧ c.maxLocals = yml y ∧ c.exceptionTable.toList.map (fun h => (h.startPc, h.endPc, h.handlerPc, h.catchType)) = yhh y ∧ mt.sig.returnType = yret y ∧ mt.locks = false ∧ parseMethodDescriptor (ynm y).desc = some mt.sig := by
  rcases h.2.2.1 with ⟨h1, h2⟩ | h1
  · rw [h1] at hw
    have hw2 : (Cond.codeWith (ynm y) (ycc y) (yml y) (yret y) []).before args s = true := by
      simpa only [Cond.before, Cond.holds, Cond.code_iff_codeWith_nil] using hw
    rw [h2]
    exact Cond.codeWith_spec hw2
  · rw [h1] at hw
    exact Cond.codeWith_spec hw
variable (l : Launch) (D : va_G) (dA : Nat → ClassId) (H00 : Heap) (b0 L0 : Nat) (xs : Nat → Int32) (sa : Nat → Nat)
variable (ynm ycw)
/-- a method's contract, of a run of the interpreter -/
def ZM (d y : Nat) (av : List AV) (h : AH) (o : AO) (h' : AH) : Prop := ∀ S ad, MetFree l (ynm y) (headSpec [ycw y] { frames := d, cells := hz h' - hz h, slots := hu h' - hu h, locals := 40 * d })
  (fun a s => a = (av.map (zrv b0 sa ad)).toArray ∧ ZW D dA H00 b0 L0 xs sa a s ∧ RelH D dA H00 b0 L0 xs sa h S ad s.heap ∧ ∀ v ∈ av, zwv L0 S v) (fun _ _ _ _ _ => True)
  (fun _ s oc t => zEnd D dA H00 b0 L0 xs sa S ad (hz h) (hu h) o h' s oc t)
variable {ynm ycw l D dA H00 b0 L0 xs sa}
variable {p : Program} {e : Env} {R : Room} {s : State} {m : MethodId} {args : Array Value} {below : List Frame} {meth : Method} {c : Code} {Q : State → Prop} {S0 : List (Nat × Nat)} {ad0 : Nat → Nat} {z0 u0 nL : Nat}
variable {cc : ByteArray} {pc : Nat} {lsA : SL} {st : List AV} {h : AH}
/-- behind a call -/
theorem Std_call {stk st1 : List AV} {S : List (Nat × Nat)} {ad : Nat → Nat} {H : Heap} {locs : List Loc} {ls : Array Slot} (hs : Std s D dA H00 b0 L0 xs sa S0 ad0 z0 u0 nL lsA stk h S ad H locs ls) {S1 : List (Nat × Nat)} {ad1 : Nat → Nat} {H1 : Heap} {L : List Loc} {h1 : AH}
    (hR1 : RelH D dA H00 b0 L0 xs sa h1 S1 ad1 H1) (hz1 : hz h ≤ hz h1) (hu1 : hu h ≤ hu h1) (hS1 : S <+: S1) (ha1 : ∀ a, a < S.length → ad1 a = ad a) (hsz : H.size ≤ H1.size) (hL : ∀ q ∈ L, H00.size ≤ q.base) (hst : ∀ v ∈ st1, zwv L0 S1 v) :
    Std s D dA H00 b0 L0 xs sa S0 ad0 z0 u0 nL lsA st1 h1 S1 ad1 H1 (locs ++ L) ls := by
  obtain ⟨g1, g2, g3, g4, g5, g6, g7, g8, g9⟩ := hs
  refine ⟨hR1, ⟨by rw [zls_ext g2.2 ha1]; exact g2.1, fun i v hi => zwv_pre hS1 (g2.2 i v hi)⟩, g3, hst, ⟨Nat.le_trans g5.1 hsz, fun q hq hn => ?_, fun q hq => ?_⟩, g6.trans hS1, fun a ha => ?_, by omega, by omega⟩
  · have hlt : q < H00.size := by omega
    rw [hR1.2.2.2.2.2.1 q hlt, ← g1.2.2.2.2.2.1 q hlt]
    exact g5.2.1 q hq hn
  · rcases List.mem_append.mp hq with hq | hq
    · exact g5.2.2 q hq
    · exact hL q hq
  · have := g6.length_le
    rw [ha1 a (by omega)]
    exact g7 a ha
theorem gd_call {d y : Nat} {av : List AV} {o : AO} {h1 : AH} (hM : ZM ynm ycw l D dA H00 b0 L0 xs sa d y av h o h1) (hY : YOk ynm ycc yml yret yhh ycw y) (hzw : ZW D dA H00 b0 L0 xs sa args s) (hz1 : hz h ≤ hz h1) (hu1 : hu h ≤ hu h1) (hc1 : hz h1 - z0 ≤ R.cells) (hc2 : hu h1 - u0 ≤ R.slots) (hfr : d + 1 ≤ R.frames) (hlo : 40 * (d + 1) ≤ R.locals)
    {stk : List AV} {ig : Instr} (hd : decode c.code pc = .ok (ig, 3)) (hml : c.maxLocals = nL) (hcat : zcat st ≤ 8) (hsub : ∀ v, v ∈ av ∨ v ∈ st → v ∈ stk)
    (hin : ∀ S ad H locs ls, Std s D dA H00 b0 L0 xs sa S0 ad0 z0 u0 nL lsA stk h S ad H locs ls → ∀ T : State, T.heap = H → Stand p l e R s m args below meth c T locs (hz h - z0) (hu h - u0) → zIn p l e R s m args below meth c T locs (hz h - z0) (hu h - u0) (F0 m pc ls (stk.map (zrv b0 sa ad))) (st.map (zrv b0 sa ad)) (ynm y) (av.map (zrv b0 sa ad)))
    (kr : ∀ v, o = .inl v → Gd p l e R s m args below meth c Q D dA H00 b0 L0 xs sa S0 ad0 z0 u0 nL (pc + 3) lsA (v.toList ++ st) h1)
    (kt : ∀ q, o = .inr q → Gth p l e R s m args below meth c Q D dA H00 b0 L0 xs sa S0 ad0 z0 u0 nL pc lsA q h1) :
    Gd p l e R s m args below meth c Q D dA H00 b0 L0 xs sa S0 ad0 z0 u0 nL pc lsA stk h := by
  intro S ad H locs ls hs T hT X
  obtain ⟨vm₁, mk, X₁, hn, hstep⟩ := hin S ad H locs ls hs T hT X
  have hv := hs.2.2.2.1
  have hz0 : z0 ≤ hz h := hs.2.2.2.2.2.2.2.1
  have hu0 : u0 ≤ hu h := hs.2.2.2.2.2.2.2.2
  have hzU : ∀ a', ZW D dA H00 b0 L0 xs sa a' (T.setVm vm₁) := fun a' => hzw.warm X₁.warmed
  have hword : ∀ a' : Array Value, (ycw y).before a' (T.setVm vm₁) = true := fun a' => (hzU a').2.1 _ hY.1 hY.2.1
  obtain ⟨mk', mt, cY, n1, n2, n3, n4, n5, n6, n7, n8, n9⟩ := hY.spec (hword #[])
  cases hn.symm.trans n1
  obtain ⟨oc, t, L, hE, hfe, X2, hsteps⟩ := zback (g := { F0 m pc ls (stk.map (zrv b0 sa ad)) with stack := st.map (zrv b0 sa ad) }) (cY := cY) (methY := mt) (a := (av.map (zrv b0 sa ad)).toArray) (kc := hz h1 - hz h) (ks := hu h1 - hu h) (hM S ad) X₁ hfr (by rw [n5]; have := hY.2.2.2.2.1; show 8 + (yml y + 11) + 40 * d ≤ R.locals; omega) rfl (by rw [hml]; show ls.size = nL; rw [← hs.2.2.1]; exact hs.2.1.1.1) hd (by show 2 * 0 + _ ≤ 8; rw [zcat_sum]; omega) hn
    (atoms_intro (fun w hw => by rw [List.mem_singleton.mp hw]; exact hword _)) n2 n3 ((hzU _).2.1.all _ hY.2.2.2.2.2) (by show hz h - z0 + (hz h1 - hz h) ≤ R.cells; omega) (by show hu h - u0 + (hu h1 - hu h) ≤ R.slots; omega)
    ⟨rfl, ZW.warm (U := (T.setVm vm₁).calling _ _ _) X₁.warmed hzw, by show RelH D dA H00 b0 L0 xs sa h S ad T.heap; rw [hT]; exact hs.1, fun v hvm => hv v (hsub v (Or.inl hvm))⟩
    (E := fun oc t L => (∀ q ∈ L, H00.size ≤ q.base) ∧ ∃ S' ad', RelH D dA H00 b0 L0 xs sa h1 S' ad' t.heap ∧ S <+: S' ∧ (∀ a, a < S.length → ad' a = ad a) ∧ zout b0 L0 sa o oc S' ad')
    (fun oc t hE => by obtain ⟨S', ad', L, g1, g2, g3, g4, g5, g6⟩ := hE; exact ⟨L, g1, g2, S', ad', g3, g4, g5, g6⟩)
  obtain ⟨f2, S1, ad1, f3, f4, f5, f6⟩ := hE
  have hsz : H.size ≤ t.heap.size := by rw [← hT]; exact hfe.2.2.1
  have e1 : hz h - z0 + (hz h1 - hz h) = hz h1 - z0 := by omega
  have e2 : hu h - u0 + (hu h1 - hu h) = hu h1 - u0 := by omega
  rw [e1, e2] at X2
  obtain ⟨B, hB, hBh⟩ : ∃ B : State, (({ (T.setVm vm₁) with heap := t.heap, slotsUsed := t.slotsUsed } : State).setVm t.vm) = B ∧ B.heap = t.heap := ⟨_, rfl, rfl⟩
  rw [hB] at X2 hsteps
  have hstk : ∀ v ∈ st, zwv L0 S1 v := fun v hm => zwv_pre f4 (hv v (hsub v (Or.inr hm)))
  match o, f6, kr, kt with
  | .inl none, f6, kr, kt =>
    cases f6
    have k := kr none rfl S1 ad1 t.heap (locs ++ L) ls (Std_call hs f3 hz1 hu1 f4 f5 hsz f2 hstk)
    obtain ⟨t2, a1, b1⟩ := k B hBh X2
    refine ⟨t2, hstep t2 (hsteps.trans ?_), b1⟩
    rw [show Option.toList (none : Option AV) ++ st = st from rfl, zmap_ext (fun v hm => hv v (hsub v (Or.inr hm))) f5] at a1
    exact a1
  | .inl (some v), f6, kr, kt =>
    obtain ⟨f6, f7⟩ := f6
    subst f6
    have k := kr (some v) rfl S1 ad1 t.heap (locs ++ L) ls (Std_call hs f3 hz1 hu1 f4 f5 hsz f2 (zfa f7 hstk))
    obtain ⟨t2, a1, b1⟩ := k B hBh X2
    refine ⟨t2, hstep t2 (hsteps.trans ?_), b1⟩
    rw [show Option.toList (some v) ++ st = v :: st from rfl, List.map_cons, zmap_ext (fun v hm => hv v (hsub v (Or.inr hm))) f5] at a1
    exact a1
  | .inr q, f6, kr, kt =>
    obtain ⟨f6, f7, f8⟩ := f6
    subst f6
    have k := kt q rfl S1 ad1 t.heap (locs ++ L) ls (st.map (zrv b0 sa ad)) (Std_call hs f3 hz1 hu1 f4 f5 hsz f2 (zfa f7 (fun _ hm => by cases hm)))
    obtain ⟨t2, a1, b1⟩ := k B hBh X2
    exact ⟨t2, hstep t2 (hsteps.trans a1), b1⟩
end Zy
