section Nw
variable {p : Program} {l : Launch} {e : Env} {R : Room} {s : State} {m : MethodId} {args : Array Value} {below : List Frame} {meth : Method} {c : Code} {Q : State → Prop}
variable {D : va_G} {dA : Nat → ClassId} {H00 : Heap} {b0 L0 : Nat} {xs : Nat → Int32} {sa : Nat → Nat} {S0 : List (Nat × Nat)} {ad0 : Nat → Nat} {z0 u0 nL : Nat}
variable {cc : ByteArray} {pc : Nat} {lsA : SL} {st : List AV} {h : AH}
theorem zx_off {T : State} {locs : List Loc} {cells slots : Nat} (X : Stand p l e R s m args below meth c T locs cells slots) (htr : l.stackTraces = false) : e.platform.stackTraces = false := by rw [X.admits.platform]; exact htr
set_option maxHeartbeats 4000000 in
theorem zx_ctor {T0 : State} {locs : List Loc} {cells slots : Nat} (X : Stand p l e R s m args below meth c T0 locs cells slots) (hexec : p.tables.exec = Jvm.exec) (htr : l.stackTraces = false) {own cls : String} {names : List String} {ic n : Nat}
    (hown : s.vm.findClass own = some m.cls) (hcls : Bundle.fit cls = true) (hnames : ∀ n ∈ names, Bundle.fit n = true)
    (hT : ∀ c ∈ Bundle.throwableAtoms, c.before args s = true) (hC : ∀ c ∈ Bundle.chain0Atoms cls names, c.before args s = true)
    (hlink : (Cond.methodLink own ic (Bundle.init0 cls)).before args s = true ∨ ∃ host, (Cond.methodLinkNest own ic (Bundle.init0 cls) host).before args s = true)
    (hI : (Cond.instantiable cls n).before args s = true) (hs0 : (Cond.selects cls Bundle.tFill0 Bundle.tFill0).before args s = true) (hs1 : (Cond.selects cls Bundle.tFill Bundle.tFill).before args s = true)
    (hlC : (Cond.lays cls Bundle.tN "cause" "Ljava/lang/Throwable;").before args s = true) (hlS : (Cond.lays cls Bundle.tN "stackTrace" "[Ljava/lang/StackTraceElement;").before args s = true) (hlP : (Cond.lays cls Bundle.tN "suppressedExceptions" "Ljava/util/List;").before args s = true) (hlB : (Cond.lays cls Bundle.tN "backtrace" "Ljava/lang/Object;").before args s = true)
    (hfB : (Cond.fieldLink Bundle.tN 198 Bundle.tN "backtrace" "Ljava/lang/Object;").before args s = true) (hltB : (Cond.lays Bundle.tN Bundle.tN "backtrace" "Ljava/lang/Object;").before args s = true)
    {uv sv : RefV} (hU : zLS H00 "java/lang/Throwable" "UNASSIGNED_STACK" "[Ljava/lang/StackTraceElement;" uv.v s T0.heap) (hSn : zLS H00 "java/lang/Throwable" "SUPPRESSED_SENTINEL" "Ljava/util/List;" sv.v s T0.heap)
    {a : Addr} {cX : ClassId} {kX : Class} (hfoundX : s.vm.findClass cls = some cX) (hkX : s.vm.classes[cX]? = some kX) (hcell : T0.heap[a]? = some (freshCell cX kX)) (hnew : H00.size ≤ a)
    {g : JFrame} (hg : g.method = m) (hsize : g.locals.size = c.maxLocals) {rest : List Value} (hstack : g.stack = .ref a :: rest) (hd : decode c.code g.pc = .ok (.invokespecial ic, 3))
    (hRframes : names.length + 3 < R.frames) (hRlocals : 2 * g.monitorRoom + (rest.map fun v => v.category).sum + (13 * (names.length + 1) + 41) ≤ R.locals) :
    ∃ (vm' : Vm) (cell' : Cell) (fC fS fP : Field), (∃ x y z, s.fieldFound? "java/lang/Throwable" "cause" "Ljava/lang/Throwable;" = some (x, y, z, fC)) ∧ (∃ x y z, s.fieldFound? "java/lang/Throwable" "stackTrace" "[Ljava/lang/StackTraceElement;" = some (x, y, z, fS)) ∧ (∃ x y z, s.fieldFound? "java/lang/Throwable" "suppressedExceptions" "Ljava/util/List;" = some (x, y, z, fP)) ∧
      cell'.cls = cX ∧ cell'.vm = .none ∧ (∀ i, i ≠ fC.slot → i ≠ fS.slot → i ≠ fP.slot → cell'.slots[i]? = (freshCell cX kX).slots[i]?) ∧
      Stand p l e R s m args below meth c ((T0.setVm vm').setCell a cell') (locs ++ [⟨a, fC.slot⟩, ⟨a, fS.slot⟩, ⟨a, fP.slot⟩, ⟨a, fS.slot⟩]) cells slots ∧
      ∀ target, Steps p.tables e below (((T0.setVm vm').setCell a cell').setTop { g with stack := rest, pc := g.pc + 3 }) target → Steps p.tables e below (T0.setTop g) target := by
  have howns : e.platform.frameOwnsMonitors = true := by rw [X.admits.platform]
  have hfin : e.platform.finalization = false := by rw [X.admits.platform]
  have hpl : e.platform.magicAccessors = ({} : Platform).magicAccessors := by rw [X.admits.platform]
  obtain ⟨T, Z, L, LZ, Y⟩ := ThrowableC.of_atoms (args := args) howns hfin hpl hT
  obtain ⟨P1, Ps, hlen, L1, hL, hP1m, hlink1, hlink2⟩ := Bundle.chain0 (args := args) hpl Y.init0 names cls hcls hnames hC
  have hfound : s.vm.findClass cls = some P1.m.cls := findClass_of_methodNamed hP1m
  cases Option.some.inj (hfoundX.symm.trans hfound)
  obtain ⟨c1, kX', hc1, hk, hord, -, -, -⟩ := Cond.instantiable_spec hI
  cases Option.some.inj (hc1.symm.trans hfound)
  cases Option.some.inj (hkX.symm.trans hk)
  have hsel0 : selectMethod e.platform s.vm P1.m.cls T.fill0 = .method T.fill0 := by
    obtain ⟨c2, r2, m2, q1, q2, q3, q4, -⟩ := Cond.selects_spec hs0
    cases Option.some.inj (q1.symm.trans hfound)
    cases Option.some.inj (q2.symm.trans (State.methodFound?_of_named Y.fill0 (by decide)))
    cases Option.some.inj (q3.symm.trans Y.fill0)
    rw [Launch.admits_selectMethod X.admits]; exact q4
  have hselF : selectMethod e.platform s.vm P1.m.cls T.fill = .method T.fill := by
    obtain ⟨c2, r2, m2, q1, q2, q3, q4, -⟩ := Cond.selects_spec hs1
    cases Option.some.inj (q1.symm.trans hfound)
    cases Option.some.inj (q2.symm.trans (State.methodFound?_of_named Y.fill (by decide)))
    cases Option.some.inj (q3.symm.trans Y.fill)
    rw [Launch.admits_selectMethod X.admits]; exact q4
  obtain ⟨x1, x2, x3, x4, x5, cU, u1, u2, u3, u4, u5, u6, u7, u8, u9, u10, u11⟩ := hU
  cases u2.symm.trans Y.unassigned
  cases u4.symm.trans L.statics
  obtain ⟨y1, y2, y3, y4, y5, cS, v1, v2, v3, v4, v5, v6, v7, v8, v9, v10, v11⟩ := hSn
  cases v2.symm.trans Y.sentinel
  cases v4.symm.trans L.statics
  cases u5.symm.trans v5
  obtain ⟨ci198, i198, fB, hk198, hg198, ha198, hsB, -, hnB, htB, hffB⟩ := Cond.ownField (t := .object "java/lang/Object") Y.found L.cls (by decide +kernel) hfB hltB e.platform hpl
  have hknownS : cU.vm ≠ .unknown := by intro hu; rw [hu] at u6; cases u6
  have hneS : T.aS ≠ a := Nat.ne_of_lt (Nat.lt_of_lt_of_le u11 hnew)
  obtain ⟨tyC, dC, hdC, hdnC⟩ := Cond.laysAt hfound hk Y.cause hlC
  obtain ⟨tyS, dS, hdS, hdnS⟩ := Cond.laysAt hfound hk Y.stack hlS
  obtain ⟨tyP, dP, hdP, hdnP⟩ := Cond.laysAt hfound hk Y.supp hlP
  obtain ⟨tyB, dB, hdB, hdnB⟩ := Cond.laysAt hfound hk hffB hlB
  have bC := Cond.laysApart hdB hdC hdnB hdnC (by rw [hnB, Y.causeName]; decide)
  have bS := Cond.laysApart hdB hdS hdnB hdnS (by rw [hnB, Y.stackName]; decide)
  have bP := Cond.laysApart hdB hdP hdnB hdnP (by rw [hnB, Y.suppName]; decide)
  have hskip : SkipFacts T e.platform s (fun u => u) uv ((preparedCellV T.toThrowableT (freshCell P1.m.cls kX) a uv sv).withEntry T0.cur) :=
    ⟨{ ci198 := ci198, i198 := i198, fBack := fB }, ⟨hk198, hg198, ha198, hsB⟩, by
      have := fresh_default (c := P1.m.cls) tyB
      rw [htB] at this
      simpa [preparedCellV, Cell.setSlot, Cell.withEntry, Array.getElem?_setIfInBounds, bC, bS, bP, bC.symm, bS.symm, bP.symm, defaultValue] using this, fun _ _ => rfl⟩
  have hinst : (Cond.instanceMethod (Bundle.init0 cls)).before args s = true := hC _ (by cases names <;> simp [Bundle.chain0Atoms, Bundle.passAtoms])
  have hcode : (Cond.code (Bundle.init0 cls) Bundle.five 1 none).before args s = true := hC _ (by cases names <;> simp [Bundle.chain0Atoms, Bundle.passAtoms])
  have hfirst : ∃ vm₁, s.WarmedH vm₁ ∧ ∀ target, (∀ acts, Steps p.tables e below (doInvoke e ((T0.setVm vm₁).setTop { g with stack := rest }) acts P1.m #[.ref a]).1 target) → Steps p.tables e below (T0.setTop g) target := by
    rcases hlink with hlink | ⟨host, hlink⟩
    · obtain ⟨tm, methC, cdC, kC, vm₁, hnC, -, -, -, -, -, -, -, hW₁, st1⟩ := Steps.initCold (tb := p.tables) (e := e) (below := below) (s := s) (U := T0) X.here hexec X.warmed hpl hown (t := Bundle.init0 cls) rfl rfl (Bundle.fit_spec hcls).2
        hlink hinst (bytes := Bundle.five) (maxL := 1) hcode (f := g) hg (a := a) (rest := rest) hstack hd
      cases Option.some.inj (hnC.symm.trans hP1m)
      exact ⟨vm₁, hW₁, st1⟩
    · obtain ⟨tm, methC, cdC, kC, vm₁, hnC, -, -, -, -, -, -, -, hW₁, st1⟩ := Steps.initColdArgsNest (tb := p.tables) (e := e) (below := below) (s := s) (U := T0) X.here hexec X.warmed hpl hown (t := Bundle.init0 cls) rfl (Bundle.fit_spec hcls).2
        hlink hinst (bytes := Bundle.five) (maxL := 1) hcode (f := g) hg (a := a) (argsL := []) (rest := rest) (fun sig h => by cases (show parseMethodDescriptor "()V" = some sig from h).symm.trans (show parseMethodDescriptor "()V" = some { parameters := [], returnType := none } by decide +kernel); rfl) hstack hd
      cases Option.some.inj (hnC.symm.trans hP1m)
      exact ⟨vm₁, hW₁, st1⟩
  obtain ⟨vm₁, hW₁, st1⟩ := hfirst
  have X₁ := X.noted hW₁
  obtain ⟨vm₂, X₂, st2⟩ := X₁.ctorPlainOffV hexec (g := { g with stack := rest }) hg hsize T L Z LZ (P1 :: Ps)
    (fun P hP => by rcases List.mem_cons.mp hP with rfl | hP; exact L1; exact hL P hP) ⟨hlink1, hlink2⟩ (u0 := uv) (sen := sv) (self := a) (cell := freshCell P1.m.cls kX) (cellS := cU)
    hcell (fun _ => by simp) (by simp) rfl rfl hsel0 hselF u5 hneS hknownS u10 v10
    (Takes.of_laid hk hord tyC (by rw [Y.causeType]; rfl)) (Takes.of_laid hk hord tyS (by rw [Y.stackType]; exact fits_refV_array _ uv)) (Takes.of_laid hk hord tyP (by rw [Y.suppType]; exact fits_refV_object _ sv)) Y.objLocals hskip (zx_off X htr) [] hd
    (by simp only [List.length_cons, hlen]; omega) (by simp only [List.length_cons, hlen]; exact hRlocals)
  refine ⟨vm₂, _, T.fCause, T.fStack, T.fSupp, ⟨_, _, _, Y.cause⟩, ⟨_, _, _, Y.stack⟩, ⟨_, _, _, Y.supp⟩, rfl, rfl, fun i h1 h2 h3 => ?_, X₂, fun target ht => st1 target (fun acts => ?_)⟩
  · simp [preparedCellV, Cell.setSlot, Array.getElem?_setIfInBounds, Ne.symm h1, Ne.symm h2, Ne.symm h3]
  · rw [doInvoke_state]
    exact st2 _ ht
end Nw
