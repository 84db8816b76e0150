/-- what the search for a handler gives, and the tables that it leaves -/
def zFd (e : Env) (s : State) (f : JFrame) (a : Addr) (h : Handler) (vm' : Vm) : Prop :=
  ∀ (Q : Handler → Pre) (E : CtlPost) (d : Bool) (acts : List Action), wp (findHandler f a) Q E e d acts s ↔ Q h d acts (s.setVm vm')
section Zt
theorem zgo_one {Q : Handler → Pre} {E : CtlPost} {e : Env} {d : Bool} {acts : List Action} {s : State} {f : JFrame} {a : Addr} {x : ExceptionTableEntry} {t : List ExceptionTableEntry} {c : ClassId} {cell : Cell} (hx : covers x f.pc = true) (h0 : x.catchType ≠ 0)
    (hl : s.vm.ClassLinks e.platform f.method.cls x.catchType c) (hcell : s.heap[a]? = some cell) (hobj : ∀ k, cell.vm ≠ .statics k) (hk : ∃ k, s.vm.classes[cell.cls]? = some k) (hc : ∃ k, s.vm.classes[c]? = some k) {b : Bool} (hfit : s.vm.assignable cell.cls c = b) :
    wp (findHandler.go f a (x :: t)) Q E e d acts s ↔ if b = true then Q (.found x.handlerPc) d acts (s.setVm (s.vm.noted f.method.cls x.catchType (.cls c))) else wp (findHandler.go f a t) Q E e d acts (s.setVm (s.vm.noted f.method.cls x.catchType (.cls c))) := by
  simp only [covers] at hx
  obtain ⟨ha, ht⟩ := (resolveClass_links e.toSetting hl).op (op := VmOp.resolveClass f.method.cls x.catchType) rfl
  have hal : s.vm.Alike (s.vm.noted f.method.cls x.catchType (.cls c)) := (Vm.Alike.refl s.vm).noted _ _ _
  obtain ⟨k1, hk1⟩ := hk
  obtain ⟨k2, hk2⟩ := hc
  obtain ⟨k1', hk1', -⟩ := hal.2.2 _ _ hk1
  obtain ⟨k2', hk2', -⟩ := hal.2.2 _ _ hk2
  have hfit' : (s.vm.noted f.method.cls x.catchType (.cls c)).assignable cell.cls c = b := by rw [hal.assignable]; exact hfit
  cases b <;> simp [findHandler.go, hx, h0, ha, ht, hcell, hobj, hk1', hk2', hfit', VmOp.dirties, VmOp.acts]
/-- a row of the table, by what the words say of it: it doesn't cover, or its class is known, and whether it takes the thrown one's -/
def zRow (pl : Platform) (s₀ : State) (d : ClassId) (pc : Nat) (K : ClassId) (x : ExceptionTableEntry) (b : Bool) : Prop :=
  if covers x pc = true then x.catchType ≠ 0 ∧ ∃ c, s₀.vm.ClassLinks pl d x.catchType c ∧ s₀.vm.assignable K c = b else b = false
theorem zgo {e : Env} {s₀ : State} {f : JFrame} {a : Addr} {cell : Cell} (hobj : ∀ k, cell.vm ≠ .statics k) (hk0 : ∃ k, s₀.vm.classes[cell.cls]? = some k) (bs : ExceptionTableEntry → Bool) (xs : List ExceptionTableEntry) (hr : ∀ x ∈ xs, zRow e.platform s₀ f.method.cls f.pc cell.cls x (bs x)) :
    ∀ S : State, s₀.WarmedH S.vm → S.heap[a]? = some cell → ∃ vm', s₀.WarmedH vm' ∧ ∀ (Q : Handler → Pre) (E : CtlPost) (d : Bool) (acts : List Action),
      wp (findHandler.go f a xs) Q E e d acts S ↔ Q (match xs.find? bs with | some x => .found x.handlerPc | none => .none) d acts (S.setVm vm') := by
  induction xs with
  | nil => intro S hW hc; exact ⟨S.vm, hW, fun Q E d acts => W.findHandler_go_nil⟩
  | cons x xs ih =>
    intro S hW hc
    have h1 := hr x List.mem_cons_self
    have ih := ih (fun y hy => hr y (List.mem_cons_of_mem _ hy))
    unfold zRow at h1
    split at h1
    · next hcov =>
      obtain ⟨h0, c, hl, hfit⟩ := h1
      obtain ⟨dk, _, _, kt, hd, _, _, _, _, hkt, _, hopen⟩ := hl.here
      obtain ⟨k0, hk0⟩ := hk0
      obtain ⟨k0', hk0', -⟩ := hW.alike.2.2 _ _ hk0
      obtain ⟨kt', hkt', -⟩ := hW.alike.2.2 _ _ hkt
      have hW' := hW.noted hd hopen (State.rightAt_cls hl)
      have key := fun Q E d acts => zgo_one (Q := Q) (E := E) (d := d) (acts := acts) (t := xs) (b := bs x) hcov h0 (hW.classLinks hl) hc hobj ⟨k0', hk0'⟩ ⟨kt', hkt'⟩ (by rw [hW.alike.assignable]; exact hfit)
      cases hb : bs x with
      | true =>
        refine ⟨_, hW', fun Q E d acts => ?_⟩
        rw [key, hb, if_pos rfl, List.find?_cons, hb]
      | false =>
        obtain ⟨vm', hW2, hq⟩ := ih (S.setVm (S.vm.noted f.method.cls x.catchType (.cls c))) hW' hc
        refine ⟨vm', hW2, fun Q E d acts => ?_⟩
        rw [key, hb, if_neg (by decide), List.find?_cons, hb]
        exact hq Q E d acts
    · next hcov =>
      obtain ⟨vm', hW2, hq⟩ := ih S hW hc
      refine ⟨vm', hW2, fun Q E d acts => ?_⟩
      rw [W.findHandler_go_skip (by simpa using hcov), List.find?_cons, h1]
      exact hq Q E d acts
theorem zFd_step {e : Env} {s : State} {a : Addr} {f : JFrame} {r : List Frame} {pc : Nat} {vm' : Vm} (hfind : zFd e s f a (.found pc) vm') :
    (stepThrowing e s a (.java f :: r)).Is ((s.setVm vm').setFrames (.java { f with pc := pc, stack := [.ref a] } :: r)) [] := by
  simp only [stepThrowing, searchFrame, vmDo]
  generalize hr : Sem.go _ e false [] s = res
  obtain ⟨as, rfl, ha⟩ := Sem.eq_ok_of hr (a := Handler.found pc) (s' := s.setVm vm') (acts' := []) (by simp [hfind _ _ _ _])
  exact ⟨rfl, ha⟩
theorem zFd_out {e : Env} {s : State} {a : Addr} {f : JFrame} {r : List Frame} {meth : Method} {vm' : Vm} (hm : vm'.method? f.method = some meth) (hl : meth.locks = false) (hlocked : f.locked = none) (hentered : f.entered = []) (hfind : zFd e s f a .none vm') :
    (stepThrowing e s a (.java f :: r)).Is ((s.setVm vm').setFrames (.throwing a :: r)) [] := by
  simp only [stepThrowing, searchFrame, vmDo]
  generalize hr : Sem.go _ e false [] s = res
  obtain ⟨as, rfl, ha⟩ := Sem.eq_ok_of hr (a := Handler.none) (s' := s.setVm vm') (acts' := [])
    (by cases hp : e.platform.frameOwnsMonitors <;> simp [hfind _ _ _ _, State.setVm, hm, hl, hlocked, hentered, hp, leaveIfLocked])
  exact ⟨rfl, ha⟩
theorem zsf (u : State) (vm' : Vm) (F G : List Frame) : ((u.setFrames F).setVm vm').setFrames G = (u.setVm vm').setFrames G := by
  have h1 : (u.setFrames F).setVm vm' = (u.setVm vm').setFrames F := rfl
  rw [h1, State.setFrames_setFrames]
variable {p : Program} {l : Launch} {e : Env} {R : Room} {s : State} {m : MethodId} {args : Array Value} {below : List Frame} {meth : Method} {c : Code} {T : State} {locs : List Loc} {cells slots : Nat}
/-- a thrown one in a frame: to its handler, or out -/
theorem zcatch (X : Stand p l e R s m args below meth c T locs cells slots) {a : Addr} {g : JFrame} (hg : g.method = m) {cell : Cell} (hcell : T.heap[a]? = some cell) (hobj : cell.vm.isStatics = false) (hk0 : ∃ k, s.vm.classes[cell.cls]? = some k)
    (bs : ExceptionTableEntry → Bool) (hr : ∀ x ∈ c.exceptionTable.toList, zRow e.platform s m.cls g.pc cell.cls x (bs x)) {x : ExceptionTableEntry} (hf : c.exceptionTable.toList.find? bs = some x) :
    ∃ vm', Stand p l e R s m args below meth c (T.setVm vm') locs cells slots ∧
      ∀ target, Steps p.tables e below ((T.setVm vm').setTop { g with pc := x.handlerPc, stack := [.ref a] }) target → Steps p.tables e below ((T.setTop g).pushFrame (.throwing a)) target := by
  subst hg
  obtain ⟨vm', hW', hq⟩ := zgo (e := e) (f := g) (a := a) (VmData.ne_statics_of hobj) hk0 bs _ hr ((T.setTop g).pushFrame (.throwing a)) X.warmed hcell
  rw [hf] at hq
  have hfd : zFd e ((T.setTop g).pushFrame (.throwing a)) g a (.found x.handlerPc) vm' := fun Q E d acts => (W.findHandler_eq (s := (T.setTop g).pushFrame (.throwing a)) X.method' X.code).trans (hq Q E d acts)
  refine ⟨vm', X.noted hW', fun target hrest => ?_⟩
  have h := X.here
  obtain ⟨hgo, hw⟩ := h.throwing (g := g) a
  refine Steps.head hgo hw ?_
  rw [stepThread_throwing (frames_entered h.top _), (zFd_step (s := (T.setTop g).pushFrame (.throwing a)) hfd).1]
  obtain ⟨g₀, hg⟩ := Option.isSome_iff_exists.mp h.top
  obtain ⟨r, hr⟩ := State.topJava?_eq_some.mp hg
  have hr' : (T.setVm vm').frames = .java g₀ :: r := hr
  rw [State.setTop_of_frames _ hr'] at hrest
  rw [hr, List.tail_cons, State.pushFrame, zsf, State.setTop_of_frames _ hr, zsf]
  exact hrest
theorem zleave (X : Stand p l e R s m args below meth c T locs cells slots) {a : Addr} {g : JFrame} (hg : g.method = m) (hlocked : g.locked = none) (hentered : g.entered = []) (hlocks : meth.locks = false) {cell : Cell} (hcell : T.heap[a]? = some cell) (hobj : cell.vm.isStatics = false) (hk0 : ∃ k, s.vm.classes[cell.cls]? = some k)
    (bs : ExceptionTableEntry → Bool) (hr : ∀ x ∈ c.exceptionTable.toList, zRow e.platform s m.cls g.pc cell.cls x (bs x)) (hf : c.exceptionTable.toList.find? bs = none) :
    ∃ t, t.heap = T.heap ∧ Steps p.tables e below ((T.setTop g).pushFrame (.throwing a)) t ∧ t.status = .running ∧ Ended t below (.threw a) ∧ zFE s t locs cells slots := by
  subst hg
  obtain ⟨vm', hW', hq⟩ := zgo (e := e) (f := g) (a := a) (VmData.ne_statics_of hobj) hk0 bs _ hr ((T.setTop g).pushFrame (.throwing a)) X.warmed hcell
  rw [hf] at hq
  have hfd : zFd e ((T.setTop g).pushFrame (.throwing a)) g a .none vm' := fun Q E d acts => (W.findHandler_eq (s := (T.setTop g).pushFrame (.throwing a)) X.method' X.code).trans (hq Q E d acts)
  have X' := X.noted hW'
  have h := X.here
  obtain ⟨g₀, hg⟩ := Option.isSome_iff_exists.mp h.top
  obtain ⟨r, hr⟩ := State.topJava?_eq_some.mp hg
  have hr' : (T.setVm vm').frames = .java g₀ :: r := hr
  obtain ⟨g₁, hfr⟩ := X'.frames_eq
  refine ⟨(T.setVm vm').setFrames (.throwing a :: below), rfl, ?_, X'.here.running, State.frames_setFrames _ (State.cur_lt_of_frames hfr), (X'.ends _).1, (X'.ends _).2⟩
  obtain ⟨hgo, hw⟩ := h.throwing (g := g) a
  refine Steps.head hgo hw ?_
  rw [stepThread_throwing (frames_entered h.top _), (zFd_out (s := (T.setTop g).pushFrame (.throwing a)) (meth := meth) X'.method' hlocks hlocked hentered hfd).1]
  have htail : r = below := by have := X'.tail; rw [hr'] at this; exact this
  rw [hr, List.tail_cons, State.pushFrame, zsf, State.setTop_of_frames _ hr, zsf, htail]
  exact Steps.refl _
end Zt
