section Zo
variable (b0 L0 : Nat) (sa : Nat → Nat)
/-- the machine's end as the interpreter's -/
def zout (o : AO) (oc : Outcome) (S : List (Nat × Nat)) (ad : Nat → Nat) : Prop := match o with
  | .inl none => oc = .returned none
  | .inl (some v) => oc = .returned (some (zrv b0 sa ad v)) ∧ zwv L0 S v
  | .inr q => oc = .threw (ad q.2.2) ∧ zwp L0 S (some q) ∧ q.1 < 44
end Zo
section Ze
variable (D : va_G) (dA : Nat → ClassId) (H00 : Heap) (b0 L0 : Nat) (xs : Nat → Int32) (sa : Nat → Nat) (S0 : List (Nat × Nat)) (ad0 : Nat → Nat) (z0 u0 : Nat)
def zEnd (o : AO) (h' : AH) (s : State) (oc : Outcome) (t : State) : Prop := ∃ S' ad' L, zFE s t L (hz h' - z0) (hu h' - u0) ∧ (∀ q ∈ L, H00.size ≤ q.base) ∧ RelH D dA H00 b0 L0 xs sa h' S' ad' t.heap ∧ S0 <+: S' ∧ (∀ a, a < S0.length → ad' a = ad0 a) ∧ zout b0 L0 sa o oc S' ad'
def zQ (below : List Frame) (s : State) (o : AO) (h' : AH) : State → Prop := fun t => ∃ oc, t.status = .running ∧ Ended t below oc ∧ zEnd D dA H00 b0 L0 xs sa S0 ad0 z0 u0 o h' s oc t
end Ze
section Zr
variable {p : Program} {l : Launch} {e : Env} {R : Room} {s : State} {m : MethodId} {args : Array Value} {below : List Frame} {meth : Method} {c : Code} {Q : State → Prop}
variable {D : va_G} {dA : Nat → ClassId} {H00 : Heap} {b0 L0 : Nat} {xs : Nat → Int32} {sa : Nat → Nat} {S0 : List (Nat × Nat)} {ad0 : Nat → Nat} {z0 u0 nL : Nat}
variable {cc : ByteArray} {pc : Nat} {lsA : SL} {st : List AV} {h : AH}
/-- out of the kit's end -/
theorem zMQ {H : Heap} {locs : List Loc} {ls : Array Slot} {S : List (Nat × Nat)} {ad : Nat → Nat} {st' : List AV} {v : Option AV} (hs : Std s D dA H00 b0 L0 xs sa S0 ad0 z0 u0 nL lsA st' h S ad H locs ls) (hv : ∀ x, v = some x → zwv L0 S x) {t : State}
    (hq : MQ below (fun _ _ oc t => t.heap = H ∧ oc = .returned (v.map (zrv b0 sa ad))) args s (hz h - z0) (hu h - u0) (fun q => H00.size ≤ q) t) : zQ D dA H00 b0 L0 xs sa S0 ad0 z0 u0 below s (.inl v) h t := by
  obtain ⟨oc, h1, h2, ⟨h3, h4⟩, L, h5, h6⟩ := hq
  refine ⟨oc, h1, h2, S, ad, L, h5.2, h6, by rw [h3]; exact hs.1, hs.2.2.2.2.2.1, hs.2.2.2.2.2.2.1, ?_⟩
  cases v with
  | none => exact h4
  | some v => exact ⟨h4, hv v rfl⟩
theorem gd_iret (hx : p.tables.exec = Jvm.exec) (hb : c.code = cc) (hlocks : meth.locks = false) {v : Int} (hr : meth.sig.returnType = some .int ∨ (meth.sig.returnType = some .boolean ∧ (v = 0 ∨ v = 1))) (hd : decode cc pc = .ok (.ireturn, 1)) :
    Gd p l e R s m args below meth c (zQ D dA H00 b0 L0 xs sa S0 ad0 z0 u0 below s (.inl (some (.inl v))) h) D dA H00 b0 L0 xs sa S0 ad0 z0 u0 nL pc lsA [.inl v] h := by
  intro S ad H locs ls hs
  rcases hr with hr | ⟨hr, hv⟩
  · exact W.mono (fun t ht => zMQ (v := some (.inl v)) hs (fun x hx => by cases hx; exact hs.2.2.2.1 _ List.mem_cons_self) ht) (W.zret hx hb hr rfl (fun t ht _ => ⟨ht, rfl⟩) (fun q hq => hs.2.2.2.2.1.2.2 q hq) hd hlocks)
  · exact W.mono (fun t ht => zMQ (v := some (.inl v)) hs (fun x hx => by cases hx; exact hs.2.2.2.1 _ List.mem_cons_self) ht) (W.zret hx hb hr (by rcases hv with rfl | rfl <;> rfl) (fun t ht _ => ⟨ht, rfl⟩) (fun q hq => hs.2.2.2.2.1.2.2 q hq) hd hlocks)
theorem gd_lret (hx : p.tables.exec = Jvm.exec) (hb : c.code = cc) (hlocks : meth.locks = false) {v : Int} (hr : meth.sig.returnType = some .long) (hd : decode cc pc = .ok (.lreturn, 1)) :
    Gd p l e R s m args below meth c (zQ D dA H00 b0 L0 xs sa S0 ad0 z0 u0 below s (.inl (some (.inr (.inl v)))) h) D dA H00 b0 L0 xs sa S0 ad0 z0 u0 nL pc lsA [.inr (.inl v)] h := by
  intro S ad H locs ls hs
  exact W.mono (fun t ht => zMQ (v := some (.inr (.inl v))) hs (fun x hx => by cases hx; exact hs.2.2.2.1 _ List.mem_cons_self) ht) (W.lret hx hb hr (fun t ht _ => ⟨ht, rfl⟩) (fun q hq => hs.2.2.2.2.1.2.2 q hq) hd hlocks)
theorem gd_aret (hx : p.tables.exec = Jvm.exec) (hb : c.code = cc) (hlocks : meth.locks = false) {v : Ptr} {rt : FieldType} (hr : meth.sig.returnType = some rt) (hrt : (∃ n, rt = .object n) ∨ ∃ t, rt = .array t) (hd : decode cc pc = .ok (.areturn, 1)) :
    Gd p l e R s m args below meth c (zQ D dA H00 b0 L0 xs sa S0 ad0 z0 u0 below s (.inl (some (.inr (.inr v)))) h) D dA H00 b0 L0 xs sa S0 ad0 z0 u0 nL pc lsA [.inr (.inr v)] h := by
  intro S ad H locs ls hs
  have hvv : zrv b0 sa ad (.inr (.inr v)) = .null ∨ ∃ a, zrv b0 sa ad (.inr (.inr v)) = .ref a := by
    show va_rf (zad b0 sa ad v) = .null ∨ ∃ a, va_rf (zad b0 sa ad v) = .ref a
    cases zad b0 sa ad v with
    | none => exact Or.inl rfl
    | some a => exact Or.inr ⟨a, rfl⟩
  exact W.mono (fun t ht => zMQ (v := some (.inr (.inr v))) hs (fun x hx => by cases hx; exact hs.2.2.2.1 _ List.mem_cons_self) ht) (W.aret hx hb hr hrt hvv (fun t ht _ => ⟨ht, rfl⟩) (fun q hq => hs.2.2.2.2.1.2.2 q hq) hd hlocks)
theorem gd_vret (hx : p.tables.exec = Jvm.exec) (hb : c.code = cc) (hlocks : meth.locks = false) (hr : meth.sig.returnType = none) (hd : decode cc pc = .ok (.return_, 1)) :
    Gd p l e R s m args below meth c (zQ D dA H00 b0 L0 xs sa S0 ad0 z0 u0 below s (.inl none) h) D dA H00 b0 L0 xs sa S0 ad0 z0 u0 nL pc lsA [] h := by
  intro S ad H locs ls hs
  exact W.mono (fun t ht => zMQ (v := none) hs (fun x hx => by cases hx) ht) (W.vret hx hb hr (fun t ht _ => ⟨ht, rfl⟩) (fun q hq => hs.2.2.2.2.1.2.2 q hq) hd hlocks)
variable (p l e R s m args below meth c Q D dA H00 b0 L0 xs sa S0 ad0 z0 u0 nL)
/-- a thrown one over the frame -/
def Gth (pc : Nat) (lsA : SL) (q : Nat × Nat × Nat) (h : AH) : Prop := ∀ S ad H locs ls st, Std s D dA H00 b0 L0 xs sa S0 ad0 z0 u0 nL lsA [.inr (.inr (some q))] h S ad H locs ls →
  ∀ T : State, T.heap = H → Stand p l e R s m args below meth c T locs (hz h - z0) (hu h - u0) → ∃ t, Steps p.tables e below ((T.setTop (F0 m pc ls st)).pushFrame (.throwing (ad q.2.2))) t ∧ Q t
/-- the table of handlers as the interpreter has it -/
def HOk (own : String) (hh hs : List (Nat × Nat × Nat × Nat)) (kp : Nat → Nat) : Prop := hs = hh.map (fun a => (a.1, a.2.1, a.2.2.1, kp a.2.2.2)) ∧ ∀ a ∈ hh, a.2.2.2 ≠ 0 ∧ kp a.2.2.2 < 44 ∧ Cond.classLink own a.2.2.2 (zcn (kp a.2.2.2)).1 ∈ lw_all
variable {p l e R s m args below meth c Q D dA H00 b0 L0 xs sa S0 ad0 z0 u0 nL}
theorem gth_of {own : String} {hh : List (Nat × Nat × Nat × Nat)} {hs : SH} {kp : Nat → Nat} {cd : SC} {q : Nat × Nat × Nat} {F : AO → AH → Prop} {K : SC → SL → List AV → AH → Prop}
    (hown : s.vm.findClass own = some m.cls) (htb : TBs args s) (hK : va_K D zcl (ztys dA) s) (hnc : va_Nc (zcn 43).1 (zcn 42).1 s) (hlocks : meth.locks = false) (htab : c.exceptionTable.toList.map (fun h => (h.startPc, h.endPc, h.handlerPc, h.catchType)) = hh) (hok : HOk own hh hs kp)
    (hKK : ∀ ee ∈ hs, ∀ ls st k, K (jmp cd ee.2.2.1) ls st k → Gd p l e R s m args below meth c Q D dA H00 b0 L0 xs sa S0 ad0 z0 u0 nL ee.2.2.1 ls st k)
    (hF : ∀ o k, F o k → ∀ t, zQ D dA H00 b0 L0 xs sa S0 ad0 z0 u0 below s o k t → Q t)
    (ht : thr cd hs F K pc lsA q h) : Gth p l e R s m args below meth c Q D dA H00 b0 L0 xs sa S0 ad0 z0 u0 nL pc lsA q h := by
  intro S ad H locs ls st hstd T hT X
  obtain ⟨hq44, hall, hm⟩ := ht
  have hR := hstd.1
  have hvq : zwp L0 S (some q) := hstd.2.2.2.1 _ List.mem_cons_self
  obtain ⟨cell, hc1, hc2, hc3⟩ := zrecv hK hR hvq hq44
  have hpl : e.platform.magicAccessors = ({} : Platform).magicAccessors := by rw [X.admits.platform]
  have hrow : ∀ x ∈ c.exceptionTable.toList, zRow e.platform s m.cls pc cell.cls x ((fun x : ExceptionTableEntry => decide (x.startPc ≤ pc) && decide (pc < x.endPc) && (kp x.catchType == q.1)) x) := by
    intro x hx
    have hxh : (x.startPc, x.endPc, x.handlerPc, x.catchType) ∈ hh := by rw [← htab]; exact List.mem_map_of_mem hx
    obtain ⟨g1, g2, g3⟩ := hok.2 _ hxh
    have hxs : (x.startPc, x.endPc, x.handlerPc, kp x.catchType) ∈ hs := by rw [hok.1]; exact List.mem_map_of_mem hxh
    have hal := List.all_eq_true.mp hall _ hxs
    unfold zRow
    dsimp only at g1 g2 g3 hal ⊢
    split
    · next hcov =>
      have hcv : (decide (x.startPc ≤ pc) && decide (pc < x.endPc)) = true := hcov
      rw [hcv] at hal ⊢
      obtain ⟨cT, hcT, hcl⟩ := Cond.classLink_spec hown (htb.all _ g3) e.platform hpl
      refine ⟨g1, cT, hcl, ?_⟩
      by_cases hk : kp x.catchType = q.1
      · rw [hk] at hcT
        cases hc3.symm.trans hcT
        have hrefl : s.vm.assignable cell.cls cell.cls = true := by
          show s.vm.assignableAux (255 + 1) _ _ = true
          rw [Vm.assignableAux, beq_self_eq_true, Bool.true_or]
        rw [hrefl, hk, beq_self_eq_true]; rfl
      · obtain ⟨c1, t1, n1, n2, n3⟩ := hnc
        simp [hk] at hal
        rw [hal.1] at hc3
        rw [hal.2] at hcT
        cases hc3.symm.trans n1
        cases hcT.symm.trans n2
        simp [hk, n3]
    · next hcov =>
      have hcv : (decide (x.startPc ≤ pc) && decide (pc < x.endPc)) = false := by simpa [covers] using hcov
      rw [hcv]; rfl
  have hfind : hs.find? (fun e => decide (e.1 ≤ pc) && decide (pc < e.2.1) && (e.2.2.2 == q.1)) = (c.exceptionTable.toList.find? (fun x : ExceptionTableEntry => decide (x.startPc ≤ pc) && decide (pc < x.endPc) && (kp x.catchType == q.1))).map (fun h => (h.startPc, h.endPc, h.handlerPc, kp h.catchType)) := by
    rw [hok.1, ← htab, List.map_map, List.find?_map]
    rfl
  rw [hfind] at hm
  have hadq : zad b0 sa ad (some q) = some (ad q.2.2) := zad_own (by omega)
  cases hf : c.exceptionTable.toList.find? (fun x : ExceptionTableEntry => decide (x.startPc ≤ pc) && decide (pc < x.endPc) && (kp x.catchType == q.1)) with
  | some x =>
    rw [hf] at hm
    have hxm := List.mem_of_find?_eq_some hf
    have hxs : (x.startPc, x.endPc, x.handlerPc, kp x.catchType) ∈ hs := by rw [hok.1, ← htab, List.map_map]; exact List.mem_map_of_mem (f := (fun a : Nat × Nat × Nat × Nat => (a.1, a.2.1, a.2.2.1, kp a.2.2.2)) ∘ (fun h : ExceptionTableEntry => (h.startPc, h.endPc, h.handlerPc, h.catchType))) hxm
    obtain ⟨vm', X', st'⟩ := zcatch X (g := F0 m pc ls st) rfl (by rw [hT]; exact hc1) hc2 (Vm.classAt_of_findClass hc3) _ hrow hf
    have g := hKK _ hxs _ _ _ hm S ad H locs ls hstd
    obtain ⟨t, a1, b1⟩ := g (T.setVm vm') hT X'
    have e3 : List.map (zrv b0 sa ad) [.inr (.inr (some q))] = [.ref (ad q.2.2)] := by show [va_rf (zad b0 sa ad (some q))] = _; rw [hadq]; rfl
    rw [e3] at a1
    exact ⟨t, st' t a1, b1⟩
  | none =>
    rw [hf] at hm
    obtain ⟨t, a0, a1, a2, a3, a4⟩ := zleave X (g := F0 m pc ls st) rfl rfl rfl hlocks (by rw [hT]; exact hc1) hc2 (Vm.classAt_of_findClass hc3) _ hrow hf
    exact ⟨t, a1, hF _ _ hm t ⟨_, a2, a3, S, ad, locs, a4, fun q hq => hstd.2.2.2.2.1.2.2 q hq, by rw [a0, hT]; exact hR, hstd.2.2.2.2.2.1, hstd.2.2.2.2.2.2.1, rfl, hvq, hq44⟩⟩
end Zr
