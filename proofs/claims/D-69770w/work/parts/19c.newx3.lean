section Nv
variable {p : Program} {l : Launch} {e : Env} {R : Room} {s : State} {m : MethodId} {args : Array Value} {below : List Frame} {meth : Method} {c : Code} {Q : State → Prop}
variable {D : va_G} {dA : Nat → ClassId} {H00 : Heap} {b0 L0 : Nat} {xs : Nat → Int32} {sa : Nat → Nat} {S0 : List (Nat × Nat)} {ad0 : Nat → Nat} {z0 u0 nL : Nat}
variable {cc : ByteArray} {pc : Nat} {lsA : SL} {st : List AV} {h : AH}
theorem zLS.kept {C n d : String} {v : Value} {H : Heap} (hh : zLS H00 C n d v s H00) (hq : ∀ q : Nat, q < H00.size → H[q]? = H00[q]?) : zLS H00 C n d v s H := by
  obtain ⟨c, k, i, f, a, cell, h1, h2, h3, h4, h5, h6, h7, h8, h9, h10, h11⟩ := hh
  exact ⟨c, k, i, f, a, cell, h1, h2, h3, h4, by rw [hq a h11]; exact h5, h6, h7, h8, h9, h10, h11⟩
set_option maxHeartbeats 4000000 in
theorem gd_newx0 (hx : p.tables.exec = Jvm.exec) (hb : c.code = cc) {own : String} (hown : s.vm.findClass own = some m.cls) (hzw : ZW D dA H00 b0 L0 xs sa args s) (hml : c.maxLocals = nL) (hs0 : H00.size ≤ s.heap.size ∧ ∀ q : Nat, q < H00.size → s.heap[q]? = H00[q]?) (hck : ∀ kd, kd < 44 → COk kd) (hlt : l.stackTraces = false) (hf : 6 < R.frames) (hlo : 200 ≤ R.locals) (hcat : zcat st ≤ 8)
    {kd n k1 k2 : Nat} (hkd : kd < 44) {cls : String} {names : List String} (hcn : (zcn kd).1 = cls) (hnm : ∀ j, j < (zcn kd).2.2 → ((zcn kd).2.1 j).2.1 ≠ "cause" ∧ ((zcn kd).2.1 j).2.1 ≠ "stackTrace" ∧ ((zcn kd).2.1 j).2.1 ≠ "suppressedExceptions")
    (hcls : Bundle.fit cls = true) (hnames : ∀ n ∈ names, Bundle.fit n = true) (hlen : names.length ≤ 2) (hC : ∀ c ∈ Bundle.chain0Atoms cls names, c.before args s = true)
    (hI0 : (Cond.instantiable cls n).before args s = true ∧ (Cond.selects cls Bundle.tFill0 Bundle.tFill0).before args s = true ∧ (Cond.selects cls Bundle.tFill Bundle.tFill).before args s = true ∧ (Cond.lays cls Bundle.tN "cause" "Ljava/lang/Throwable;").before args s = true ∧ (Cond.lays cls Bundle.tN "stackTrace" "[Ljava/lang/StackTraceElement;").before args s = true ∧ (Cond.lays cls Bundle.tN "suppressedExceptions" "Ljava/util/List;").before args s = true ∧ (Cond.lays cls Bundle.tN "backtrace" "Ljava/lang/Object;").before args s = true)
    (hini : (Cond.initialized cls).before args s = true) (hcl : (Cond.classLink own k1 cls).before args s = true) (hlink : (Cond.methodLink own k2 (Bundle.init0 cls)).before args s = true ∨ ∃ host, (Cond.methodLinkNest own k2 (Bundle.init0 cls) host).before args s = true)
    (hm : hz h + 1 ≤ 100000000) (hc1 : hz h + 1 - z0 ≤ R.cells) (hc2 : hu h + n - u0 ≤ R.slots)
    (d1 : decode cc pc = .ok (.new k1, 3)) (d2 : decode cc (pc + 3) = .ok (.dup, 1)) (d3 : decode cc (pc + 4) = .ok (.invokespecial k2, 3))
    (k : Gd p l e R s m args below meth c Q D dA H00 b0 L0 xs sa S0 ad0 z0 u0 nL (pc + 7) lsA (.inr (.inr (some (kd, 0, hz h))) :: st) (al h n)) : Gd p l e R s m args below meth c Q D dA H00 b0 L0 xs sa S0 ad0 z0 u0 nL pc lsA st h := by
  intro S ad H locs ls hs
  obtain ⟨c1, c2, c3, c4⟩ := hck _ hkd
  have htb := hzw.2.1
  have hv := hs.2.2.2.1
  have hR := hs.1
  have hSs := hs.2.2.2.2.1
  have hz0 : z0 ≤ hz h := hs.2.2.2.2.2.2.2.1
  have hu0 : u0 ≤ hu h := hs.2.2.2.2.2.2.2.2
  have hzero : ∀ j, hI h (hz h) j = 0 ∧ hL h (hz h) j = 0 ∧ hP h (hz h) j = none := fun j => hR.2.2.2.2.2.2.2.1 _ (Nat.le_refl _) (by omega) j
  have hce := zce_obj (dA := dA) (b0 := b0) (sa := sa) (ad := ad) (h := h) (a := S.length) (kn := (kd, 0)) hkd
  have hKn := hzw.1.1 kd _ (zcl_at hkd)
  have hsum := zcat_sum (b0 := b0) (sa := sa) (ad := ad) st
  have hsz : H00.size ≤ H.size := hR.2.2.2.2.1
  subst hcn
  refine W.newcK hx hb hown hcl hI0.1 hini (g := F0 m pc ls (st.map (zrv b0 sa ad))) rfl d1 (by omega) (by omega) hKn.2.1 rfl fun H1 kC hkC e1 z1 o1 => ?_
  refine lv_dup hx hb d2 rfl ?_
  intro T hT X
  have hq0 : ∀ q : Nat, q < H00.size → T.heap[q]? = H00[q]? := fun q hq => by rw [hT, o1 q (by omega)]; exact hR.2.2.2.2.2.1 q hq
  obtain ⟨-, -, ⟨uv, hU⟩, sv, hSn⟩ := hzw.2.2.2.2.2.2.2.2.2
  have hzz : zZZ H00 s s.heap := by
    obtain ⟨g1, g2, ⟨w3, g3⟩, w4, g4⟩ := hzw.2.2.2.2.2.2.2.2.2
    exact ⟨g1.kept (fun q h1 _ => hs0.2 q h1), g2.kept (fun q h1 _ => hs0.2 q h1), ⟨w3, g3.kept hs0.2⟩, w4, g4.kept hs0.2⟩
  obtain ⟨vm', cell', fC, fS, fP, ⟨_, _, _, wC⟩, ⟨_, _, _, wS⟩, ⟨_, _, _, wP⟩, r1, r2, r3, X2, st2⟩ := zx_ctor (H00 := H00) (g := F0 m (pc + 4) ls (.ref H.size :: .ref H.size :: st.map (zrv b0 sa ad))) X hx hlt hown hcls hnames (zx_T htb hzz) hC hlink hI0.1 hI0.2.1 hI0.2.2.1 hI0.2.2.2.1 hI0.2.2.2.2.1 hI0.2.2.2.2.2.1 hI0.2.2.2.2.2.2 (htb.all _ q336) (htb.all _ q335) (hU.kept hq0) (hSn.kept hq0) hKn.2.1 hkC (by rw [hT]; exact e1) hsz rfl (by show ls.size = _; rw [hml, ← hs.2.2.1]; exact hs.2.1.1.1) rfl (by rw [hb]; exact d3) (by omega) (by
    show 2 * 0 + (List.map (fun v => v.category) (Value.ref H.size :: st.map (zrv b0 sa ad))).sum + _ ≤ _
    rw [List.map_cons, List.sum_cons, hsum]
    show 2 * 0 + (1 + zcat st) + _ ≤ _
    omega)
  have hlt1 : H.size < T.heap.size := by rw [hT, z1]; omega
  have hH2 : ((T.setVm vm').setCell H.size cell').heap = T.heap.setIfInBounds H.size cell' := rfl
  have n1 : (T.heap.setIfInBounds H.size cell')[H.size]? = some cell' := by simp [Array.getElem?_setIfInBounds, hlt1]
  have n2 : ∀ q : Nat, q < H.size → (T.heap.setIfInBounds H.size cell')[q]? = H[q]? := fun q hq => by
    rw [Array.getElem?_setIfInBounds, if_neg (by omega), hT]
    exact o1 q hq
  have n3 : (T.heap.setIfInBounds H.size cell').size = H.size + 1 := by rw [Array.size_setIfInBounds, hT]; exact z1
  have hS2 : ∀ lc, (∀ q ∈ lc, H00.size ≤ q.base) → va_S (fun q => H00.size ≤ q) s.heap (T.heap.setIfInBounds H.size cell') lc := fun lc hlc => ⟨by rw [n3]; have := hSs.1; omega, fun q h1 h2 => by rw [n2 q (Nat.lt_of_lt_of_le h1 hSs.1)]; exact hSs.2.1 q h1 h2, hlc⟩
  have hD2 := hR.2.2.2.1.push (e := zce dA b0 sa ad h S.length (kd, 0)) hR.2.2.1 rfl hsz
  have hP2 : va_P D zcl (zwd dA b0 sa ad h S ++ [(H.size, zce dA b0 sa ad h S.length (kd, 0))]) (T.heap.setIfInBounds H.size cell') := by
    refine (hR.2.2.1.kept (fun k x hx => n2 x.1 ((hR.2.2.1 k x hx).lt))).app (fun i x hx => ?_)
    have hi0 : i < 1 := (List.getElem?_eq_some_iff.mp hx).1
    rw [show i = 0 by omega] at hx
    cases hx
    rw [hce]
    refine ⟨_, zcl_at hkd, cell', n1, r1, r2, fun j hj => ?_⟩
    obtain ⟨cf, kf, fi, f, hi, hsl⟩ := hKn.1 j hj
    have hn := (State.fieldFound?_type hi (c2 j hj)).1
    have hl := u_lays htb.all c1 hj
    have a1 : f.slot ≠ fC.slot := u_apart hl (Or.inl hI0.2.2.2.1) hi wC (by rw [hn, (State.fieldFound?_type wC (t := .object "java/lang/Throwable") (by decide +kernel)).1]; exact (hnm j hj).1)
    have a2 : f.slot ≠ fS.slot := u_apart hl (Or.inl hI0.2.2.2.2.1) hi wS (by rw [hn, (State.fieldFound?_type wS (t := .array (.object "java/lang/StackTraceElement")) (by decide +kernel)).1]; exact (hnm j hj).2.1)
    have a3 : f.slot ≠ fP.slot := u_apart hl (Or.inl hI0.2.2.2.2.2.1) hi wP (by rw [hn, (State.fieldFound?_type wP (t := .object "java/util/List") (by decide +kernel)).1]; exact (hnm j hj).2.2)
    obtain ⟨cl0, b1, b2, b3, b4⟩ := u_born (zty kd) htb.all c1 hKn hkC e1 c2
    cases b1.symm.trans e1
    have b5 := b4 j hj
    rw [← hsl] at b5 ⊢
    rw [r3 _ a1 a2 a3]
    refine b5.trans ?_
    rw [vp_V, List.getD_eq_getElem?_getD, List.getElem?_map, List.getElem?_range hj, hR.1]
    exact congrArg some (zdef (c4 j hj) (hzero j))
  have hstd := Std_new (n := n) (kn := (kd, 0)) hs0 hs ⟨by simp [zkd]; omega, by simp⟩ hm hP2 hD2 (hS2 locs hSs.2.2)
  have k2 := k _ _ _ _ ls ⟨hstd.1, hstd.2.1, hstd.2.2.1, hstd.2.2.2.1, hS2 (locs ++ [⟨H.size, fC.slot⟩, ⟨H.size, fS.slot⟩, ⟨H.size, fP.slot⟩, ⟨H.size, fS.slot⟩]) (fun q hq => by
    rcases List.mem_append.mp hq with h1 | h1
    · exact hSs.2.2 q h1
    · simp only [List.mem_cons, List.not_mem_nil, or_false] at h1
      rcases h1 with rfl | rfl | rfl | rfl <;> exact hsz), hstd.2.2.2.2.2⟩
  rw [hz_al, hu_al, List.map_cons, zmap_up hv] at k2
  have e3 : zrv b0 sa (va_up ad S.length H.size) (.inr (.inr (some (kd, 0, hz h)))) = .ref H.size := by
    show va_rf (zad b0 sa (va_up ad S.length H.size) (some (kd, 0, hz h))) = .ref H.size
    rw [zad_own (show kd < 200 by omega), ← hR.1, va_up_self]; rfl
  rw [e3] at k2
  have e4 : hz h - z0 + 1 = hz h + 1 - z0 := by omega
  have e5 : hu h - u0 + n = hu h + n - u0 := by omega
  rw [e4, e5] at X2
  obtain ⟨t, a1, b1⟩ := k2 _ hH2 X2
  exact ⟨t, st2 t a1, b1⟩
end Nv
