/-- what the tables say of a class that is made -/
def NOk (own : String) (idx x : Nat) : Prop := x / 256 < 44 ∧ (zcn (x / 256)).2.2 = x % 256 ∧ Cond.classLink own idx (zcn (x / 256)).1 ∈ lw_all ∧ Cond.instantiable (zcn (x / 256)).1 (zcn (x / 256)).2.2 ∈ lw_all ∧ Cond.initialized (zcn (x / 256)).1 ∈ lw_all
section New
variable {p : Program} {l : Launch} {e : Env} {R : Room} {s : State} {m : MethodId} {args : Array Value} {below : List Frame} {meth : Method} {c : Code} {Q : State → Prop}
variable {D : va_G} {dA : Nat → ClassId} {H00 : Heap} {b0 L0 : Nat} {xs : Nat → Int32} {sa : Nat → Nat} {S0 : List (Nat × Nat)} {ad0 : Nat → Nat} {z0 u0 nL : Nat}
variable {cc : ByteArray} {pc : Nat} {lsA : SL} {st : List AV} {h : AH}
theorem zce_al {ad : Nat → Nat} {a n : Nat} {kn : Nat × Nat} : zce dA b0 sa ad (al h n) a kn = zce dA b0 sa ad h a kn := rfl
theorem zwd_new {S : List (Nat × Nat)} {ad : Nat → Nat} {q n : Nat} {kn : Nat × Nat} (hk : zok L0 xs h S) :
    zwd dA b0 sa (va_up ad S.length q) (al h n) (S ++ [kn]) = zwd dA b0 sa ad h S ++ [(q, zce dA b0 sa ad h S.length kn)] := by
  rw [zwd, zwd, List.mapIdx_append]
  congr 1
  · apply List.ext_getElem?
    intro i
    rw [List.getElem?_mapIdx, List.getElem?_mapIdx]
    cases hi : S[i]? with
    | none => rfl
    | some kn' =>
      have hlt : i < S.length := (List.getElem?_eq_some_iff.mp hi).1
      simp only [Option.map_some]
      rw [va_up_ne _ _ (by omega), zce_al, zce_up hk]
  · simp only [List.mapIdx_cons, List.mapIdx_nil, Nat.zero_add]
    rw [va_up_self, zce_al, zce_up hk]
theorem zls_up {S : List (Nat × Nat)} {ad : Nat → Nat} {q : Nat} (hw : ∀ i v, lk lsA i = some v → zwv L0 S v) : zls b0 sa (va_up ad S.length q) lsA = zls b0 sa ad lsA := by
  unfold zls
  congr 1
  funext i
  cases hi : lk lsA i with
  | none => rfl
  | some v => simp only [Option.map_some]; rw [zrv_up (hw i v hi)]
theorem zmap_up {S : List (Nat × Nat)} {ad : Nat → Nat} {q : Nat} (hv : ∀ v ∈ st, zwv L0 S v) : st.map (zrv b0 sa (va_up ad S.length q)) = st.map (zrv b0 sa ad) :=
  List.map_congr_left (fun v hm => zrv_up (hv v hm))
theorem zok_al {S : List (Nat × Nat)} {n : Nat} {kn : Nat × Nat} (hk : zok L0 xs h S) (hkn : zkd kn.1 = true ∧ kn.2 ≤ 1000000) (hl : S.length = hz h) : zok L0 xs (al h n) (S ++ [kn]) := by
  refine ⟨fun a j => ⟨(hk.1 a j).1, (hk.1 a j).2.1, zwp_ext (hk.1 a j).2.2⟩, fun a ha ha2 j => hk.2.1 a (by rw [hz_al] at ha; omega) ha2 j, hk.2.2.1, fun a kn' hs => ?_⟩
  by_cases hlt : a < S.length
  · rw [List.getElem?_append_left hlt] at hs
    exact hk.2.2.2 a kn' hs
  · rw [List.getElem?_append_right (by omega)] at hs
    have h0 : a - S.length = 0 := by have := (List.getElem?_eq_some_iff.mp hs).1; simp at this; omega
    rw [h0] at hs
    cases hs
    exact hkn
theorem Std_new (hs0 : H00.size ≤ s.heap.size ∧ ∀ q : Nat, q < H00.size → s.heap[q]? = H00[q]?) {S : List (Nat × Nat)} {ad : Nat → Nat} {H H1 : Heap} {locs : List Loc} {ls : Array Slot} (hs : Std s D dA H00 b0 L0 xs sa S0 ad0 z0 u0 nL lsA st h S ad H locs ls) {q n : Nat} {kn : Nat × Nat} (hkn : zkd kn.1 = true ∧ kn.2 ≤ 1000000) (hm : hz h + 1 ≤ 100000000)
    (hP1 : va_P D zcl (zwd dA b0 sa ad h S ++ [(q, zce dA b0 sa ad h S.length kn)]) H1) (hD1 : va_D (fun q => H00.size ≤ q) (zwd dA b0 sa ad h S ++ [(q, zce dA b0 sa ad h S.length kn)])) (hS1 : va_S (fun q => H00.size ≤ q) s.heap H1 locs) :
    Std s D dA H00 b0 L0 xs sa S0 ad0 z0 u0 nL lsA (.inr (.inr (some (kn.1, kn.2, hz h))) :: st) (al h n) (S ++ [kn]) (va_up ad S.length q) H1 locs ls := by
  obtain ⟨⟨r1, r2, r3, r4, r5, r6, r7⟩, l1, l2, l3, l4, l5, l6, l7, l8⟩ := hs
  rw [← zwd_new (n := n) r7] at hP1 hD1
  refine ⟨⟨by rw [List.length_append, r1, hz_al]; rfl, by rw [hz_al]; exact hm, hP1, hD1, Nat.le_trans hs0.1 hS1.1, fun q hq => ?_, zok_al r7 hkn r1⟩, ⟨by rw [zls_up l1.2]; exact l1.1, fun i v hi => zwv_ext (l1.2 i v hi)⟩, l2, zfa (Or.inr (Or.inr ⟨?_, ?_⟩)) (fun v hv => zwv_ext (l3 v hv)), hS1, l5.trans (List.prefix_append _ _), fun a ha => ?_, by rw [hz_al]; omega, by rw [hu_al]; omega⟩
  · rw [hS1.2.1 q (Nat.lt_of_lt_of_le hq hs0.1) (by omega)]
    exact hs0.2 q hq
  · have := hkn.1
    simp only [zkd, Bool.or_eq_true, Bool.and_eq_true, decide_eq_true_eq] at this
    omega
  · show (S ++ [kn])[hz h]? = some (kn.1, kn.2)
    rw [← r1, List.getElem?_append_right (Nat.le_refl _), Nat.sub_self]; rfl
  · have := l5.length_le
    rw [va_up_ne _ _ (by omega)]
    exact l6 a ha
theorem zdef {ad : Nat → Nat} {k j : Nat} (hg : zgt (zty k j) = true) (h0 : hI h (hz h) j = 0 ∧ hL h (hz h) j = 0 ∧ hP h (hz h) j = none) : defaultValue (zty k j) = zrv b0 sa ad (gv (zft k j) h (hz h) j) := by
  unfold zft
  cases ht : zty k j <;> rw [ht] at hg <;> first | exact absurd hg (by decide) | skip
  · show Value.int 0 = .int (Int32.ofInt (hI h (hz h) j)); rw [h0.1]; rfl
  · show Value.long 0 = .long (Int64.ofInt (hL h (hz h) j)); rw [h0.2.1]; rfl
  · show Value.int 0 = .int (Int32.ofInt (hI h (hz h) j)); rw [h0.1]; rfl
  · show Value.null = va_rf (zad b0 sa ad (hP h (hz h) j)); rw [h0.2.2]; rfl
  · show Value.null = va_rf (zad b0 sa ad (hP h (hz h) j)); rw [h0.2.2]; rfl
theorem gd_new (hx : p.tables.exec = Jvm.exec) (hb : c.code = cc) {own : String} (hown : s.vm.findClass own = some m.cls) (htb : TBs args s) (hK : va_K D zcl (ztys dA) s) (hs0 : H00.size ≤ s.heap.size ∧ ∀ q : Nat, q < H00.size → s.heap[q]? = H00[q]?)
    {x idx : Nat} (hf : NOk own idx x) (hck : ∀ kd, kd < 44 → COk kd) (hm : hz h + 1 ≤ 100000000) (hc1 : hz h + 1 - z0 ≤ R.cells) (hc2 : hu h + x % 256 - u0 ≤ R.slots)
    (hd : decode cc pc = .ok (.new idx, 3)) (k : Gd p l e R s m args below meth c Q D dA H00 b0 L0 xs sa S0 ad0 z0 u0 nL (pc + 3) lsA (.inr (.inr (some (x / 256, 0, hz h))) :: st) (al h (x % 256))) : Gd p l e R s m args below meth c Q D dA H00 b0 L0 xs sa S0 ad0 z0 u0 nL pc lsA st h := by
  intro S ad H locs ls hs
  obtain ⟨f1, f2, f3, f4, f5⟩ := hf
  obtain ⟨c1, c2, c3, c4⟩ := hck _ f1
  have hv := hs.2.2.2.1
  have hR := hs.1
  have hz0 : z0 ≤ hz h := hs.2.2.2.2.2.2.2.1
  have hu0 : u0 ≤ hu h := hs.2.2.2.2.2.2.2.2
  have hzero : ∀ j, hI h (hz h) j = 0 ∧ hL h (hz h) j = 0 ∧ hP h (hz h) j = none := fun j => hR.2.2.2.2.2.2.2.1 _ (Nat.le_refl _) (by omega) j
  have hce := zce_obj (dA := dA) (b0 := b0) (sa := sa) (ad := ad) (h := h) (a := S.length) (kn := (x / 256, 0)) f1
  refine va_new hx hb htb.all c1 (zty (x / 256)) c2 hown (htb.all _ f3) (htb.all _ f4) (htb.all _ f5) hK hR.2.2.1 hR.2.2.2.1 hs.2.2.2.2.1 (fun q hq => Nat.le_trans hs0.1 hq) (zcl_at f1) (fs := (List.range (zcn (x / 256)).2.2).map (fun j => zrv b0 sa ad (gv (zft (x / 256) j) h S.length j))) (fun j hj => ?_) (by omega) (by rw [f2]; omega) hd (fun q H1 hP1 hD1 hS1 => ?_)
  · rw [vp_V, List.getD_eq_getElem?_getD, List.getElem?_map, List.getElem?_range hj, hR.1]
    exact zdef (c4 j hj) (hzero j)
  · rw [← hce] at hP1 hD1
    have k2 := k _ _ H1 locs ls (Std_new (n := x % 256) (kn := (x / 256, 0)) hs0 hs ⟨by simp [zkd]; omega, by simp⟩ hm hP1 hD1 hS1)
    rw [hz_al, hu_al, List.map_cons, zmap_up hv] at k2
    have e1 : hz h - z0 + 1 = hz h + 1 - z0 := by omega
    have e2 : hu h - u0 + (zcn (x / 256)).2.2 = hu h + x % 256 - u0 := by omega
    rw [e1, e2]
    have e3 : zrv b0 sa (va_up ad S.length q) (.inr (.inr (some (x / 256, 0, hz h)))) = .ref q := by
      show va_rf (zad b0 sa (va_up ad S.length q) (some (x / 256, 0, hz h))) = .ref q
      rw [zad_own (show x / 256 < 200 by omega), ← hR.1, va_up_self]; rfl
    rw [e3] at k2
    exact k2
set_option maxHeartbeats 200000 in
theorem gd_newa101 (hx : p.tables.exec = Jvm.exec) (hb : c.code = cc) (hK : va_K D zcl (ztys dA) s) (hs0 : H00.size ≤ s.heap.size ∧ ∀ q : Nat, q < H00.size → s.heap[q]? = H00[q]?) (harr : (Cond.arrayClass .int).before args s = true)
    {n : Int} (hi : 0 ≤ n ∧ n ≤ 1000000) (hm : hz h + 1 ≤ 100000000) (hc1 : hz h + 1 - z0 ≤ R.cells) (hc2 : hu h + n.toNat - u0 ≤ R.slots)
    (hd : decode cc pc = .ok (.newarray .int, 2)) (k : Gd p l e R s m args below meth c Q D dA H00 b0 L0 xs sa S0 ad0 z0 u0 nL (pc + 2) lsA (.inr (.inr (some (101, n.toNat, hz h))) :: st) (al h n.toNat)) : Gd p l e R s m args below meth c Q D dA H00 b0 L0 xs sa S0 ad0 z0 u0 nL pc lsA (.inl n :: st) h := by
  intro S ad H locs ls hs
  have hv := hs.2.2.2.1
  have hR := hs.1
  have hz0 : z0 ≤ hz h := hs.2.2.2.2.2.2.2.1
  have hu0 : u0 ≤ hu h := hs.2.2.2.2.2.2.2.2
  obtain ⟨N, rfl⟩ := Int.eq_ofNat_of_zero_le hi.1
  have hN : N ≤ 1000000 := by omega
  have hzero : ∀ j, hI h (hz h) j = 0 ∧ hL h (hz h) j = 0 ∧ hP h (hz h) j = none := fun j => hR.2.2.2.2.2.2.2.1 _ (Nat.le_refl _) (by omega) j
  have eN : (nI N).toNatClampNeg = N := nI_clamp (by omega)
  have e32 : Int32.ofInt ((N : Nat) : Int) = nI N := rfl
  rw [Int.toNat_natCast] at k hc2
  show W p l e R s m args below meth c H locs (hz h - z0) (hu h - u0) Q (F0 m pc ls (.int (Int32.ofInt ((N : Nat) : Int)) :: st.map (zrv b0 sa ad)))
  rw [e32]
  refine va_newa (atype := .int) (ty := .int) (a0 := (N, .inl (fun j => Int32.ofInt (hI h S.length j)))) hx hb harr rfl hK hR.2.2.1 hR.2.2.2.1 hs.2.2.2.2.1 (fun q hq => Nat.le_trans hs0.1 hq) (fun cA => ?_) (nI_pos (by omega)) eN (show N * 4 ≤ 536870912 by omega) (by omega) (by omega) hd (fun q cA H1 hK1 hP1 hD1 hS1 => ?_)
  · unfold vp_cell
    dsimp only
    congr 1
    funext j
    rw [hR.1, (hzero j).1]; rfl
  · have hcA : cA = dA 0 := by
      have a1 := (hK1.2 11 (cA, .int) rfl).2
      have a2 := (hK.2 0 (dA 0, .int) rfl).2
      exact Option.some.inj (a1.symm.trans a2)
    subst hcA
    have k2 := k _ _ H1 locs ls (Std_new (n := N) (kn := (101, N)) hs0 (hs.stk (fun hv => (zfa2 hv).2)) ⟨rfl, hN⟩ hm hP1 hD1 hS1)
    rw [hz_al, hu_al, List.map_cons, zmap_up (zfa2 hv).2] at k2
    have e1 : hz h - z0 + 1 = hz h + 1 - z0 := by omega
    have e2 : hu h - u0 + N = hu h + N - u0 := by omega
    rw [e1, e2]
    have e3 : zrv b0 sa (va_up ad S.length q) (.inr (.inr (some (101, N, hz h)))) = .ref q := by
      show va_rf (zad b0 sa (va_up ad S.length q) (some (101, N, hz h))) = .ref q
      rw [zad_own (Nat.le_of_ble_eq_true rfl), ← hR.1, va_up_self]; rfl
    rw [e3] at k2
    exact k2
set_option maxHeartbeats 200000 in
theorem gd_newa102 (hx : p.tables.exec = Jvm.exec) (hb : c.code = cc) (hK : va_K D zcl (ztys dA) s) (hs0 : H00.size ≤ s.heap.size ∧ ∀ q : Nat, q < H00.size → s.heap[q]? = H00[q]?) (harr : (Cond.arrayClass .long).before args s = true)
    {n : Int} (hi : 0 ≤ n ∧ n ≤ 1000000) (hm : hz h + 1 ≤ 100000000) (hc1 : hz h + 1 - z0 ≤ R.cells) (hc2 : hu h + n.toNat - u0 ≤ R.slots)
    (hd : decode cc pc = .ok (.newarray .long, 2)) (k : Gd p l e R s m args below meth c Q D dA H00 b0 L0 xs sa S0 ad0 z0 u0 nL (pc + 2) lsA (.inr (.inr (some (102, n.toNat, hz h))) :: st) (al h n.toNat)) : Gd p l e R s m args below meth c Q D dA H00 b0 L0 xs sa S0 ad0 z0 u0 nL pc lsA (.inl n :: st) h := by
  intro S ad H locs ls hs
  have hv := hs.2.2.2.1
  have hR := hs.1
  have hz0 : z0 ≤ hz h := hs.2.2.2.2.2.2.2.1
  have hu0 : u0 ≤ hu h := hs.2.2.2.2.2.2.2.2
  obtain ⟨N, rfl⟩ := Int.eq_ofNat_of_zero_le hi.1
  have hN : N ≤ 1000000 := by omega
  have hzero : ∀ j, hI h (hz h) j = 0 ∧ hL h (hz h) j = 0 ∧ hP h (hz h) j = none := fun j => hR.2.2.2.2.2.2.2.1 _ (Nat.le_refl _) (by omega) j
  have eN : (nI N).toNatClampNeg = N := nI_clamp (by omega)
  have e32 : Int32.ofInt ((N : Nat) : Int) = nI N := rfl
  rw [Int.toNat_natCast] at k hc2
  show W p l e R s m args below meth c H locs (hz h - z0) (hu h - u0) Q (F0 m pc ls (.int (Int32.ofInt ((N : Nat) : Int)) :: st.map (zrv b0 sa ad)))
  rw [e32]
  refine va_newa (atype := .long) (ty := .long) (a0 := (N, .inr (.inl (fun j => Int64.ofInt (hL h S.length j))))) hx hb harr rfl hK hR.2.2.1 hR.2.2.2.1 hs.2.2.2.2.1 (fun q hq => Nat.le_trans hs0.1 hq) (fun cA => ?_) (nI_pos (by omega)) eN (show N * 8 ≤ 536870912 by omega) (by omega) (by omega) hd (fun q cA H1 hK1 hP1 hD1 hS1 => ?_)
  · unfold vp_cell
    dsimp only
    congr 1
    funext j
    rw [hR.1, (hzero j).2.1]; rfl
  · have hcA : cA = dA 1 := by
      have a1 := (hK1.2 11 (cA, .long) rfl).2
      have a2 := (hK.2 1 (dA 1, .long) rfl).2
      exact Option.some.inj (a1.symm.trans a2)
    subst hcA
    have k2 := k _ _ H1 locs ls (Std_new (n := N) (kn := (102, N)) hs0 (hs.stk (fun hv => (zfa2 hv).2)) ⟨rfl, hN⟩ hm hP1 hD1 hS1)
    rw [hz_al, hu_al, List.map_cons, zmap_up (zfa2 hv).2] at k2
    have e1 : hz h - z0 + 1 = hz h + 1 - z0 := by omega
    have e2 : hu h - u0 + N = hu h + N - u0 := by omega
    rw [e1, e2]
    have e3 : zrv b0 sa (va_up ad S.length q) (.inr (.inr (some (102, N, hz h)))) = .ref q := by
      show va_rf (zad b0 sa (va_up ad S.length q) (some (102, N, hz h))) = .ref q
      rw [zad_own (Nat.le_of_ble_eq_true rfl), ← hR.1, va_up_self]; rfl
    rw [e3] at k2
    exact k2
set_option maxHeartbeats 200000 in
theorem gd_newa103 (hx : p.tables.exec = Jvm.exec) (hb : c.code = cc) (hK : va_K D zcl (ztys dA) s) (hs0 : H00.size ≤ s.heap.size ∧ ∀ q : Nat, q < H00.size → s.heap[q]? = H00[q]?) (harr : (Cond.arrayClass .byte).before args s = true)
    {n : Int} (hi : 0 ≤ n ∧ n ≤ 1000000) (hm : hz h + 1 ≤ 100000000) (hc1 : hz h + 1 - z0 ≤ R.cells) (hc2 : hu h + n.toNat - u0 ≤ R.slots)
    (hd : decode cc pc = .ok (.newarray .byte, 2)) (k : Gd p l e R s m args below meth c Q D dA H00 b0 L0 xs sa S0 ad0 z0 u0 nL (pc + 2) lsA (.inr (.inr (some (103, n.toNat, hz h))) :: st) (al h n.toNat)) : Gd p l e R s m args below meth c Q D dA H00 b0 L0 xs sa S0 ad0 z0 u0 nL pc lsA (.inl n :: st) h := by
  intro S ad H locs ls hs
  have hv := hs.2.2.2.1
  have hR := hs.1
  have hz0 : z0 ≤ hz h := hs.2.2.2.2.2.2.2.1
  have hu0 : u0 ≤ hu h := hs.2.2.2.2.2.2.2.2
  obtain ⟨N, rfl⟩ := Int.eq_ofNat_of_zero_le hi.1
  have hN : N ≤ 1000000 := by omega
  have hzero : ∀ j, hI h (hz h) j = 0 ∧ hL h (hz h) j = 0 ∧ hP h (hz h) j = none := fun j => hR.2.2.2.2.2.2.2.1 _ (Nat.le_refl _) (by omega) j
  have eN : (nI N).toNatClampNeg = N := nI_clamp (by omega)
  have e32 : Int32.ofInt ((N : Nat) : Int) = nI N := rfl
  rw [Int.toNat_natCast] at k hc2
  show W p l e R s m args below meth c H locs (hz h - z0) (hu h - u0) Q (F0 m pc ls (.int (Int32.ofInt ((N : Nat) : Int)) :: st.map (zrv b0 sa ad)))
  rw [e32]
  refine va_newa (atype := .byte) (ty := .byte) (a0 := (N, .inl (fun j => Int32.ofInt (hI h S.length j)))) hx hb harr rfl hK hR.2.2.1 hR.2.2.2.1 hs.2.2.2.2.1 (fun q hq => Nat.le_trans hs0.1 hq) (fun cA => ?_) (nI_pos (by omega)) eN (show N * 1 ≤ 536870912 by omega) (by omega) (by omega) hd (fun q cA H1 hK1 hP1 hD1 hS1 => ?_)
  · unfold vp_cell
    dsimp only
    congr 1
    funext j
    rw [hR.1, (hzero j).1]; rfl
  · have hcA : cA = dA 2 := by
      have a1 := (hK1.2 11 (cA, .byte) rfl).2
      have a2 := (hK.2 2 (dA 2, .byte) rfl).2
      exact Option.some.inj (a1.symm.trans a2)
    subst hcA
    have k2 := k _ _ H1 locs ls (Std_new (n := N) (kn := (103, N)) hs0 (hs.stk (fun hv => (zfa2 hv).2)) ⟨rfl, hN⟩ hm hP1 hD1 hS1)
    rw [hz_al, hu_al, List.map_cons, zmap_up (zfa2 hv).2] at k2
    have e1 : hz h - z0 + 1 = hz h + 1 - z0 := by omega
    have e2 : hu h - u0 + N = hu h + N - u0 := by omega
    rw [e1, e2]
    have e3 : zrv b0 sa (va_up ad S.length q) (.inr (.inr (some (103, N, hz h)))) = .ref q := by
      show va_rf (zad b0 sa (va_up ad S.length q) (some (103, N, hz h))) = .ref q
      rw [zad_own (Nat.le_of_ble_eq_true rfl), ← hR.1, va_up_self]; rfl
    rw [e3] at k2
    exact k2
set_option maxHeartbeats 200000 in
theorem gd_newa104 (hx : p.tables.exec = Jvm.exec) (hb : c.code = cc) (hK : va_K D zcl (ztys dA) s) (hs0 : H00.size ≤ s.heap.size ∧ ∀ q : Nat, q < H00.size → s.heap[q]? = H00[q]?) (harr : (Cond.arrayClass .boolean).before args s = true)
    {n : Int} (hi : 0 ≤ n ∧ n ≤ 1000000) (hm : hz h + 1 ≤ 100000000) (hc1 : hz h + 1 - z0 ≤ R.cells) (hc2 : hu h + n.toNat - u0 ≤ R.slots)
    (hd : decode cc pc = .ok (.newarray .boolean, 2)) (k : Gd p l e R s m args below meth c Q D dA H00 b0 L0 xs sa S0 ad0 z0 u0 nL (pc + 2) lsA (.inr (.inr (some (104, n.toNat, hz h))) :: st) (al h n.toNat)) : Gd p l e R s m args below meth c Q D dA H00 b0 L0 xs sa S0 ad0 z0 u0 nL pc lsA (.inl n :: st) h := by
  intro S ad H locs ls hs
  have hv := hs.2.2.2.1
  have hR := hs.1
  have hz0 : z0 ≤ hz h := hs.2.2.2.2.2.2.2.1
  have hu0 : u0 ≤ hu h := hs.2.2.2.2.2.2.2.2
  obtain ⟨N, rfl⟩ := Int.eq_ofNat_of_zero_le hi.1
  have hN : N ≤ 1000000 := by omega
  have hzero : ∀ j, hI h (hz h) j = 0 ∧ hL h (hz h) j = 0 ∧ hP h (hz h) j = none := fun j => hR.2.2.2.2.2.2.2.1 _ (Nat.le_refl _) (by omega) j
  have eN : (nI N).toNatClampNeg = N := nI_clamp (by omega)
  have e32 : Int32.ofInt ((N : Nat) : Int) = nI N := rfl
  rw [Int.toNat_natCast] at k hc2
  show W p l e R s m args below meth c H locs (hz h - z0) (hu h - u0) Q (F0 m pc ls (.int (Int32.ofInt ((N : Nat) : Int)) :: st.map (zrv b0 sa ad)))
  rw [e32]
  refine va_newa (atype := .boolean) (ty := .boolean) (a0 := (N, .inl (fun j => Int32.ofInt (hI h S.length j)))) hx hb harr rfl hK hR.2.2.1 hR.2.2.2.1 hs.2.2.2.2.1 (fun q hq => Nat.le_trans hs0.1 hq) (fun cA => ?_) (nI_pos (by omega)) eN (show N * 1 ≤ 536870912 by omega) (by omega) (by omega) hd (fun q cA H1 hK1 hP1 hD1 hS1 => ?_)
  · unfold vp_cell
    dsimp only
    congr 1
    funext j
    rw [hR.1, (hzero j).1]; rfl
  · have hcA : cA = dA 3 := by
      have a1 := (hK1.2 11 (cA, .boolean) rfl).2
      have a2 := (hK.2 3 (dA 3, .boolean) rfl).2
      exact Option.some.inj (a1.symm.trans a2)
    subst hcA
    have k2 := k _ _ H1 locs ls (Std_new (n := N) (kn := (104, N)) hs0 (hs.stk (fun hv => (zfa2 hv).2)) ⟨rfl, hN⟩ hm hP1 hD1 hS1)
    rw [hz_al, hu_al, List.map_cons, zmap_up (zfa2 hv).2] at k2
    have e1 : hz h - z0 + 1 = hz h + 1 - z0 := by omega
    have e2 : hu h - u0 + N = hu h + N - u0 := by omega
    rw [e1, e2]
    have e3 : zrv b0 sa (va_up ad S.length q) (.inr (.inr (some (104, N, hz h)))) = .ref q := by
      show va_rf (zad b0 sa (va_up ad S.length q) (some (104, N, hz h))) = .ref q
      rw [zad_own (Nat.le_of_ble_eq_true rfl), ← hR.1, va_up_self]; rfl
    rw [e3] at k2
    exact k2
theorem gd_newq110 (hx : p.tables.exec = Jvm.exec) (hb : c.code = cc) {own : String} (hown : s.vm.findClass own = some m.cls) (hK : va_K D zcl (ztys dA) s) (hs0 : H00.size ≤ s.heap.size ∧ ∀ q : Nat, q < H00.size → s.heap[q]? = H00[q]?) {idx : Nat} (hcl : (Cond.classLink own idx "AlgolMill$Thing").before args s = true) (hao : va_AO "AlgolMill$Thing" s)
    {n : Int} (hi : 0 ≤ n ∧ n ≤ 1000000) (hm : hz h + 1 ≤ 100000000) (hc1 : hz h + 1 - z0 ≤ R.cells) (hc2 : hu h + n.toNat - u0 ≤ R.slots)
    (hd : decode cc pc = .ok (.anewarray idx, 3)) (k : Gd p l e R s m args below meth c Q D dA H00 b0 L0 xs sa S0 ad0 z0 u0 nL (pc + 3) lsA (.inr (.inr (some (110, n.toNat, hz h))) :: st) (al h n.toNat)) : Gd p l e R s m args below meth c Q D dA H00 b0 L0 xs sa S0 ad0 z0 u0 nL pc lsA (.inl n :: st) h := by
  intro S ad H locs ls hs
  have hv := hs.2.2.2.1
  have hR := hs.1
  have hz0 : z0 ≤ hz h := hs.2.2.2.2.2.2.2.1
  have hu0 : u0 ≤ hu h := hs.2.2.2.2.2.2.2.2
  obtain ⟨N, rfl⟩ := Int.eq_ofNat_of_zero_le hi.1
  have hN : N ≤ 1000000 := by omega
  have hzero : ∀ j, hI h (hz h) j = 0 ∧ hL h (hz h) j = 0 ∧ hP h (hz h) j = none := fun j => hR.2.2.2.2.2.2.2.1 _ (Nat.le_refl _) (by omega) j
  have eN : (nI N).toNatClampNeg = N := nI_clamp (by omega)
  have e32 : Int32.ofInt ((N : Nat) : Int) = nI N := rfl
  rw [Int.toNat_natCast] at k hc2
  show W p l e R s m args below meth c H locs (hz h - z0) (hu h - u0) Q (F0 m pc ls (.int (Int32.ofInt ((N : Nat) : Int)) :: st.map (zrv b0 sa ad)))
  rw [e32]
  refine va_newq hx hb hown hcl hao hK hR.2.2.1 hR.2.2.2.1 hs.2.2.2.2.1 (fun q hq => Nat.le_trans hs0.1 hq) (nI_pos (by omega)) eN (by omega) (by omega) (by omega) hd (fun q cA H1 hK1 hP1 hD1 hS1 => ?_)
  · have hcA : cA = dA 4 := by
      obtain ⟨_, _, -, -, -, a1⟩ := (hK1.2 11 (cA, .object "AlgolMill$Thing") rfl).2
      obtain ⟨_, _, -, -, -, a2⟩ := (hK.2 4 (dA 4, .object "AlgolMill$Thing") rfl).2
      exact Option.some.inj (a1.symm.trans a2)
    subst hcA
    have hf0 : (fun _ : Nat => (none : Option Nat)) = (fun j => zad b0 sa ad (hP h S.length j)) := by
      funext j
      rw [hR.1, (hzero j).2.2]; rfl
    rw [hf0] at hP1 hD1
    have k2 := k _ _ H1 locs ls (Std_new (n := N) (kn := (110, N)) hs0 (hs.stk (fun hv => (zfa2 hv).2)) ⟨rfl, hN⟩ hm hP1 hD1 hS1)
    rw [hz_al, hu_al, List.map_cons, zmap_up (zfa2 hv).2] at k2
    have e1 : hz h - z0 + 1 = hz h + 1 - z0 := by omega
    have e2 : hu h - u0 + N = hu h + N - u0 := by omega
    rw [e1, e2]
    have e3 : zrv b0 sa (va_up ad S.length q) (.inr (.inr (some (110, N, hz h)))) = .ref q := by
      show va_rf (zad b0 sa (va_up ad S.length q) (some (110, N, hz h))) = .ref q
      rw [zad_own (Nat.le_of_ble_eq_true rfl), ← hR.1, va_up_self]; rfl
    rw [e3] at k2
    exact k2
theorem gd_newq111 (hx : p.tables.exec = Jvm.exec) (hb : c.code = cc) {own : String} (hown : s.vm.findClass own = some m.cls) (hK : va_K D zcl (ztys dA) s) (hs0 : H00.size ≤ s.heap.size ∧ ∀ q : Nat, q < H00.size → s.heap[q]? = H00[q]?) {idx : Nat} (hcl : (Cond.classLink own idx "AlgolMill$Expr").before args s = true) (hao : va_AO "AlgolMill$Expr" s)
    {n : Int} (hi : 0 ≤ n ∧ n ≤ 1000000) (hm : hz h + 1 ≤ 100000000) (hc1 : hz h + 1 - z0 ≤ R.cells) (hc2 : hu h + n.toNat - u0 ≤ R.slots)
    (hd : decode cc pc = .ok (.anewarray idx, 3)) (k : Gd p l e R s m args below meth c Q D dA H00 b0 L0 xs sa S0 ad0 z0 u0 nL (pc + 3) lsA (.inr (.inr (some (111, n.toNat, hz h))) :: st) (al h n.toNat)) : Gd p l e R s m args below meth c Q D dA H00 b0 L0 xs sa S0 ad0 z0 u0 nL pc lsA (.inl n :: st) h := by
  intro S ad H locs ls hs
  have hv := hs.2.2.2.1
  have hR := hs.1
  have hz0 : z0 ≤ hz h := hs.2.2.2.2.2.2.2.1
  have hu0 : u0 ≤ hu h := hs.2.2.2.2.2.2.2.2
  obtain ⟨N, rfl⟩ := Int.eq_ofNat_of_zero_le hi.1
  have hN : N ≤ 1000000 := by omega
  have hzero : ∀ j, hI h (hz h) j = 0 ∧ hL h (hz h) j = 0 ∧ hP h (hz h) j = none := fun j => hR.2.2.2.2.2.2.2.1 _ (Nat.le_refl _) (by omega) j
  have eN : (nI N).toNatClampNeg = N := nI_clamp (by omega)
  have e32 : Int32.ofInt ((N : Nat) : Int) = nI N := rfl
  rw [Int.toNat_natCast] at k hc2
  show W p l e R s m args below meth c H locs (hz h - z0) (hu h - u0) Q (F0 m pc ls (.int (Int32.ofInt ((N : Nat) : Int)) :: st.map (zrv b0 sa ad)))
  rw [e32]
  refine va_newq hx hb hown hcl hao hK hR.2.2.1 hR.2.2.2.1 hs.2.2.2.2.1 (fun q hq => Nat.le_trans hs0.1 hq) (nI_pos (by omega)) eN (by omega) (by omega) (by omega) hd (fun q cA H1 hK1 hP1 hD1 hS1 => ?_)
  · have hcA : cA = dA 5 := by
      obtain ⟨_, _, -, -, -, a1⟩ := (hK1.2 11 (cA, .object "AlgolMill$Expr") rfl).2
      obtain ⟨_, _, -, -, -, a2⟩ := (hK.2 5 (dA 5, .object "AlgolMill$Expr") rfl).2
      exact Option.some.inj (a1.symm.trans a2)
    subst hcA
    have hf0 : (fun _ : Nat => (none : Option Nat)) = (fun j => zad b0 sa ad (hP h S.length j)) := by
      funext j
      rw [hR.1, (hzero j).2.2]; rfl
    rw [hf0] at hP1 hD1
    have k2 := k _ _ H1 locs ls (Std_new (n := N) (kn := (111, N)) hs0 (hs.stk (fun hv => (zfa2 hv).2)) ⟨rfl, hN⟩ hm hP1 hD1 hS1)
    rw [hz_al, hu_al, List.map_cons, zmap_up (zfa2 hv).2] at k2
    have e1 : hz h - z0 + 1 = hz h + 1 - z0 := by omega
    have e2 : hu h - u0 + N = hu h + N - u0 := by omega
    rw [e1, e2]
    have e3 : zrv b0 sa (va_up ad S.length q) (.inr (.inr (some (111, N, hz h)))) = .ref q := by
      show va_rf (zad b0 sa (va_up ad S.length q) (some (111, N, hz h))) = .ref q
      rw [zad_own (Nat.le_of_ble_eq_true rfl), ← hR.1, va_up_self]; rfl
    rw [e3] at k2
    exact k2
theorem gd_newq112 (hx : p.tables.exec = Jvm.exec) (hb : c.code = cc) {own : String} (hown : s.vm.findClass own = some m.cls) (hK : va_K D zcl (ztys dA) s) (hs0 : H00.size ≤ s.heap.size ∧ ∀ q : Nat, q < H00.size → s.heap[q]? = H00[q]?) {idx : Nat} (hcl : (Cond.classLink own idx "AlgolMill$Statement").before args s = true) (hao : va_AO "AlgolMill$Statement" s)
    {n : Int} (hi : 0 ≤ n ∧ n ≤ 1000000) (hm : hz h + 1 ≤ 100000000) (hc1 : hz h + 1 - z0 ≤ R.cells) (hc2 : hu h + n.toNat - u0 ≤ R.slots)
    (hd : decode cc pc = .ok (.anewarray idx, 3)) (k : Gd p l e R s m args below meth c Q D dA H00 b0 L0 xs sa S0 ad0 z0 u0 nL (pc + 3) lsA (.inr (.inr (some (112, n.toNat, hz h))) :: st) (al h n.toNat)) : Gd p l e R s m args below meth c Q D dA H00 b0 L0 xs sa S0 ad0 z0 u0 nL pc lsA (.inl n :: st) h := by
  intro S ad H locs ls hs
  have hv := hs.2.2.2.1
  have hR := hs.1
  have hz0 : z0 ≤ hz h := hs.2.2.2.2.2.2.2.1
  have hu0 : u0 ≤ hu h := hs.2.2.2.2.2.2.2.2
  obtain ⟨N, rfl⟩ := Int.eq_ofNat_of_zero_le hi.1
  have hN : N ≤ 1000000 := by omega
  have hzero : ∀ j, hI h (hz h) j = 0 ∧ hL h (hz h) j = 0 ∧ hP h (hz h) j = none := fun j => hR.2.2.2.2.2.2.2.1 _ (Nat.le_refl _) (by omega) j
  have eN : (nI N).toNatClampNeg = N := nI_clamp (by omega)
  have e32 : Int32.ofInt ((N : Nat) : Int) = nI N := rfl
  rw [Int.toNat_natCast] at k hc2
  show W p l e R s m args below meth c H locs (hz h - z0) (hu h - u0) Q (F0 m pc ls (.int (Int32.ofInt ((N : Nat) : Int)) :: st.map (zrv b0 sa ad)))
  rw [e32]
  refine va_newq hx hb hown hcl hao hK hR.2.2.1 hR.2.2.2.1 hs.2.2.2.2.1 (fun q hq => Nat.le_trans hs0.1 hq) (nI_pos (by omega)) eN (by omega) (by omega) (by omega) hd (fun q cA H1 hK1 hP1 hD1 hS1 => ?_)
  · have hcA : cA = dA 6 := by
      obtain ⟨_, _, -, -, -, a1⟩ := (hK1.2 11 (cA, .object "AlgolMill$Statement") rfl).2
      obtain ⟨_, _, -, -, -, a2⟩ := (hK.2 6 (dA 6, .object "AlgolMill$Statement") rfl).2
      exact Option.some.inj (a1.symm.trans a2)
    subst hcA
    have hf0 : (fun _ : Nat => (none : Option Nat)) = (fun j => zad b0 sa ad (hP h S.length j)) := by
      funext j
      rw [hR.1, (hzero j).2.2]; rfl
    rw [hf0] at hP1 hD1
    have k2 := k _ _ H1 locs ls (Std_new (n := N) (kn := (112, N)) hs0 (hs.stk (fun hv => (zfa2 hv).2)) ⟨rfl, hN⟩ hm hP1 hD1 hS1)
    rw [hz_al, hu_al, List.map_cons, zmap_up (zfa2 hv).2] at k2
    have e1 : hz h - z0 + 1 = hz h + 1 - z0 := by omega
    have e2 : hu h - u0 + N = hu h + N - u0 := by omega
    rw [e1, e2]
    have e3 : zrv b0 sa (va_up ad S.length q) (.inr (.inr (some (112, N, hz h)))) = .ref q := by
      show va_rf (zad b0 sa (va_up ad S.length q) (some (112, N, hz h))) = .ref q
      rw [zad_own (Nat.le_of_ble_eq_true rfl), ← hR.1, va_up_self]; rfl
    rw [e3] at k2
    exact k2
theorem gd_newq113 (hx : p.tables.exec = Jvm.exec) (hb : c.code = cc) {own : String} (hown : s.vm.findClass own = some m.cls) (hK : va_K D zcl (ztys dA) s) (hs0 : H00.size ≤ s.heap.size ∧ ∀ q : Nat, q < H00.size → s.heap[q]? = H00[q]?) {idx : Nat} (hcl : (Cond.classLink own idx "AlgolMill$Rows").before args s = true) (hao : va_AO "AlgolMill$Rows" s)
    {n : Int} (hi : 0 ≤ n ∧ n ≤ 1000000) (hm : hz h + 1 ≤ 100000000) (hc1 : hz h + 1 - z0 ≤ R.cells) (hc2 : hu h + n.toNat - u0 ≤ R.slots)
    (hd : decode cc pc = .ok (.anewarray idx, 3)) (k : Gd p l e R s m args below meth c Q D dA H00 b0 L0 xs sa S0 ad0 z0 u0 nL (pc + 3) lsA (.inr (.inr (some (113, n.toNat, hz h))) :: st) (al h n.toNat)) : Gd p l e R s m args below meth c Q D dA H00 b0 L0 xs sa S0 ad0 z0 u0 nL pc lsA (.inl n :: st) h := by
  intro S ad H locs ls hs
  have hv := hs.2.2.2.1
  have hR := hs.1
  have hz0 : z0 ≤ hz h := hs.2.2.2.2.2.2.2.1
  have hu0 : u0 ≤ hu h := hs.2.2.2.2.2.2.2.2
  obtain ⟨N, rfl⟩ := Int.eq_ofNat_of_zero_le hi.1
  have hN : N ≤ 1000000 := by omega
  have hzero : ∀ j, hI h (hz h) j = 0 ∧ hL h (hz h) j = 0 ∧ hP h (hz h) j = none := fun j => hR.2.2.2.2.2.2.2.1 _ (Nat.le_refl _) (by omega) j
  have eN : (nI N).toNatClampNeg = N := nI_clamp (by omega)
  have e32 : Int32.ofInt ((N : Nat) : Int) = nI N := rfl
  rw [Int.toNat_natCast] at k hc2
  show W p l e R s m args below meth c H locs (hz h - z0) (hu h - u0) Q (F0 m pc ls (.int (Int32.ofInt ((N : Nat) : Int)) :: st.map (zrv b0 sa ad)))
  rw [e32]
  refine va_newq hx hb hown hcl hao hK hR.2.2.1 hR.2.2.2.1 hs.2.2.2.2.1 (fun q hq => Nat.le_trans hs0.1 hq) (nI_pos (by omega)) eN (by omega) (by omega) (by omega) hd (fun q cA H1 hK1 hP1 hD1 hS1 => ?_)
  · have hcA : cA = dA 7 := by
      obtain ⟨_, _, -, -, -, a1⟩ := (hK1.2 11 (cA, .object "AlgolMill$Rows") rfl).2
      obtain ⟨_, _, -, -, -, a2⟩ := (hK.2 7 (dA 7, .object "AlgolMill$Rows") rfl).2
      exact Option.some.inj (a1.symm.trans a2)
    subst hcA
    have hf0 : (fun _ : Nat => (none : Option Nat)) = (fun j => zad b0 sa ad (hP h S.length j)) := by
      funext j
      rw [hR.1, (hzero j).2.2]; rfl
    rw [hf0] at hP1 hD1
    have k2 := k _ _ H1 locs ls (Std_new (n := N) (kn := (113, N)) hs0 (hs.stk (fun hv => (zfa2 hv).2)) ⟨rfl, hN⟩ hm hP1 hD1 hS1)
    rw [hz_al, hu_al, List.map_cons, zmap_up (zfa2 hv).2] at k2
    have e1 : hz h - z0 + 1 = hz h + 1 - z0 := by omega
    have e2 : hu h - u0 + N = hu h + N - u0 := by omega
    rw [e1, e2]
    have e3 : zrv b0 sa (va_up ad S.length q) (.inr (.inr (some (113, N, hz h)))) = .ref q := by
      show va_rf (zad b0 sa (va_up ad S.length q) (some (113, N, hz h))) = .ref q
      rw [zad_own (Nat.le_of_ble_eq_true rfl), ← hR.1, va_up_self]; rfl
    rw [e3] at k2
    exact k2
theorem gd_newq114 (hx : p.tables.exec = Jvm.exec) (hb : c.code = cc) {own : String} (hown : s.vm.findClass own = some m.cls) (hK : va_K D zcl (ztys dA) s) (hs0 : H00.size ≤ s.heap.size ∧ ∀ q : Nat, q < H00.size → s.heap[q]? = H00[q]?) {idx : Nat} (hcl : (Cond.classLink own idx "AlgolMill$Element").before args s = true) (hao : va_AO "AlgolMill$Element" s)
    {n : Int} (hi : 0 ≤ n ∧ n ≤ 1000000) (hm : hz h + 1 ≤ 100000000) (hc1 : hz h + 1 - z0 ≤ R.cells) (hc2 : hu h + n.toNat - u0 ≤ R.slots)
    (hd : decode cc pc = .ok (.anewarray idx, 3)) (k : Gd p l e R s m args below meth c Q D dA H00 b0 L0 xs sa S0 ad0 z0 u0 nL (pc + 3) lsA (.inr (.inr (some (114, n.toNat, hz h))) :: st) (al h n.toNat)) : Gd p l e R s m args below meth c Q D dA H00 b0 L0 xs sa S0 ad0 z0 u0 nL pc lsA (.inl n :: st) h := by
  intro S ad H locs ls hs
  have hv := hs.2.2.2.1
  have hR := hs.1
  have hz0 : z0 ≤ hz h := hs.2.2.2.2.2.2.2.1
  have hu0 : u0 ≤ hu h := hs.2.2.2.2.2.2.2.2
  obtain ⟨N, rfl⟩ := Int.eq_ofNat_of_zero_le hi.1
  have hN : N ≤ 1000000 := by omega
  have hzero : ∀ j, hI h (hz h) j = 0 ∧ hL h (hz h) j = 0 ∧ hP h (hz h) j = none := fun j => hR.2.2.2.2.2.2.2.1 _ (Nat.le_refl _) (by omega) j
  have eN : (nI N).toNatClampNeg = N := nI_clamp (by omega)
  have e32 : Int32.ofInt ((N : Nat) : Int) = nI N := rfl
  rw [Int.toNat_natCast] at k hc2
  show W p l e R s m args below meth c H locs (hz h - z0) (hu h - u0) Q (F0 m pc ls (.int (Int32.ofInt ((N : Nat) : Int)) :: st.map (zrv b0 sa ad)))
  rw [e32]
  refine va_newq hx hb hown hcl hao hK hR.2.2.1 hR.2.2.2.1 hs.2.2.2.2.1 (fun q hq => Nat.le_trans hs0.1 hq) (nI_pos (by omega)) eN (by omega) (by omega) (by omega) hd (fun q cA H1 hK1 hP1 hD1 hS1 => ?_)
  · have hcA : cA = dA 8 := by
      obtain ⟨_, _, -, -, -, a1⟩ := (hK1.2 11 (cA, .object "AlgolMill$Element") rfl).2
      obtain ⟨_, _, -, -, -, a2⟩ := (hK.2 8 (dA 8, .object "AlgolMill$Element") rfl).2
      exact Option.some.inj (a1.symm.trans a2)
    subst hcA
    have hf0 : (fun _ : Nat => (none : Option Nat)) = (fun j => zad b0 sa ad (hP h S.length j)) := by
      funext j
      rw [hR.1, (hzero j).2.2]; rfl
    rw [hf0] at hP1 hD1
    have k2 := k _ _ H1 locs ls (Std_new (n := N) (kn := (114, N)) hs0 (hs.stk (fun hv => (zfa2 hv).2)) ⟨rfl, hN⟩ hm hP1 hD1 hS1)
    rw [hz_al, hu_al, List.map_cons, zmap_up (zfa2 hv).2] at k2
    have e1 : hz h - z0 + 1 = hz h + 1 - z0 := by omega
    have e2 : hu h - u0 + N = hu h + N - u0 := by omega
    rw [e1, e2]
    have e3 : zrv b0 sa (va_up ad S.length q) (.inr (.inr (some (114, N, hz h)))) = .ref q := by
      show va_rf (zad b0 sa (va_up ad S.length q) (some (114, N, hz h))) = .ref q
      rw [zad_own (Nat.le_of_ble_eq_true rfl), ← hR.1, va_up_self]; rfl
    rw [e3] at k2
    exact k2
theorem gd_newq115 (hx : p.tables.exec = Jvm.exec) (hb : c.code = cc) {own : String} (hown : s.vm.findClass own = some m.cls) (hK : va_K D zcl (ztys dA) s) (hs0 : H00.size ≤ s.heap.size ∧ ∀ q : Nat, q < H00.size → s.heap[q]? = H00[q]?) {idx : Nat} (hcl : (Cond.classLink own idx "AlgolMill$Thunk").before args s = true) (hao : va_AO "AlgolMill$Thunk" s)
    {n : Int} (hi : 0 ≤ n ∧ n ≤ 1000000) (hm : hz h + 1 ≤ 100000000) (hc1 : hz h + 1 - z0 ≤ R.cells) (hc2 : hu h + n.toNat - u0 ≤ R.slots)
    (hd : decode cc pc = .ok (.anewarray idx, 3)) (k : Gd p l e R s m args below meth c Q D dA H00 b0 L0 xs sa S0 ad0 z0 u0 nL (pc + 3) lsA (.inr (.inr (some (115, n.toNat, hz h))) :: st) (al h n.toNat)) : Gd p l e R s m args below meth c Q D dA H00 b0 L0 xs sa S0 ad0 z0 u0 nL pc lsA (.inl n :: st) h := by
  intro S ad H locs ls hs
  have hv := hs.2.2.2.1
  have hR := hs.1
  have hz0 : z0 ≤ hz h := hs.2.2.2.2.2.2.2.1
  have hu0 : u0 ≤ hu h := hs.2.2.2.2.2.2.2.2
  obtain ⟨N, rfl⟩ := Int.eq_ofNat_of_zero_le hi.1
  have hN : N ≤ 1000000 := by omega
  have hzero : ∀ j, hI h (hz h) j = 0 ∧ hL h (hz h) j = 0 ∧ hP h (hz h) j = none := fun j => hR.2.2.2.2.2.2.2.1 _ (Nat.le_refl _) (by omega) j
  have eN : (nI N).toNatClampNeg = N := nI_clamp (by omega)
  have e32 : Int32.ofInt ((N : Nat) : Int) = nI N := rfl
  rw [Int.toNat_natCast] at k hc2
  show W p l e R s m args below meth c H locs (hz h - z0) (hu h - u0) Q (F0 m pc ls (.int (Int32.ofInt ((N : Nat) : Int)) :: st.map (zrv b0 sa ad)))
  rw [e32]
  refine va_newq hx hb hown hcl hao hK hR.2.2.1 hR.2.2.2.1 hs.2.2.2.2.1 (fun q hq => Nat.le_trans hs0.1 hq) (nI_pos (by omega)) eN (by omega) (by omega) (by omega) hd (fun q cA H1 hK1 hP1 hD1 hS1 => ?_)
  · have hcA : cA = dA 9 := by
      obtain ⟨_, _, -, -, -, a1⟩ := (hK1.2 11 (cA, .object "AlgolMill$Thunk") rfl).2
      obtain ⟨_, _, -, -, -, a2⟩ := (hK.2 9 (dA 9, .object "AlgolMill$Thunk") rfl).2
      exact Option.some.inj (a1.symm.trans a2)
    subst hcA
    have hf0 : (fun _ : Nat => (none : Option Nat)) = (fun j => zad b0 sa ad (hP h S.length j)) := by
      funext j
      rw [hR.1, (hzero j).2.2]; rfl
    rw [hf0] at hP1 hD1
    have k2 := k _ _ H1 locs ls (Std_new (n := N) (kn := (115, N)) hs0 (hs.stk (fun hv => (zfa2 hv).2)) ⟨rfl, hN⟩ hm hP1 hD1 hS1)
    rw [hz_al, hu_al, List.map_cons, zmap_up (zfa2 hv).2] at k2
    have e1 : hz h - z0 + 1 = hz h + 1 - z0 := by omega
    have e2 : hu h - u0 + N = hu h + N - u0 := by omega
    rw [e1, e2]
    have e3 : zrv b0 sa (va_up ad S.length q) (.inr (.inr (some (115, N, hz h)))) = .ref q := by
      show va_rf (zad b0 sa (va_up ad S.length q) (some (115, N, hz h))) = .ref q
      rw [zad_own (Nat.le_of_ble_eq_true rfl), ← hR.1, va_up_self]; rfl
    rw [e3] at k2
    exact k2
theorem gd_newq116 (hx : p.tables.exec = Jvm.exec) (hb : c.code = cc) {own : String} (hown : s.vm.findClass own = some m.cls) (hK : va_K D zcl (ztys dA) s) (hs0 : H00.size ≤ s.heap.size ∧ ∀ q : Nat, q < H00.size → s.heap[q]? = H00[q]?) {idx : Nat} (hcl : (Cond.classLink own idx "java/lang/String").before args s = true) (hao : va_AO "java/lang/String" s)
    {n : Int} (hi : 0 ≤ n ∧ n ≤ 1000000) (hm : hz h + 1 ≤ 100000000) (hc1 : hz h + 1 - z0 ≤ R.cells) (hc2 : hu h + n.toNat - u0 ≤ R.slots)
    (hd : decode cc pc = .ok (.anewarray idx, 3)) (k : Gd p l e R s m args below meth c Q D dA H00 b0 L0 xs sa S0 ad0 z0 u0 nL (pc + 3) lsA (.inr (.inr (some (116, n.toNat, hz h))) :: st) (al h n.toNat)) : Gd p l e R s m args below meth c Q D dA H00 b0 L0 xs sa S0 ad0 z0 u0 nL pc lsA (.inl n :: st) h := by
  intro S ad H locs ls hs
  have hv := hs.2.2.2.1
  have hR := hs.1
  have hz0 : z0 ≤ hz h := hs.2.2.2.2.2.2.2.1
  have hu0 : u0 ≤ hu h := hs.2.2.2.2.2.2.2.2
  obtain ⟨N, rfl⟩ := Int.eq_ofNat_of_zero_le hi.1
  have hN : N ≤ 1000000 := by omega
  have hzero : ∀ j, hI h (hz h) j = 0 ∧ hL h (hz h) j = 0 ∧ hP h (hz h) j = none := fun j => hR.2.2.2.2.2.2.2.1 _ (Nat.le_refl _) (by omega) j
  have eN : (nI N).toNatClampNeg = N := nI_clamp (by omega)
  have e32 : Int32.ofInt ((N : Nat) : Int) = nI N := rfl
  rw [Int.toNat_natCast] at k hc2
  show W p l e R s m args below meth c H locs (hz h - z0) (hu h - u0) Q (F0 m pc ls (.int (Int32.ofInt ((N : Nat) : Int)) :: st.map (zrv b0 sa ad)))
  rw [e32]
  refine va_newq hx hb hown hcl hao hK hR.2.2.1 hR.2.2.2.1 hs.2.2.2.2.1 (fun q hq => Nat.le_trans hs0.1 hq) (nI_pos (by omega)) eN (by omega) (by omega) (by omega) hd (fun q cA H1 hK1 hP1 hD1 hS1 => ?_)
  · have hcA : cA = dA 10 := by
      obtain ⟨_, _, -, -, -, a1⟩ := (hK1.2 11 (cA, .object "java/lang/String") rfl).2
      obtain ⟨_, _, -, -, -, a2⟩ := (hK.2 10 (dA 10, .object "java/lang/String") rfl).2
      exact Option.some.inj (a1.symm.trans a2)
    subst hcA
    have hf0 : (fun _ : Nat => (none : Option Nat)) = (fun j => zad b0 sa ad (hP h S.length j)) := by
      funext j
      rw [hR.1, (hzero j).2.2]; rfl
    rw [hf0] at hP1 hD1
    have k2 := k _ _ H1 locs ls (Std_new (n := N) (kn := (116, N)) hs0 (hs.stk (fun hv => (zfa2 hv).2)) ⟨rfl, hN⟩ hm hP1 hD1 hS1)
    rw [hz_al, hu_al, List.map_cons, zmap_up (zfa2 hv).2] at k2
    have e1 : hz h - z0 + 1 = hz h + 1 - z0 := by omega
    have e2 : hu h - u0 + N = hu h + N - u0 := by omega
    rw [e1, e2]
    have e3 : zrv b0 sa (va_up ad S.length q) (.inr (.inr (some (116, N, hz h)))) = .ref q := by
      show va_rf (zad b0 sa (va_up ad S.length q) (some (116, N, hz h))) = .ref q
      rw [zad_own (Nat.le_of_ble_eq_true rfl), ← hR.1, va_up_self]; rfl
    rw [e3] at k2
    exact k2
end New
