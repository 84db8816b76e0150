def zgt : FieldType → Bool
  | .int => true
  | .long => true
  | .boolean => true
  | .object _ => true
  | .array _ => true
  | _ => false
/-- what a class's layout says -/
def COk (kd : Nat) : Prop := (∀ w ∈ u_ws (zcn kd).1 (zcn kd).2.1 (zcn kd).2.2, w ∈ lw_all) ∧ (∀ k, k < (zcn kd).2.2 → parseFieldDescriptor ((zcn kd).2.1 k).2.2.1 = some (zty kd k)) ∧ (∀ a, a < (zcn kd).2.2 → ∀ b, b < (zcn kd).2.2 → a ≠ b → ((zcn kd).2.1 a).2.1 ≠ ((zcn kd).2.1 b).2.1) ∧ ∀ k, k < (zcn kd).2.2 → zgt (zty kd k) = true
/-- what a field's writing asks beside its link -/
def POk (own : String) (idx x : Nat) (isInit : Prop) : Prop := ∀ kd, kok (x / 1024) kd = true →
  (match x % 4 with
   | 0 => zty kd (x / 4 % 256) = .int
   | 1 => zty kd (x / 4 % 256) = .long
   | 2 => (∃ n, zty kd (x / 4 % 256) = .object n) ∨ ∃ t, zty kd (x / 4 % 256) = .array t
   | _ => zty kd (x / 4 % 256) = .boolean) ∧
  (((zcn kd).2.1 (x / 4 % 256)).2.2.2 = false ∨ (isInit ∧ ((zcn kd).2.1 (x / 4 % 256)).2.2.2 = true ∧ ((zcn kd).2.1 (x / 4 % 256)).1 = own ∧ Cond.fieldLink own idx ((zcn kd).2.1 (x / 4 % 256)).1 ((zcn kd).2.1 (x / 4 % 256)).2.1 ((zcn kd).2.1 (x / 4 % 256)).2.2.1 ∈ lw_all))
section Put
variable {p : Program} {l : Launch} {e : Env} {R : Room} {s : State} {m : MethodId} {args : Array Value} {below : List Frame} {meth : Method} {c : Code} {Q : State → Prop}
variable {D : va_G} {dA : Nat → ClassId} {H00 : Heap} {b0 L0 : Nat} {xs : Nat → Int32} {sa : Nat → Nat} {S0 : List (Nat × Nat)} {ad0 : Nat → Nat} {z0 u0 nL : Nat}
variable {cc : ByteArray} {pc : Nat} {lsA : SL} {st : List AV} {h : AH}
theorem zok_sI {S : List (Nat × Nat)} (hk : zok L0 xs h S) {a j : Nat} {v : Int} (ha : a < hz h) (hm : hz h ≤ 100000000) (hv : i32 v) : zok L0 xs (sI h a j v) S := by
  refine ⟨fun b k => ?_, fun b hb hb2 k => ?_, fun k hk2 => ?_, hk.2.2.2⟩
  · rw [hI_sI, hL_sI, hP_sI]
    refine ⟨?_, (hk.1 b k).2⟩
    split
    · exact hv
    · exact (hk.1 b k).1
  · rw [hz_sI] at hb
    rw [hI_sI, hL_sI, hP_sI, if_neg (by omega)]
    exact hk.2.1 b hb hb2 k
  · rw [hI_sI, if_neg (by omega)]
    exact hk.2.2.1 k hk2
theorem zok_sL {S : List (Nat × Nat)} (hk : zok L0 xs h S) {a j : Nat} {v : Int} (ha : a < hz h) (hv : i64 v) : zok L0 xs (sL h a j v) S := by
  refine ⟨fun b k => ?_, fun b hb hb2 k => ?_, fun k hk2 => ?_, hk.2.2.2⟩
  · rw [hI_sL, hL_sL, hP_sL]
    refine ⟨(hk.1 b k).1, ?_, (hk.1 b k).2.2⟩
    split
    · exact hv
    · exact (hk.1 b k).2.1
  · rw [hz_sL] at hb
    rw [hI_sL, hL_sL, hP_sL, if_neg (by omega)]
    exact hk.2.1 b hb hb2 k
  · rw [hI_sL]
    exact hk.2.2.1 k hk2
theorem zok_sP {S : List (Nat × Nat)} (hk : zok L0 xs h S) {a j : Nat} {v : Ptr} (ha : a < hz h) (hv : zwp L0 S v) : zok L0 xs (sP h a j v) S := by
  refine ⟨fun b k => ?_, fun b hb hb2 k => ?_, fun k hk2 => ?_, hk.2.2.2⟩
  · rw [hI_sP, hL_sP, hP_sP]
    refine ⟨(hk.1 b k).1, (hk.1 b k).2.1, ?_⟩
    split
    · exact hv
    · exact (hk.1 b k).2.2
  · rw [hz_sP] at hb
    rw [hI_sP, hL_sP, hP_sP, if_neg (by omega)]
    exact hk.2.1 b hb hb2 k
  · rw [hI_sP]
    exact hk.2.2.1 k hk2
/-- behind a store into a cell that was there -/
theorem Std_set {S : List (Nat × Nat)} {ad : Nat → Nat} {H H1 : Heap} {locs locs1 : List Loc} {ls : Array Slot} {st' : List AV} {h' : AH} (hs0 : H00.size ≤ s.heap.size ∧ ∀ q : Nat, q < H00.size → s.heap[q]? = H00[q]?)
    (hs : Std s D dA H00 b0 L0 xs sa S0 ad0 z0 u0 nL lsA st h S ad H locs ls) {a : Nat} {kn : Nat × Nat} (hSa : S[a]? = some kn) (hz' : hz h' = hz h) (hu' : hu h' = hu h)
    (hce : ∀ a' kn', a' ≠ a → zce dA b0 sa ad h' a' kn' = zce dA b0 sa ad h a' kn') (hok' : zok L0 xs h' S) (hv : ∀ v ∈ st', zwv L0 S v)
    (hP1 : va_P D zcl ((zwd dA b0 sa ad h S).set a (ad a, zce dA b0 sa ad h' a kn)) H1) (hD1 : va_D (fun q => H00.size ≤ q) ((zwd dA b0 sa ad h S).set a (ad a, zce dA b0 sa ad h' a kn))) (hS1 : va_S (fun q => H00.size ≤ q) s.heap H1 locs1) :
    Std s D dA H00 b0 L0 xs sa S0 ad0 z0 u0 nL lsA st' h' S ad H1 locs1 ls := by
  rw [zwd_set hSa hce] at hP1 hD1
  obtain ⟨r1, r2, r3, r4, r5, r6, r7⟩ := hs.1
  refine ⟨⟨by rw [hz']; exact r1, by rw [hz']; exact r2, hP1, hD1, Nat.le_trans hs0.1 hS1.1, fun q hq => ?_, hok'⟩, hs.2.1, hs.2.2.1, hv, hS1, hs.2.2.2.2.2.1, hs.2.2.2.2.2.2.1, by rw [hz']; exact hs.2.2.2.2.2.2.2.1, by rw [hu']; exact hs.2.2.2.2.2.2.2.2⟩
  rw [hS1.2.1 q (Nat.lt_of_lt_of_le hq hs0.1) (by omega)]
  exact hs0.2 q hq
theorem gd_putfield (hx : p.tables.exec = Jvm.exec) (hb : c.code = cc) {own : String} (hown : s.vm.findClass own = some m.cls) (htb : TBs args s) (hK : va_K D zcl (ztys dA) s) (hs0 : H00.size ≤ s.heap.size ∧ ∀ q : Nat, q < H00.size → s.heap[q]? = H00[q]?)
    {x idx : Nat} (hf : FOk own idx x) (hpk : POk own idx x (meth.name = "<init>")) (hck : ∀ kd, kd < 44 → COk kd) {q : Nat × Nat × Nat} (hk : kok (x / 1024) q.1 = true) {v : AV} {h' : AH} (hz' : hz h' = hz h) (hu' : hu h' = hu h)
    (hce : ∀ (ad : Nat → Nat) a' kn', a' ≠ q.2.2 → zce dA b0 sa ad h' a' kn' = zce dA b0 sa ad h a' kn') (hok' : ∀ S, zok L0 xs h S → q.2.2 < hz h → hz h ≤ 100000000 → zwv L0 S v → zok L0 xs h' S)
    (hgv : ∀ j, gv (zft q.1 j) h' q.2.2 j = if j = x / 4 % 256 then v else gv (zft q.1 j) h q.2.2 j)
    (hn : ∀ ad, narrow (zty q.1 (x / 4 % 256)) (zrv b0 sa ad v) = zrv b0 sa ad v) (hft : ∀ ad, fits (zty q.1 (x / 4 % 256)) (zrv b0 sa ad v) = true)
    (hd : decode cc pc = .ok (.putfield idx, 3)) (k : Gd p l e R s m args below meth c Q D dA H00 b0 L0 xs sa S0 ad0 z0 u0 nL (pc + 3) lsA st h') : Gd p l e R s m args below meth c Q D dA H00 b0 L0 xs sa S0 ad0 z0 u0 nL pc lsA (v :: .inr (.inr (some q)) :: st) h := by
  intro S ad H locs ls hs
  obtain ⟨f1, f2, f3, f4, ref, f5, f6⟩ := hf _ hk
  obtain ⟨c1, c2, c3, -⟩ := hck _ f1
  obtain ⟨-, g2⟩ := hpk _ hk
  have hv := hs.2.2.2.1
  have hR := hs.1
  have hSq := zwp_own (zfa2 (zfa2 hv).2).1 (show q.1 < 200 by omega)
  have hlt : q.2.2 < hz h := by have := (List.getElem?_eq_some_iff.mp hSq).1; have := hR.1; omega
  have hw := zwd_get (dA := dA) (b0 := b0) (sa := sa) (ad := ad) (h := h) hSq
  have hck2 := zce_obj (dA := dA) (b0 := b0) (sa := sa) (ad := ad) (h := h') (a := q.2.2) (kn := (q.1, q.2.1)) f1
  rw [zce_obj f1] at hw
  show W p l e R s m args below meth c H locs (hz h - z0) (hu h - u0) Q (F0 m pc ls (zrv b0 sa ad v :: va_rf (zad b0 sa ad (some q)) :: st.map (zrv b0 sa ad)))
  rw [zad_own (show q.1 < 200 by omega)]
  have hset : ((List.range (zcn q.1).2.2).map (fun j => zrv b0 sa ad (gv (zft q.1 j) h q.2.2 j))).set (x / 4 % 256) (zrv b0 sa ad v) = (List.range (zcn q.1).2.2).map (fun j => zrv b0 sa ad (gv (zft q.1 j) h' q.2.2 j)) := by
    apply List.ext_getElem?
    intro i
    rw [List.getElem?_set, List.getElem?_map, List.getElem?_map, List.length_map, List.length_range]
    by_cases hi : x / 4 % 256 = i
    · subst hi
      rw [if_pos rfl, if_pos f2, List.getElem?_range f2]
      simp only [Option.map_some, hgv, if_true]
    · rw [if_neg hi]
      by_cases hi2 : i < (zcn q.1).2.2
      · rw [List.getElem?_range hi2]
        simp only [Option.map_some, hgv, if_neg (fun r : i = x / 4 % 256 => hi r.symm)]
      · rw [List.getElem?_eq_none (by simpa using hi2)]; rfl
  have hsame : ∀ y, s.fieldFound? ((zcn q.1).2.1 (x / 4 % 256)).1 ((zcn q.1).2.1 (x / 4 % 256)).2.1 ((zcn q.1).2.1 (x / 4 % 256)).2.2.1 = some y → s.fieldFound? ref ((zcn q.1).2.1 (x / 4 % 256)).2.1 ((zcn q.1).2.1 (x / 4 % 256)).2.2.1 = some y := by
    rcases f6 with rfl | f6
    · exact fun y hy => hy
    · exact fun y hy => u_same (htb.all _ f6) y hy
  have fin : ∀ (H1 : Heap) (locs1 : List Loc), va_P D zcl ((zwd dA b0 sa ad h S).set q.2.2 (ad q.2.2, .inr (q.1, ((List.range (zcn q.1).2.2).map (fun j => zrv b0 sa ad (gv (zft q.1 j) h q.2.2 j))).set (x / 4 % 256) (zrv b0 sa ad v)))) H1 → va_D (fun q => H00.size ≤ q) ((zwd dA b0 sa ad h S).set q.2.2 (ad q.2.2, .inr (q.1, ((List.range (zcn q.1).2.2).map (fun j => zrv b0 sa ad (gv (zft q.1 j) h q.2.2 j))).set (x / 4 % 256) (zrv b0 sa ad v)))) → va_S (fun q => H00.size ≤ q) s.heap H1 locs1 → W p l e R s m args below meth c H1 locs1 (hz h - z0) (hu h - u0) Q (F0 m (pc + 3) ls (st.map (zrv b0 sa ad))) := by
    intro H1 locs1 hP1 hD1 hS1
    rw [hset, ← hck2] at hP1 hD1
    have k2 := k S ad H1 locs1 ls (Std_set hs0 hs hSq hz' hu' (hce ad) (hok' S hR.2.2.2.2.2.2 hlt hR.2.1 (zfa2 hv).1) (zfa2 (zfa2 hv).2).2 hP1 hD1 hS1)
    rw [hz', hu'] at k2
    exact k2
  have hlen : x / 4 % 256 < ((List.range (zcn q.1).2.2).map (fun j => zrv b0 sa ad (gv (zft q.1 j) h q.2.2 j))).length := by simpa using f2
  rcases g2 with g2 | ⟨i1, i2, i3, i4⟩
  · rcases f5 with f5 | ⟨host, f5⟩
    · exact va_put hx hb htb.all c1 (zty q.1) c2 c3 hown hK hR.2.2.1 hR.2.2.2.1 hs.2.2.2.2.1 q.2.2 hw (zcl_at f1) _ f2 (htb.all _ f5) hsame g2 (c2 _ f2) (hn ad) (hft ad) hlen hd fin
    · exact va_putN hx hb htb.all c1 (zty q.1) c2 c3 hown hK hR.2.2.1 hR.2.2.2.1 hs.2.2.2.2.1 q.2.2 hw (zcl_at f1) _ f2 (htb _ f5 rfl) hsame g2 (c2 _ f2) (hn ad) (hft ad) hlen hd fin
  · exact va_putF hx hb htb.all c1 (zty q.1) c2 c3 hown hK hR.2.2.1 hR.2.2.2.1 hs.2.2.2.2.1 q.2.2 hw (zcl_at f1) _ f2 (htb.all _ i4) (fun y hy => hy) i2 i1 i3 (c2 _ f2) (hn ad) (hft ad) hlen hd fin
end Put
