section Arr
variable {p : Program} {l : Launch} {e : Env} {R : Room} {s : State} {m : MethodId} {args : Array Value} {below : List Frame} {meth : Method} {c : Code} {Q : State → Prop}
variable {D : va_G} {dA : Nat → ClassId} {H00 : Heap} {b0 L0 : Nat} {xs : Nat → Int32} {sa : Nat → Nat} {S0 : List (Nat × Nat)} {ad0 : Nat → Nat} {z0 u0 nL : Nat}
variable {cc : ByteArray} {pc : Nat} {lsA : SL} {st : List AV} {h : AH}
theorem zix {i : Int} {n : Nat} (h1 : 0 ≤ i ∧ i < (n : Int)) (hn : n ≤ 1000000) : vp_in (Int32.ofInt i) n ∧ (Int32.ofInt i).toNatClampNeg = i.toNat := by
  obtain ⟨k, rfl⟩ := Int.eq_ofNat_of_zero_le h1.1
  have hk : k < n := by omega
  have e : Int32.ofInt (k : Int) = nI k := rfl
  rw [e]
  exact ⟨vp_in_nI hk (by omega), by rw [nI_clamp (by omega)]; rfl⟩
theorem zlen {S : List (Nat × Nat)} {H : Heap} {ad : Nat → Nat} (hR : RelH D dA H00 b0 L0 xs sa h S ad H) {a k n : Nat} (hS : S[a]? = some (k, n)) : n ≤ 1000000 := (hR.2.2.2.2.2.2.2.2.2 _ _ hS).2

theorem gd_iaload (hx : p.tables.exec = Jvm.exec) (hb : c.code = cc) (hK : va_K D zcl (ztys dA) s) {n a : Nat} {i : Int} (hi : 0 ≤ i ∧ i < (n : Int)) (hd : decode cc pc = .ok (.iaload, 1)) (k : Gd p l e R s m args below meth c Q D dA H00 b0 L0 xs sa S0 ad0 z0 u0 nL (pc + 1) lsA (.inl (hI h a i.toNat) :: st) h) : Gd p l e R s m args below meth c Q D dA H00 b0 L0 xs sa S0 ad0 z0 u0 nL pc lsA (.inl i :: .inr (.inr (some (101, n, a))) :: st) h := by
  intro S ad H locs ls hs
  have hv := hs.2.2.2.1
  have hR := hs.1
  have hSq : S[a]? = some (101, n) := zwp_own (zfa2 (zfa2 hv).2).1 (Nat.le_of_ble_eq_true rfl)
  have hw := zwd_get (dA := dA) (b0 := b0) (sa := sa) (ad := ad) (h := h) hSq
  obtain ⟨x1, x2⟩ := zix hi (zlen hR hSq)
  have k2 := k S ad H locs ls (hs.stk (fun hv => zfa ((hR.2.2.2.2.2.2.1 _ _).1) (zfa2 (zfa2 hv).2).2))
  show W p l e R s m args below meth c H locs (hz h - z0) (hu h - u0) Q (F0 m pc ls (.int (Int32.ofInt i) :: .ref (ad a) :: st.map (zrv b0 sa ad)))
  refine va_iald hx hb hK hR.2.2.1 a 0 hw rfl x1 hd ?_
  rw [x2]
  exact k2
theorem gd_baload (hx : p.tables.exec = Jvm.exec) (hb : c.code = cc) (hK : va_K D zcl (ztys dA) s) {n a : Nat} {i : Int} (hi : 0 ≤ i ∧ i < (n : Int)) (hd : decode cc pc = .ok (.baload, 1)) (k : Gd p l e R s m args below meth c Q D dA H00 b0 L0 xs sa S0 ad0 z0 u0 nL (pc + 1) lsA (.inl (hI h a i.toNat) :: st) h) : Gd p l e R s m args below meth c Q D dA H00 b0 L0 xs sa S0 ad0 z0 u0 nL pc lsA (.inl i :: .inr (.inr (some (103, n, a))) :: st) h := by
  intro S ad H locs ls hs
  have hv := hs.2.2.2.1
  have hR := hs.1
  have hSq : S[a]? = some (103, n) := zwp_own (zfa2 (zfa2 hv).2).1 (Nat.le_of_ble_eq_true rfl)
  have hw := zwd_get (dA := dA) (b0 := b0) (sa := sa) (ad := ad) (h := h) hSq
  obtain ⟨x1, x2⟩ := zix hi (zlen hR hSq)
  have k2 := k S ad H locs ls (hs.stk (fun hv => zfa ((hR.2.2.2.2.2.2.1 _ _).1) (zfa2 (zfa2 hv).2).2))
  show W p l e R s m args below meth c H locs (hz h - z0) (hu h - u0) Q (F0 m pc ls (.int (Int32.ofInt i) :: .ref (ad a) :: st.map (zrv b0 sa ad)))
  refine va_bald hx hb hK hR.2.2.1 a 2 hw rfl x1 hd ?_
  rw [x2]
  exact k2
theorem gd_zaload (hx : p.tables.exec = Jvm.exec) (hb : c.code = cc) (hK : va_K D zcl (ztys dA) s) {n a : Nat} {i : Int} (hi : 0 ≤ i ∧ i < (n : Int)) (hd : decode cc pc = .ok (.baload, 1)) (k : Gd p l e R s m args below meth c Q D dA H00 b0 L0 xs sa S0 ad0 z0 u0 nL (pc + 1) lsA (.inl (hI h a i.toNat) :: st) h) : Gd p l e R s m args below meth c Q D dA H00 b0 L0 xs sa S0 ad0 z0 u0 nL pc lsA (.inl i :: .inr (.inr (some (104, n, a))) :: st) h := by
  intro S ad H locs ls hs
  have hv := hs.2.2.2.1
  have hR := hs.1
  have hSq : S[a]? = some (104, n) := zwp_own (zfa2 (zfa2 hv).2).1 (Nat.le_of_ble_eq_true rfl)
  have hw := zwd_get (dA := dA) (b0 := b0) (sa := sa) (ad := ad) (h := h) hSq
  obtain ⟨x1, x2⟩ := zix hi (zlen hR hSq)
  have k2 := k S ad H locs ls (hs.stk (fun hv => zfa ((hR.2.2.2.2.2.2.1 _ _).1) (zfa2 (zfa2 hv).2).2))
  show W p l e R s m args below meth c H locs (hz h - z0) (hu h - u0) Q (F0 m pc ls (.int (Int32.ofInt i) :: .ref (ad a) :: st.map (zrv b0 sa ad)))
  refine va_zald hx hb hK hR.2.2.1 a 3 hw rfl x1 hd ?_
  rw [x2]
  exact k2
theorem gd_laload (hx : p.tables.exec = Jvm.exec) (hb : c.code = cc) (hK : va_K D zcl (ztys dA) s) {n a : Nat} {i : Int} (hi : 0 ≤ i ∧ i < (n : Int)) (hd : decode cc pc = .ok (.laload, 1)) (k : Gd p l e R s m args below meth c Q D dA H00 b0 L0 xs sa S0 ad0 z0 u0 nL (pc + 1) lsA (.inr (.inl (hL h a i.toNat)) :: st) h) : Gd p l e R s m args below meth c Q D dA H00 b0 L0 xs sa S0 ad0 z0 u0 nL pc lsA (.inl i :: .inr (.inr (some (102, n, a))) :: st) h := by
  intro S ad H locs ls hs
  have hv := hs.2.2.2.1
  have hR := hs.1
  have hSq : S[a]? = some (102, n) := zwp_own (zfa2 (zfa2 hv).2).1 (Nat.le_of_ble_eq_true rfl)
  have hw := zwd_get (dA := dA) (b0 := b0) (sa := sa) (ad := ad) (h := h) hSq
  obtain ⟨x1, x2⟩ := zix hi (zlen hR hSq)
  have k2 := k S ad H locs ls (hs.stk (fun hv => zfa ((hR.2.2.2.2.2.2.1 _ _).2.1) (zfa2 (zfa2 hv).2).2))
  show W p l e R s m args below meth c H locs (hz h - z0) (hu h - u0) Q (F0 m pc ls (.int (Int32.ofInt i) :: .ref (ad a) :: st.map (zrv b0 sa ad)))
  refine va_lald hx hb hK hR.2.2.1 a 1 hw rfl x1 hd ?_
  rw [x2]
  exact k2
theorem gd_aaload110 (hx : p.tables.exec = Jvm.exec) (hb : c.code = cc) (hK : va_K D zcl (ztys dA) s) {n a : Nat} {i : Int} (hi : 0 ≤ i ∧ i < (n : Int)) (hd : decode cc pc = .ok (.aaload, 1)) (k : Gd p l e R s m args below meth c Q D dA H00 b0 L0 xs sa S0 ad0 z0 u0 nL (pc + 1) lsA (.inr (.inr (hP h a i.toNat)) :: st) h) : Gd p l e R s m args below meth c Q D dA H00 b0 L0 xs sa S0 ad0 z0 u0 nL pc lsA (.inl i :: .inr (.inr (some (110, n, a))) :: st) h := by
  intro S ad H locs ls hs
  have hv := hs.2.2.2.1
  have hR := hs.1
  have hSq : S[a]? = some (110, n) := zwp_own (zfa2 (zfa2 hv).2).1 (Nat.le_of_ble_eq_true rfl)
  have hw := zwd_get (dA := dA) (b0 := b0) (sa := sa) (ad := ad) (h := h) hSq
  obtain ⟨x1, x2⟩ := zix hi (zlen hR hSq)
  have k2 := k S ad H locs ls (hs.stk (fun hv => zfa ((hR.2.2.2.2.2.2.1 _ _).2.2) (zfa2 (zfa2 hv).2).2))
  show W p l e R s m args below meth c H locs (hz h - z0) (hu h - u0) Q (F0 m pc ls (.int (Int32.ofInt i) :: .ref (ad a) :: st.map (zrv b0 sa ad)))
  refine va_aldq hx hb hK hR.2.2.1 a 4 hw rfl x1 hd ?_
  rw [x2]
  exact k2
theorem gd_aaload111 (hx : p.tables.exec = Jvm.exec) (hb : c.code = cc) (hK : va_K D zcl (ztys dA) s) {n a : Nat} {i : Int} (hi : 0 ≤ i ∧ i < (n : Int)) (hd : decode cc pc = .ok (.aaload, 1)) (k : Gd p l e R s m args below meth c Q D dA H00 b0 L0 xs sa S0 ad0 z0 u0 nL (pc + 1) lsA (.inr (.inr (hP h a i.toNat)) :: st) h) : Gd p l e R s m args below meth c Q D dA H00 b0 L0 xs sa S0 ad0 z0 u0 nL pc lsA (.inl i :: .inr (.inr (some (111, n, a))) :: st) h := by
  intro S ad H locs ls hs
  have hv := hs.2.2.2.1
  have hR := hs.1
  have hSq : S[a]? = some (111, n) := zwp_own (zfa2 (zfa2 hv).2).1 (Nat.le_of_ble_eq_true rfl)
  have hw := zwd_get (dA := dA) (b0 := b0) (sa := sa) (ad := ad) (h := h) hSq
  obtain ⟨x1, x2⟩ := zix hi (zlen hR hSq)
  have k2 := k S ad H locs ls (hs.stk (fun hv => zfa ((hR.2.2.2.2.2.2.1 _ _).2.2) (zfa2 (zfa2 hv).2).2))
  show W p l e R s m args below meth c H locs (hz h - z0) (hu h - u0) Q (F0 m pc ls (.int (Int32.ofInt i) :: .ref (ad a) :: st.map (zrv b0 sa ad)))
  refine va_aldq hx hb hK hR.2.2.1 a 5 hw rfl x1 hd ?_
  rw [x2]
  exact k2
theorem gd_aaload112 (hx : p.tables.exec = Jvm.exec) (hb : c.code = cc) (hK : va_K D zcl (ztys dA) s) {n a : Nat} {i : Int} (hi : 0 ≤ i ∧ i < (n : Int)) (hd : decode cc pc = .ok (.aaload, 1)) (k : Gd p l e R s m args below meth c Q D dA H00 b0 L0 xs sa S0 ad0 z0 u0 nL (pc + 1) lsA (.inr (.inr (hP h a i.toNat)) :: st) h) : Gd p l e R s m args below meth c Q D dA H00 b0 L0 xs sa S0 ad0 z0 u0 nL pc lsA (.inl i :: .inr (.inr (some (112, n, a))) :: st) h := by
  intro S ad H locs ls hs
  have hv := hs.2.2.2.1
  have hR := hs.1
  have hSq : S[a]? = some (112, n) := zwp_own (zfa2 (zfa2 hv).2).1 (Nat.le_of_ble_eq_true rfl)
  have hw := zwd_get (dA := dA) (b0 := b0) (sa := sa) (ad := ad) (h := h) hSq
  obtain ⟨x1, x2⟩ := zix hi (zlen hR hSq)
  have k2 := k S ad H locs ls (hs.stk (fun hv => zfa ((hR.2.2.2.2.2.2.1 _ _).2.2) (zfa2 (zfa2 hv).2).2))
  show W p l e R s m args below meth c H locs (hz h - z0) (hu h - u0) Q (F0 m pc ls (.int (Int32.ofInt i) :: .ref (ad a) :: st.map (zrv b0 sa ad)))
  refine va_aldq hx hb hK hR.2.2.1 a 6 hw rfl x1 hd ?_
  rw [x2]
  exact k2
theorem gd_aaload113 (hx : p.tables.exec = Jvm.exec) (hb : c.code = cc) (hK : va_K D zcl (ztys dA) s) {n a : Nat} {i : Int} (hi : 0 ≤ i ∧ i < (n : Int)) (hd : decode cc pc = .ok (.aaload, 1)) (k : Gd p l e R s m args below meth c Q D dA H00 b0 L0 xs sa S0 ad0 z0 u0 nL (pc + 1) lsA (.inr (.inr (hP h a i.toNat)) :: st) h) : Gd p l e R s m args below meth c Q D dA H00 b0 L0 xs sa S0 ad0 z0 u0 nL pc lsA (.inl i :: .inr (.inr (some (113, n, a))) :: st) h := by
  intro S ad H locs ls hs
  have hv := hs.2.2.2.1
  have hR := hs.1
  have hSq : S[a]? = some (113, n) := zwp_own (zfa2 (zfa2 hv).2).1 (Nat.le_of_ble_eq_true rfl)
  have hw := zwd_get (dA := dA) (b0 := b0) (sa := sa) (ad := ad) (h := h) hSq
  obtain ⟨x1, x2⟩ := zix hi (zlen hR hSq)
  have k2 := k S ad H locs ls (hs.stk (fun hv => zfa ((hR.2.2.2.2.2.2.1 _ _).2.2) (zfa2 (zfa2 hv).2).2))
  show W p l e R s m args below meth c H locs (hz h - z0) (hu h - u0) Q (F0 m pc ls (.int (Int32.ofInt i) :: .ref (ad a) :: st.map (zrv b0 sa ad)))
  refine va_aldq hx hb hK hR.2.2.1 a 7 hw rfl x1 hd ?_
  rw [x2]
  exact k2
theorem gd_aaload114 (hx : p.tables.exec = Jvm.exec) (hb : c.code = cc) (hK : va_K D zcl (ztys dA) s) {n a : Nat} {i : Int} (hi : 0 ≤ i ∧ i < (n : Int)) (hd : decode cc pc = .ok (.aaload, 1)) (k : Gd p l e R s m args below meth c Q D dA H00 b0 L0 xs sa S0 ad0 z0 u0 nL (pc + 1) lsA (.inr (.inr (hP h a i.toNat)) :: st) h) : Gd p l e R s m args below meth c Q D dA H00 b0 L0 xs sa S0 ad0 z0 u0 nL pc lsA (.inl i :: .inr (.inr (some (114, n, a))) :: st) h := by
  intro S ad H locs ls hs
  have hv := hs.2.2.2.1
  have hR := hs.1
  have hSq : S[a]? = some (114, n) := zwp_own (zfa2 (zfa2 hv).2).1 (Nat.le_of_ble_eq_true rfl)
  have hw := zwd_get (dA := dA) (b0 := b0) (sa := sa) (ad := ad) (h := h) hSq
  obtain ⟨x1, x2⟩ := zix hi (zlen hR hSq)
  have k2 := k S ad H locs ls (hs.stk (fun hv => zfa ((hR.2.2.2.2.2.2.1 _ _).2.2) (zfa2 (zfa2 hv).2).2))
  show W p l e R s m args below meth c H locs (hz h - z0) (hu h - u0) Q (F0 m pc ls (.int (Int32.ofInt i) :: .ref (ad a) :: st.map (zrv b0 sa ad)))
  refine va_aldq hx hb hK hR.2.2.1 a 8 hw rfl x1 hd ?_
  rw [x2]
  exact k2
theorem gd_aaload115 (hx : p.tables.exec = Jvm.exec) (hb : c.code = cc) (hK : va_K D zcl (ztys dA) s) {n a : Nat} {i : Int} (hi : 0 ≤ i ∧ i < (n : Int)) (hd : decode cc pc = .ok (.aaload, 1)) (k : Gd p l e R s m args below meth c Q D dA H00 b0 L0 xs sa S0 ad0 z0 u0 nL (pc + 1) lsA (.inr (.inr (hP h a i.toNat)) :: st) h) : Gd p l e R s m args below meth c Q D dA H00 b0 L0 xs sa S0 ad0 z0 u0 nL pc lsA (.inl i :: .inr (.inr (some (115, n, a))) :: st) h := by
  intro S ad H locs ls hs
  have hv := hs.2.2.2.1
  have hR := hs.1
  have hSq : S[a]? = some (115, n) := zwp_own (zfa2 (zfa2 hv).2).1 (Nat.le_of_ble_eq_true rfl)
  have hw := zwd_get (dA := dA) (b0 := b0) (sa := sa) (ad := ad) (h := h) hSq
  obtain ⟨x1, x2⟩ := zix hi (zlen hR hSq)
  have k2 := k S ad H locs ls (hs.stk (fun hv => zfa ((hR.2.2.2.2.2.2.1 _ _).2.2) (zfa2 (zfa2 hv).2).2))
  show W p l e R s m args below meth c H locs (hz h - z0) (hu h - u0) Q (F0 m pc ls (.int (Int32.ofInt i) :: .ref (ad a) :: st.map (zrv b0 sa ad)))
  refine va_aldq hx hb hK hR.2.2.1 a 9 hw rfl x1 hd ?_
  rw [x2]
  exact k2
theorem gd_aaload116 (hx : p.tables.exec = Jvm.exec) (hb : c.code = cc) (hK : va_K D zcl (ztys dA) s) {n a : Nat} {i : Int} (hi : 0 ≤ i ∧ i < (n : Int)) (hd : decode cc pc = .ok (.aaload, 1)) (k : Gd p l e R s m args below meth c Q D dA H00 b0 L0 xs sa S0 ad0 z0 u0 nL (pc + 1) lsA (.inr (.inr (hP h a i.toNat)) :: st) h) : Gd p l e R s m args below meth c Q D dA H00 b0 L0 xs sa S0 ad0 z0 u0 nL pc lsA (.inl i :: .inr (.inr (some (116, n, a))) :: st) h := by
  intro S ad H locs ls hs
  have hv := hs.2.2.2.1
  have hR := hs.1
  have hSq : S[a]? = some (116, n) := zwp_own (zfa2 (zfa2 hv).2).1 (Nat.le_of_ble_eq_true rfl)
  have hw := zwd_get (dA := dA) (b0 := b0) (sa := sa) (ad := ad) (h := h) hSq
  obtain ⟨x1, x2⟩ := zix hi (zlen hR hSq)
  have k2 := k S ad H locs ls (hs.stk (fun hv => zfa ((hR.2.2.2.2.2.2.1 _ _).2.2) (zfa2 (zfa2 hv).2).2))
  show W p l e R s m args below meth c H locs (hz h - z0) (hu h - u0) Q (F0 m pc ls (.int (Int32.ofInt i) :: .ref (ad a) :: st.map (zrv b0 sa ad)))
  refine va_aldq hx hb hK hR.2.2.1 a 10 hw rfl x1 hd ?_
  rw [x2]
  exact k2
theorem gd_iastore (hx : p.tables.exec = Jvm.exec) (hb : c.code = cc) (hK : va_K D zcl (ztys dA) s) (hs0 : H00.size ≤ s.heap.size ∧ ∀ q : Nat, q < H00.size → s.heap[q]? = H00[q]?) {n a : Nat} {i : Int} {v : Int} (hi : 0 ≤ i ∧ i < (n : Int)) (hd : decode cc pc = .ok (.iastore, 1)) (k : Gd p l e R s m args below meth c Q D dA H00 b0 L0 xs sa S0 ad0 z0 u0 nL (pc + 1) lsA st (sI h a i.toNat v)) : Gd p l e R s m args below meth c Q D dA H00 b0 L0 xs sa S0 ad0 z0 u0 nL pc lsA (.inl v :: .inl i :: .inr (.inr (some (101, n, a))) :: st) h := by
  intro S ad H locs ls hs
  have hv := hs.2.2.2.1
  have hR := hs.1
  have hSq : S[a]? = some (101, n) := zwp_own (zfa2 (zfa2 (zfa2 hv).2).2).1 (Nat.le_of_ble_eq_true rfl)
  have hlt : a < hz h := by have := (List.getElem?_eq_some_iff.mp hSq).1; have := hR.1; omega
  have hw := zwd_get (dA := dA) (b0 := b0) (sa := sa) (ad := ad) (h := h) hSq
  obtain ⟨x1, x2⟩ := zix hi (zlen hR hSq)
  show W p l e R s m args below meth c H locs (hz h - z0) (hu h - u0) Q (F0 m pc ls (zrv b0 sa ad (.inl v) :: .int (Int32.ofInt i) :: .ref (ad a) :: st.map (zrv b0 sa ad)))
  refine va_iast hx hb hK hR.2.2.1 hR.2.2.2.1 hs.2.2.2.2.1 a 0 hw rfl x1 hd (fun H1 locs1 hP1 hD1 hS1 => ?_)
  rw [x2] at hP1 hD1
  have ee : upd (fun j => Int32.ofInt (hI h a j)) i.toNat (Int32.ofInt v) = (fun j => Int32.ofInt (hI (sI h a i.toNat v) a j)) := by
    funext j
    unfold upd
    rw [hI_sI]
    by_cases hj : j = i.toNat
    · rw [if_pos hj, if_pos ⟨rfl, hj⟩]
    · rw [if_neg hj, if_neg (fun q => hj q.2)]
  rw [ee] at hP1 hD1
  exact k S ad H1 locs1 ls (Std_set hs0 hs hSq rfl rfl (fun a' kn' hne => zce_sI a' kn' hne) (zok_sI hR.2.2.2.2.2.2 hlt hR.2.1 (zfa2 hv).1) (zfa2 (zfa2 (zfa2 hv).2).2).2 hP1 hD1 hS1)
theorem gd_bastore (hx : p.tables.exec = Jvm.exec) (hb : c.code = cc) (hK : va_K D zcl (ztys dA) s) (hs0 : H00.size ≤ s.heap.size ∧ ∀ q : Nat, q < H00.size → s.heap[q]? = H00[q]?) {n a : Nat} {i : Int} {v : Int} (hw8 : w8 v = v) (hi : 0 ≤ i ∧ i < (n : Int)) (hd : decode cc pc = .ok (.bastore, 1)) (k : Gd p l e R s m args below meth c Q D dA H00 b0 L0 xs sa S0 ad0 z0 u0 nL (pc + 1) lsA st (sI h a i.toNat v)) : Gd p l e R s m args below meth c Q D dA H00 b0 L0 xs sa S0 ad0 z0 u0 nL pc lsA (.inl v :: .inl i :: .inr (.inr (some (103, n, a))) :: st) h := by
  intro S ad H locs ls hs
  have hv := hs.2.2.2.1
  have hR := hs.1
  have hSq : S[a]? = some (103, n) := zwp_own (zfa2 (zfa2 (zfa2 hv).2).2).1 (Nat.le_of_ble_eq_true rfl)
  have hlt : a < hz h := by have := (List.getElem?_eq_some_iff.mp hSq).1; have := hR.1; omega
  have hw := zwd_get (dA := dA) (b0 := b0) (sa := sa) (ad := ad) (h := h) hSq
  obtain ⟨x1, x2⟩ := zix hi (zlen hR hSq)
  show W p l e R s m args below meth c H locs (hz h - z0) (hu h - u0) Q (F0 m pc ls (zrv b0 sa ad (.inl v) :: .int (Int32.ofInt i) :: .ref (ad a) :: st.map (zrv b0 sa ad)))
  refine va_bast hx hb hK hR.2.2.1 hR.2.2.2.1 hs.2.2.2.2.1 a 2 hw rfl x1 hd (fun H1 locs1 hP1 hD1 hS1 => ?_)
  rw [x2] at hP1 hD1
  have ee : upd (fun j => Int32.ofInt (hI h a j)) i.toNat (vp_nar .byte (Int32.ofInt v)) = (fun j => Int32.ofInt (hI (sI h a i.toNat v) a j)) := by
    funext j
    unfold upd
    rw [hI_sI]
    by_cases hj : j = i.toNat
    · rw [if_pos hj, if_pos ⟨rfl, hj⟩]
      rw [vp_nar_byte, ← zi2b (zfa2 hv).1, hw8]
    · rw [if_neg hj, if_neg (fun q => hj q.2)]
  rw [ee] at hP1 hD1
  exact k S ad H1 locs1 ls (Std_set hs0 hs hSq rfl rfl (fun a' kn' hne => zce_sI a' kn' hne) (zok_sI hR.2.2.2.2.2.2 hlt hR.2.1 (zfa2 hv).1) (zfa2 (zfa2 (zfa2 hv).2).2).2 hP1 hD1 hS1)
theorem gd_zastore (hx : p.tables.exec = Jvm.exec) (hb : c.code = cc) (hK : va_K D zcl (ztys dA) s) (hs0 : H00.size ≤ s.heap.size ∧ ∀ q : Nat, q < H00.size → s.heap[q]? = H00[q]?) {n a : Nat} {i : Int} {v : Int} (hw8 : v = 0 ∨ v = 1) (hi : 0 ≤ i ∧ i < (n : Int)) (hd : decode cc pc = .ok (.bastore, 1)) (k : Gd p l e R s m args below meth c Q D dA H00 b0 L0 xs sa S0 ad0 z0 u0 nL (pc + 1) lsA st (sI h a i.toNat v)) : Gd p l e R s m args below meth c Q D dA H00 b0 L0 xs sa S0 ad0 z0 u0 nL pc lsA (.inl v :: .inl i :: .inr (.inr (some (104, n, a))) :: st) h := by
  intro S ad H locs ls hs
  have hv := hs.2.2.2.1
  have hR := hs.1
  have hSq : S[a]? = some (104, n) := zwp_own (zfa2 (zfa2 (zfa2 hv).2).2).1 (Nat.le_of_ble_eq_true rfl)
  have hlt : a < hz h := by have := (List.getElem?_eq_some_iff.mp hSq).1; have := hR.1; omega
  have hw := zwd_get (dA := dA) (b0 := b0) (sa := sa) (ad := ad) (h := h) hSq
  obtain ⟨x1, x2⟩ := zix hi (zlen hR hSq)
  show W p l e R s m args below meth c H locs (hz h - z0) (hu h - u0) Q (F0 m pc ls (zrv b0 sa ad (.inl v) :: .int (Int32.ofInt i) :: .ref (ad a) :: st.map (zrv b0 sa ad)))
  refine va_zast hx hb hK hR.2.2.1 hR.2.2.2.1 hs.2.2.2.2.1 a 3 hw rfl x1 hd (fun H1 locs1 hP1 hD1 hS1 => ?_)
  rw [x2] at hP1 hD1
  have ee : upd (fun j => Int32.ofInt (hI h a j)) i.toNat (vp_nar .boolean (Int32.ofInt v)) = (fun j => Int32.ofInt (hI (sI h a i.toNat v) a j)) := by
    funext j
    unfold upd
    rw [hI_sI]
    by_cases hj : j = i.toNat
    · rw [if_pos hj, if_pos ⟨rfl, hj⟩]
      rcases hw8 with rfl | rfl <;> rfl
    · rw [if_neg hj, if_neg (fun q => hj q.2)]
  rw [ee] at hP1 hD1
  exact k S ad H1 locs1 ls (Std_set hs0 hs hSq rfl rfl (fun a' kn' hne => zce_sI a' kn' hne) (zok_sI hR.2.2.2.2.2.2 hlt hR.2.1 (zfa2 hv).1) (zfa2 (zfa2 (zfa2 hv).2).2).2 hP1 hD1 hS1)
theorem gd_lastore (hx : p.tables.exec = Jvm.exec) (hb : c.code = cc) (hK : va_K D zcl (ztys dA) s) (hs0 : H00.size ≤ s.heap.size ∧ ∀ q : Nat, q < H00.size → s.heap[q]? = H00[q]?) {n a : Nat} {i : Int} {v : Int} (hi : 0 ≤ i ∧ i < (n : Int)) (hd : decode cc pc = .ok (.lastore, 1)) (k : Gd p l e R s m args below meth c Q D dA H00 b0 L0 xs sa S0 ad0 z0 u0 nL (pc + 1) lsA st (sL h a i.toNat v)) : Gd p l e R s m args below meth c Q D dA H00 b0 L0 xs sa S0 ad0 z0 u0 nL pc lsA (.inr (.inl v) :: .inl i :: .inr (.inr (some (102, n, a))) :: st) h := by
  intro S ad H locs ls hs
  have hv := hs.2.2.2.1
  have hR := hs.1
  have hSq : S[a]? = some (102, n) := zwp_own (zfa2 (zfa2 (zfa2 hv).2).2).1 (Nat.le_of_ble_eq_true rfl)
  have hlt : a < hz h := by have := (List.getElem?_eq_some_iff.mp hSq).1; have := hR.1; omega
  have hw := zwd_get (dA := dA) (b0 := b0) (sa := sa) (ad := ad) (h := h) hSq
  obtain ⟨x1, x2⟩ := zix hi (zlen hR hSq)
  show W p l e R s m args below meth c H locs (hz h - z0) (hu h - u0) Q (F0 m pc ls (zrv b0 sa ad (.inr (.inl v)) :: .int (Int32.ofInt i) :: .ref (ad a) :: st.map (zrv b0 sa ad)))
  refine va_last hx hb hK hR.2.2.1 hR.2.2.2.1 hs.2.2.2.2.1 a 1 hw rfl x1 hd (fun H1 locs1 hP1 hD1 hS1 => ?_)
  rw [x2] at hP1 hD1
  have ee : vp_updL (fun j => Int64.ofInt (hL h a j)) i.toNat (Int64.ofInt v) = (fun j => Int64.ofInt (hL (sL h a i.toNat v) a j)) := by
    funext j
    unfold vp_updL
    rw [hL_sL]
    by_cases hj : j = i.toNat
    · rw [if_pos hj, if_pos ⟨rfl, hj⟩]
    · rw [if_neg hj, if_neg (fun q => hj q.2)]
  rw [ee] at hP1 hD1
  exact k S ad H1 locs1 ls (Std_set hs0 hs hSq rfl rfl (fun a' kn' hne => zce_sL a' kn' hne) (zok_sL hR.2.2.2.2.2.2 hlt (zfa2 hv).1) (zfa2 (zfa2 (zfa2 hv).2).2).2 hP1 hD1 hS1)
theorem gd_aastore110 (hx : p.tables.exec = Jvm.exec) (hb : c.code = cc) (hK : va_K D zcl (ztys dA) s) (hs0 : H00.size ≤ s.heap.size ∧ ∀ q : Nat, q < H00.size → s.heap[q]? = H00[q]?) {n a : Nat} {i : Int} {v : Ptr} (hany : ∀ S ad H, RelH D dA H00 b0 L0 xs sa h S ad H → zwp L0 S v → ∀ y, zad b0 sa ad v = some y → va_Any "AlgolMill$Thing" s H y) (hi : 0 ≤ i ∧ i < (n : Int)) (hd : decode cc pc = .ok (.aastore, 1)) (k : Gd p l e R s m args below meth c Q D dA H00 b0 L0 xs sa S0 ad0 z0 u0 nL (pc + 1) lsA st (sP h a i.toNat v)) : Gd p l e R s m args below meth c Q D dA H00 b0 L0 xs sa S0 ad0 z0 u0 nL pc lsA (.inr (.inr v) :: .inl i :: .inr (.inr (some (110, n, a))) :: st) h := by
  intro S ad H locs ls hs
  have hv := hs.2.2.2.1
  have hR := hs.1
  have hSq : S[a]? = some (110, n) := zwp_own (zfa2 (zfa2 (zfa2 hv).2).2).1 (Nat.le_of_ble_eq_true rfl)
  have hlt : a < hz h := by have := (List.getElem?_eq_some_iff.mp hSq).1; have := hR.1; omega
  have hw := zwd_get (dA := dA) (b0 := b0) (sa := sa) (ad := ad) (h := h) hSq
  obtain ⟨x1, x2⟩ := zix hi (zlen hR hSq)
  have ee : va_up (fun j => zad b0 sa ad (hP h a j)) i.toNat (zad b0 sa ad v) = (fun j => zad b0 sa ad (hP (sP h a i.toNat v) a j)) := by
    funext j
    unfold va_up
    rw [hP_sP]
    by_cases hj : j = i.toNat
    · rw [if_pos hj, if_pos ⟨rfl, hj⟩]
    · rw [if_neg hj, if_neg (fun q => hj q.2)]
  show W p l e R s m args below meth c H locs (hz h - z0) (hu h - u0) Q (F0 m pc ls (va_rf (zad b0 sa ad v) :: .int (Int32.ofInt i) :: .ref (ad a) :: st.map (zrv b0 sa ad)))
  cases hzv : zad b0 sa ad v with
  | none =>
    refine va_astqN hx hb hK hR.2.2.1 hR.2.2.2.1 hs.2.2.2.2.1 a 4 hw rfl x1 hd (fun H1 locs1 hP1 hD1 hS1 => ?_)
    rw [x2, ← hzv, ee] at hP1 hD1
    exact k S ad H1 locs1 ls (Std_set hs0 hs hSq rfl rfl (fun a' kn' hne => zce_sP a' kn' hne) (zok_sP hR.2.2.2.2.2.2 hlt (zfa2 hv).1) (zfa2 (zfa2 (zfa2 hv).2).2).2 hP1 hD1 hS1)
  | some y =>
    refine va_astqM hx hb hK hR.2.2.1 hR.2.2.2.1 hs.2.2.2.2.1 a 4 hw rfl (hany S ad H hR (zfa2 hv).1 y hzv) x1 hd (fun H1 locs1 hP1 hD1 hS1 => ?_)
    rw [x2, ← hzv, ee] at hP1 hD1
    exact k S ad H1 locs1 ls (Std_set hs0 hs hSq rfl rfl (fun a' kn' hne => zce_sP a' kn' hne) (zok_sP hR.2.2.2.2.2.2 hlt (zfa2 hv).1) (zfa2 (zfa2 (zfa2 hv).2).2).2 hP1 hD1 hS1)
theorem gd_aastore111 (hx : p.tables.exec = Jvm.exec) (hb : c.code = cc) (hK : va_K D zcl (ztys dA) s) (hs0 : H00.size ≤ s.heap.size ∧ ∀ q : Nat, q < H00.size → s.heap[q]? = H00[q]?) {n a : Nat} {i : Int} {v : Ptr} (hany : ∀ S ad H, RelH D dA H00 b0 L0 xs sa h S ad H → zwp L0 S v → ∀ y, zad b0 sa ad v = some y → va_Any "AlgolMill$Expr" s H y) (hi : 0 ≤ i ∧ i < (n : Int)) (hd : decode cc pc = .ok (.aastore, 1)) (k : Gd p l e R s m args below meth c Q D dA H00 b0 L0 xs sa S0 ad0 z0 u0 nL (pc + 1) lsA st (sP h a i.toNat v)) : Gd p l e R s m args below meth c Q D dA H00 b0 L0 xs sa S0 ad0 z0 u0 nL pc lsA (.inr (.inr v) :: .inl i :: .inr (.inr (some (111, n, a))) :: st) h := by
  intro S ad H locs ls hs
  have hv := hs.2.2.2.1
  have hR := hs.1
  have hSq : S[a]? = some (111, n) := zwp_own (zfa2 (zfa2 (zfa2 hv).2).2).1 (Nat.le_of_ble_eq_true rfl)
  have hlt : a < hz h := by have := (List.getElem?_eq_some_iff.mp hSq).1; have := hR.1; omega
  have hw := zwd_get (dA := dA) (b0 := b0) (sa := sa) (ad := ad) (h := h) hSq
  obtain ⟨x1, x2⟩ := zix hi (zlen hR hSq)
  have ee : va_up (fun j => zad b0 sa ad (hP h a j)) i.toNat (zad b0 sa ad v) = (fun j => zad b0 sa ad (hP (sP h a i.toNat v) a j)) := by
    funext j
    unfold va_up
    rw [hP_sP]
    by_cases hj : j = i.toNat
    · rw [if_pos hj, if_pos ⟨rfl, hj⟩]
    · rw [if_neg hj, if_neg (fun q => hj q.2)]
  show W p l e R s m args below meth c H locs (hz h - z0) (hu h - u0) Q (F0 m pc ls (va_rf (zad b0 sa ad v) :: .int (Int32.ofInt i) :: .ref (ad a) :: st.map (zrv b0 sa ad)))
  cases hzv : zad b0 sa ad v with
  | none =>
    refine va_astqN hx hb hK hR.2.2.1 hR.2.2.2.1 hs.2.2.2.2.1 a 5 hw rfl x1 hd (fun H1 locs1 hP1 hD1 hS1 => ?_)
    rw [x2, ← hzv, ee] at hP1 hD1
    exact k S ad H1 locs1 ls (Std_set hs0 hs hSq rfl rfl (fun a' kn' hne => zce_sP a' kn' hne) (zok_sP hR.2.2.2.2.2.2 hlt (zfa2 hv).1) (zfa2 (zfa2 (zfa2 hv).2).2).2 hP1 hD1 hS1)
  | some y =>
    refine va_astqM hx hb hK hR.2.2.1 hR.2.2.2.1 hs.2.2.2.2.1 a 5 hw rfl (hany S ad H hR (zfa2 hv).1 y hzv) x1 hd (fun H1 locs1 hP1 hD1 hS1 => ?_)
    rw [x2, ← hzv, ee] at hP1 hD1
    exact k S ad H1 locs1 ls (Std_set hs0 hs hSq rfl rfl (fun a' kn' hne => zce_sP a' kn' hne) (zok_sP hR.2.2.2.2.2.2 hlt (zfa2 hv).1) (zfa2 (zfa2 (zfa2 hv).2).2).2 hP1 hD1 hS1)
theorem gd_aastore112 (hx : p.tables.exec = Jvm.exec) (hb : c.code = cc) (hK : va_K D zcl (ztys dA) s) (hs0 : H00.size ≤ s.heap.size ∧ ∀ q : Nat, q < H00.size → s.heap[q]? = H00[q]?) {n a : Nat} {i : Int} {v : Ptr} (hany : ∀ S ad H, RelH D dA H00 b0 L0 xs sa h S ad H → zwp L0 S v → ∀ y, zad b0 sa ad v = some y → va_Any "AlgolMill$Statement" s H y) (hi : 0 ≤ i ∧ i < (n : Int)) (hd : decode cc pc = .ok (.aastore, 1)) (k : Gd p l e R s m args below meth c Q D dA H00 b0 L0 xs sa S0 ad0 z0 u0 nL (pc + 1) lsA st (sP h a i.toNat v)) : Gd p l e R s m args below meth c Q D dA H00 b0 L0 xs sa S0 ad0 z0 u0 nL pc lsA (.inr (.inr v) :: .inl i :: .inr (.inr (some (112, n, a))) :: st) h := by
  intro S ad H locs ls hs
  have hv := hs.2.2.2.1
  have hR := hs.1
  have hSq : S[a]? = some (112, n) := zwp_own (zfa2 (zfa2 (zfa2 hv).2).2).1 (Nat.le_of_ble_eq_true rfl)
  have hlt : a < hz h := by have := (List.getElem?_eq_some_iff.mp hSq).1; have := hR.1; omega
  have hw := zwd_get (dA := dA) (b0 := b0) (sa := sa) (ad := ad) (h := h) hSq
  obtain ⟨x1, x2⟩ := zix hi (zlen hR hSq)
  have ee : va_up (fun j => zad b0 sa ad (hP h a j)) i.toNat (zad b0 sa ad v) = (fun j => zad b0 sa ad (hP (sP h a i.toNat v) a j)) := by
    funext j
    unfold va_up
    rw [hP_sP]
    by_cases hj : j = i.toNat
    · rw [if_pos hj, if_pos ⟨rfl, hj⟩]
    · rw [if_neg hj, if_neg (fun q => hj q.2)]
  show W p l e R s m args below meth c H locs (hz h - z0) (hu h - u0) Q (F0 m pc ls (va_rf (zad b0 sa ad v) :: .int (Int32.ofInt i) :: .ref (ad a) :: st.map (zrv b0 sa ad)))
  cases hzv : zad b0 sa ad v with
  | none =>
    refine va_astqN hx hb hK hR.2.2.1 hR.2.2.2.1 hs.2.2.2.2.1 a 6 hw rfl x1 hd (fun H1 locs1 hP1 hD1 hS1 => ?_)
    rw [x2, ← hzv, ee] at hP1 hD1
    exact k S ad H1 locs1 ls (Std_set hs0 hs hSq rfl rfl (fun a' kn' hne => zce_sP a' kn' hne) (zok_sP hR.2.2.2.2.2.2 hlt (zfa2 hv).1) (zfa2 (zfa2 (zfa2 hv).2).2).2 hP1 hD1 hS1)
  | some y =>
    refine va_astqM hx hb hK hR.2.2.1 hR.2.2.2.1 hs.2.2.2.2.1 a 6 hw rfl (hany S ad H hR (zfa2 hv).1 y hzv) x1 hd (fun H1 locs1 hP1 hD1 hS1 => ?_)
    rw [x2, ← hzv, ee] at hP1 hD1
    exact k S ad H1 locs1 ls (Std_set hs0 hs hSq rfl rfl (fun a' kn' hne => zce_sP a' kn' hne) (zok_sP hR.2.2.2.2.2.2 hlt (zfa2 hv).1) (zfa2 (zfa2 (zfa2 hv).2).2).2 hP1 hD1 hS1)
theorem gd_aastore113 (hx : p.tables.exec = Jvm.exec) (hb : c.code = cc) (hK : va_K D zcl (ztys dA) s) (hs0 : H00.size ≤ s.heap.size ∧ ∀ q : Nat, q < H00.size → s.heap[q]? = H00[q]?) {n a : Nat} {i : Int} {v : Ptr} (hany : ∀ S ad H, RelH D dA H00 b0 L0 xs sa h S ad H → zwp L0 S v → ∀ y, zad b0 sa ad v = some y → va_Any "AlgolMill$Rows" s H y) (hi : 0 ≤ i ∧ i < (n : Int)) (hd : decode cc pc = .ok (.aastore, 1)) (k : Gd p l e R s m args below meth c Q D dA H00 b0 L0 xs sa S0 ad0 z0 u0 nL (pc + 1) lsA st (sP h a i.toNat v)) : Gd p l e R s m args below meth c Q D dA H00 b0 L0 xs sa S0 ad0 z0 u0 nL pc lsA (.inr (.inr v) :: .inl i :: .inr (.inr (some (113, n, a))) :: st) h := by
  intro S ad H locs ls hs
  have hv := hs.2.2.2.1
  have hR := hs.1
  have hSq : S[a]? = some (113, n) := zwp_own (zfa2 (zfa2 (zfa2 hv).2).2).1 (Nat.le_of_ble_eq_true rfl)
  have hlt : a < hz h := by have := (List.getElem?_eq_some_iff.mp hSq).1; have := hR.1; omega
  have hw := zwd_get (dA := dA) (b0 := b0) (sa := sa) (ad := ad) (h := h) hSq
  obtain ⟨x1, x2⟩ := zix hi (zlen hR hSq)
  have ee : va_up (fun j => zad b0 sa ad (hP h a j)) i.toNat (zad b0 sa ad v) = (fun j => zad b0 sa ad (hP (sP h a i.toNat v) a j)) := by
    funext j
    unfold va_up
    rw [hP_sP]
    by_cases hj : j = i.toNat
    · rw [if_pos hj, if_pos ⟨rfl, hj⟩]
    · rw [if_neg hj, if_neg (fun q => hj q.2)]
  show W p l e R s m args below meth c H locs (hz h - z0) (hu h - u0) Q (F0 m pc ls (va_rf (zad b0 sa ad v) :: .int (Int32.ofInt i) :: .ref (ad a) :: st.map (zrv b0 sa ad)))
  cases hzv : zad b0 sa ad v with
  | none =>
    refine va_astqN hx hb hK hR.2.2.1 hR.2.2.2.1 hs.2.2.2.2.1 a 7 hw rfl x1 hd (fun H1 locs1 hP1 hD1 hS1 => ?_)
    rw [x2, ← hzv, ee] at hP1 hD1
    exact k S ad H1 locs1 ls (Std_set hs0 hs hSq rfl rfl (fun a' kn' hne => zce_sP a' kn' hne) (zok_sP hR.2.2.2.2.2.2 hlt (zfa2 hv).1) (zfa2 (zfa2 (zfa2 hv).2).2).2 hP1 hD1 hS1)
  | some y =>
    refine va_astqM hx hb hK hR.2.2.1 hR.2.2.2.1 hs.2.2.2.2.1 a 7 hw rfl (hany S ad H hR (zfa2 hv).1 y hzv) x1 hd (fun H1 locs1 hP1 hD1 hS1 => ?_)
    rw [x2, ← hzv, ee] at hP1 hD1
    exact k S ad H1 locs1 ls (Std_set hs0 hs hSq rfl rfl (fun a' kn' hne => zce_sP a' kn' hne) (zok_sP hR.2.2.2.2.2.2 hlt (zfa2 hv).1) (zfa2 (zfa2 (zfa2 hv).2).2).2 hP1 hD1 hS1)
theorem gd_aastore114 (hx : p.tables.exec = Jvm.exec) (hb : c.code = cc) (hK : va_K D zcl (ztys dA) s) (hs0 : H00.size ≤ s.heap.size ∧ ∀ q : Nat, q < H00.size → s.heap[q]? = H00[q]?) {n a : Nat} {i : Int} {v : Ptr} (hany : ∀ S ad H, RelH D dA H00 b0 L0 xs sa h S ad H → zwp L0 S v → ∀ y, zad b0 sa ad v = some y → va_Any "AlgolMill$Element" s H y) (hi : 0 ≤ i ∧ i < (n : Int)) (hd : decode cc pc = .ok (.aastore, 1)) (k : Gd p l e R s m args below meth c Q D dA H00 b0 L0 xs sa S0 ad0 z0 u0 nL (pc + 1) lsA st (sP h a i.toNat v)) : Gd p l e R s m args below meth c Q D dA H00 b0 L0 xs sa S0 ad0 z0 u0 nL pc lsA (.inr (.inr v) :: .inl i :: .inr (.inr (some (114, n, a))) :: st) h := by
  intro S ad H locs ls hs
  have hv := hs.2.2.2.1
  have hR := hs.1
  have hSq : S[a]? = some (114, n) := zwp_own (zfa2 (zfa2 (zfa2 hv).2).2).1 (Nat.le_of_ble_eq_true rfl)
  have hlt : a < hz h := by have := (List.getElem?_eq_some_iff.mp hSq).1; have := hR.1; omega
  have hw := zwd_get (dA := dA) (b0 := b0) (sa := sa) (ad := ad) (h := h) hSq
  obtain ⟨x1, x2⟩ := zix hi (zlen hR hSq)
  have ee : va_up (fun j => zad b0 sa ad (hP h a j)) i.toNat (zad b0 sa ad v) = (fun j => zad b0 sa ad (hP (sP h a i.toNat v) a j)) := by
    funext j
    unfold va_up
    rw [hP_sP]
    by_cases hj : j = i.toNat
    · rw [if_pos hj, if_pos ⟨rfl, hj⟩]
    · rw [if_neg hj, if_neg (fun q => hj q.2)]
  show W p l e R s m args below meth c H locs (hz h - z0) (hu h - u0) Q (F0 m pc ls (va_rf (zad b0 sa ad v) :: .int (Int32.ofInt i) :: .ref (ad a) :: st.map (zrv b0 sa ad)))
  cases hzv : zad b0 sa ad v with
  | none =>
    refine va_astqN hx hb hK hR.2.2.1 hR.2.2.2.1 hs.2.2.2.2.1 a 8 hw rfl x1 hd (fun H1 locs1 hP1 hD1 hS1 => ?_)
    rw [x2, ← hzv, ee] at hP1 hD1
    exact k S ad H1 locs1 ls (Std_set hs0 hs hSq rfl rfl (fun a' kn' hne => zce_sP a' kn' hne) (zok_sP hR.2.2.2.2.2.2 hlt (zfa2 hv).1) (zfa2 (zfa2 (zfa2 hv).2).2).2 hP1 hD1 hS1)
  | some y =>
    refine va_astqM hx hb hK hR.2.2.1 hR.2.2.2.1 hs.2.2.2.2.1 a 8 hw rfl (hany S ad H hR (zfa2 hv).1 y hzv) x1 hd (fun H1 locs1 hP1 hD1 hS1 => ?_)
    rw [x2, ← hzv, ee] at hP1 hD1
    exact k S ad H1 locs1 ls (Std_set hs0 hs hSq rfl rfl (fun a' kn' hne => zce_sP a' kn' hne) (zok_sP hR.2.2.2.2.2.2 hlt (zfa2 hv).1) (zfa2 (zfa2 (zfa2 hv).2).2).2 hP1 hD1 hS1)
theorem gd_aastore115 (hx : p.tables.exec = Jvm.exec) (hb : c.code = cc) (hK : va_K D zcl (ztys dA) s) (hs0 : H00.size ≤ s.heap.size ∧ ∀ q : Nat, q < H00.size → s.heap[q]? = H00[q]?) {n a : Nat} {i : Int} {v : Ptr} (hany : ∀ S ad H, RelH D dA H00 b0 L0 xs sa h S ad H → zwp L0 S v → ∀ y, zad b0 sa ad v = some y → va_Any "AlgolMill$Thunk" s H y) (hi : 0 ≤ i ∧ i < (n : Int)) (hd : decode cc pc = .ok (.aastore, 1)) (k : Gd p l e R s m args below meth c Q D dA H00 b0 L0 xs sa S0 ad0 z0 u0 nL (pc + 1) lsA st (sP h a i.toNat v)) : Gd p l e R s m args below meth c Q D dA H00 b0 L0 xs sa S0 ad0 z0 u0 nL pc lsA (.inr (.inr v) :: .inl i :: .inr (.inr (some (115, n, a))) :: st) h := by
  intro S ad H locs ls hs
  have hv := hs.2.2.2.1
  have hR := hs.1
  have hSq : S[a]? = some (115, n) := zwp_own (zfa2 (zfa2 (zfa2 hv).2).2).1 (Nat.le_of_ble_eq_true rfl)
  have hlt : a < hz h := by have := (List.getElem?_eq_some_iff.mp hSq).1; have := hR.1; omega
  have hw := zwd_get (dA := dA) (b0 := b0) (sa := sa) (ad := ad) (h := h) hSq
  obtain ⟨x1, x2⟩ := zix hi (zlen hR hSq)
  have ee : va_up (fun j => zad b0 sa ad (hP h a j)) i.toNat (zad b0 sa ad v) = (fun j => zad b0 sa ad (hP (sP h a i.toNat v) a j)) := by
    funext j
    unfold va_up
    rw [hP_sP]
    by_cases hj : j = i.toNat
    · rw [if_pos hj, if_pos ⟨rfl, hj⟩]
    · rw [if_neg hj, if_neg (fun q => hj q.2)]
  show W p l e R s m args below meth c H locs (hz h - z0) (hu h - u0) Q (F0 m pc ls (va_rf (zad b0 sa ad v) :: .int (Int32.ofInt i) :: .ref (ad a) :: st.map (zrv b0 sa ad)))
  cases hzv : zad b0 sa ad v with
  | none =>
    refine va_astqN hx hb hK hR.2.2.1 hR.2.2.2.1 hs.2.2.2.2.1 a 9 hw rfl x1 hd (fun H1 locs1 hP1 hD1 hS1 => ?_)
    rw [x2, ← hzv, ee] at hP1 hD1
    exact k S ad H1 locs1 ls (Std_set hs0 hs hSq rfl rfl (fun a' kn' hne => zce_sP a' kn' hne) (zok_sP hR.2.2.2.2.2.2 hlt (zfa2 hv).1) (zfa2 (zfa2 (zfa2 hv).2).2).2 hP1 hD1 hS1)
  | some y =>
    refine va_astqM hx hb hK hR.2.2.1 hR.2.2.2.1 hs.2.2.2.2.1 a 9 hw rfl (hany S ad H hR (zfa2 hv).1 y hzv) x1 hd (fun H1 locs1 hP1 hD1 hS1 => ?_)
    rw [x2, ← hzv, ee] at hP1 hD1
    exact k S ad H1 locs1 ls (Std_set hs0 hs hSq rfl rfl (fun a' kn' hne => zce_sP a' kn' hne) (zok_sP hR.2.2.2.2.2.2 hlt (zfa2 hv).1) (zfa2 (zfa2 (zfa2 hv).2).2).2 hP1 hD1 hS1)
theorem gd_aastore116 (hx : p.tables.exec = Jvm.exec) (hb : c.code = cc) (hK : va_K D zcl (ztys dA) s) (hs0 : H00.size ≤ s.heap.size ∧ ∀ q : Nat, q < H00.size → s.heap[q]? = H00[q]?) {n a : Nat} {i : Int} {v : Ptr} (hany : ∀ S ad H, RelH D dA H00 b0 L0 xs sa h S ad H → zwp L0 S v → ∀ y, zad b0 sa ad v = some y → va_Any "java/lang/String" s H y) (hi : 0 ≤ i ∧ i < (n : Int)) (hd : decode cc pc = .ok (.aastore, 1)) (k : Gd p l e R s m args below meth c Q D dA H00 b0 L0 xs sa S0 ad0 z0 u0 nL (pc + 1) lsA st (sP h a i.toNat v)) : Gd p l e R s m args below meth c Q D dA H00 b0 L0 xs sa S0 ad0 z0 u0 nL pc lsA (.inr (.inr v) :: .inl i :: .inr (.inr (some (116, n, a))) :: st) h := by
  intro S ad H locs ls hs
  have hv := hs.2.2.2.1
  have hR := hs.1
  have hSq : S[a]? = some (116, n) := zwp_own (zfa2 (zfa2 (zfa2 hv).2).2).1 (Nat.le_of_ble_eq_true rfl)
  have hlt : a < hz h := by have := (List.getElem?_eq_some_iff.mp hSq).1; have := hR.1; omega
  have hw := zwd_get (dA := dA) (b0 := b0) (sa := sa) (ad := ad) (h := h) hSq
  obtain ⟨x1, x2⟩ := zix hi (zlen hR hSq)
  have ee : va_up (fun j => zad b0 sa ad (hP h a j)) i.toNat (zad b0 sa ad v) = (fun j => zad b0 sa ad (hP (sP h a i.toNat v) a j)) := by
    funext j
    unfold va_up
    rw [hP_sP]
    by_cases hj : j = i.toNat
    · rw [if_pos hj, if_pos ⟨rfl, hj⟩]
    · rw [if_neg hj, if_neg (fun q => hj q.2)]
  show W p l e R s m args below meth c H locs (hz h - z0) (hu h - u0) Q (F0 m pc ls (va_rf (zad b0 sa ad v) :: .int (Int32.ofInt i) :: .ref (ad a) :: st.map (zrv b0 sa ad)))
  cases hzv : zad b0 sa ad v with
  | none =>
    refine va_astqN hx hb hK hR.2.2.1 hR.2.2.2.1 hs.2.2.2.2.1 a 10 hw rfl x1 hd (fun H1 locs1 hP1 hD1 hS1 => ?_)
    rw [x2, ← hzv, ee] at hP1 hD1
    exact k S ad H1 locs1 ls (Std_set hs0 hs hSq rfl rfl (fun a' kn' hne => zce_sP a' kn' hne) (zok_sP hR.2.2.2.2.2.2 hlt (zfa2 hv).1) (zfa2 (zfa2 (zfa2 hv).2).2).2 hP1 hD1 hS1)
  | some y =>
    refine va_astqM hx hb hK hR.2.2.1 hR.2.2.2.1 hs.2.2.2.2.1 a 10 hw rfl (hany S ad H hR (zfa2 hv).1 y hzv) x1 hd (fun H1 locs1 hP1 hD1 hS1 => ?_)
    rw [x2, ← hzv, ee] at hP1 hD1
    exact k S ad H1 locs1 ls (Std_set hs0 hs hSq rfl rfl (fun a' kn' hne => zce_sP a' kn' hne) (zok_sP hR.2.2.2.2.2.2 hlt (zfa2 hv).1) (zfa2 (zfa2 (zfa2 hv).2).2).2 hP1 hD1 hS1)
theorem gd_alen101 (hx : p.tables.exec = Jvm.exec) (hb : c.code = cc) (hK : va_K D zcl (ztys dA) s) {n a : Nat} (hd : decode cc pc = .ok (.arraylength, 1)) (k : Gd p l e R s m args below meth c Q D dA H00 b0 L0 xs sa S0 ad0 z0 u0 nL (pc + 1) lsA (.inl (n : Int) :: st) h) : Gd p l e R s m args below meth c Q D dA H00 b0 L0 xs sa S0 ad0 z0 u0 nL pc lsA (.inr (.inr (some (101, n, a))) :: st) h := by
  intro S ad H locs ls hs
  have hv := hs.2.2.2.1
  have hR := hs.1
  have hSq : S[a]? = some (101, n) := zwp_own (zfa2 hv).1 (Nat.le_of_ble_eq_true rfl)
  have hn := zlen hR hSq
  have hw := zwd_get (dA := dA) (b0 := b0) (sa := sa) (ad := ad) (h := h) hSq
  have k2 := k S ad H locs ls (hs.stk (fun hv => zfa (show i32 (n : Int) from ⟨by omega, by omega⟩) (zfa2 hv).2))
  exact va_alen hx hb hK hR.2.2.1 a 0 hw rfl rfl hd k2
theorem gd_alen102 (hx : p.tables.exec = Jvm.exec) (hb : c.code = cc) (hK : va_K D zcl (ztys dA) s) {n a : Nat} (hd : decode cc pc = .ok (.arraylength, 1)) (k : Gd p l e R s m args below meth c Q D dA H00 b0 L0 xs sa S0 ad0 z0 u0 nL (pc + 1) lsA (.inl (n : Int) :: st) h) : Gd p l e R s m args below meth c Q D dA H00 b0 L0 xs sa S0 ad0 z0 u0 nL pc lsA (.inr (.inr (some (102, n, a))) :: st) h := by
  intro S ad H locs ls hs
  have hv := hs.2.2.2.1
  have hR := hs.1
  have hSq : S[a]? = some (102, n) := zwp_own (zfa2 hv).1 (Nat.le_of_ble_eq_true rfl)
  have hn := zlen hR hSq
  have hw := zwd_get (dA := dA) (b0 := b0) (sa := sa) (ad := ad) (h := h) hSq
  have k2 := k S ad H locs ls (hs.stk (fun hv => zfa (show i32 (n : Int) from ⟨by omega, by omega⟩) (zfa2 hv).2))
  exact va_alen hx hb hK hR.2.2.1 a 1 hw rfl rfl hd k2
theorem gd_alen103 (hx : p.tables.exec = Jvm.exec) (hb : c.code = cc) (hK : va_K D zcl (ztys dA) s) {n a : Nat} (hd : decode cc pc = .ok (.arraylength, 1)) (k : Gd p l e R s m args below meth c Q D dA H00 b0 L0 xs sa S0 ad0 z0 u0 nL (pc + 1) lsA (.inl (n : Int) :: st) h) : Gd p l e R s m args below meth c Q D dA H00 b0 L0 xs sa S0 ad0 z0 u0 nL pc lsA (.inr (.inr (some (103, n, a))) :: st) h := by
  intro S ad H locs ls hs
  have hv := hs.2.2.2.1
  have hR := hs.1
  have hSq : S[a]? = some (103, n) := zwp_own (zfa2 hv).1 (Nat.le_of_ble_eq_true rfl)
  have hn := zlen hR hSq
  have hw := zwd_get (dA := dA) (b0 := b0) (sa := sa) (ad := ad) (h := h) hSq
  have k2 := k S ad H locs ls (hs.stk (fun hv => zfa (show i32 (n : Int) from ⟨by omega, by omega⟩) (zfa2 hv).2))
  exact va_alen hx hb hK hR.2.2.1 a 2 hw rfl rfl hd k2
theorem gd_alen104 (hx : p.tables.exec = Jvm.exec) (hb : c.code = cc) (hK : va_K D zcl (ztys dA) s) {n a : Nat} (hd : decode cc pc = .ok (.arraylength, 1)) (k : Gd p l e R s m args below meth c Q D dA H00 b0 L0 xs sa S0 ad0 z0 u0 nL (pc + 1) lsA (.inl (n : Int) :: st) h) : Gd p l e R s m args below meth c Q D dA H00 b0 L0 xs sa S0 ad0 z0 u0 nL pc lsA (.inr (.inr (some (104, n, a))) :: st) h := by
  intro S ad H locs ls hs
  have hv := hs.2.2.2.1
  have hR := hs.1
  have hSq : S[a]? = some (104, n) := zwp_own (zfa2 hv).1 (Nat.le_of_ble_eq_true rfl)
  have hn := zlen hR hSq
  have hw := zwd_get (dA := dA) (b0 := b0) (sa := sa) (ad := ad) (h := h) hSq
  have k2 := k S ad H locs ls (hs.stk (fun hv => zfa (show i32 (n : Int) from ⟨by omega, by omega⟩) (zfa2 hv).2))
  exact va_alen hx hb hK hR.2.2.1 a 3 hw rfl rfl hd k2
theorem gd_alen110 (hx : p.tables.exec = Jvm.exec) (hb : c.code = cc) (hK : va_K D zcl (ztys dA) s) {n a : Nat} (hd : decode cc pc = .ok (.arraylength, 1)) (k : Gd p l e R s m args below meth c Q D dA H00 b0 L0 xs sa S0 ad0 z0 u0 nL (pc + 1) lsA (.inl (n : Int) :: st) h) : Gd p l e R s m args below meth c Q D dA H00 b0 L0 xs sa S0 ad0 z0 u0 nL pc lsA (.inr (.inr (some (110, n, a))) :: st) h := by
  intro S ad H locs ls hs
  have hv := hs.2.2.2.1
  have hR := hs.1
  have hSq : S[a]? = some (110, n) := zwp_own (zfa2 hv).1 (Nat.le_of_ble_eq_true rfl)
  have hn := zlen hR hSq
  have hw := zwd_get (dA := dA) (b0 := b0) (sa := sa) (ad := ad) (h := h) hSq
  have k2 := k S ad H locs ls (hs.stk (fun hv => zfa (show i32 (n : Int) from ⟨by omega, by omega⟩) (zfa2 hv).2))
  exact va_alen hx hb hK hR.2.2.1 a 4 hw rfl rfl hd k2
theorem gd_alen111 (hx : p.tables.exec = Jvm.exec) (hb : c.code = cc) (hK : va_K D zcl (ztys dA) s) {n a : Nat} (hd : decode cc pc = .ok (.arraylength, 1)) (k : Gd p l e R s m args below meth c Q D dA H00 b0 L0 xs sa S0 ad0 z0 u0 nL (pc + 1) lsA (.inl (n : Int) :: st) h) : Gd p l e R s m args below meth c Q D dA H00 b0 L0 xs sa S0 ad0 z0 u0 nL pc lsA (.inr (.inr (some (111, n, a))) :: st) h := by
  intro S ad H locs ls hs
  have hv := hs.2.2.2.1
  have hR := hs.1
  have hSq : S[a]? = some (111, n) := zwp_own (zfa2 hv).1 (Nat.le_of_ble_eq_true rfl)
  have hn := zlen hR hSq
  have hw := zwd_get (dA := dA) (b0 := b0) (sa := sa) (ad := ad) (h := h) hSq
  have k2 := k S ad H locs ls (hs.stk (fun hv => zfa (show i32 (n : Int) from ⟨by omega, by omega⟩) (zfa2 hv).2))
  exact va_alen hx hb hK hR.2.2.1 a 5 hw rfl rfl hd k2
theorem gd_alen112 (hx : p.tables.exec = Jvm.exec) (hb : c.code = cc) (hK : va_K D zcl (ztys dA) s) {n a : Nat} (hd : decode cc pc = .ok (.arraylength, 1)) (k : Gd p l e R s m args below meth c Q D dA H00 b0 L0 xs sa S0 ad0 z0 u0 nL (pc + 1) lsA (.inl (n : Int) :: st) h) : Gd p l e R s m args below meth c Q D dA H00 b0 L0 xs sa S0 ad0 z0 u0 nL pc lsA (.inr (.inr (some (112, n, a))) :: st) h := by
  intro S ad H locs ls hs
  have hv := hs.2.2.2.1
  have hR := hs.1
  have hSq : S[a]? = some (112, n) := zwp_own (zfa2 hv).1 (Nat.le_of_ble_eq_true rfl)
  have hn := zlen hR hSq
  have hw := zwd_get (dA := dA) (b0 := b0) (sa := sa) (ad := ad) (h := h) hSq
  have k2 := k S ad H locs ls (hs.stk (fun hv => zfa (show i32 (n : Int) from ⟨by omega, by omega⟩) (zfa2 hv).2))
  exact va_alen hx hb hK hR.2.2.1 a 6 hw rfl rfl hd k2
theorem gd_alen113 (hx : p.tables.exec = Jvm.exec) (hb : c.code = cc) (hK : va_K D zcl (ztys dA) s) {n a : Nat} (hd : decode cc pc = .ok (.arraylength, 1)) (k : Gd p l e R s m args below meth c Q D dA H00 b0 L0 xs sa S0 ad0 z0 u0 nL (pc + 1) lsA (.inl (n : Int) :: st) h) : Gd p l e R s m args below meth c Q D dA H00 b0 L0 xs sa S0 ad0 z0 u0 nL pc lsA (.inr (.inr (some (113, n, a))) :: st) h := by
  intro S ad H locs ls hs
  have hv := hs.2.2.2.1
  have hR := hs.1
  have hSq : S[a]? = some (113, n) := zwp_own (zfa2 hv).1 (Nat.le_of_ble_eq_true rfl)
  have hn := zlen hR hSq
  have hw := zwd_get (dA := dA) (b0 := b0) (sa := sa) (ad := ad) (h := h) hSq
  have k2 := k S ad H locs ls (hs.stk (fun hv => zfa (show i32 (n : Int) from ⟨by omega, by omega⟩) (zfa2 hv).2))
  exact va_alen hx hb hK hR.2.2.1 a 7 hw rfl rfl hd k2
theorem gd_alen114 (hx : p.tables.exec = Jvm.exec) (hb : c.code = cc) (hK : va_K D zcl (ztys dA) s) {n a : Nat} (hd : decode cc pc = .ok (.arraylength, 1)) (k : Gd p l e R s m args below meth c Q D dA H00 b0 L0 xs sa S0 ad0 z0 u0 nL (pc + 1) lsA (.inl (n : Int) :: st) h) : Gd p l e R s m args below meth c Q D dA H00 b0 L0 xs sa S0 ad0 z0 u0 nL pc lsA (.inr (.inr (some (114, n, a))) :: st) h := by
  intro S ad H locs ls hs
  have hv := hs.2.2.2.1
  have hR := hs.1
  have hSq : S[a]? = some (114, n) := zwp_own (zfa2 hv).1 (Nat.le_of_ble_eq_true rfl)
  have hn := zlen hR hSq
  have hw := zwd_get (dA := dA) (b0 := b0) (sa := sa) (ad := ad) (h := h) hSq
  have k2 := k S ad H locs ls (hs.stk (fun hv => zfa (show i32 (n : Int) from ⟨by omega, by omega⟩) (zfa2 hv).2))
  exact va_alen hx hb hK hR.2.2.1 a 8 hw rfl rfl hd k2
theorem gd_alen115 (hx : p.tables.exec = Jvm.exec) (hb : c.code = cc) (hK : va_K D zcl (ztys dA) s) {n a : Nat} (hd : decode cc pc = .ok (.arraylength, 1)) (k : Gd p l e R s m args below meth c Q D dA H00 b0 L0 xs sa S0 ad0 z0 u0 nL (pc + 1) lsA (.inl (n : Int) :: st) h) : Gd p l e R s m args below meth c Q D dA H00 b0 L0 xs sa S0 ad0 z0 u0 nL pc lsA (.inr (.inr (some (115, n, a))) :: st) h := by
  intro S ad H locs ls hs
  have hv := hs.2.2.2.1
  have hR := hs.1
  have hSq : S[a]? = some (115, n) := zwp_own (zfa2 hv).1 (Nat.le_of_ble_eq_true rfl)
  have hn := zlen hR hSq
  have hw := zwd_get (dA := dA) (b0 := b0) (sa := sa) (ad := ad) (h := h) hSq
  have k2 := k S ad H locs ls (hs.stk (fun hv => zfa (show i32 (n : Int) from ⟨by omega, by omega⟩) (zfa2 hv).2))
  exact va_alen hx hb hK hR.2.2.1 a 9 hw rfl rfl hd k2
theorem gd_alen116 (hx : p.tables.exec = Jvm.exec) (hb : c.code = cc) (hK : va_K D zcl (ztys dA) s) {n a : Nat} (hd : decode cc pc = .ok (.arraylength, 1)) (k : Gd p l e R s m args below meth c Q D dA H00 b0 L0 xs sa S0 ad0 z0 u0 nL (pc + 1) lsA (.inl (n : Int) :: st) h) : Gd p l e R s m args below meth c Q D dA H00 b0 L0 xs sa S0 ad0 z0 u0 nL pc lsA (.inr (.inr (some (116, n, a))) :: st) h := by
  intro S ad H locs ls hs
  have hv := hs.2.2.2.1
  have hR := hs.1
  have hSq : S[a]? = some (116, n) := zwp_own (zfa2 hv).1 (Nat.le_of_ble_eq_true rfl)
  have hn := zlen hR hSq
  have hw := zwd_get (dA := dA) (b0 := b0) (sa := sa) (ad := ad) (h := h) hSq
  have k2 := k S ad H locs ls (hs.stk (fun hv => zfa (show i32 (n : Int) from ⟨by omega, by omega⟩) (zfa2 hv).2))
  exact va_alen hx hb hK hR.2.2.1 a 10 hw rfl rfl hd k2
theorem gd_sload (hx : p.tables.exec = Jvm.exec) (hb : c.code = cc) (hX : va_X b0 L0 xs s s.heap) (hL : L0 ≤ 384) (hbl : b0 < s.heap.size) (hbA : ¬ H00.size ≤ b0) {n a : Nat} {i : Int} (hi : 0 ≤ i ∧ i < (n : Int)) (hd : decode cc pc = .ok (.iaload, 1)) (k : Gd p l e R s m args below meth c Q D dA H00 b0 L0 xs sa S0 ad0 z0 u0 nL (pc + 1) lsA (.inl (hI h a i.toNat) :: st) h) : Gd p l e R s m args below meth c Q D dA H00 b0 L0 xs sa S0 ad0 z0 u0 nL pc lsA (.inl i :: .inr (.inr (some (200, n, a))) :: st) h := by
  intro S ad H locs ls hs
  have hv := hs.2.2.2.1
  have hR := hs.1
  have hq : n = L0 ∧ a = 1000000000 := by
    rcases (zfa2 (zfa2 hv).2).1 with h1 | h1 | h1
    · exact h1.2
    · exact absurd h1.1 (by show ¬ (200 : Nat) = 201; decide)
    · exact absurd h1.1 (by show ¬ (200 : Nat) < 200; decide)
  obtain ⟨rfl, rfl⟩ := hq
  obtain ⟨x1, x2⟩ := zix hi (by omega)
  have k2 := k S ad H locs ls (hs.stk (fun hv => zfa (hR.2.2.2.2.2.2.1 _ _).1 (zfa2 (zfa2 hv).2).2))
  refine va_sld (A := fun q => H00.size ≤ q) hx hb hX hbl hbA hs.2.2.2.2.1 x1 hd ?_
  rw [x2]
  have e := hR.2.2.2.2.2.2.2.2.1 i.toNat (by omega)
  have e2 : xs i.toNat = Int32.ofInt (hI h 1000000000 i.toNat) := by rw [e, Int32.ofInt_toInt]
  rw [e2]
  exact k2
theorem gd_slen (hx : p.tables.exec = Jvm.exec) (hb : c.code = cc) (hX : va_X b0 L0 xs s s.heap) (hL : L0 ≤ 384) (hbl : b0 < s.heap.size) (hbA : ¬ H00.size ≤ b0) {n a : Nat} (hd : decode cc pc = .ok (.arraylength, 1)) (k : Gd p l e R s m args below meth c Q D dA H00 b0 L0 xs sa S0 ad0 z0 u0 nL (pc + 1) lsA (.inl (n : Int) :: st) h) : Gd p l e R s m args below meth c Q D dA H00 b0 L0 xs sa S0 ad0 z0 u0 nL pc lsA (.inr (.inr (some (200, n, a))) :: st) h := by
  intro S ad H locs ls hs
  have hv := hs.2.2.2.1
  have hq : n = L0 ∧ a = 1000000000 := by
    rcases (zfa2 hv).1 with h1 | h1 | h1
    · exact h1.2
    · exact absurd h1.1 (by show ¬ (200 : Nat) = 201; decide)
    · exact absurd h1.1 (by show ¬ (200 : Nat) < 200; decide)
  obtain ⟨rfl, rfl⟩ := hq
  have k2 := k S ad H locs ls (hs.stk (fun hv => zfa (show i32 (n : Int) from ⟨by omega, by omega⟩) (zfa2 hv).2))
  exact va_slen (A := fun q => H00.size ≤ q) hx hb hX hbl hbA hs.2.2.2.2.1 hd k2
end Arr
