section Misc
variable {p : Program} {l : Launch} {e : Env} {R : Room} {s : State} {m : MethodId} {args : Array Value} {below : List Frame} {meth : Method} {c : Code} {Q : State → Prop}
variable {D : va_G} {dA : Nat → ClassId} {H00 : Heap} {b0 L0 : Nat} {xs : Nat → Int32} {sa : Nat → Nat} {S0 : List (Nat × Nat)} {ad0 : Nat → Nat} {z0 u0 nL : Nat}
variable {cc : ByteArray} {pc : Nat} {lsA : SL} {st : List AV} {h : AH}
theorem zad_inj {S : List (Nat × Nat)} {ad : Nat → Nat} {H : Heap} (hR : RelH D dA H00 b0 L0 xs sa h S ad H) {x y : Ptr} (hx : zwp L0 S x) (hy : zwp L0 S y) (h1 : ∀ q, x = some q → q.1 < 200) (h2 : ∀ q, y = some q → q.1 < 200) : zad b0 sa ad x = zad b0 sa ad y ↔ x = y := by
  refine ⟨fun he => ?_, fun he => by rw [he]⟩
  cases x with
  | none => cases y with
    | none => rfl
    | some q => cases he
  | some q =>
    cases y with
    | none => cases he
    | some r =>
      rw [zad_own (h1 q rfl), zad_own (h2 r rfl)] at he
      have hq := zwp_own hx (h1 q rfl)
      have hr := zwp_own hy (h2 r rfl)
      have e2 : q.2.2 = r.2.2 := hR.2.2.2.1.1 q.2.2 r.2.2 _ _ (zwd_get hq) (zwd_get hr) (Option.some.inj he)
      rw [e2] at hq
      have e3 := hq.symm.trans hr
      obtain ⟨a, b, d⟩ := q
      obtain ⟨a', b', d'⟩ := r
      simp only [Option.some.injEq, Prod.mk.injEq] at e3 e2
      rw [e3.1, e3.2, e2]
theorem gd_acmp (hx : p.tables.exec = Jvm.exec) (hb : c.code = cc) {off : Int} {x y : Ptr} {cn : Jvm.ClassFile.ACond} {t : Nat} (hw : (∀ q, x = some q → q.1 < 200) ∧ ∀ q, y = some q → q.1 < 200) (ht : (pc : Int) + off = (t : Int)) (hd : decode cc pc = .ok (.if_acmp cn off, 3)) (k1 : acnd cn x y → Gd p l e R s m args below meth c Q D dA H00 b0 L0 xs sa S0 ad0 z0 u0 nL t lsA st h) (k2 : ¬ acnd cn x y → Gd p l e R s m args below meth c Q D dA H00 b0 L0 xs sa S0 ad0 z0 u0 nL (pc + 3) lsA st h) : Gd p l e R s m args below meth c Q D dA H00 b0 L0 xs sa S0 ad0 z0 u0 nL pc lsA (.inr (.inr y) :: .inr (.inr x) :: st) h := by
  intro S ad H locs ls hs
  have hv := hs.2.2.2.1
  have hs2 := hs.stk (fun hv => (zfa2 (zfa2 hv).2).2)
  have ei := zad_inj hs.1 (zfa2 (zfa2 hv).2).1 (zfa2 hv).1 hw.1 hw.2
  cases cn
  · exact lv_acmp_eq hx hb hd ht (fun q => k1 (ei.mp q) S ad H locs ls hs2) (fun q => k2 (fun r => q (ei.mpr r)) S ad H locs ls hs2)
  · exact lv_acmp_ne hx hb hd ht (fun q => k1 (fun r => q (ei.mpr r)) S ad H locs ls hs2) (fun q => k2 (fun r => r (ei.mp q)) S ad H locs ls hs2)
theorem gd_ldci (hx : p.tables.exec = Jvm.exec) (hb : c.code = cc) {own : String} (hown : s.vm.findClass own = some m.cls) {idx : Nat} {v : Int} (hi : i32 v) (hc : (Jvm.Cond.constant own idx (Int32.ofInt v)).before args s = true) (hd : decode cc pc = .ok (.ldc idx, 2)) (k : Gd p l e R s m args below meth c Q D dA H00 b0 L0 xs sa S0 ad0 z0 u0 nL (pc + 2) lsA (.inl v :: st) h) : Gd p l e R s m args below meth c Q D dA H00 b0 L0 xs sa S0 ad0 z0 u0 nL pc lsA st h := by
  intro S ad H locs ls hs
  exact lv_ldc hx hb hown hc hd (k S ad H locs ls (hs.stk (fun hv => zfa hi hv)))
theorem gd_ldcwi (hx : p.tables.exec = Jvm.exec) (hb : c.code = cc) {own : String} (hown : s.vm.findClass own = some m.cls) {idx : Nat} {v : Int} (hi : i32 v) (hc : (Jvm.Cond.constant own idx (Int32.ofInt v)).before args s = true) (hd : decode cc pc = .ok (.ldc_w idx, 3)) (k : Gd p l e R s m args below meth c Q D dA H00 b0 L0 xs sa S0 ad0 z0 u0 nL (pc + 3) lsA (.inl v :: st) h) : Gd p l e R s m args below meth c Q D dA H00 b0 L0 xs sa S0 ad0 z0 u0 nL pc lsA st h := by
  intro S ad H locs ls hs
  exact lv_ldcw hx hb hown hc hd (k S ad H locs ls (hs.stk (fun hv => zfa hi hv)))
theorem gd_ldc2 (hx : p.tables.exec = Jvm.exec) (hb : c.code = cc) {own : String} (hown : s.vm.findClass own = some m.cls) {idx : Nat} {v : Int} (hi : i64 v) (hc : (Jvm.Cond.constantLong own idx (Int64.ofInt v)).before args s = true) (hd : decode cc pc = .ok (.ldc2_w idx, 3)) (k : Gd p l e R s m args below meth c Q D dA H00 b0 L0 xs sa S0 ad0 z0 u0 nL (pc + 3) lsA (.inr (.inl v) :: st) h) : Gd p l e R s m args below meth c Q D dA H00 b0 L0 xs sa S0 ad0 z0 u0 nL pc lsA st h := by
  intro S ad H locs ls hs
  exact lv_ldc2 hx hb hown hc hd (k S ad H locs ls (hs.stk (fun hv => zfa hi hv)))
theorem gd_ldcs (hx : p.tables.exec = Jvm.exec) (hb : c.code = cc) {own tx : String} (hown : s.vm.findClass own = some m.cls) {idx i : Nat} (hi : i < 31) (hc : vk_R own idx tx (sa i) s) (hd : decode cc pc = .ok (.ldc idx, 2)) (k : Gd p l e R s m args below meth c Q D dA H00 b0 L0 xs sa S0 ad0 z0 u0 nL (pc + 2) lsA (.inr (.inr (some (201, i, i))) :: st) h) : Gd p l e R s m args below meth c Q D dA H00 b0 L0 xs sa S0 ad0 z0 u0 nL pc lsA st h := by
  intro S ad H locs ls hs
  exact va_ldcS hx hb hown hc hd (k S ad H locs ls (hs.stk (fun hv => zfa (Or.inr (Or.inl ⟨rfl, rfl, Nat.lt_trans hi (Nat.le_of_ble_eq_true rfl)⟩)) hv)))
theorem gd_ldcws (hx : p.tables.exec = Jvm.exec) (hb : c.code = cc) {own tx : String} (hown : s.vm.findClass own = some m.cls) {idx i : Nat} (hi : i < 31) (hc : vk_R own idx tx (sa i) s) (hargs : vk_R own idx tx (sa i) s → ((Cond.stringRef own idx tx).before args s = true ∧ (Term.string own idx).eval args s none [] s = some (.ref (sa i)))) (hd : decode cc pc = .ok (.ldc_w idx, 3)) (k : Gd p l e R s m args below meth c Q D dA H00 b0 L0 xs sa S0 ad0 z0 u0 nL (pc + 3) lsA (.inr (.inr (some (201, i, i))) :: st) h) : Gd p l e R s m args below meth c Q D dA H00 b0 L0 xs sa S0 ad0 z0 u0 nL pc lsA st h := by
  intro S ad H locs ls hs
  have k2 := k S ad H locs ls (hs.stk (fun hv => zfa (Or.inr (Or.inl ⟨rfl, rfl, Nat.lt_trans hi (Nat.le_of_ble_eq_true rfl)⟩)) hv))
  intro T hT X
  obtain ⟨t, a1, b1⟩ := k2 T hT X
  refine ⟨t, ?_, b1⟩
  obtain ⟨kk, cf, ii, a', hk, hcf, hcp, -, hr, hev'⟩ := Cond.stringRef_spec hown (hargs hc).1
  cases (hargs hc).2.symm.trans hev'
  obtain ⟨k', hk', he⟩ := X.warmed.alike.2.2 _ _ hk
  have hr' : k'.resolved[idx]? = some (some (.string (sa i))) := by
    rcases X.warmed.entry hk hk' idx with h | ⟨h, -⟩
    · rw [h]; exact hr
    · rw [hr] at h; cases h
  subst hb
  jvm_step X.here [hx, hd, Op.ldc_w.wp_string (e := e) (s := T) (f := F0 m pc ls (st.map (zrv b0 sa ad))) X.here.top hk' (by rw [he]; exact hcf) hcp hr']
  exact a1
theorem zrecv {S : List (Nat × Nat)} {ad : Nat → Nat} {H : Heap} (hK : va_K D zcl (ztys dA) s) (hR : RelH D dA H00 b0 L0 xs sa h S ad H) {q : Nat × Nat × Nat} (hq : zwp L0 S (some q)) (hk : q.1 < 44) : ∃ cell : Cell, H[ad q.2.2]? = some cell ∧ cell.vm.isStatics = false ∧ s.vm.findClass (zcn q.1).1 = some cell.cls := by
  have hw := zwd_get (dA := dA) (b0 := b0) (sa := sa) (ad := ad) (h := h) (zwp_own hq (by omega))
  rw [zce_obj hk] at hw
  exact va_recv hK hR.2.2.1 (zcl_at hk) hw
theorem gd_cast (hx : p.tables.exec = Jvm.exec) (hb : c.code = cc) {own : String} (hown : s.vm.findClass own = some m.cls) (hK : va_K D zcl (ztys dA) s) {idx : Nat} {q : Nat × Nat × Nat} (hq : q.1 < 44) (hl : (Cond.classLink own idx (zcn q.1).1).before args s = true) (hc : va_Nw (.castable (zcn q.1).1 (zcn q.1).1) s) (hd : decode cc pc = .ok (.checkcast idx, 3)) (k : Gd p l e R s m args below meth c Q D dA H00 b0 L0 xs sa S0 ad0 z0 u0 nL (pc + 3) lsA (.inr (.inr (some q)) :: st) h) : Gd p l e R s m args below meth c Q D dA H00 b0 L0 xs sa S0 ad0 z0 u0 nL pc lsA (.inr (.inr (some q)) :: st) h := by
  intro S ad H locs ls hs
  have hv := hs.2.2.2.1
  have k2 := k S ad H locs ls hs
  rw [List.map_cons] at k2 ⊢
  have e3 : zrv b0 sa ad (.inr (.inr (some q))) = .ref (ad q.2.2) := by show va_rf (zad b0 sa ad (some q)) = _; rw [zad_own (show q.1 < 200 by omega)]; rfl
  rw [e3] at k2 ⊢
  exact va_castY hx hb hown hl hc (zrecv hK hs.1 (zfa2 hv).1 hq) hd k2
theorem gd_inst (hx : p.tables.exec = Jvm.exec) (hb : c.code = cc) {own : String} (hown : s.vm.findClass own = some m.cls) (hK : va_K D zcl (ztys dA) s) {idx x : Nat} {q : Nat × Nat × Nat} (hq : q.1 < 44) (hl : (Cond.classLink own idx (zcn x).1).before args s = true) (hc : q.1 = x → va_Nw (.castable (zcn q.1).1 (zcn x).1) s) (hnc : q.1 ≠ x → va_Nc (zcn q.1).1 (zcn x).1 s) (hd : decode cc pc = .ok (.instanceof idx, 3)) (k1 : q.1 = x → Gd p l e R s m args below meth c Q D dA H00 b0 L0 xs sa S0 ad0 z0 u0 nL (pc + 3) lsA (.inl 1 :: st) h) (k2 : ¬ q.1 = x → Gd p l e R s m args below meth c Q D dA H00 b0 L0 xs sa S0 ad0 z0 u0 nL (pc + 3) lsA (.inl 0 :: st) h) : Gd p l e R s m args below meth c Q D dA H00 b0 L0 xs sa S0 ad0 z0 u0 nL pc lsA (.inr (.inr (some q)) :: st) h := by
  intro S ad H locs ls hs
  have hv := hs.2.2.2.1
  rw [List.map_cons]
  have e3 : zrv b0 sa ad (.inr (.inr (some q))) = .ref (ad q.2.2) := by show va_rf (zad b0 sa ad (some q)) = _; rw [zad_own (show q.1 < 200 by omega)]; rfl
  rw [e3]
  by_cases hqx : q.1 = x
  · exact va_instY hx hb hown hl (hc hqx) (zrecv hK hs.1 (zfa2 hv).1 hq) hd (k1 hqx S ad H locs ls (hs.stk (fun hv => zfa ⟨by decide, by decide⟩ (zfa2 hv).2)))
  · exact va_instNo hx hb hown hl (hnc hqx) (zrecv hK hs.1 (zfa2 hv).1 hq) hd (k2 hqx S ad H locs ls (hs.stk (fun hv => zfa ⟨by decide, by decide⟩ (zfa2 hv).2)))
end Misc
