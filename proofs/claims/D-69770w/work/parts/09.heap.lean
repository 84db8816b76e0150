/-- what the tables say of a field's access: its link, the class's layout -/
def FOk (own : String) (idx x : Nat) : Prop := ∀ kd, kok (x / 1024) kd = true → kd < 44 ∧ x / 4 % 256 < (zcn kd).2.2 ∧ zft kd (x / 4 % 256) = x % 4 ∧ (∀ w ∈ u_ws (zcn kd).1 (zcn kd).2.1 (zcn kd).2.2, w ∈ lw_all) ∧
  ∃ ref, (Cond.fieldLink own idx ref ((zcn kd).2.1 (x / 4 % 256)).2.1 ((zcn kd).2.1 (x / 4 % 256)).2.2.1 ∈ lw_all ∨ ∃ host, Cond.fieldLinkNest own idx ref ((zcn kd).2.1 (x / 4 % 256)).2.1 ((zcn kd).2.1 (x / 4 % 256)).2.2.1 host ∈ lw_tbl) ∧
    (ref = ((zcn kd).2.1 (x / 4 % 256)).1 ∨ Cond.sameField ref ((zcn kd).2.1 (x / 4 % 256)).1 ((zcn kd).2.1 (x / 4 % 256)).2.1 ((zcn kd).2.1 (x / 4 % 256)).2.2.1 ∈ lw_all)
/-- the words hold -/
def TBs (args : Array Value) (s : State) : Prop := ∀ w ∈ lw_tbl, zwarm w = true → w.before args s = true
theorem zwarm_good {w : Cond} (h : goodWord w = true) : zwarm w = true := by
  cases w
  case arrayOver t => cases t <;> first | rfl | exact h
  all_goals first | rfl | exact h
theorem TBs.all {args : Array Value} {s : State} (h : TBs args s) : ∀ w ∈ lw_all, w.before args s = true := fun w hw => h w (lw_all_tbl hw) (zwarm_good (List.mem_filter.mp hw).2)
theorem TBs.warm {args a' : Array Value} {s U : State} (hW : s.WarmedH U.vm) (h : TBs args s) : TBs a' U := fun w hw hz => zwarm_at hW hz (h w hw hz)
theorem zcl_at {k : Nat} (h : k < 44) : zcl[k]? = some (zcn k) := by
  have hl : zcl.length = 44 := rfl
  rw [zcn, List.getD_eq_getElem?_getD, List.getElem?_eq_getElem (by omega)]; rfl
section Heap
variable {p : Program} {l : Launch} {e : Env} {R : Room} {s : State} {m : MethodId} {args : Array Value} {below : List Frame} {meth : Method} {c : Code} {Q : State → Prop}
variable {D : va_G} {dA : Nat → ClassId} {H00 : Heap} {b0 L0 : Nat} {xs : Nat → Int32} {sa : Nat → Nat} {S0 : List (Nat × Nat)} {ad0 : Nat → Nat} {z0 u0 nL : Nat}
variable {cc : ByteArray} {pc : Nat} {lsA : SL} {st : List AV} {h : AH}
theorem zwp_own {S : List (Nat × Nat)} {q : Nat × Nat × Nat} (hp : zwp L0 S (some q)) (hk : q.1 < 200) : S[q.2.2]? = some (q.1, q.2.1) := by
  rcases hp with h1 | h1 | h1
  · omega
  · omega
  · exact h1.2
theorem zad_own {ad : Nat → Nat} {q : Nat × Nat × Nat} (hk : q.1 < 200) : zad b0 sa ad (some q) = some (ad q.2.2) := by
  simp only [zad]; rw [if_neg (by omega), if_neg (by omega)]
theorem zce_obj {ad : Nat → Nat} {a : Nat} {kn : Nat × Nat} (hk : kn.1 < 44) : zce dA b0 sa ad h a kn = .inr (kn.1, (List.range (zcn kn.1).2.2).map (fun j => zrv b0 sa ad (gv (zft kn.1 j) h a j))) := by
  rw [zce, if_pos (by omega)]
theorem gd_getfield (hx : p.tables.exec = Jvm.exec) (hb : c.code = cc) {own : String} (hown : s.vm.findClass own = some m.cls) (htb : TBs args s) (hK : va_K D zcl (ztys dA) s) {x idx : Nat} (hf : FOk own idx x) {q : Nat × Nat × Nat} (hk : kok (x / 1024) q.1 = true)
    (hd : decode cc pc = .ok (.getfield idx, 3)) (k : Gd p l e R s m args below meth c Q D dA H00 b0 L0 xs sa S0 ad0 z0 u0 nL (pc + 3) lsA (gv (x % 4) h q.2.2 (x / 4 % 256) :: st) h) : Gd p l e R s m args below meth c Q D dA H00 b0 L0 xs sa S0 ad0 z0 u0 nL pc lsA (.inr (.inr (some q)) :: st) h := by
  intro S ad H locs ls hs
  obtain ⟨f1, f2, f3, f4, ref, f5, f6⟩ := hf _ hk
  have hv := hs.2.2.2.1
  have hR := hs.1
  have hSq := zwp_own (zfa2 hv).1 (show q.1 < 200 by omega)
  have hw := zwd_get (dA := dA) (b0 := b0) (sa := sa) (ad := ad) (h := h) hSq
  rw [zce_obj f1] at hw
  have k2 := k S ad H locs ls (hs.stk (fun hv => zfa (zok_gv hR.2.2.2.2.2.2 _ _ _) (zfa2 hv).2))
  show W p l e R s m args below meth c H locs (hz h - z0) (hu h - u0) Q (F0 m pc ls (va_rf (zad b0 sa ad (some q)) :: st.map (zrv b0 sa ad)))
  rw [zad_own (show q.1 < 200 by omega)]
  have hfs : ((List.range (zcn q.1).2.2).map (fun j => zrv b0 sa ad (gv (zft q.1 j) h q.2.2 j)))[x / 4 % 256]? = some (zrv b0 sa ad (gv (x % 4) h q.2.2 (x / 4 % 256))) := by
    rw [List.getElem?_map, List.getElem?_range f2, ← f3]; rfl
  have hsame : ∀ y, s.fieldFound? ((zcn q.1).2.1 (x / 4 % 256)).1 ((zcn q.1).2.1 (x / 4 % 256)).2.1 ((zcn q.1).2.1 (x / 4 % 256)).2.2.1 = some y → s.fieldFound? ref ((zcn q.1).2.1 (x / 4 % 256)).2.1 ((zcn q.1).2.1 (x / 4 % 256)).2.2.1 = some y := by
    rcases f6 with rfl | f6
    · exact fun y hy => hy
    · exact fun y hy => u_same (htb.all _ f6) y hy
  rcases f5 with f5 | ⟨host, f5⟩
  · exact va_get hx hb htb.all f4 hown hK hR.2.2.1 q.2.2 hw (zcl_at f1) _ f2 (htb.all _ f5) hsame hfs hd k2
  · exact va_getN hx hb htb.all f4 hown hK hR.2.2.1 q.2.2 hw (zcl_at f1) _ f2 (htb _ f5 rfl) hsame hfs hd k2
end Heap
