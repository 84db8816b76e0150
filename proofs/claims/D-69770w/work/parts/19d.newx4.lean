section Nu
variable {p : Program} {l : Launch} {e : Env} {R : Room} {s : State} {m : MethodId} {args : Array Value} {below : List Frame} {meth : Method} {c : Code} {Q : State → Prop}
variable {D : va_G} {dA : Nat → ClassId} {H00 : Heap} {b0 L0 : Nat} {xs : Nat → Int32} {sa : Nat → Nat} {S0 : List (Nat × Nat)} {ad0 : Nat → Nat} {z0 u0 nL : Nat}
variable {cc : ByteArray} {pc : Nat} {lsA : SL} {st : List AV} {h : AH}
theorem gd_newx (hx : p.tables.exec = Jvm.exec) (hb : c.code = cc) {own : String} (hown : s.vm.findClass own = some m.cls) (hzw : ZW D dA H00 b0 L0 xs sa args s) (hml : c.maxLocals = nL) (hs0 : H00.size ≤ s.heap.size ∧ ∀ q : Nat, q < H00.size → s.heap[q]? = H00[q]?) (hck : ∀ kd, kd < 44 → COk kd) (hlt : l.stackTraces = false) (hf : 6 < R.frames) (hlo : 200 ≤ R.locals) (hcat : zcat st ≤ 8)
    {x k1 k2 : Nat} (hX : XOk x) (hcl : Cond.classLink own k1 (zxn (x / 256)).1 ∈ lw_all) (hln : Cond.methodLink own k2 ⟨(zxn (x / 256)).1, "<init>", "()V"⟩ ∈ lw_all ∨ ∃ host, Cond.methodLinkNest own k2 ⟨(zxn (x / 256)).1, "<init>", "()V"⟩ host ∈ lw_tbl)
    (hm : hz h + 1 ≤ 100000000) (hc1 : hz h + 1 - z0 ≤ R.cells) (hc2 : hu h + x % 256 - u0 ≤ R.slots)
    (d1 : decode cc pc = .ok (.new k1, 3)) (d2 : decode cc (pc + 3) = .ok (.dup, 1)) (d3 : decode cc (pc + 4) = .ok (.invokespecial k2, 3))
    (k : Gd p l e R s m args below meth c Q D dA H00 b0 L0 xs sa S0 ad0 z0 u0 nL (pc + 7) lsA (.inr (.inr (some (x / 256, 0, hz h))) :: st) (al h (x % 256))) : Gd p l e R s m args below meth c Q D dA H00 b0 L0 xs sa S0 ad0 z0 u0 nL pc lsA st h := by
  have htb := hzw.2.1
  have hln2 : (Cond.methodLink own k2 (Bundle.init0 (zxn (x / 256)).1)).before args s = true ∨ ∃ host, (Cond.methodLinkNest own k2 (Bundle.init0 (zxn (x / 256)).1) host).before args s = true := by
    rcases hln with q | ⟨host, q⟩
    · exact Or.inl (htb.all _ q)
    · exact Or.inr ⟨host, htb _ q rfl⟩
  have hcl2 := htb.all _ hcl
  clear hln hcl
  rcases hX with rfl | rfl | rfl | rfl | rfl
  · exact gd_newx0 hx hb hown hzw hml hs0 hck hlt hf hlo hcat (kd := 6) (n := 7) (by decide) (cls := "AlgolMill$Wrong") (names := ["java/lang/RuntimeException", "java/lang/Exception"]) rfl (fun j _ => show "place" ≠ "cause" ∧ "place" ≠ "stackTrace" ∧ "place" ≠ "suppressedExceptions" by decide) (by decide +kernel) (by decide +kernel) (Nat.le_refl _) (zx_c6 htb) (zx_l6 htb) (htb.all _ q190) hcl2 hln2 hm hc1 hc2 d1 d2 d3 k
  · exact gd_newx0 hx hb hown hzw hml hs0 hck hlt hf hlo hcat (kd := 40) (n := 6) (by decide) (cls := "java/lang/ArithmeticException") (names := ["java/lang/RuntimeException", "java/lang/Exception"]) rfl (fun j hj => absurd hj (Nat.not_lt_zero j)) (by decide +kernel) (by decide +kernel) (Nat.le_refl _) (zx_c40 htb) (zx_l40 htb) (htb.all _ q195) hcl2 hln2 hm hc1 hc2 d1 d2 d3 k
  · exact gd_newx0 hx hb hown hzw hml hs0 hck hlt hf hlo hcat (kd := 41) (n := 6) (by decide) (cls := "java/lang/IndexOutOfBoundsException") (names := ["java/lang/RuntimeException", "java/lang/Exception"]) rfl (fun j hj => absurd hj (Nat.not_lt_zero j)) (by decide +kernel) (by decide +kernel) (Nat.le_refl _) (zx_c41 htb) (zx_l41 htb) (htb.all _ q196) hcl2 hln2 hm hc1 hc2 d1 d2 d3 k
  · exact gd_newx0 hx hb hown hzw hml hs0 hck hlt hf hlo hcat (kd := 42) (n := 6) (by decide) (cls := "java/lang/IllegalArgumentException") (names := ["java/lang/RuntimeException", "java/lang/Exception"]) rfl (fun j hj => absurd hj (Nat.not_lt_zero j)) (by decide +kernel) (by decide +kernel) (Nat.le_refl _) (zx_c42 htb) (zx_l42 htb) (htb.all _ q199) hcl2 hln2 hm hc1 hc2 d1 d2 d3 k
  · exact gd_newx0 hx hb hown hzw hml hs0 hck hlt hf hlo hcat (kd := 43) (n := 6) (by decide) (cls := "java/lang/IllegalStateException") (names := ["java/lang/RuntimeException", "java/lang/Exception"]) rfl (fun j hj => absurd hj (Nat.not_lt_zero j)) (by decide +kernel) (by decide +kernel) (Nat.le_refl _) (zx_c43 htb) (zx_l43 htb) (htb.all _ q229) hcl2 hln2 hm hc1 hc2 d1 d2 d3 k
end Nu
