section World
variable {D : va_G} {dA : Nat → ClassId} {H00 : Heap} {b0 L0 : Nat} {xs : Nat → Int32} {sa ad : Nat → Nat} {S : List (Nat × Nat)} {lsA : SL} {ls ls' : Array Slot} {h : AH} {H : Heap}
theorem zrv_cat (v : AV) : (zrv b0 sa ad v).category = (match v with | .inr (.inl _) => 2 | _ => 1) := by
  match v with
  | .inl n => rfl
  | .inr (.inl n) => rfl
  | .inr (.inr p) =>
    show (va_rf (zad b0 sa ad p)).category = 1
    cases zad b0 sa ad p <;> rfl
theorem RelL_sto (hl : RelL b0 L0 sa S ad lsA ls) {i : Nat} {v : AV} (hv : zwv L0 S v) (hi : i < lsA.length) {x : Value} (hx : x = zrv b0 sa ad v)
    (hn : lv_has ls' lsA.length ((i, x) :: (zls b0 sa ad lsA).filter (fun q => !(q.1 == i) && !(q.1 + 1 == i && q.2.category == 2)))) : RelL b0 L0 sa S ad (sto lsA i v) ls' := by
  have hlen : (sto lsA i v).length = lsA.length := by rw [sto, st1_len, kil_len]
  have key : ∀ j u, lk (sto lsA i v) j = some u → (j = i ∧ u = v) ∨ (j ≠ i ∧ lk lsA j = some u ∧ ¬ (j + 1 = i ∧ ∃ n, u = .inr (.inl n))) := by
    intro j u hu
    rw [sto, lk_st1, kil_len] at hu
    by_cases hj : j = i
    · rw [if_pos ⟨hj, hi⟩] at hu
      exact Or.inl ⟨hj, (Option.some.inj hu).symm⟩
    · rw [if_neg (fun q => hj q.1)] at hu
      exact Or.inr ⟨hj, lk_kil hu⟩
  refine ⟨⟨by rw [hlen]; exact hn.1, hn.2.1, fun q hq => ?_⟩, fun j u hu => ?_⟩
  · obtain ⟨u, hu, e⟩ := zls_mem.mp hq
    obtain ⟨j, y⟩ := q
    dsimp only at hu e
    subst e
    apply hn.2.2
    rcases key j u hu with ⟨rfl, rfl⟩ | ⟨h1, h2, h3⟩
    · rw [hx]; exact List.mem_cons_self
    · refine List.mem_cons_of_mem _ (List.mem_filter.mpr ⟨zls_mem.mpr ⟨u, h2, rfl⟩, ?_⟩)
      simp only [zrv_cat, Bool.and_eq_true, Bool.not_eq_true', beq_eq_false_iff_ne, Bool.and_eq_false_imp, beq_iff_eq, ne_eq]
      refine ⟨h1, fun e => ?_⟩
      match u with
      | .inl n => simp
      | .inr (.inl n) => exact absurd ⟨e, n, rfl⟩ h3
      | .inr (.inr p) => simp
  · rcases key j u hu with ⟨rfl, rfl⟩ | ⟨h1, h2, h3⟩
    · exact hv
    · exact hl.2 j u h2
theorem RelL_stoL (hl : RelL b0 L0 sa S ad lsA ls) {i : Nat} {v : AV} (hv : zwv L0 S v) (hi : i + 1 < lsA.length) {x : Value} (hx : x = zrv b0 sa ad v)
    (hn : lv_has ls' lsA.length ((i, x) :: (zls b0 sa ad lsA).filter (fun q => !(q.1 == i) && (!(q.1 == i + 1) && !(q.1 + 1 == i && q.2.category == 2))))) : RelL b0 L0 sa S ad (stoL lsA i v) ls' := by
  have hlen : (stoL lsA i v).length = lsA.length := by rw [stoL, st1_len, st1_len, kil_len]
  have key : ∀ j u, lk (stoL lsA i v) j = some u → (j = i ∧ u = v) ∨ (j ≠ i ∧ j ≠ i + 1 ∧ lk lsA j = some u ∧ ¬ (j + 1 = i ∧ ∃ n, u = .inr (.inl n))) := by
    intro j u hu
    rw [stoL, lk_st1, lk_st1, st1_len, kil_len] at hu
    by_cases hj1 : j = i + 1
    · rw [if_pos ⟨hj1, hi⟩] at hu; cases hu
    · rw [if_neg (fun q => hj1 q.1)] at hu
      by_cases hj : j = i
      · rw [if_pos ⟨hj, by omega⟩] at hu
        exact Or.inl ⟨hj, (Option.some.inj hu).symm⟩
      · rw [if_neg (fun q => hj q.1)] at hu
        exact Or.inr ⟨hj, hj1, lk_kil hu⟩
  refine ⟨⟨by rw [hlen]; exact hn.1, hn.2.1, fun q hq => ?_⟩, fun j u hu => ?_⟩
  · obtain ⟨u, hu, e⟩ := zls_mem.mp hq
    obtain ⟨j, y⟩ := q
    dsimp only at hu e
    subst e
    apply hn.2.2
    rcases key j u hu with ⟨rfl, rfl⟩ | ⟨h1, h4, h2, h3⟩
    · rw [hx]; exact List.mem_cons_self
    · refine List.mem_cons_of_mem _ (List.mem_filter.mpr ⟨zls_mem.mpr ⟨u, h2, rfl⟩, ?_⟩)
      simp only [zrv_cat, Bool.and_eq_true, Bool.not_eq_true', beq_eq_false_iff_ne, Bool.and_eq_false_imp, beq_iff_eq, ne_eq]
      refine ⟨h1, h4, fun e => ?_⟩
      match u with
      | .inl n => simp
      | .inr (.inl n) => exact absurd ⟨e, n, rfl⟩ h3
      | .inr (.inr p) => simp
  · rcases key j u hu with ⟨rfl, rfl⟩ | ⟨h1, h4, h2, h3⟩
    · exact hv
    · exact hl.2 j u h2
/-- the world at an address -/
theorem zwd_get {a : Nat} {kn : Nat × Nat} (hs : S[a]? = some kn) : (zwd dA b0 sa ad h S)[a]? = some (ad a, zce dA b0 sa ad h a kn) := by
  rw [zwd, List.getElem?_mapIdx, hs]; rfl
theorem zwd_set {a : Nat} {kn : Nat × Nat} {h' : AH} (hs : S[a]? = some kn) (ho : ∀ a' kn', a' ≠ a → zce dA b0 sa ad h' a' kn' = zce dA b0 sa ad h a' kn') :
    (zwd dA b0 sa ad h S).set a (ad a, zce dA b0 sa ad h' a kn) = zwd dA b0 sa ad h' S := by
  apply List.ext_getElem?
  intro i
  rw [List.getElem?_set, zwd, zwd, List.getElem?_mapIdx, List.length_mapIdx, List.getElem?_mapIdx]
  by_cases hi : a = i
  · subst hi
    have hlt : a < S.length := (List.getElem?_eq_some_iff.mp hs).1
    rw [if_pos rfl, if_pos hlt, hs]; rfl
  · rw [if_neg hi]
    cases hsi : S[i]? with
    | none => rfl
    | some kn' => simp [ho i kn' (fun q => hi q.symm)]
theorem gv_sI {t : Nat} {a j : Nat} {v : Int} {a' j' : Nat} : gv t (sI h a j v) a' j' = if a' = a ∧ j' = j ∧ t ≠ 1 ∧ t ≠ 2 then .inl v else gv t h a' j' := by
  unfold gv
  split <;> simp_all [hL_sI, hP_sI, hI_sI]
  split <;> rfl
theorem gv_sL {t : Nat} {a j : Nat} {v : Int} {a' j' : Nat} : gv t (sL h a j v) a' j' = if a' = a ∧ j' = j ∧ t = 1 then .inr (.inl v) else gv t h a' j' := by
  unfold gv
  split <;> simp_all [hL_sL, hP_sL, hI_sL]
  split <;> rfl
theorem gv_sP {t : Nat} {a j : Nat} {v : Ptr} {a' j' : Nat} : gv t (sP h a j v) a' j' = if a' = a ∧ j' = j ∧ t = 2 then .inr (.inr v) else gv t h a' j' := by
  unfold gv
  split <;> simp_all [hL_sP, hP_sP, hI_sP]
  split <;> rfl
theorem zce_sI {a j : Nat} {v : Int} (a' : Nat) (kn : Nat × Nat) (hne : a' ≠ a) : zce dA b0 sa ad (sI h a j v) a' kn = zce dA b0 sa ad h a' kn := by
  simp [zce, gv_sI, hI_sI, hL_sI, hP_sI, hne]
theorem zce_sL {a j : Nat} {v : Int} (a' : Nat) (kn : Nat × Nat) (hne : a' ≠ a) : zce dA b0 sa ad (sL h a j v) a' kn = zce dA b0 sa ad h a' kn := by
  simp [zce, gv_sL, hI_sL, hL_sL, hP_sL, hne]
theorem zce_sP {a j : Nat} {v : Ptr} (a' : Nat) (kn : Nat × Nat) (hne : a' ≠ a) : zce dA b0 sa ad (sP h a j v) a' kn = zce dA b0 sa ad h a' kn := by
  simp [zce, gv_sP, hI_sP, hL_sP, hP_sP, hne]
theorem zad_up {q : Nat} {p : Ptr} (hp : zwp L0 S p) : zad b0 sa (va_up ad S.length q) p = zad b0 sa ad p := by
  cases p with
  | none => rfl
  | some x =>
    simp only [zad]
    rcases hp with ⟨e, -⟩ | ⟨e, -⟩ | ⟨e, hs⟩
    · simp [e]
    · simp [e]
    · have : x.2.2 < S.length := (List.getElem?_eq_some_iff.mp hs).1
      rw [va_up_ne _ _ (by omega)]
theorem zrv_up {q : Nat} {v : AV} (hv : zwv L0 S v) : zrv b0 sa (va_up ad S.length q) v = zrv b0 sa ad v := by
  match v with
  | .inl n => rfl
  | .inr (.inl n) => rfl
  | .inr (.inr p) => exact congrArg va_rf (zad_up hv)
theorem zok_gv (hk : zok L0 xs h S) (t a j : Nat) : zwv L0 S (gv t h a j) := by
  have := hk.1 a j
  unfold gv
  split
  · exact this.2.1
  · exact this.2.2
  · exact this.1
theorem zce_up {q a : Nat} {kn : Nat × Nat} (hk : zok L0 xs h S) : zce dA b0 sa (va_up ad S.length q) h a kn = zce dA b0 sa ad h a kn := by
  simp only [zce, fun j => zrv_up (b0 := b0) (sa := sa) (ad := ad) (q := q) (zok_gv hk (zft kn.1 j) a j), fun j => zad_up (b0 := b0) (sa := sa) (ad := ad) (q := q) ((hk.1 a j).2.2)]
theorem zwp_ext {kn : Nat × Nat} {p : Ptr} (hp : zwp L0 S p) : zwp L0 (S ++ [kn]) p := by
  cases p with
  | none => trivial
  | some x =>
    rcases hp with h1 | h1 | ⟨h1, hs⟩
    · exact Or.inl h1
    · exact Or.inr (Or.inl h1)
    · exact Or.inr (Or.inr ⟨h1, by rw [List.getElem?_append_left (List.getElem?_eq_some_iff.mp hs).1]; exact hs⟩)
theorem zwv_ext {kn : Nat × Nat} {v : AV} (hv : zwv L0 S v) : zwv L0 (S ++ [kn]) v := by
  match v with
  | .inl n => exact hv
  | .inr (.inl n) => exact hv
  | .inr (.inr p) => exact zwp_ext hv
end World
