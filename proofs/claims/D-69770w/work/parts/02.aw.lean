section
variable {disp : Nat → Nat → Option Nat} {C : Nat → List AV → AH → AO → AH → Prop} {cd : SC} {hs : SH} {rt : Nat} {F : AO → AH → Prop} {K : SC → SL → List AV → AH → Prop}
theorem thr_det {pc : Nat} {ls : SL} {q : Nat × Nat × Nat} {h : AH} (hw : thr cd hs F K pc ls q h) :
    (∃ r' l' s' k', K r' l' s' k' ∧ ∀ (F' : AO → AH → Prop) (K' : SC → SL → List AV → AH → Prop), K' r' l' s' k' → thr cd hs F' K' pc ls q h) ∨
    (∃ o k', F o k' ∧ ∀ (F' : AO → AH → Prop) (K' : SC → SL → List AV → AH → Prop), F' o k' → thr cd hs F' K' pc ls q h) := by
  unfold thr at hw ⊢
  obtain ⟨hq, h0, hw⟩ := hw
  split at hw
  · exact Or.inl ⟨_, _, _, _, hw, fun F' K' h => ⟨hq, h0, h⟩⟩
  · exact Or.inr ⟨_, _, hw, fun F' K' h => ⟨hq, h0, h⟩⟩
theorem cal_det {rk y pc : Nat} {args st : List AV} {rest : SC} {ls : SL} {h : AH} (hw : cal C cd hs F K rk y args pc rest ls st h) :
    (∃ r' l' s' k', K r' l' s' k' ∧ ∀ (F' : AO → AH → Prop) (K' : SC → SL → List AV → AH → Prop), K' r' l' s' k' → cal C cd hs F' K' rk y args pc rest ls st h) ∨
    (∃ o k', F o k' ∧ ∀ (F' : AO → AH → Prop) (K' : SC → SL → List AV → AH → Prop), F' o k' → cal C cd hs F' K' rk y args pc rest ls st h) := by
  unfold cal at hw ⊢
  rcases hw with hw | ⟨q, h1, hc, ht⟩
  · left
    split at hw
    · obtain ⟨h1, hc, hk⟩ := hw
      exact ⟨_, _, _, _, hk, fun F' K' h => Or.inl ⟨h1, hc, h⟩⟩
    · obtain ⟨n, h1, hc, hk⟩ := hw
      exact ⟨_, _, _, _, hk, fun F' K' h => Or.inl ⟨n, h1, hc, h⟩⟩
    · obtain ⟨n, h1, hc, hk⟩ := hw
      exact ⟨_, _, _, _, hk, fun F' K' h => Or.inl ⟨n, h1, hc, h⟩⟩
    · obtain ⟨n, h1, hc, hk⟩ := hw
      exact ⟨_, _, _, _, hk, fun F' K' h => Or.inl ⟨n, h1, hc, h⟩⟩
  · rcases thr_det ht with ⟨r', l', s', k', hk, g⟩ | ⟨o, k', hk, g⟩
    · exact Or.inl ⟨r', l', s', k', hk, fun F' K' h => Or.inr ⟨q, h1, hc, g F' K' h⟩⟩
    · exact Or.inr ⟨o, k', hk, fun F' K' h => Or.inr ⟨q, h1, hc, g F' K' h⟩⟩
set_option maxHeartbeats 4000000 in
theorem wp1_det {r : SC} {ls : SL} {st : List AV} {h : AH} (hw : wp1 disp C cd hs rt F K r ls st h) :
    (∃ r' l' s' k', K r' l' s' k' ∧ ∀ (F' : AO → AH → Prop) (K' : SC → SL → List AV → AH → Prop), K' r' l' s' k' → wp1 disp C cd hs rt F' K' r ls st h) ∨
    (∃ o k', F o k' ∧ ∀ (F' : AO → AH → Prop) (K' : SC → SL → List AV → AH → Prop), F' o k' → wp1 disp C cd hs rt F' K' r ls st h) := by
  match r with
  | [] => exact hw.elim
  | (pc, i) :: rest =>
    cases i
    all_goals (simp only [wp1] at hw ⊢)
    all_goals (first | exact hw.elim | skip)
    all_goals (try (split at hw <;> first | exact hw.elim | skip))
    all_goals (first | exact Or.inl ⟨_, _, _, _, hw, fun F' K' h => h⟩ | exact Or.inl ⟨_, _, _, _, hw.2, fun F' K' h => ⟨hw.1, h⟩⟩ | exact Or.inr ⟨_, _, hw.2, fun F' K' h => ⟨hw.1, h⟩⟩ | skip)
    all_goals (first
      | (obtain ⟨q, h1, hk⟩ := hw; exact Or.inl ⟨_, _, _, _, hk, fun F' K' h => ⟨q, h1, h⟩⟩)
      | (obtain ⟨q, h1, h2, hk⟩ := hw; exact Or.inl ⟨_, _, _, _, hk, fun F' K' h => ⟨q, h1, h2, h⟩⟩)
      | (obtain ⟨q, h1, h2, h3, hk⟩ := hw; exact Or.inl ⟨_, _, _, _, hk, fun F' K' h => ⟨q, h1, h2, h3, h⟩⟩)
      | (obtain ⟨q, h1, h2, h3, h4, hk⟩ := hw; exact Or.inl ⟨_, _, _, _, hk, fun F' K' h => ⟨q, h1, h2, h3, h4, h⟩⟩)
      | (refine (Classical.em _).elim (fun hc => Or.inl ⟨_, _, _, _, hw.1 hc, fun F' K' h => ⟨fun _ => h, fun n => absurd hc n⟩⟩) (fun hc => Or.inl ⟨_, _, _, _, hw.2 hc, fun F' K' h => ⟨fun n => absurd n hc, fun _ => h⟩⟩))
      | (obtain ⟨q, h1, h2, hw⟩ := hw; refine (Classical.em _).elim (fun hc => Or.inl ⟨_, _, _, _, hw.1 hc, fun F' K' h => ⟨q, h1, h2, fun _ => h, fun n => absurd hc n⟩⟩) (fun hc => Or.inl ⟨_, _, _, _, hw.2 hc, fun F' K' h => ⟨q, h1, h2, fun n => absurd n hc, fun _ => h⟩⟩))
      | (obtain ⟨h1, hw⟩ := hw; refine (Classical.em _).elim (fun hc => Or.inl ⟨_, _, _, _, hw.1 hc, fun F' K' h => ⟨h1, fun _ => h, fun n => absurd hc n⟩⟩) (fun hc => Or.inl ⟨_, _, _, _, hw.2 hc, fun F' K' h => ⟨h1, fun n => absurd n hc, fun _ => h⟩⟩))
      | (obtain ⟨q, h1, h2, ht⟩ := hw
         rcases cal_det ht with ⟨r', l', s', k', hk, g⟩ | ⟨o, k', hk, g⟩
         · exact Or.inl ⟨r', l', s', k', hk, fun F' K' h => ⟨q, h1, h2, g F' K' h⟩⟩
         · exact Or.inr ⟨o, k', hk, fun F' K' h => ⟨q, h1, h2, g F' K' h⟩⟩)
      | (obtain ⟨q, h1, ht⟩ := hw
         rcases thr_det ht with ⟨r', l', s', k', hk, g⟩ | ⟨o, k', hk, g⟩
         · exact Or.inl ⟨r', l', s', k', hk, fun F' K' h => ⟨q, h1, g F' K' h⟩⟩
         · exact Or.inr ⟨o, k', hk, fun F' K' h => ⟨q, h1, g F' K' h⟩⟩)
      | (obtain ⟨h1, ht⟩ := hw
         rcases cal_det ht with ⟨r', l', s', k', hk, g⟩ | ⟨o, k', hk, g⟩
         · exact Or.inl ⟨r', l', s', k', hk, fun F' K' h => ⟨h1, g F' K' h⟩⟩
         · exact Or.inr ⟨o, k', hk, fun F' K' h => ⟨h1, g F' K' h⟩⟩)
      | (obtain ⟨q, h1, y, h2, ht⟩ := hw
         rcases cal_det ht with ⟨r', l', s', k', hk, g⟩ | ⟨o, k', hk, g⟩
         · exact Or.inl ⟨r', l', s', k', hk, fun F' K' h => ⟨q, h1, y, h2, g F' K' h⟩⟩
         · exact Or.inr ⟨o, k', hk, fun F' K' h => ⟨q, h1, y, h2, g F' K' h⟩⟩)
      | skip)
    done
variable (disp C cd hs rt F)
/-- from this state, in n steps, an end with F -/
def AWn : Nat → SC → SL → List AV → AH → Prop
  | 0, _, _, _, _ => False
  | n + 1, r, ls, st, h => wp1 disp C cd hs rt F (AWn n) r ls st h
def AW (r : SC) (ls : SL) (st : List AV) (h : AH) : Prop := ∃ n, AWn disp C cd hs rt F n r ls st h
variable {disp C cd hs rt F}
theorem AW.step {r : SC} {ls : SL} {st : List AV} {h : AH} (hw : wp1 disp C cd hs rt F (AW disp C cd hs rt F) r ls st h) : AW disp C cd hs rt F r ls st h := by
  rcases wp1_det hw with ⟨r', l', s', k', ⟨n, hk⟩, g⟩ | ⟨o, k', hk, g⟩
  · exact ⟨n + 1, g F (AWn disp C cd hs rt F n) hk⟩
  · exact ⟨1, g F (AWn disp C cd hs rt F 0) hk⟩
theorem AWn.exact {n : Nat} {r : SC} {ls : SL} {st : List AV} {h : AH} (hw : AWn disp C cd hs rt F n r ls st h) : ∃ o k, F o k ∧ AWn disp C cd hs rt (fun o' k' => o' = o ∧ k' = k) n r ls st h := by
  induction n generalizing r ls st h with
  | zero => exact hw.elim
  | succ n ih =>
    rcases wp1_det hw with ⟨r', l', s', k', hk, g⟩ | ⟨o, k', hk, g⟩
    · obtain ⟨o, k, hF, hn⟩ := ih hk
      exact ⟨o, k, hF, g _ _ hn⟩
    · exact ⟨o, k', hk, g _ _ ⟨rfl, rfl⟩⟩
theorem AWn.mono {F' : AO → AH → Prop} (hF : ∀ o k, F o k → F' o k) {n : Nat} {r : SC} {ls : SL} {st : List AV} {h : AH} (hw : AWn disp C cd hs rt F n r ls st h) : AWn disp C cd hs rt F' n r ls st h := by
  induction n generalizing r ls st h with
  | zero => exact hw.elim
  | succ n ih =>
    rcases wp1_det hw with ⟨r', l', s', k', hk, g⟩ | ⟨o, k', hk, g⟩
    · exact g _ _ (ih hk)
    · exact g _ _ (hF _ _ hk)
variable (disp C cd hs rt F)
/-- steps until a place of 'cut' -/
def wpn (cut : List Nat) : Nat → SC → SL → List AV → AH → Prop
  | 0, r, ls, st, h => AW disp C cd hs rt F r ls st h
  | n + 1, r, ls, st, h => match r with
    | [] => False
    | q :: rest => if cut.contains q.1 = true then AW disp C cd hs rt F (q :: rest) ls st h else wp1 disp C cd hs rt F (wpn cut n) (q :: rest) ls st h
variable {disp C cd hs rt F}
theorem wpn.aw {cut : List Nat} {n : Nat} {r : SC} {ls : SL} {st : List AV} {h : AH} (hw : wpn disp C cd hs rt F cut n r ls st h) : AW disp C cd hs rt F r ls st h := by
  induction n generalizing r ls st h with
  | zero => exact hw
  | succ n ih =>
    match r with
    | [] => exact hw.elim
    | q :: rest =>
      simp only [wpn] at hw
      split at hw
      · exact hw
      · rcases wp1_det hw with ⟨r', l', s', k', hk, g⟩ | ⟨o, k', hk, g⟩
        · exact AW.step (g _ _ (ih hk))
        · exact AW.step (g _ _ hk)
/-- the first step is taken even at a cut -/
theorem AW.go {cut : List Nat} (n : Nat) {r : SC} {ls : SL} {st : List AV} {h : AH} (hw : wp1 disp C cd hs rt F (wpn disp C cd hs rt F cut n) r ls st h) : AW disp C cd hs rt F r ls st h := by
  rcases wp1_det hw with ⟨r', l', s', k', hk, g⟩ | ⟨o, k', hk, g⟩
  · exact AW.step (g _ _ (wpn.aw hk))
  · exact AW.step (g _ _ hk)
end
section
variable {disp : Nat → Nat → Option Nat} {C C' : Nat → List AV → AH → AO → AH → Prop} {cd : SC} {hs : SH} {rt : Nat} {F : AO → AH → Prop} {K : SC → SL → List AV → AH → Prop}
theorem cal_C (hC : ∀ y a h o k, C y a h o k → C' y a h o k) {rk y pc : Nat} {args st : List AV} {rest : SC} {ls : SL} {h : AH} (hw : cal C cd hs F K rk y args pc rest ls st h) : cal C' cd hs F K rk y args pc rest ls st h := by
  unfold cal at hw ⊢
  rcases hw with hw | ⟨q, h1, hc, ht⟩
  · left
    split at hw
    · obtain ⟨h1, hc, hk⟩ := hw
      exact ⟨h1, hC _ _ _ _ _ hc, hk⟩
    · obtain ⟨n, h1, hc, hk⟩ := hw
      exact ⟨n, h1, hC _ _ _ _ _ hc, hk⟩
    · obtain ⟨n, h1, hc, hk⟩ := hw
      exact ⟨n, h1, hC _ _ _ _ _ hc, hk⟩
    · obtain ⟨n, h1, hc, hk⟩ := hw
      exact ⟨n, h1, hC _ _ _ _ _ hc, hk⟩
  · exact Or.inr ⟨q, h1, hC _ _ _ _ _ hc, ht⟩
set_option maxHeartbeats 4000000 in
theorem wp1_C (hC : ∀ y a h o k, C y a h o k → C' y a h o k) {r : SC} {ls : SL} {st : List AV} {h : AH} (hw : wp1 disp C cd hs rt F K r ls st h) : wp1 disp C' cd hs rt F K r ls st h := by
  match r with
  | [] => exact hw.elim
  | (pc, i) :: rest =>
    cases i
    case invokestatic x => exact ⟨hw.1, cal_C hC hw.2⟩
    case getstatic x => exact ⟨⟨hC _ _ _ _ _ hw.1.1, hw.1.2⟩, hw.2⟩
    case invokespecial x =>
      simp only [wp1] at hw ⊢
      split at hw
      · obtain ⟨q, h1, h2, h3⟩ := hw
        exact ⟨q, h1, h2, cal_C hC h3⟩
      · exact hw.elim
    case invokevirtual x =>
      simp only [wp1] at hw ⊢
      split at hw
      · obtain ⟨q, h1, y, h2, h3⟩ := hw
        exact ⟨q, h1, y, h2, cal_C hC h3⟩
      · exact hw.elim
    all_goals exact hw
theorem AWn_C (hC : ∀ y a h o k, C y a h o k → C' y a h o k) {n : Nat} {r : SC} {ls : SL} {st : List AV} {h : AH} (hw : AWn disp C cd hs rt F n r ls st h) : AWn disp C' cd hs rt F n r ls st h := by
  induction n generalizing r ls st h with
  | zero => exact hw
  | succ n ih =>
    rcases wp1_det (wp1_C hC hw) with ⟨r', l', s', k', hk, g⟩ | ⟨o, k', hk, g⟩
    · exact g _ _ (ih hk)
    · exact g _ _ hk
def lay : List AV → SL
  | [] => []
  | .inr (.inl n) :: r => some (.inr (.inl n)) :: none :: lay r
  | v :: r => some v :: lay r
def ent (maxL : Nat) (args : List AV) : SL := lay args ++ List.replicate (maxL - (lay args).length) none
variable (disp) (mt : Nat → SC × Nat × SH × Nat) (PR : Nat → List AV → AH → AO → AH → Prop)
/-- method y, with at most d frames: from args and h it ends with o and h' -/
def AE : Nat → Nat → List AV → AH → AO → AH → Prop
  | 0 => fun _ _ _ _ _ => False
  | d + 1 => fun y args h o h' => (500 ≤ y ∧ 10 ≤ d ∧ PR y args h o h') ∨
    (y < 500 ∧ (lay args).length ≤ (mt y).2.1 ∧ AW disp (AE d) (mt y).1 (mt y).2.2.1 (mt y).2.2.2 (fun o' k' => o' = o ∧ k' = h') (mt y).1 (ent (mt y).2.1 args) [] h)
def AM (d y : Nat) (args : List AV) (h : AH) (Q : AO → AH → Prop) : Prop := ∃ o h', AE disp mt PR d y args h o h' ∧ Q o h'
variable {disp mt PR}
theorem AM.of {d y : Nat} {args : List AV} {h : AH} {Q : AO → AH → Prop} {maxL : Nat} (hy : y < 500) (hm : mt y = (cd, maxL, hs, rt)) (hl : (lay args).length ≤ maxL) (hw : AW disp (AE disp mt PR d) cd hs rt Q cd (ent maxL args) [] h) : AM disp mt PR (d + 1) y args h Q := by
  obtain ⟨n, hn⟩ := hw
  obtain ⟨o, k, hQ, he⟩ := hn.exact
  refine ⟨o, k, Or.inr ⟨hy, ?_⟩, hQ⟩
  rw [hm]
  exact ⟨hl, n, he⟩
theorem AE.up {d y : Nat} {args : List AV} {h : AH} {o : AO} {h' : AH} (he : AE disp mt PR d y args h o h') : AE disp mt PR (d + 1) y args h o h' := by
  induction d generalizing y args h o h' with
  | zero => exact he.elim
  | succ d ih =>
    rcases he with ⟨h1, h2, h3⟩ | ⟨h1, hl, n, h2⟩
    · exact Or.inl ⟨h1, by omega, h3⟩
    · exact Or.inr ⟨h1, hl, n, AWn_C (fun _ _ _ _ _ hc => ih hc) h2⟩
theorem AE.mono {d d' y : Nat} {args : List AV} {h : AH} {o : AO} {h' : AH} (he : AE disp mt PR d y args h o h') (hd : d ≤ d') : AE disp mt PR d' y args h o h' := by
  induction hd with
  | refl => exact he
  | step _ ih => exact ih.up
end
