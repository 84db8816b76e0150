section Mono
variable {disp : Nat → Nat → Option Nat} {C : Nat → List AV → AH → AO → AH → Prop} {cd : SC} {hs : SH} {rt : Nat} {F : AO → AH → Prop} {K : SC → SL → List AV → AH → Prop} {z u : Nat}
/-- what is made stays made -/
def zle (z u : Nat) (h : AH) : Prop := hz h ≤ z ∧ hu h ≤ u
theorem zle_sI {h : AH} {a j : Nat} {v : Int} (hh : zle z u (sI h a j v)) : zle z u h := hh
theorem zle_sL {h : AH} {a j : Nat} {v : Int} (hh : zle z u (sL h a j v)) : zle z u h := hh
theorem zle_sP {h : AH} {a j : Nat} {v : Ptr} (hh : zle z u (sP h a j v)) : zle z u h := hh
theorem zle_al {h : AH} {n : Nat} (hh : zle z u (al h n)) : zle z u h := ⟨Nat.le_trans (Nat.le_succ _) hh.1, Nat.le_trans (Nat.le_add_right _ _) hh.2⟩
theorem thr_zle (hK : ∀ r ls st k, K r ls st k → zle z u k) (hF : ∀ o k, F o k → zle z u k) {pc : Nat} {ls : SL} {q : Nat × Nat × Nat} {h : AH} (hw : thr cd hs F K pc ls q h) : zle z u h := by
  unfold thr at hw
  obtain ⟨-, -, hw⟩ := hw
  split at hw
  · exact hK _ _ _ _ hw
  · exact hF _ _ hw
theorem cal_zle (hC : ∀ y a h o k, C y a h o k → zle z u k → zle z u h) (hK : ∀ r ls st k, K r ls st k → zle z u k) (hF : ∀ o k, F o k → zle z u k) {rk y pc : Nat} {args st : List AV} {rest : SC} {ls : SL} {h : AH} (hw : cal C cd hs F K rk y args pc rest ls st h) : zle z u h := by
  unfold cal at hw
  rcases hw with hw | ⟨q, h1, hc, ht⟩
  · split at hw
    · obtain ⟨h1, hc, hk⟩ := hw
      exact hC _ _ _ _ _ hc (hK _ _ _ _ hk)
    · obtain ⟨n, h1, hc, hk⟩ := hw
      exact hC _ _ _ _ _ hc (hK _ _ _ _ hk)
    · obtain ⟨n, h1, hc, hk⟩ := hw
      exact hC _ _ _ _ _ hc (hK _ _ _ _ hk)
    · obtain ⟨n, h1, hc, hk⟩ := hw
      exact hC _ _ _ _ _ hc (hK _ _ _ _ hk)
  · exact hC _ _ _ _ _ hc (thr_zle hK hF ht)
set_option maxHeartbeats 4000000 in
theorem wp1_zle (hC : ∀ y a h o k, C y a h o k → zle z u k → zle z u h) (hK : ∀ r ls st k, K r ls st k → zle z u k) (hF : ∀ o k, F o k → zle z u k) {r : SC} {ls : SL} {st : List AV} {h : AH} (hw : wp1 disp C cd hs rt F K r ls st h) : zle z u h := by
  match r with
  | [] => exact hw.elim
  | (pc, i) :: rest =>
    cases i
    all_goals (simp only [wp1] at hw)
    all_goals (first | exact hw.elim | skip)
    all_goals (try (split at hw <;> first | exact hw.elim | skip))
    all_goals (first | exact hK _ _ _ _ hw | exact hK _ _ _ _ hw.2 | exact hF _ _ hw.2 | exact zle_al (hK _ _ _ _ hw) | exact zle_al (hK _ _ _ _ hw.2) | skip)
    all_goals (first
      | exact (Classical.em _).elim (fun hc => hK _ _ _ _ (hw.1 hc)) (fun hc => hK _ _ _ _ (hw.2 hc))
      | (obtain ⟨q, h1, hk⟩ := hw; exact hK _ _ _ _ hk)
      | (obtain ⟨q, h1, h2, hk⟩ := hw; exact hK _ _ _ _ hk)
      | (obtain ⟨q, h1, h2, hk⟩ := hw; exact zle_sI (hK _ _ _ _ hk))
      | (obtain ⟨q, h1, h2, hk⟩ := hw; exact zle_sL (hK _ _ _ _ hk))
      | (obtain ⟨q, h1, h2, hk⟩ := hw; exact zle_sP (hK _ _ _ _ hk))
      | (obtain ⟨q, h1, h2, h3, hk⟩ := hw; exact hK _ _ _ _ hk)
      | (obtain ⟨q, h1, h2, h3, hk⟩ := hw; exact zle_sI (hK _ _ _ _ hk))
      | (obtain ⟨q, h1, h2, h3, hk⟩ := hw; exact zle_sL (hK _ _ _ _ hk))
      | (obtain ⟨q, h1, h2, h3, h4, hk⟩ := hw; exact zle_sP (hK _ _ _ _ hk))
      | (obtain ⟨q, h1, h2, hw⟩ := hw; exact (Classical.em _).elim (fun hc => hK _ _ _ _ (hw.1 hc)) (fun hc => hK _ _ _ _ (hw.2 hc)))
      | (obtain ⟨h1, hw⟩ := hw; exact (Classical.em _).elim (fun hc => hK _ _ _ _ (hw.1 hc)) (fun hc => hK _ _ _ _ (hw.2 hc)))
      | (obtain ⟨h1, ht⟩ := hw; exact cal_zle hC hK hF ht)
      | (obtain ⟨q, h1, h2, ht⟩ := hw; exact cal_zle hC hK hF ht)
      | (obtain ⟨q, h1, y, h2, ht⟩ := hw; exact cal_zle hC hK hF ht)
      | (obtain ⟨q, h1, ht⟩ := hw; exact thr_zle hK hF ht)
      | skip)
    done
theorem AWn_zle (hC : ∀ y a h o k, C y a h o k → zle z u k → zle z u h) (hF : ∀ o k, F o k → zle z u k) {n : Nat} {r : SC} {ls : SL} {st : List AV} {h : AH} (hw : AWn disp C cd hs rt F n r ls st h) : zle z u h := by
  induction n generalizing r ls st h with
  | zero => exact hw.elim
  | succ n ih => exact wp1_zle hC (fun _ _ _ _ hk => ih hk) hF hw
theorem AE_zle {mt : Nat → SC × Nat × SH × Nat} {PR : Nat → List AV → AH → AO → AH → Prop} (hP : ∀ y a h o k z u, PR y a h o k → zle z u k → zle z u h) {d y : Nat} {a : List AV} {h : AH} {o : AO} {k : AH} (he : AE disp mt PR d y a h o k) {z u : Nat} (hk : zle z u k) : zle z u h := by
  induction d generalizing y a h o k z u with
  | zero => exact he.elim
  | succ d ih =>
    rcases he with ⟨-, -, h3⟩ | ⟨-, -, n, h2⟩
    · exact hP _ _ _ _ _ _ _ h3 hk
    · exact AWn_zle (fun _ _ _ _ _ hc hk => ih hc hk) (fun o' k' q => by rw [q.2]; exact hk) h2
end Mono
