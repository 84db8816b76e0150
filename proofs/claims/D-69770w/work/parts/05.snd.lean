/-- words that stay true under warmer tables -/
def zwarm : Cond → Bool
  | .fieldLinkNest .. => true
  | .methodLinkNest .. => true
  | .declares _ => true
  | .castable .. => true
  | .arrayOver (.object _) => true
  | w => goodWord w
theorem zwarm_at {args a' : Array Value} {s U : State} (hW : s.WarmedH U.vm) {w : Cond} (hw : zwarm w = true) (h : w.before args s = true) : w.before a' U = true := by
  cases w
  case fieldLinkNest a i b n d hh => exact va_Nw.use rfl (va_Nw.warmF hW (va_Nw.of rfl h))
  case methodLinkNest a i x hh => exact va_Nw.use rfl (va_Nw.warmM hW (va_Nw.of rfl h))
  case declares x => exact va_Nw.use rfl (va_Nw.warmD hW (va_Nw.of rfl h))
  case castable x y => exact va_Nw.use rfl (va_Nw.warmC hW (va_Nw.of rfl h))
  case arrayOver t =>
    cases t
    case object n => exact (va_AO.moved hW.alike (va_AO.of h))
    all_goals exact word_at hW (good_of_word hw) h
  all_goals exact word_at hW (good_of_word hw) h
theorem W.mono {p : Program} {l : Launch} {e : Env} {R : Room} {s : State} {m : MethodId} {args : Array Value} {below : List Frame} {meth : Method} {c : Code} {H : Heap} {locs : List Loc} {cells slots : Nat} {Q Q' : State → Prop} {g : JFrame} (hQ : ∀ t, Q t → Q' t) (h : W p l e R s m args below meth c H locs cells slots Q g) : W p l e R s m args below meth c H locs cells slots Q' g := by
  intro T hT X
  obtain ⟨t, a, b⟩ := h T hT X
  exact ⟨t, a, hQ t b⟩
theorem Steps.under {tb : Tables} {e : Env} {below : List Frame} {f : Frame} {s t : State} (h : Steps tb e (f :: below) s t) : Steps tb e below s t := by
  obtain ⟨n, hn, w⟩ := h
  refine ⟨n, hn, fun k hk => ?_⟩
  obtain ⟨ab, h1, h2, h3⟩ := w k hk
  refine ⟨ab ++ [f], by rw [h1]; simp, by simp, fun a h => ?_⟩
  cases ab with
  | nil => exact h2 rfl
  | cons x r => simp at h
