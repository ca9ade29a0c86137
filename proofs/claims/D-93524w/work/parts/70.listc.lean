/-! Collections.copy; ArrayList.equals -/
set_option maxRecDepth 100000
section L70
variable {l : Launch} {g : gT}
/-- two lists laid open -/
theorem open_2 (hJ : JR l g) {M : hM} {H : Heap} {d s : Nat} {xs ys : List (Option Nat)} {is is' : List Int32} {m m' : Int32} {c c' : Nat} (hR : Rel g M.1 H) (hd : M.1 d = some (.inr (21, xs, is, m, c))) (hs : M.1 s = some (.inr (21, ys, is', m', c'))) (hne : d ≠ s) :
    ∃ (M2 : hM) (e e' : Nat) (ar ar' : Option (Nat × (Nat → Option Nat))) (Y : hM), M2.2 = M.2 ∧ Rel g M2.1 H ∧ OL g Y M2 d m (nI xs.length) e ar ∧ arOf g xs c e ar ∧ Y.1 s = some (.inl (.inr (21, [.int m', .ref e', .int (nI ys.length)]))) ∧ arOf g ys c' e' ar' ∧ (∀ p, ar' = some p → e' ≠ d ∧ Y.1 e' = some (.inl (.inl (6, (p.1, .inr (.inr (.inr (.inr p.2)))))))) ∧
      (∀ v, okR g M v → okR g Y v) ∧ (∀ z x, isBox g M z x → isBox g Y z x) ∧ ∀ (v : gCell) (H : Heap), Rel g (gUp Y.1 d v) H → Rel g (gUp M.1 d v) H := by
  obtain ⟨Mb, e, ar, e2, hRb, hO, ha⟩ := open_O hJ hR hd
  have hs' : Mb.1 s = some (.inr (21, ys, is', m', c')) := hO.2.2.1 s _ hne.symm hs
  obtain ⟨M2, e', ar', e3, hRl, hOl, hal⟩ := open_O hJ hRb hs'
  have hel : ar = none ∨ e ≠ s := by
    cases ar with
    | none => exact Or.inl rfl
    | some p => exact Or.inr fun hh => by subst hh; rw [hO.2.2.2.2.2] at hs'; cases hs'
  have hb2 : M2.1 d = Mb.1 d := by rw [hO.1]; exact hOl.2.2.1 d _ hne hO.1
  have he2 : ∀ p, ar = some p → M2.1 e = Mb.1 e := by
    rintro p rfl
    rw [hO.2.2.2.2.2]
    exact hOl.2.2.1 e _ (hel.resolve_left (by simp)) hO.2.2.2.2.2
  have keep : ∀ z v, z ≠ d → z ≠ s → M.1 z = some v → (besY M M2 d e ar).1 z = some v := by
    intro z v hz hzl hv
    have h3 : Mb.1 z = some v := hO.2.2.1 z v hz hv
    rw [besY_o hz ?_]
    · exact hOl.2.2.1 z v hzl h3
    · cases ar with
      | none => exact Or.inl rfl
      | some p => exact Or.inr fun hh => by subst hh; rw [hO.2.2.2.2.1] at hv; cases hv
  have hYl : (besY M M2 d e ar).1 s = some (.inl (.inr (21, [.int m', .ref e', .int (nI ys.length)]))) := by
    rw [besY_o hne.symm (hel.imp id fun h => h.symm)]
    exact hOl.1
  have hMe : ∀ p, ar' = some p → e' ≠ d ∧ M.1 e' = none ∧ (besY M M2 d e ar).1 e' = M2.1 e' := by
    rintro p rfl
    have h3 : Mb.1 e' = none := hOl.2.2.2.2.1
    have h4 : e' ≠ d := fun hh => by subst hh; rw [hO.1] at h3; cases h3
    refine ⟨h4, ?_, besY_o h4 ?_⟩
    · cases h5 : M.1 e' with
      | none => rfl
      | some w => rw [hO.2.2.1 e' w h4 h5] at h3; cases h3
    · cases ar with
      | none => exact Or.inl rfl
      | some p9 => exact Or.inr fun hh => by subst hh; rw [hO.2.2.2.2.2] at h3; cases h3
  refine ⟨M2, e, e', ar, ar', besY M M2 d e ar, e3.trans e2, hRl, besY_OL hO hb2 he2, ha, hYl, hal, fun p hp => ?_, ?_, ?_, fun v H hR9 => ?_⟩
  · obtain ⟨h3, -, h5⟩ := hMe p hp
    subst hp
    exact ⟨h3, h5.trans hOl.2.2.2.2.2⟩
  · rintro v (h | ⟨w, rfl, ⟨ci, c9, h3, h4⟩ | hk⟩)
    · exact Or.inl h
    · refine Or.inr ⟨w, rfl, Or.inl ⟨ci, ?_⟩⟩
      by_cases hwb : w = d
      · subst hwb
        exact ⟨c9, (besY_b M M2 w e ar).trans h3, h4⟩
      · by_cases hwl : w = s
        · subst hwl
          rw [hs] at h3
          cases h3
          have : (21 : Nat) = ci := Option.some.inj h4
          subst this
          exact isC_obj hYl
        · exact ⟨c9, keep w c9 hwb hwl h3, h4⟩
    · exact Or.inr ⟨w, rfl, Or.inr hk⟩
  · rintro z x (h | h)
    · exact Or.inl h
    · refine Or.inr (keep z _ (fun hh => ?_) (fun hh => ?_) h)
      · subst hh; rw [hd] at h; cases h
      · subst hh; rw [hs] at h; cases h
  · have hO9 : OL g (gUp M.1 d v, M.2) (gUp (besY M M2 d e ar).1 d v, M.2) s m' (nI ys.length) e' ar' := by
      refine ⟨(gUp_ne hne.symm).trans hYl, hOl.2.1, fun z w hz hw9 => ?_, ⟨_, (gUp_ne hne.symm).trans hs, rfl⟩, ?_⟩
      · by_cases hzb : z = d
        · subst hzb
          dsimp only at hw9 ⊢
          rw [gUp_self] at hw9 ⊢
          exact hw9
        · dsimp only at hw9 ⊢
          rw [gUp_ne hzb] at hw9 ⊢
          exact keep z w hzb hz hw9
      · cases ar' with
        | none => exact hOl.2.2.2.2
        | some p =>
          obtain ⟨h3, h4, h5⟩ := hMe p rfl
          exact ⟨(gUp_ne h3).trans h4, (gUp_ne h3).trans (h5.trans hOl.2.2.2.2.2)⟩
    have := close_O (is := is') hJ hO9 hal hR9
    rwa [gUp_same (show (gUp M.1 d v) s = _ from (gUp_ne hne.symm).trans hs)] at this
end L70
