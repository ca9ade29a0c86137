/-! LISTS: members, fourth part: copies -/
set_option maxRecDepth 100000
section L66
variable {l : Launch} {g : gT}
theorem OL.base {M M1 : hM} {b : Nat} {m s : Int32} {e : Nat} {ar : Option (Nat × (Nat → Option Nat))} (h : OL g M M1 b m s e ar) {q : Nat} {v : gCell} (hq : M1.1 q = some v) (hqb : q ≠ b) (hqe : ∀ p, ar = some p → q ≠ e) {z : Nat × Nat} : OL g (gUp M.1 q v, z) M1 b m s e ar := by
  obtain ⟨h1, h2, h3, ⟨c, h4, h4'⟩, h5⟩ := h
  refine ⟨h1, h2, fun p u hp hu => ?_, ⟨c, (gUp_ne hqb.symm).trans h4, h4'⟩, ?_⟩
  · by_cases hpq : p = q
    · subst hpq
      dsimp only at hu
      rw [gUp_self] at hu
      rw [hq]; exact hu
    · dsimp only at hu
      rw [gUp_ne hpq] at hu
      exact h3 p u hp hu
  · cases ar with
    | none => exact h5
    | some p => exact ⟨(gUp_ne (hqe p rfl).symm).trans h5.1, h5.2⟩
/-- toArray of a list -/
theorem toArr {F : Nat} {M M1 : hM} {b : Nat} {m : Int32} {xs : List (Option Nat)} {c e : Nat} {ar : Option (Nat × (Nat → Option Nat))} (h : OL g M M1 b m (nI xs.length) e ar) (ha : arOf g xs c e ar) (hx : okL g M xs) (hr : hasR M1 1 xs.length) {Q : Option Nat → hM → Prop}
    (hk : ∀ (q : Nat) (M2 : hM) (f2 : Nat → Option Nat), M2.2 = (M1.2.1 + 1, M1.2.2 + xs.length) → q ≠ b → M.1 q = none → (∀ p, ar = some p → q ≠ e) → OL g M M2 b m (nI xs.length) e ar → M2.1 q = some (.inl (.inl (6, (xs.length, .inr (.inr (.inr (.inr f2))))))) → (∀ i, f2 i = xs.getD i none) → Q (some q) M2) : w_J2_toArray g F b M1 Q := by
  refine h.ge (h.gs (h.copyOf hr ?_ (arOf_ok ha hx) fun q M2 f2 e2 hqb hMq hqe hO hq hf => hk q M2 f2 e2 hqb hMq hqe hO hq fun i => ?_))
  · rcases ha with ⟨-, -, rfl, -⟩ | ⟨-, -, rfl, -⟩ | ⟨n, f, -, rfl, -, -, hn, -⟩
    · exact Nat.zero_le _
    · exact Nat.zero_le _
    · exact hn
  · rw [hf i]
    rcases ha with ⟨-, rfl, rfl, -⟩ | ⟨-, rfl, rfl, -⟩ | ⟨n, f, -, rfl, -, h1, hn, h6⟩
    · simp
    · simp
    · show (if i < min n xs.length then f i else none) = _
      split
      · next hi => exact h6 i (by omega)
      · next hi => rw [getD_big _ _ _ (by omega)]
theorem c_L_newC (hJ : JR l g) : Jc_L_newC l g := by
  intro b r M Q hw
  unfold L_newC gL at hw
  obtain ⟨hb, lb, rfl, hw⟩ := hw
  obtain ⟨xs, is, m, c, hl, hx, hrm, hq⟩ := gAdtAt_e hw
  refine convU fun U hB hR h1 h2 => ?_
  have hbz := (gRel_lt hR hb).2
  obtain ⟨M0, e, ar, e2, hR0, hO, ha⟩ := open_O hJ hR hl
  have hne : b ≠ lb := fun hh => by subst hh; rw [hb] at hl; cases hl
  have hb0 : M0.1 b = some (.inl (.inr (21, fsJ2))) := hO.2.2.1 b _ hne hb
  have hlz := arOf_len ha
  have hc := capZ_lt
  have hK := hJ.1.2.2.2.2 257 (Or.inr rfl)
  refine ⟨M0, e2, hR0, mgl (m_J2_init_2 (F := 0) hJ.1 ⟨isC_obj hb0, isC_obj hb0, pV_at hb0 (by decide) ?_⟩) rfl rfl⟩
  have hO1 : OL g (gPut M b 21 (fsJ2.set 0 (.int 0))) (gPut M0 b 21 (fsJ2.set 0 (.int 0))) lb m (nI xs.length) e ar := hO.side hne hb
  have hok1 : okL g (gPut M b 21 (fsJ2.set 0 (.int 0))) xs := by
    intro x hxx
    rcases hx x hxx with h | ⟨v, hv, ⟨ci, c', h3, h4⟩ | hk⟩
    · exact Or.inl h
    · refine Or.inr ⟨v, hv, Or.inl ⟨ci, ?_⟩⟩
      by_cases hvb : v = b
      · subst hvb
        rw [hb] at h3
        cases h3
        have : (21 : Nat) = ci := Option.some.inj h4
        subst this
        exact isC_obj (gUp_self _ _ _)
      · exact ⟨c', (gUp_ne hvb).trans h3, h4⟩
    · exact Or.inr ⟨v, hv, Or.inr hk⟩
  refine ⟨hO1.cls, toArr hO1 ha hok1 (by unfold hasR; show M0.2.1 + 1 ≤ _ ∧ M0.2.2 + _ ≤ _; rw [e2]; exact hrm) fun q M2 f2 e3 hqb hMq hqe hO2 hqa hf => ?_⟩
  have hqb' : q ≠ b := fun hh => by subst hh; rw [show (gPut M q 21 (fsJ2.set 0 (.int 0))).1 q = _ from gUp_self _ _ _] at hMq; cases hMq
  have hMq' : M.1 q = none := (gUp_ne hqb').symm.trans hMq
  have hb2 : M2.1 b = some (.inl (.inr (21, fsJ2.set 0 (.int 0)))) := hO2.2.2.1 b _ hne (gUp_self _ _ _)
  refine Or.inr (gArr_at hqa ⟨by decide, pV_at hb2 (by decide) ?_⟩)
  -- the end: b's object, with the array z
  have fin : ∀ (z : Nat) (ar' : Option (Nat × (Nat → Option Nat))) (c' : Nat), arOf g xs c' z ar' → z ≠ b → (∀ p, ar' = some p → z = q ∧ p = (xs.length, f2)) → (ar' = none → z = gK g 256 ∨ z = gK g 257) → c' = (if xs.length = 0 then 1 else xs.length + 2) →
      clU g Q (gPut (gPut M2 b 21 ((fsJ2.set 0 (.int 0)).set 2 (.int (nI xs.length)))) b 21 (((fsJ2.set 0 (.int 0)).set 2 (.int (nI xs.length))).set 1 (va_rf (some z)))) := by
    intro z ar' c' ha' hzb hz1 hz2 hc'
    subst hc'
    refine ⟨_, hq, ?_, ?_, hrm.1, hrm.2, fun H hR2 => ?_⟩
    · show M2.2.1 ≤ M.2.1 + 1
      rw [e3]; show M0.2.1 + 1 ≤ _; rw [e2]; exact Nat.le_refl _
    · show M2.2.2 ≤ M.2.2 + xs.length
      rw [e3]; show M0.2.2 + _ ≤ _; rw [e2]; exact Nat.le_refl _
    · -- the other list first
      let vb : gCell := .inl (.inr (21, [.int 0, .ref z, .int (nI xs.length)]))
      let vq : gCell := .inl (.inl (6, (xs.length, .inr (.inr (.inr (.inr f2))))))
      have e9 : (gPut (gPut M2 b 21 ((fsJ2.set 0 (.int 0)).set 2 (.int (nI xs.length)))) b 21 (((fsJ2.set 0 (.int 0)).set 2 (.int (nI xs.length))).set 1 (va_rf (some z)))).1 = gUp M2.1 b vb := gUp_gUp _ _ _ _
      rw [e9] at hR2
      have hO3 : OL g (gUp M.1 b vb, M.2) (gUp M2.1 b vb, M2.2) lb m (nI xs.length) e ar := by
        have := hO2.side (v := vb) (z := M.2) (z' := M2.2) hne (gUp_self _ _ _)
        rw [show (gPut M b 21 (fsJ2.set 0 (.int 0))).1 = gUp M.1 b _ from rfl, gUp_gUp] at this
        exact this
      have hO4 := hO3.base (v := vq) (q := q) (z := M.2) ((gUp_ne hqb').trans hqa) hqb hqe
      have hR3 := close_O (is := is) hJ hO4 ha hR2
      rw [gUp_same (show (gUp (gUp M.1 b vb) q vq) lb = some (.inr (21, xs, is, m, c)) from (gUp_ne hqb.symm).trans ((gUp_ne hne.symm).trans hl))] at hR3
      -- then this one
      have hO5 : OL g M (gUp (gUp M.1 b vb) q vq, M.2) b 0 (nI xs.length) z ar' := by
        refine ⟨(gUp_ne hqb'.symm).trans (gUp_self _ _ _), hzb, fun p u hp hu => ?_, isC_obj hb, ?_⟩
        · have : p ≠ q := fun hh => by subst hh; rw [hMq'] at hu; cases hu
          exact (gUp_ne this).trans ((gUp_ne hp).trans hu)
        · cases ar' with
          | none => exact hz2 rfl
          | some p =>
            obtain ⟨rfl, rfl⟩ := hz1 p rfl
            exact ⟨hMq', gUp_self _ _ _⟩
      exact close_O (is := []) hJ hO5 ha' hR3
  refine ⟨fun hz => ?_, fun hz => ?_⟩
  · have h0 := nI_eq0 (by omega) hz
    have hx0 : xs = [] := List.length_eq_zero_iff.mp h0
    refine pV_at (gUp_self _ _ _) (by simp [fsJ2]) (fin (gK g 257) none 1 (Or.inr (Or.inl ⟨rfl, hx0, rfl, rfl⟩)) (by omega) (fun p hp => by cases hp) (fun _ => Or.inr rfl) (by rw [if_pos h0]))
  · have h0 : ¬ xs.length = 0 := fun h => hz (by rw [h]; rfl)
    refine ⟨?_, fun q9 => absurd rfl q9, fun _ => pV_at (gUp_self _ _ _) (by simp [fsJ2]) (fin q (some (xs.length, f2)) (xs.length + 2) (Or.inr (Or.inr ⟨xs.length, f2, rfl, rfl, by omega, Nat.le_refl _, hlz, fun i _ => hf i⟩)) hqb' (fun p hp => by cases hp; exact ⟨rfl, rfl⟩) (fun h => by cases h) (by rw [if_neg h0]))⟩
    exact isC_obj ((gUp_ne hne.symm).trans hO2.1)
end L66
