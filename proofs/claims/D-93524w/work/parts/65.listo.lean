/-! LISTS: members, third part -/
set_option maxRecDepth 100000
section L65
variable {l : Launch} {g : gT}
theorem nI_eq0 {n : Nat} (h : n < 2 ^ 31) (h0 : nI n = 0) : n = 0 := Nat.le_antisymm (Nat.not_lt.mp fun q => nI_ne0 q h h0) (Nat.zero_le _)
/-- another cell changes beside the open list -/
theorem OL.side {M M1 : hM} {b : Nat} {m s : Int32} {e : Nat} {ar : Option (Nat × (Nat → Option Nat))} (h : OL g M M1 b m s e ar) {q : Nat} {w v : gCell} (hq : q ≠ b) (hw : M.1 q = some w) {z z' : Nat × Nat} : OL g (gUp M.1 q v, z) (gUp M1.1 q v, z') b m s e ar := by
  obtain ⟨h1, h2, h3, ⟨c, h4, h4'⟩, h5⟩ := h
  refine ⟨(gUp_ne hq.symm).trans h1, h2, fun p u hp hu => ?_, ⟨c, (gUp_ne hq.symm).trans h4, h4'⟩, ?_⟩
  · by_cases hpq : p = q
    · subst hpq
      dsimp only at hu ⊢
      rw [gUp_self] at hu ⊢
      exact hu
    · dsimp only at hu ⊢
      rw [gUp_ne hpq] at hu ⊢
      exact h3 p u hp hu
  · cases ar with
    | none => exact h5
    | some p =>
      have : e ≠ q := fun hh => by subst hh; rw [h5.1] at hw; cases hw
      exact ⟨(gUp_ne this).trans h5.1, (gUp_ne this).trans h5.2⟩
/-- a new cell beside the open list -/
theorem OL.fresh {M M1 : hM} {b : Nat} {m s : Int32} {e : Nat} {ar : Option (Nat × (Nat → Option Nat))} (h : OL g M M1 b m s e ar) {q : Nat} {v : gCell} (hq : M1.1 q = none) {z z' : Nat × Nat} : M.1 q = none ∧ q ≠ b ∧ OL g (gUp M.1 q v, z) (gUp M1.1 q v, z') b m s e ar := by
  obtain ⟨h1, h2, h3, ⟨c, h4, h4'⟩, h5⟩ := h
  have hqb : q ≠ b := fun hh => by subst hh; rw [h1] at hq; cases hq
  have hMq : M.1 q = none := by
    cases hm : M.1 q with
    | none => rfl
    | some w => rw [h3 q w hqb hm] at hq; cases hq
  refine ⟨hMq, hqb, (gUp_ne hqb.symm).trans h1, h2, fun p u hp hu => ?_, ⟨c, (gUp_ne hqb.symm).trans h4, h4'⟩, ?_⟩
  · by_cases hpq : p = q
    · subst hpq
      dsimp only at hu ⊢
      rw [gUp_self] at hu ⊢
      exact hu
    · dsimp only at hu ⊢
      rw [gUp_ne hpq] at hu ⊢
      exact h3 p u hp hu
  · cases ar with
    | none => exact h5
    | some p =>
      have : e ≠ q := fun hh => by subst hh; rw [h5.2] at hq; cases hq
      exact ⟨(gUp_ne this).trans h5.1, (gUp_ne this).trans h5.2⟩
theorem T_open {M : hM} {b lb n : Nat} {lr em : Int32} {M1 : hM} {m s : Int32} {e : Nat} {ar : Option (Nat × (Nat → Option Nat))} (hb : M.1 b = some (.inl (.inr (26, fsItr n lr em lb)))) (hl : isC M lb 21) (h : OL g M M1 lb m s e ar) : b ≠ lb ∧ M1.1 b = some (.inl (.inr (26, fsItr n lr em lb))) := by
  have hne : b ≠ lb := fun hh => by
    subst hh
    obtain ⟨c, h1, h2⟩ := hl
    rw [hb] at h1
    cases h1
    cases h2
  exact ⟨hne, h.2.2.1 b _ hne hb⟩
theorem c_T_has (hJ : JR l g) : Jc_T_has l g := by
  intro b M Q hw
  unfold T_has gL at hw
  obtain ⟨n, lr, em, lb, hb, hw⟩ := hw
  obtain ⟨xs, is, m, c, hl, hn, hq⟩ := gAdtAt_e hw
  refine convI fun U hB hR h1 h2 => ?_
  obtain ⟨M0, e, ar, e2, hR0, hO, ha⟩ := open_O hJ hR hl
  obtain ⟨hne, hb0⟩ := T_open hb (isC_adt hl) hO
  have hu := up_ro hJ hl hO ha e2 h1 h2
  have hlz := arOf_len ha
  have hc := capZ_lt
  refine ⟨M0, e2, hR0, mgl (m_J24_hasNext (F := 0) hJ.1 (gI_at hb0 rfl (gF_at (r := some lb) hb0 rfl (hO.gs ⟨fun q => ⟨Or.inl rfl, M, ?_, hu⟩, fun q => ⟨Or.inr rfl, M, ?_, hu⟩⟩)))) rfl rfl⟩
  · rw [if_pos ((nI_eq (by omega) (by omega)).mp q)] at hq; exact hq
  · rw [if_neg (fun h => q (by rw [h]))] at hq; exact hq
theorem c_T_next (hJ : JR l g) : Jc_T_next l g := by
  intro b M Q hw
  unfold T_next gL at hw
  obtain ⟨n, lr, em, lb, hb, hw⟩ := hw
  obtain ⟨xs, is, m, c, hl, rfl, hn, hq⟩ := gAdtAt_e hw
  refine convR fun U hB hR h1 h2 => ?_
  obtain ⟨M0, e, ar, e2, hR0, hO, ha⟩ := open_O hJ hR hl
  obtain ⟨hne, hb0⟩ := T_open hb (isC_adt hl) hO
  have hlz := arOf_len ha
  have hc := capZ_lt
  obtain ⟨k, f, rfl, rfl, h3, h4, h5, h6⟩ := arOf_own ha (by omega)
  have en : (nI n).toNatClampNeg = n := nI_clamp (by omega)
  refine ⟨M0, e2, hR0, mgl (m_J24_next (F := 0) hJ.1 ⟨isC_obj hb0, gF_at (r := some lb) hb0 rfl (hO.gm (gI_at hb0 rfl ⟨fun _ => ?_, fun q => absurd rfl q⟩))⟩) rfl rfl⟩
  refine gI_at hb0 rfl (gF_at (r := some lb) hb0 rfl (hO.gs ⟨fun _ => ?_, fun q => absurd (nI_lt hn (by omega)) q⟩))
  refine gF_at (r := some lb) hb0 rfl (hO.ge (hO.len ⟨fun _ => ?_, fun q => absurd (nI_lt (show n < k by omega) (by omega)) q⟩))
  refine pV_at hb0 (by simp [fsItr]) (pV_at (gUp_self _ _ _) (by simp [fsItr]) ?_)
  have e9 : gPut (gPut M0 b 26 ((fsItr n lr em lb).set 0 (.int (nI n + 1)))) b 26 (((fsItr n lr em lb).set 0 (.int (nI n + 1))).set 1 (.int (nI n))) = (gUp M0.1 b (.inl (.inr (26, fsItr (n + 1) (nI n) em lb))), M0.2) := by
    show (gUp (gUp M0.1 b _) b _, M0.2) = _
    rw [gUp_gUp]
    rw [nI_1]; rfl
  rw [e9]
  have hO9 : OL g (gPut M b 26 (fsItr (n + 1) (nI n) em lb)) (gUp M0.1 b (.inl (.inr (26, fsItr (n + 1) (nI n) em lb))), M0.2) lb em (nI xs.length) e (some (k, f)) := hO.side hne hb
  refine hO9.get (fun q => nI_in (show n < k by omega) (by omega) q) ⟨_, ?_, up_ro hJ (xs := xs) (is := is) (c := k + 2) ((gUp_ne hne.symm).trans hl) hO9 ha e2 h1 h2⟩
  rw [en, h6 _ (by omega)]
  exact hq
theorem c_L_itr (hJ : JR l g) : Jc_L_itr l g := by
  intro b M Q hw
  unfold L_itr gL at hw
  obtain ⟨xs, is, m, c, hb, w1, w2, hq⟩ := gAdtAt_e hw
  refine convR fun U hB hR h1 h2 => ?_
  obtain ⟨M0, e, ar, e2, hR0, hO, ha⟩ := open_O hJ hR hb
  have w2' : M.2.2 + 4 ≤ capZ := w2
  refine ⟨M0, e2, hR0, mgl (m_J2_iterator (F := 0) hJ.1 ⟨by rw [e2]; exact w1, by rw [e2]; exact w2', fun q hq0 => ⟨isC_obj (gUp_self _ _ _), pV_at (gUp_self _ _ _) (by simp [fsJ24]) (pV_at (gUp_self _ _ _) (by simp [fsJ24]) (gF_at (r := some b) (gUp_self _ _ _) rfl ?_))⟩⟩) rfl rfl⟩
  obtain ⟨hMq, hqb, hO9⟩ := hO.fresh (v := .inl (.inr (26, fsItr 0 (-1) m b))) (z := (M.2.1 + 1, M.2.2 + 4)) (z' := (M.2.1 + 1, M.2.2 + 4)) hq0
  refine gI_at ((gUp_ne hqb.symm).trans ((gUp_ne hqb.symm).trans ((gUp_ne hqb.symm).trans hO.1))) rfl (pV_at (gUp_self _ _ _) (by simp [fsJ24]) ?_)
  refine ⟨_, hq q hMq, Nat.le_of_eq (by show M0.2.1 + 1 = M.2.1 + 1; rw [e2]), Nat.le_of_eq (by show M0.2.2 + 4 = M.2.2 + 4; rw [e2]), w1, w2', fun H hR2 => ?_⟩
  have hR3 : Rel g (gUp M0.1 q (.inl (.inr (26, fsItr 0 (-1) m b)))) H := by
    have e9 : ∀ c1 c2 c3 c4 : gCell, gUp (gUp (gUp (gUp M0.1 q c1) q c2) q c3) q c4 = gUp M0.1 q c4 := fun c1 c2 c3 c4 => by rw [gUp_gUp, gUp_gUp, gUp_gUp]
    have := hR2
    change Rel g (gUp (gUp (gUp (gUp M0.1 q _) q _) q _) q _) H at this
    rw [e9] at this
    exact this
  have := close_O (is := is) hJ hO9 ha hR3
  rw [gUp_same (show (gUp M.1 q (.inl (.inr (26, fsItr 0 (-1) m b)))) b = _ from (gUp_ne hqb.symm).trans hb)] at this
  exact this
end L65
