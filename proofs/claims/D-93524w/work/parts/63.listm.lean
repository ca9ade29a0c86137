/-! LISTS: members -/
set_option maxRecDepth 100000
section L63
variable {l : Launch} {g : gT}
theorem ckIx {F n : Nat} {i : Int32} {M : hM} {Q : Int32 → hM → Prop} (h : vp_in i n) (hn : n < 2 ^ 31) (hq : Q i M) : w_J21_checkIndex g F i (nI n) M Q := by
  obtain ⟨k, h1, -, h2, h3⟩ := in_nI h
  have h3 := h3 hn
  exact ⟨fun q => absurd q (Int32.not_lt.mpr h2), fun _ => ⟨fun _ => hq, fun q => absurd (by rw [h3]; exact nI_lt h1 hn) q⟩⟩
theorem arOf_own {xs : List (Option Nat)} {c e : Nat} {ar : Option (Nat × (Nat → Option Nat))} (h : arOf g xs c e ar) (hx : 0 < xs.length) : ∃ n f, c = n + 2 ∧ ar = some (n, f) ∧ 0 < n ∧ xs.length ≤ n ∧ n ≤ capZ ∧ ∀ i, i < n → f i = xs.getD i none := by
  rcases h with ⟨-, rfl, -⟩ | ⟨-, rfl, -⟩ | h
  · simp at hx
  · simp at hx
  · exact h
theorem arOf_len {xs : List (Option Nat)} {c e : Nat} {ar : Option (Nat × (Nat → Option Nat))} (h : arOf g xs c e ar) : xs.length ≤ capZ := by
  rcases h with ⟨-, rfl, -⟩ | ⟨-, rfl, -⟩ | ⟨n, f, -, -, -, h1, h2, -⟩
  · simp
  · simp
  · omega
theorem c_L_size (hJ : JR l g) : Jc_L_size l g := by
  intro b M Q hw
  unfold L_size gL at hw
  obtain ⟨xs, is, m, c, hb, hq⟩ := gAdtAt_e hw
  refine convI fun U hB hR h1 h2 => ?_
  obtain ⟨M0, e, ar, e2, hR0, hO, ha⟩ := open_O hJ hR hb
  exact ⟨M0, e2, hR0, mgl (m_J2_size (F := 0) hJ.1 (hO.gs ⟨M, hq, up_ro hJ hb hO ha e2 h1 h2⟩)) rfl rfl⟩
theorem c_L_emp (hJ : JR l g) : Jc_L_emp l g := by
  intro b M Q hw
  unfold L_emp gL at hw
  obtain ⟨xs, is, m, c, hb, hq⟩ := gAdtAt_e hw
  refine convI fun U hB hR h1 h2 => ?_
  obtain ⟨M0, e, ar, e2, hR0, hO, ha⟩ := open_O hJ hR hb
  have hu := up_ro hJ hb hO ha e2 h1 h2
  have hl := arOf_len ha
  have hc := capZ_lt
  refine ⟨M0, e2, hR0, mgl (m_J2_isEmpty (F := 0) hJ.1 (hO.gs ⟨fun q => ⟨Or.inl rfl, M, ?_, hu⟩, fun q => ⟨Or.inr rfl, M, ?_, hu⟩⟩)) rfl rfl⟩
  · have : xs.length ≠ 0 := fun h => q (by rw [h]; rfl)
    rw [if_neg this] at hq; exact hq
  · have : xs.length = 0 := Nat.le_antisymm (Nat.not_lt.mp fun h => nI_ne0 h (by omega) q) (Nat.zero_le _)
    rw [if_pos this] at hq; exact hq
theorem c_L_get (hJ : JR l g) : Jc_L_get l g := by
  intro b i M Q hw
  unfold L_get gL at hw
  obtain ⟨xs, is, m, c, hb, hi, hq⟩ := gAdtAt_e hw
  refine convR fun U hB hR h1 h2 => ?_
  obtain ⟨M0, e, ar, e2, hR0, hO, ha⟩ := open_O hJ hR hb
  obtain ⟨k, hk, hk2, -⟩ := in_nI hi
  obtain ⟨n, f, rfl, rfl, h3, h4, h5, h6⟩ := arOf_own ha (by omega)
  have hc := capZ_lt
  have hi' : vp_in i n := fun q => hi (q.imp id fun q => by omega)
  refine ⟨M0, e2, hR0, mgl (m_J2_get (F := 0) hJ.1 (hO.gs (ckIx hi (by omega) ⟨hO.cls, hO.ge (hO.get hi' ⟨M, ?_, up_ro hJ hb hO ha e2 h1 h2⟩)⟩))) rfl rfl⟩
  rw [h6 _ (by omega)]; exact hq
theorem getD_set {α : Type} (xs : List α) (k i : Nat) (v d : α) (hk : k < xs.length) : (xs.set k v).getD i d = if i = k then v else xs.getD i d := by
  simp only [List.getD_eq_getElem?_getD]
  by_cases h : i = k
  · subst h; simp [hk]
  · rw [List.getElem?_set_ne (Ne.symm h), if_neg h]
theorem c_L_set (hJ : JR l g) : Jc_L_set l g := by
  intro b i r M Q hw
  unfold L_set gL at hw
  obtain ⟨hr, hw⟩ := hw
  obtain ⟨xs, is, m, c, hb, hi, hq⟩ := gAdtAt_e hw
  refine convR fun U hB hR h1 h2 => ?_
  obtain ⟨M0, e, ar, e2, hR0, hO, ha⟩ := open_O hJ hR hb
  obtain ⟨k, hk, hk2, -⟩ := in_nI hi
  obtain ⟨n, f, rfl, rfl, h3, h4, h5, h6⟩ := arOf_own ha (by omega)
  have hc := capZ_lt
  have hi' : vp_in i n := fun q => hi (q.imp id fun q => by omega)
  refine ⟨M0, e2, hR0, mgl (m_J2_set (F := 0) hJ.1 (hO.gs (ckIx hi (by omega) ⟨hO.cls, hO.ge (hO.get hi' (hO.ge (hO.put hi' hr fun M2 e3 hO2 => ⟨_, ?_, up_L (M' := M) (c := n + 2) (xs := xs.set i.toNatClampNeg r) hJ (by rw [List.length_set]; exact hO2) (Or.inr (Or.inr ⟨n, _, rfl, rfl, h3, by rw [List.length_set]; exact h4, h5, fun j hj => ?_⟩)) (by rw [e3, e2]; exact ⟨Nat.le_refl _, Nat.le_refl _⟩) rfl h1 h2⟩)))⟩))) rfl rfl⟩
  · rw [h6 _ (by omega)]; exact hq
  · rw [getD_set _ _ _ _ _ (by omega)]
    simp only [va_up]
    split
    · rfl
    · exact h6 j hj
theorem lRoom_e {M : hM} {c n : Nat} {κ : Nat → hM → Prop} (h : lRoom M c n κ) : (n ≤ lCap c ∧ κ c M) ∨ (lCap c < n ∧ hasR M 1 (lGrow c n) ∧ κ (lGrow c n + 2) (cost M 1 (lGrow c n))) := by
  unfold lRoom at h
  split at h
  · next h1 => exact Or.inl ⟨h1, h⟩
  · next h1 => exact Or.inr ⟨Nat.not_le.mp h1, h.1, h.2⟩
theorem arOf_cap {xs : List (Option Nat)} {c e : Nat} {ar : Option (Nat × (Nat → Option Nat))} (h : arOf g xs c e ar) : (ar.map (·.1)).getD 0 = lCap c := by
  rcases h with ⟨rfl, -, rfl, -⟩ | ⟨rfl, -, rfl, -⟩ | ⟨n, f, rfl, rfl, -⟩ <;> rfl
theorem arOf_le {xs : List (Option Nat)} {c e : Nat} {ar : Option (Nat × (Nat → Option Nat))} (h : arOf g xs c e ar) : xs.length ≤ lCap c := by
  rcases h with ⟨rfl, rfl, rfl, -⟩ | ⟨rfl, rfl, rfl, -⟩ | ⟨n, f, rfl, rfl, -, h, -⟩
  · exact Nat.zero_le _
  · exact Nat.zero_le _
  · exact h
theorem arOf_ok {M : hM} {xs : List (Option Nat)} {c e : Nat} {ar : Option (Nat × (Nat → Option Nat))} (h : arOf g xs c e ar) (hx : okL g M xs) : ∀ p, ar = some p → ∀ i, i < p.1 → okR g M (p.2 i) := by
  rintro p rfl i hi
  rcases h with ⟨-, -, h, -⟩ | ⟨-, -, h, -⟩ | ⟨n, f, -, h, -, h3, -, h4⟩
  · cases h
  · cases h
  · cases h
    show okR g M (f i)
    rw [h4 i hi]
    by_cases hl : i < xs.length
    · rw [List.getD_eq_getElem?_getD, List.getElem?_eq_getElem hl]
      exact hx _ (List.getElem_mem hl)
    · rw [List.getD_eq_getElem?_getD, List.getElem?_eq_none (by omega)]
      exact Or.inl rfl
theorem arOf_g {xs : List (Option Nat)} {c e : Nat} {ar : Option (Nat × (Nat → Option Nat))} (h : arOf g xs c e ar) : (c = 0 ∧ ar = none ∧ e = gK g 256) ∨ (c = 1 ∧ ar = none ∧ e = gK g 257) ∨ ∃ n f, c = n + 2 ∧ ar = some (n, f) ∧ 0 < n ∧ n ≤ capZ := by
  rcases h with ⟨h1, -, h2, h3⟩ | ⟨h1, -, h2, h3⟩ | ⟨n, f, h1, h2, h3, -, h4, -⟩
  · exact Or.inl ⟨h1, h2, h3⟩
  · exact Or.inr (Or.inl ⟨h1, h2, h3⟩)
  · exact Or.inr (Or.inr ⟨n, f, h1, h2, h3, h4⟩)
/-- what the array holds after it grew -/
theorem arOf_f2 {xs : List (Option Nat)} {c e N : Nat} {ar : Option (Nat × (Nat → Option Nat))} {f2 : Nat → Option Nat} (h : arOf g xs c e ar) (hf : ∀ i, f2 i = if i < lCap c then ((ar.map (·.2)).getD (fun _ => none)) i else none) (i : Nat) : f2 i = xs.getD i none := by
  rw [hf]
  rcases h with ⟨rfl, rfl, rfl, -⟩ | ⟨rfl, rfl, rfl, -⟩ | ⟨n, f, rfl, rfl, -, h3, -, h4⟩
  · simp [lCap]
  · simp [lCap]
  · show (if i < n then f i else none) = _
    split
    · next h => exact h4 i h
    · rw [List.getD_eq_getElem?_getD, List.getElem?_eq_none (by omega)]; rfl
theorem getD_snoc {α : Type} (xs : List α) (i : Nat) (v d : α) : (xs ++ [v]).getD i d = if i = xs.length then v else xs.getD i d := by
  simp only [List.getD_eq_getElem?_getD]
  by_cases h : i = xs.length
  · subst h; simp
  · rw [if_neg h]
    by_cases h2 : i < xs.length
    · rw [List.getElem?_append_left h2]
    · rw [List.getElem?_eq_none (by simp; omega), List.getElem?_eq_none (by omega)]
theorem c_L_add (hJ : JR l g) : Jc_L_add l g := by
  intro b r M Q hw
  unfold L_add gL at hw
  obtain ⟨hr, hw⟩ := hw
  obtain ⟨xs, is, m, c, hb, hx, hq⟩ := gAdtAt_e hw
  refine convI fun U hB hR h1 h2 => ?_
  obtain ⟨M0, e, ar, e2, hR0, hO, ha⟩ := open_O hJ hR hb
  have hc := capZ_lt
  have hcl : xs.length ≤ lCap c := arOf_le ha
  have hcap := arOf_cap ha
  have hlz := arOf_len ha
  have hlc : lCap c < 2 ^ 31 := by
    rcases arOf_g ha with ⟨rfl, -⟩ | ⟨rfl, -⟩ | ⟨n, f, rfl, -, -, h⟩
    · decide
    · decide
    · show n < _; omega
  -- the end of add: the place is there
  have fin : ∀ (M' M1 : hM) (e1 n : Nat) (f : Nat → Option Nat), OL g M M1 b (m + 1) (nI xs.length) e1 (some (n, f)) → M1.2 = M'.2 → M'.1 = M.1 → M'.2.1 ≤ capN → M'.2.2 ≤ capZ → xs.length < n → n ≤ capZ → (∀ i, f i = xs.getD i none ∨ n ≤ i) → Q 1 (pL M' b (xs ++ [r]) (m + 1) (n + 2)) → w_J2_add_2_11 g 0 b r (nI xs.length) (fun M5 => clI g Q 1 M5) (some e1) M1 := by
    intro M' M1 e1 n f hO1 e3 e4 c1 c2 hn hnz hf hq
    refine hO1.put (fun q => ?_) hr fun M2 e5 hO2 => hO2.ps fun M3 e6 hO3 => ⟨_, hq, up_L hJ (by rw [List.length_append, List.length_cons, List.length_nil, ← nI_1]; exact hO3) (Or.inr (Or.inr ⟨n, _, rfl, rfl, by omega, by simp; omega, hnz, fun j hj => ?_⟩)) (by rw [e6, e5, e3]; exact ⟨Nat.le_refl _, Nat.le_refl _⟩) e4 c1 c2⟩
    · have : vp_in (nI xs.length) n := nI_in hn (by omega)
      exact this q
    · rw [getD_snoc, nI_clamp (by omega)]
      simp only [va_up]
      split
      · rfl
      · exact (hf j).resolve_right (by omega)
  refine ⟨M0, e2, hR0, mgl (m_J2_add (F := 0) hJ.1 (hO.gm (hO.pm fun M1 e3 hO1 => hO1.ge (hO1.gs ⟨hO1.cls, hO1.len ?_⟩)))) rfl rfl⟩
  rw [hcap]
  rcases lRoom_e hq with ⟨h3, hq⟩ | ⟨h3, hr3, hq⟩
  · obtain ⟨n, f, rfl, rfl, h4, h5, h6, h7⟩ : ∃ n f, c = n + 2 ∧ ar = some (n, f) ∧ 0 < n ∧ xs.length ≤ n ∧ n ≤ capZ ∧ ∀ i, i < n → f i = xs.getD i none := by
      rcases ha with ⟨rfl, -⟩ | ⟨rfl, -⟩ | h
      · simp [lCap] at h3
      · simp [lCap] at h3
      · exact h
    have h8 : xs.length < n := h3
    refine ⟨fun _ => fin M M1 e n f hO1 (e3.trans e2) rfl h1 h2 h8 h6 (fun i => (Nat.lt_or_ge i n).imp (h7 i) id) hq, fun q => absurd ((nI_eq (by omega) (by omega)).mp q) (by show xs.length ≠ n; omega)⟩
  · have h8 : lCap c = xs.length := by omega
    rw [h8]
    refine ⟨fun q => absurd rfl q, fun _ => ⟨hO1.cls, hO1.gs ⟨hO1.cls, ?_⟩⟩⟩
    rw [nI_1]
    have hrr : hasR M1 1 (lGrow c (xs.length + 1)) := by
      have e4 : M1.2 = M.2 := e3.trans e2
      unfold hasR
      rw [e4]
      exact hr3
    refine hO1.grow hJ.1.2.2.2.1 (arOf_g ha) h3 hrr (arOf_ok ha hx) fun q M2 f2 e4 hO2 hf => ?_
    have e5 : M2.2 = (cost M 1 (lGrow c (xs.length + 1))).2 := by rw [e4, e3, e2]; rfl
    have hge : xs.length < lGrow c (xs.length + 1) := by
      rcases arOf_g ha with ⟨rfl, -⟩ | ⟨rfl, -⟩ | ⟨n, f, rfl, -⟩
      · simp only [lGrow]; split <;> omega
      · exact Nat.lt_succ_self _
      · simp only [lGrow]
        have : lCap (n + 2) = n := rfl
        split <;> omega
    exact fin _ M2 q _ f2 hO2 e5 rfl hr3.1 hr3.2 hge (by have := hr3.2; omega) (fun i => Or.inl (arOf_f2 (N := 0) ha hf i)) hq
end L63
