/-! LISTS: members, second part -/
set_option maxRecDepth 100000
section L64
variable {l : Launch} {g : gT}
theorem gUp_gUp (M : gMap) (a : Nat) (c c' : gCell) : gUp (gUp M a c) a c' = gUp M a c' := by
  funext q
  by_cases hq : q = a
  · subst hq; rw [gUp_self, gUp_self]
  · rw [gUp_ne hq, gUp_ne hq, gUp_ne hq]
theorem gUp_comm (M : gMap) {a b : Nat} (h : a ≠ b) (c c' : gCell) : gUp (gUp M a c) b c' = gUp (gUp M b c') a c := by
  funext q
  by_cases hq : q = b
  · subst hq; rw [gUp_self, gUp_ne h.symm, gUp_self]
  · rw [gUp_ne hq]
    by_cases hq2 : q = a
    · subst hq2; rw [gUp_self, gUp_self]
    · rw [gUp_ne hq2, gUp_ne hq2, gUp_ne hq]
/-- a new object that becomes a list -/
theorem OL.born {M : hM} {b : Nat} {m s : Int32} {e : Nat} {fs : List Value} (hb : M.1 b = some (.inl (.inr (21, [.int m, .ref e, .int s])))) (he : e = gK g 256 ∨ e = gK g 257) (hne : e ≠ b) : OL g M M b m s e none := ⟨hb, hne, fun _ _ _ h => h, isC_obj hb, he⟩
theorem c_L_new (hJ : JR l g) : Jc_L_new l g := by
  intro b M Q hw
  obtain ⟨hb, hq⟩ := hw
  refine convU fun U hB hR h1 h2 => ?_
  have hbz := (gRel_lt hR hb).2
  refine ⟨M, rfl, hR, mgl (m_J2_init (F := 0) hJ.1 ⟨isC_obj hb, isC_obj hb, pV_at hb (by decide) ?_⟩) rfl rfl⟩
  refine pV_at (gUp_self _ _ _) (by decide) ⟨_, hq, Nat.le_refl _, Nat.le_refl _, h1, h2, fun H hR2 => ?_⟩
  have hK := hJ.1.2.2.2.2 256 (Or.inl rfl)
  have hO : OL g M (gPut (gPut M b 21 (fsJ2.set 0 (.int 0))) b 21 ((fsJ2.set 0 (.int 0)).set 1 (va_rf (some (gK g 256))))) b 0 (nI ([] : List (Option Nat)).length) (gK g 256) none :=
    ⟨gUp_self _ _ _, by omega, fun q v h3 h4 => (gUp_ne h3).trans ((gUp_ne h3).trans h4), isC_obj hb, Or.inl rfl⟩
  exact close_O (is := []) (xs := []) (c := 0) hJ hO (Or.inl ⟨rfl, rfl, rfl, rfl⟩) hR2
theorem getD_big' {α : Type} (xs : List α) (i : Nat) (d : α) (h : xs.length ≤ i) : xs.getD i d = d := by
  rw [List.getD_eq_getElem?_getD, List.getElem?_eq_none h]; rfl
/-- clear's loop -/
theorem clr_loop {M : hM} {b : Nat} {m s : Int32} {e n len : Nat} (hlen : len ≤ n) (hn : n ≤ capZ) {Q : hM → Prop} {F0 : Nat} : ∀ (F k : Nat) (M1 : hM) (f : Nat → Option Nat), OL g M M1 b m s e (some (n, f)) → k ≤ len → len - k < F → (∀ i, i < n → i < k ∨ len ≤ i → f i = none) →
    (∀ M2 f2, M2.2 = M1.2 → OL g M M2 b m s e (some (n, f2)) → (∀ i, i < n → f2 i = none) → Q M2) → w_J2_clear_27 g F0 b Q F (some e) (nI len) (nI k) M1
  | 0, k, M1, f, _, _, h, _, _ => absurd h (Nat.not_lt_zero _)
  | F + 1, k, M1, f, hO, hk, hF, hf, hq => by
    have hc := capZ_lt
    refine ⟨fun q => hq M1 f rfl hO fun i hi => hf i hi ?_, fun q => ?_⟩
    · have := (nI_leI (by omega) (by omega)).mp q
      omega
    · have hlt : k < len := Nat.not_le.mp fun h => q ((nI_leI (by omega) (by omega)).mpr h)
      refine hO.put (fun q => nI_in (show k < n by omega) (by omega) q) (Or.inl rfl) fun M2 e2 hO2 => ?_
      rw [nI_1]
      refine clr_loop hlen hn F (k + 1) M2 _ hO2 (by omega) (by omega) (fun i hi h => ?_) fun M3 f3 e3 => hq M3 f3 (e3.trans e2)
      rw [nI_clamp (by omega)]
      simp only [va_up]
      split
      · rfl
      · exact hf i hi (by omega)
theorem c_L_clr (hJ : JR l g) : Jc_L_clr l g := by
  intro b M Q hw
  unfold L_clr gL at hw
  obtain ⟨xs, is, m, c, hb, hq⟩ := gAdtAt_e hw
  refine convU fun U hB hR h1 h2 => ?_
  obtain ⟨M0, e, ar, e2, hR0, hO, ha⟩ := open_O hJ hR hb
  refine ⟨M0, e2, hR0, mgl (m_J2_clear (F := xs.length + 1) hJ.1 (hO.gm (hO.pm fun M1 e3 hO1 => hO1.ge (hO1.gs (hO1.ps fun M2 e4 hO2 => ?_))))) rfl rfl⟩
  have e5 : M2.2 = M.2 := e4.trans (e3.trans e2)
  rcases ha with ⟨rfl, rfl, rfl, a4⟩ | ⟨rfl, rfl, rfl, a4⟩ | ⟨n, f, rfl, rfl, a3, a4, a5, a6⟩
  · exact ⟨fun _ => ⟨_, hq, up_L (M' := M) (xs := []) hJ hO2 (Or.inl ⟨rfl, rfl, rfl, a4⟩) (by rw [e5]; exact ⟨Nat.le_refl _, Nat.le_refl _⟩) rfl h1 h2⟩, fun q => absurd (show (nI 0 ≤ (0 : Int32)) by decide) q⟩
  · exact ⟨fun _ => ⟨_, hq, up_L (M' := M) (xs := []) hJ hO2 (Or.inr (Or.inl ⟨rfl, rfl, rfl, a4⟩)) (by rw [e5]; exact ⟨Nat.le_refl _, Nat.le_refl _⟩) rfl h1 h2⟩, fun q => absurd (show (nI 0 ≤ (0 : Int32)) by decide) q⟩
  · refine clr_loop a4 a5 _ 0 _ _ hO2 (Nat.zero_le _) (by omega) (fun i hi h => ?_) fun M3 f3 e6 hO3 hf => ⟨_, hq, up_L (M' := M) (xs := []) hJ hO3 (Or.inr (Or.inr ⟨n, f3, rfl, rfl, a3, Nat.zero_le _, a5, fun i hi => by rw [hf i hi]; rfl⟩)) (by rw [e6, e5]; exact ⟨Nat.le_refl _, Nat.le_refl _⟩) rfl h1 h2⟩
    rw [a6 i hi, getD_big' _ _ _ (by omega)]
theorem getD_app_le {α : Type} (xs ys : List α) (i : Nat) (d : α) : (xs ++ ys).getD i d = if i < xs.length then xs.getD i d else ys.getD (i - xs.length) d := by
  simp only [List.getD_eq_getElem?_getD]
  split
  · next h => rw [List.getElem?_append_left h]
  · next h => rw [List.getElem?_append_right (by omega)]
theorem getD_take {α : Type} (xs : List α) (k i : Nat) (d : α) : (xs.take k).getD i d = if i < k then xs.getD i d else d := by
  simp only [List.getD_eq_getElem?_getD, List.getElem?_take]
  split <;> rfl
theorem getD_drop {α : Type} (xs : List α) (k i : Nat) (d : α) : (xs.drop k).getD i d = xs.getD (k + i) d := by
  simp only [List.getD_eq_getElem?_getD, List.getElem?_drop]
theorem getD_big {α : Type} (xs : List α) (i : Nat) (d : α) (h : xs.length ≤ i) : xs.getD i d = d := by
  rw [List.getD_eq_getElem?_getD, List.getElem?_eq_none h]; rfl
theorem c_L_rem (hJ : JR l g) : Jc_L_rem l g := by
  intro b i M Q hw
  unfold L_rem gL at hw
  obtain ⟨xs, is, m, c, hb, hx, hi, hq⟩ := gAdtAt_e hw
  refine convR fun U hB hR h1 h2 => ?_
  obtain ⟨M0, e, ar, e2, hR0, hO, ha⟩ := open_O hJ hR hb
  obtain ⟨k, hk, hk2, hk3, hk4⟩ := in_nI hi
  have hok := arOf_ok ha hx
  obtain ⟨n, f, rfl, rfl, h3, h4, h5, h6⟩ := arOf_own ha (by omega)
  have hc := capZ_lt
  have hi' : vp_in i n := fun q => hi (q.imp id fun q => by omega)
  have ei : i = nI k := hk4 (by omega)
  subst ei
  have ek : (nI k).toNatClampNeg = k := nI_clamp (by omega)
  rw [ek] at hq
  -- the end of fastRemove
  have fin : ∀ (M1 : hM) (f1 : Nat → Option Nat), M1.2 = M.2 → OL g M M1 b (m + 1) (nI xs.length) e (some (n, f1)) → (∀ j, j < n → j ≠ xs.length - 1 → f1 j = (xs.eraseIdx k).getD j none) → w_J2_fastRemove_34 g 0 b (some e) (nI k) (fun M6 => clI g Q (f k) M6) (nI (xs.length - 1)) M1 := by
    intro M1 f1 e3 hO1 hf
    refine hO1.ps fun M2 e4 hO2 => hO2.put (fun q => nI_in (show xs.length - 1 < n by omega) (by omega) q) (Or.inl rfl) fun M3 e5 hO3 => ⟨_, ?_, up_L (M' := M) (c := n + 2) (xs := xs.eraseIdx k) hJ (by rw [List.length_eraseIdx, if_pos hk]; exact hO3) (Or.inr (Or.inr ⟨n, _, rfl, rfl, h3, by rw [List.length_eraseIdx, if_pos hk]; omega, h5, fun j hj => ?_⟩)) (by rw [e5, e4, e3]; exact ⟨Nat.le_refl _, Nat.le_refl _⟩) rfl h1 h2⟩
    · rw [h6 _ (by omega)]; exact hq
    · rw [nI_clamp (by omega)]
      simp only [va_up]
      split
      · next hh => rw [getD_big _ _ _ (by rw [List.length_eraseIdx, if_pos hk]; omega)]
      · next hh => exact hf j hj hh
  refine ⟨M0, e2, hR0, mgl (m_J2_remove (F := 0) hJ.1 (hO.gs (ckIx hi (by omega) (hO.ge (hO.get hi' ⟨hO.cls, hO.gm (hO.pm fun M1 e3 hO1 => hO1.gs ?_)⟩))))) rfl rfl⟩
  rw [ek]
  have es : nI xs.length - (1 : Int32) = nI (xs.length - 1) := by
    have := nI_sub (a := xs.length) (b := 1) (by omega)
    exact this
  rw [es]
  refine ⟨fun q => fin M1 f (e3.trans e2) hO1 fun j hj hj2 => ?_, fun q => ?_⟩
  · have hkl : xs.length - 1 ≤ k := (nI_leI (by omega) (by omega)).mp q
    rw [h6 j hj, List.getD_eq_getElem?_getD, List.getD_eq_getElem?_getD, List.getElem?_eraseIdx]
    by_cases hjk : j < k
    · rw [if_pos hjk]
    · rw [if_neg hjk, List.getElem?_eq_none (by omega), List.getElem?_eq_none (by omega)]
  · have hkl : k < xs.length - 1 := Nat.not_le.mp fun h => q ((nI_leI (by omega) (by omega)).mpr h)
    have e5 : nI k + (1 : Int32) = nI (k + 1) := nI_1 k
    rw [e5, nI_sub (by omega)]
    refine hO1.cpy (sp := k + 1) (dp := k) (k := xs.length - 1 - k) (by omega) (by omega) h5 (fun j hj => hok _ rfl _ (show k + 1 + j < n by omega)) fun M2 e6 hO2 => fin M2 _ (e6.trans (e3.trans e2)) hO2 fun j hj hj2 => ?_
    simp only [va_cpy]
    rw [List.getD_eq_getElem?_getD, List.getElem?_eraseIdx]
    by_cases hjk : j < k
    · rw [if_pos hjk, if_neg (by omega), h6 j hj, List.getD_eq_getElem?_getD]
    · rw [if_neg hjk]
      by_cases hj3 : j < k + (xs.length - 1 - k)
      · rw [if_pos ⟨by omega, hj3⟩, h6 _ (by omega), List.getD_eq_getElem?_getD]
        congr 2; omega
      · rw [if_neg (by omega), h6 j hj, List.getD_eq_getElem?_getD, List.getElem?_eq_none (by omega), List.getElem?_eq_none (by omega)]
theorem c_L_ins (hJ : JR l g) : Jc_L_ins l g := by
  intro b i r M Q hw
  unfold L_ins gL at hw
  obtain ⟨hr, hw⟩ := hw
  obtain ⟨xs, is, m, c, hb, hx, hi, hq⟩ := gAdtAt_e hw
  refine convU fun U hB hR h1 h2 => ?_
  obtain ⟨M0, e, ar, e2, hR0, hO, ha⟩ := open_O hJ hR hb
  have hc := capZ_lt
  have hlz := arOf_len ha
  have hlz2 : capZ = 5493754 := rfl
  have hcl : xs.length ≤ lCap c := arOf_le ha
  have hcap := arOf_cap ha
  have hlc : lCap c < 2 ^ 31 := by
    rcases arOf_g ha with ⟨rfl, -⟩ | ⟨rfl, -⟩ | ⟨n, f, rfl, -, -, h⟩
    · decide
    · decide
    · show n < _; omega
  obtain ⟨k, hk, hk2, hk3, hk4⟩ := in_nI hi
  have ei : i = nI k := hk4 (by omega)
  subst ei
  have ek : (nI k).toNatClampNeg = k := nI_clamp (by omega)
  rw [ek] at hq
  have hlen : (xs.take k ++ r :: xs.drop k).length = xs.length + 1 := by simp; omega
  have fin : ∀ (M' M1 : hM) (e1 n : Nat) (f : Nat → Option Nat), OL g M M1 b (m + 1) (nI xs.length) e1 (some (n, f)) → M1.2 = M'.2 → M'.1 = M.1 → M'.2.1 ≤ capN → M'.2.2 ≤ capZ → xs.length < n → n ≤ capZ → (∀ i, i < n → f i = xs.getD i none) → Q (pL M' b (xs.take k ++ r :: xs.drop k) (m + 1) (n + 2)) → w_J2_add_3_38 g 0 b (nI k) r (fun M6 => clU g Q M6) (nI xs.length) (some e1) M1 := by
    intro M' M1 e1 n f hO1 e3 e4 c1 c2 hn hnz hf hq
    unfold w_J2_add_3_38
    rw [nI_1, nI_sub (by omega)]
    refine hO1.cpy (sp := k) (dp := k + 1) (k := xs.length - k) (by omega) (by omega) hnz (fun j hj => ?_) fun M2 e5 hO2 => hO2.put (fun q => nI_in (show k < n by omega) (by omega) q) hr fun M3 e6 hO3 => hO3.ps fun M4 e7 hO4 => ⟨_, hq, up_L hJ (xs := xs.take k ++ r :: xs.drop k) (by rw [hlen, ← nI_1]; exact hO4) (Or.inr (Or.inr ⟨n, _, rfl, rfl, by omega, by rw [hlen]; omega, hnz, fun j hj => ?_⟩)) (by rw [e7, e6, e5, e3]; exact ⟨Nat.le_refl _, Nat.le_refl _⟩) e4 c1 c2⟩
    · rw [hf _ (by omega), List.getD_eq_getElem?_getD, List.getElem?_eq_getElem (by omega)]
      exact hx _ (List.getElem_mem _)
    · rw [ek, getD_app_le, getD_take]
      have htl : (xs.take k).length = k := by simp; omega
      rw [htl]
      simp only [va_up, va_cpy]
      by_cases hjk : j < k
      · rw [if_pos hjk, if_neg (by omega), if_neg (by omega), if_pos hjk, hf j hj]
      · rw [if_neg hjk]
        by_cases hje : j = k
        · rw [if_pos hje, hje, Nat.sub_self]; rfl
        · rw [if_neg hje]
          obtain ⟨d, rfl⟩ : ∃ d, j = k + (d + 1) := ⟨j - k - 1, by omega⟩
          have : k + (d + 1) - k = d + 1 := by omega
          rw [this, List.getD_cons_succ, getD_drop]
          by_cases hj3 : k + (d + 1) < k + 1 + (xs.length - k)
          · rw [if_pos ⟨by omega, hj3⟩, hf _ (by omega)]
            congr 1; omega
          · rw [if_neg (by omega), hf _ hj, getD_big _ _ _ (by omega), getD_big _ _ _ (by omega)]
  refine ⟨M0, e2, hR0, mgl (m_J2_add_3 (F := 0) hJ.1 ⟨hO.cls, hO.gs ⟨fun q => absurd q (nI_nlt (by omega) (by omega)), fun _ => ⟨fun _ => hO.gm (hO.pm fun M1 e3 hO1 => hO1.gs (hO1.ge (hO1.len ?_))), fun q => absurd (nI_pos' (by omega)) q⟩⟩⟩) rfl rfl⟩
  rw [hcap]
  rcases lRoom_e hq with ⟨h3, hq⟩ | ⟨h3, hr3, hq⟩
  · obtain ⟨n, f, rfl, rfl, h4, h5, h6, h7⟩ : ∃ n f, c = n + 2 ∧ ar = some (n, f) ∧ 0 < n ∧ xs.length ≤ n ∧ n ≤ capZ ∧ ∀ i, i < n → f i = xs.getD i none := by
      rcases ha with ⟨rfl, -⟩ | ⟨rfl, -⟩ | h
      · simp [lCap] at h3
      · simp [lCap] at h3
      · exact h
    have h8 : xs.length < n := h3
    exact ⟨fun _ => fin M M1 e n f hO1 (e3.trans e2) rfl h1 h2 h8 h6 h7 hq, fun q => absurd ((nI_eq (by omega) (by omega)).mp q) (by show xs.length ≠ n; omega)⟩
  · have h8 : lCap c = xs.length := by omega
    rw [h8]
    refine ⟨fun q => absurd rfl q, fun _ => ⟨hO1.cls, hO1.gs ⟨hO1.cls, ?_⟩⟩⟩
    rw [nI_1]
    have hrr : hasR M1 1 (lGrow c (xs.length + 1)) := by
      have e4 : M1.2 = M.2 := e3.trans e2
      unfold hasR
      rw [e4]
      exact hr3
    refine hO1.grow hJ.1.2.2.2.1 (arOf_g ha) h3 hrr (arOf_ok ha hx) fun q M2 f2 e4 hO2 hf => ?_
    have e5 : M2.2 = (cost M 1 (lGrow c (xs.length + 1))).2 := by rw [e4, e3, e2]; rfl
    have hge : xs.length < lGrow c (xs.length + 1) := by
      rcases arOf_g ha with ⟨rfl, -⟩ | ⟨rfl, -⟩ | ⟨n, f, rfl, -⟩
      · simp only [lGrow]; split <;> omega
      · exact Nat.lt_succ_self _
      · simp only [lGrow]
        have : lCap (n + 2) = n := rfl
        split <;> omega
    exact fin _ M2 q _ f2 hO2 e5 rfl hr3.1 hr3.2 hge (by have := hr3.2; omega) (fun i _ => arOf_f2 (N := 0) ha hf i) hq
end L64
