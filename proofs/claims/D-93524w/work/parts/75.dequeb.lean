/-! DEQUES, second part -/
set_option maxRecDepth 100000
section L75
variable {l : Launch} {g : gT}
theorem cc_last {M : hM} {b e : Nat} {fs : List Value} {t : Nat} (ht : t < 17) {Q : hM → Prop} {F0 : Nat} : ∀ (F i : Nat) (M1 : hM) (f : Nat → Option Nat), OA M M1 b 22 fs e 6 (17, .inr (.inr (.inr (.inr f)))) → i ≤ t → t - i < F →
    (∀ M2 f2, M2.2 = M1.2 → OA M M2 b 22 fs e 6 (17, .inr (.inr (.inr (.inr f2)))) → Q M2) → w_J3_circularClear_12 g F0 (some e) (nI t) Q F (nI i) (nI t) M1
  | 0, _, _, _, _, _, h, _ => absurd h (Nat.not_lt_zero _)
  | F + 1, i, M1, f, hO, hi, hF, hq => by
    refine ⟨fun q => ⟨fun h => absurd rfl h, fun _ => hq M1 f rfl hO⟩, fun q => ?_⟩
    have hlt : i < t := Nat.not_le.mp fun h => q ((nI_leI (by omega) (by omega)).mpr h)
    refine hO.put (vp_in_nI' (show i < 17 by omega) (by decide)) (Or.inl rfl) fun M2 e2 hO2 => ?_
    rw [nI_1]
    exact cc_last ht F (i + 1) M2 _ hO2 (by omega) (by omega) fun M3 f3 e3 => hq M3 f3 (e3.trans e2)
theorem cc_first {M : hM} {b e : Nat} {fs : List Value} {t : Nat} (ht : t < 17) {Q : hM → Prop} {F0 : Nat} : ∀ (F i : Nat) (M1 : hM) (f : Nat → Option Nat), OA M M1 b 22 fs e 6 (17, .inr (.inr (.inr (.inr f)))) → i ≤ 17 → 17 - i + 20 < F →
    (∀ M2 f2, M2.2 = M1.2 → OA M M2 b 22 fs e 6 (17, .inr (.inr (.inr (.inr f2)))) → Q M2) → w_J3_circularClear_12 g F0 (some e) (nI t) Q F (nI i) (nI 17) M1
  | 0, _, _, _, _, _, h, _ => absurd h (Nat.not_lt_zero _)
  | F + 1, i, M1, f, hO, hi, hF, hq => by
    refine ⟨fun q => ⟨fun h => cc_last ht F 0 M1 f hO (Nat.zero_le _) (by omega) hq, fun h => ?_⟩, fun q => ?_⟩
    · have := (nI_eq (by decide) (by omega)).mp h
      omega
    · have hlt : i < 17 := Nat.not_le.mp fun h => q ((nI_leI (by omega) (by omega)).mpr h)
      refine hO.put (vp_in_nI' hlt (by decide)) (Or.inl rfl) fun M2 e2 hO2 => ?_
      rw [nI_1]
      exact cc_first ht F (i + 1) M2 _ hO2 (by omega) (by omega) fun M3 f3 e3 => hq M3 f3 (e3.trans e2)
theorem c_D_clr (hJ : JR l g) : Jc_D_clr l g := by
  intro b M Q hw
  unfold D_clr gD' at hw
  obtain ⟨xs, is, m, c, hb, hq⟩ := gAdtAt_e hw
  refine convU fun U hB hR h1 h2 => ?_
  obtain ⟨M0, e, h, t, f, e2, hR0, hO, hd⟩ := open_D hJ hR hb
  obtain ⟨d1, d2, d3, d4, d5, d6⟩ := hd
  have fin : ∀ M2 f2, M2.2 = M0.2 → OA M M2 b 22 (dF e h t) e 6 (17, .inr (.inr (.inr (.inr f2)))) → pV M2 (some b) 22 2 (.int (0 : Int32)) fun M5 => pV M5 (some b) 22 1 (.int (0 : Int32)) fun M6 => clU g Q M6 := by
    intro M2 f2 e3 hO2
    refine hO2.pv (by simp [dF]) fun M3 e4 hO3 => hO3.pv (by simp [dF]) fun M4 e5 hO4 => ⟨_, hq, up_D hJ (h := 0) (t := 0) (xs := []) hO4 ⟨by decide, by decide, by decide, rfl, fun i hi => absurd hi (Nat.not_lt_zero _), fun x hx => nomatch hx⟩ (e5.trans (e4.trans (e3.trans e2))) h1 h2⟩
  refine ⟨M0, e2, hR0, mgl (m_J3_clear (F := 60) hJ.1 (hO.gf (r := some e) rfl (hO.gi rfl (hO.gi rfl ⟨fun q => hO.len (by decide) ?_, fun q => ?_⟩)))) rfl rfl⟩
  · exact cc_first d2 60 h M0 f hO (by omega) (by omega) fin
  · exact cc_last d2 60 h M0 f hO (by
      by_cases h9 : h ≤ t
      · exact h9
      · exact absurd (nI_lt (by omega) (by omega)) q) (by omega) fin
theorem c_D_new (hJ : JR l g) : Jc_D_new l g := by
  intro b M Q hw
  obtain ⟨hb, hrm, hq⟩ := hw
  refine convU fun U hB hR h1 h2 => ?_
  have c17 : (17 : Int32).toNatClampNeg = 17 := by decide
  have hr1 : M.2.1 + 1 ≤ capN := hrm.1
  have hr2 : M.2.2 + 17 ≤ capZ := hrm.2
  refine ⟨M, rfl, hR, mgl (m_J3_init (F := 0) hJ.1 ⟨isC_obj hb, by decide, hr1, by rw [c17]; exact hr2, fun q hMq => ?_⟩) rfl rfl⟩
  have hqb : q ≠ b := fun hh => by subst hh; rw [hb] at hMq; cases hMq
  rw [c17]
  refine pV_at ((gUp_ne hqb.symm).trans hb) (by decide) ⟨_, hq, Nat.le_refl _, Nat.le_refl _, hr1, hr2, fun H hR2 => ?_⟩
  have hO : OA M (gPut (gNewA M q 6 (17, .inr (.inr (.inr (.inr (fun _ => none)))))) b 22 (fsJ3.set 0 (va_rf (some q)))) b 22 (dF q 0 0) q 6 (17, .inr (.inr (.inr (.inr (fun _ => none))))) :=
    ⟨gUp_self _ _ _, hqb, fun z v hz hv => (gUp_ne hz).trans ((gUp_ne (fun hh => by subst hh; rw [hMq] at hv; cases hv)).trans hv), isC_obj hb, hMq, (gUp_ne hqb).trans (gUp_self _ _ _)⟩
  exact close_D (is := []) (m := 0) (c := 0) (xs := []) hJ hO ⟨by decide, by decide, by decide, rfl, fun i hi => absurd hi (Nat.not_lt_zero _), fun x hx => nomatch hx⟩ hR2
end L75
