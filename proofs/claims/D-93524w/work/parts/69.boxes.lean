/-! BOXES and a list of one -/
set_option maxRecDepth 100000
section L69
variable {l : Launch} {g : gT}
theorem up_refl {M : hM} (h1 : M.2.1 ≤ capN) (h2 : M.2.2 ≤ capZ) : upM g M M := ⟨Nat.le_refl _, Nat.le_refl _, h1, h2, fun _ h => h⟩
theorem c_B_val (hJ : JR l g) : Jc_B_val l g := by
  rintro b M Q ⟨x, hx, hq⟩
  exact convI fun U hB hR h1 h2 => ⟨M, rfl, hR, mgl (m_J19_intValue (F := 0) hJ.1 ⟨b, x, rfl, hx, M, hq, up_refl h1 h2⟩) rfl rfl⟩
theorem c_B_eq (hJ : JR l g) : Jc_B_eq l g := by
  rintro b r M Q ⟨x, hx, c, y, rfl, hy, hq⟩
  refine convI fun U hB hR h1 h2 => ⟨M, rfl, hR, mgl (m_J19_equals (F := 0) hJ.1 ⟨⟨y, hy⟩, fun h => absurd h (by decide), fun _ => ⟨b, x, rfl, hx, fun c' hc' => ⟨y, by cases hc'; exact hy⟩, ⟨y, hy⟩, c, y, rfl, hy, fun h => ⟨Or.inl rfl, M, ?_, up_refl h1 h2⟩, fun h => ⟨Or.inr rfl, M, ?_, up_refl h1 h2⟩⟩⟩) rfl rfl⟩
  · rw [if_neg h] at hq; exact hq
  · rw [if_pos h] at hq; exact hq
theorem c_B_cmp (hJ : JR l g) : Jc_B_cmp l g := by
  intro x y M Q hq
  unfold B_cmp at hq
  refine convI fun U hB hR h1 h2 => ⟨M, rfl, hR, mgl (m_J19_compare (F := 0) hJ.1 ⟨fun h => ⟨fun h3 => ⟨M, ?_, up_refl h1 h2⟩, fun h3 => ⟨M, ?_, up_refl h1 h2⟩⟩, fun h => ⟨M, ?_, up_refl h1 h2⟩⟩) rfl rfl⟩
  · rw [if_neg (Int32.not_lt.mpr h), if_neg h3] at hq; exact hq
  · rw [if_neg (Int32.not_lt.mpr h), if_pos h3] at hq; exact hq
  · rw [if_pos (Int32.not_le.mp h)] at hq; exact hq
theorem vb_c_toInt {j : Nat} (h : j < 256) : (vb_c j).toInt = (j : Int) - 128 := by
  revert h
  revert j
  decide +kernel
theorem c_B_of (hJ : JR l g) : Jc_B_of l g := by
  intro x M Q hw
  refine convR fun U hB hR h1 h2 => ⟨M, rfl, hR, mgl (m_J19_valueOf (F := 0) hJ.1 ?_) rfl rfl⟩
  have e1 : (-128 : Int32).toInt = -128 := by decide
  have e2 : (127 : Int32).toInt = 127 := by decide
  rcases hw with ⟨j, hj, rfl, hq⟩ | ⟨hno, w1, w2, hq⟩
  · have ht := vb_c_toInt hj
    refine ⟨fun h => ?_, fun _ => ⟨fun h => ?_, fun _ => ⟨rfl, ?_, M, ?_, up_refl h1 h2⟩⟩⟩
    · have := Int32.lt_iff_toInt_lt.mp h
      omega
    · have := Int32.lt_iff_toInt_lt.mp h
      omega
    · have e3 : vb_c j + 128 = nI j := Int32.sub_add_cancel _ _
      rw [e3]
      exact nI_in hj (by decide)
    · have e3 : vb_c j + 128 = nI j := Int32.sub_add_cancel _ _
      rw [e3, nI_clamp (by omega)]
      exact hq
  · have new : w_J19_valueOf_23 g 0 x (clI g Q) M := by
      refine ⟨w1, w2, fun q hMq => ⟨isC_obj (gUp_self _ _ _), isC_obj (gUp_self _ _ _), pV_at (gUp_self _ _ _) (by decide) ⟨_, hq q hMq, Nat.le_refl _, Nat.le_refl _, w1, w2, fun H hR2 => ?_⟩⟩⟩
      have e9 : (gPut (gNew M q 25 fsJ19) q 25 (fsJ19.set 0 (.int x))).1 = (gNew M q 25 [.int x]).1 := gUp_gUp _ _ _ _
      rw [e9] at hR2
      exact hR2
    refine ⟨fun _ => new, fun h3 => ⟨fun _ => new, fun h4 => ?_⟩⟩
    exfalso
    have h5 : ¬ x.toInt < -128 := fun h => h3 (Int32.lt_iff_toInt_lt.mpr (by rw [e1]; exact h))
    have h6 : ¬ 127 < x.toInt := fun h => h4 (Int32.lt_iff_toInt_lt.mpr (by rw [e2]; exact h))
    refine hno (x.toInt + 128).toNat (by omega) (Int32.toInt_inj.mp ?_)
    rw [vb_c_toInt (by omega)]
    omega
theorem c_C_sing (hJ : JR l g) : Jc_C_sing l g := by
  intro r M Q hw
  obtain ⟨w1, w2, hq⟩ := hw
  refine convR fun U hB hR h1 h2 => ⟨M, rfl, hR, mgl (m_J25_singletonList (F := 0) hJ.1 ⟨w1, w2, fun q hMq => ⟨isC_obj (gUp_self _ _ _), isC_obj (gUp_self _ _ _), isC_obj (gUp_self _ _ _), pV_at (gUp_self _ _ _) (by decide) (pV_at (gUp_self _ _ _) (by simp [fsJ33]) ⟨_, hq q hMq, Nat.le_refl _, Nat.le_refl _, w1, w2, fun H hR2 => ?_⟩)⟩⟩) rfl rfl⟩
  have e9 : (gPut (gPut (gNew M q 28 fsJ33) q 28 (fsJ33.set 0 (.int 0))) q 28 ((fsJ33.set 0 (.int 0)).set 1 (va_rf r))).1 = (gNew M q 28 [.int 0, va_rf r]).1 := by
    show gUp (gUp (gUp M.1 q _) q _) q _ = gUp M.1 q _
    rw [gUp_gUp, gUp_gUp]
    rfl
  rw [e9] at hR2
  exact hR2
end L69
