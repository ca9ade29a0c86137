/-! DEQUES -/
set_option maxRecDepth 100000
section L74
variable {l : Launch} {g : gT}
def dq (xs : List (Option Nat)) (h t : Nat) (f : Nat → Option Nat) : Prop := h < 17 ∧ t < 17 ∧ xs.length < 17 ∧ t = (h + xs.length) % 17 ∧ (∀ i, i < xs.length → f ((h + i) % 17) = xs.getD i none) ∧ ∀ x ∈ xs, x ≠ none
def dF (e h t : Nat) : List Value := [.ref e, .int (nI h), .int (nI t)]
theorem open_D (hJ : JR l g) {M : hM} {H : Heap} {b : Nat} {xs : List (Option Nat)} {is : List Int32} {m : Int32} {c : Nat} (hR : Rel g M.1 H) (hb : M.1 b = some (.inr (22, xs, is, m, c))) : ∃ (M0 : hM) (e h t : Nat) (f : Nat → Option Nat), M0.2 = M.2 ∧ Rel g M0.1 H ∧ OA M M0 b 22 (dF e h t) e 6 (17, .inr (.inr (.inr (.inr f)))) ∧ dq xs h t f := by
  obtain ⟨Cb, hr, -, hq, hop⟩ := Rel_open hR hb
  rw [hJ.2] at hr
  obtain ⟨e, h, t, f, h1, h2, h3, h4⟩ := (hr : repD _ xs b Cb)
  obtain ⟨M0, e2, hR0, hO⟩ := open_A (fs := dF e h t) (k := 6) hb hq hop h1 h2 h3
  exact ⟨M0, e, h, t, f, e2, hR0, hO, h4⟩
theorem close_D (hJ : JR l g) {M M1 : hM} {H : Heap} {b e h t : Nat} {xs : List (Option Nat)} {is : List Int32} {m : Int32} {c : Nat} {f : Nat → Option Nat} (hO : OA M M1 b 22 (dF e h t) e 6 (17, .inr (.inr (.inr (.inr f))))) (hd : dq xs h t f) (hR : Rel g M1.1 H) : Rel g (gUp M.1 b (.inr (22, xs, is, m, c))) H :=
  close_A (t := (22, xs, is, m, c)) hO hR fun C h1 h2 => by
    rw [hJ.2]
    exact ⟨e, h, t, f, h1, hO.2.1, h2, hd⟩
theorem up_D (hJ : JR l g) {M M1 : hM} {b e h t : Nat} {xs : List (Option Nat)} {f : Nat → Option Nat} (hO : OA M M1 b 22 (dF e h t) e 6 (17, .inr (.inr (.inr (.inr f))))) (hd : dq xs h t f) (h2 : M1.2 = M.2) (c1 : M.2.1 ≤ capN) (c2 : M.2.2 ≤ capZ) : upM g M1 (pD M b xs) :=
  ⟨Nat.le_of_eq (by rw [h2]; rfl), Nat.le_of_eq (by rw [h2]; rfl), c1, c2, fun H hR => close_D hJ hO hd hR⟩
theorem up_Dr (hJ : JR l g) {M M1 : hM} {b e h t : Nat} {xs : List (Option Nat)} {is : List Int32} {m : Int32} {c : Nat} {f : Nat → Option Nat} (hb : M.1 b = some (.inr (22, xs, is, m, c))) (hO : OA M M1 b 22 (dF e h t) e 6 (17, .inr (.inr (.inr (.inr f))))) (hd : dq xs h t f) (h2 : M1.2 = M.2) (c1 : M.2.1 ≤ capN) (c2 : M.2.2 ≤ capZ) : upM g M1 M :=
  ⟨Nat.le_of_eq (by rw [h2]), Nat.le_of_eq (by rw [h2]), c1, c2, fun H hR => by have := close_D (is := is) (m := m) (c := c) hJ hO hd hR; rwa [gUp_same hb] at this⟩
theorem c_D_emp (hJ : JR l g) : Jc_D_emp l g := by
  intro b M Q hw
  unfold D_emp gD' at hw
  obtain ⟨xs, is, m, c, hb, hq⟩ := gAdtAt_e hw
  refine convI fun U hB hR h1 h2 => ?_
  obtain ⟨M0, e, h, t, f, e2, hR0, hO, hd⟩ := open_D hJ hR hb
  have hu := up_Dr hJ hb hO hd e2 h1 h2
  obtain ⟨d1, d2, d3, d4, -⟩ := hd
  refine ⟨M0, e2, hR0, mgl (m_J3_isEmpty (F := 0) hJ.1 (hO.gi rfl (hO.gi rfl ⟨fun q => ⟨Or.inl rfl, M, ?_, hu⟩, fun q => ⟨Or.inr rfl, M, ?_, hu⟩⟩))) rfl rfl⟩
  · have : ¬ xs.length = 0 := fun h9 => q (by rw [d4, h9, Nat.add_zero, Nat.mod_eq_of_lt d1])
    rw [if_neg this] at hq; exact hq
  · have h9 := (nI_eq (by omega) (by omega)).mp q
    have : xs.length = 0 := by omega
    rw [if_pos this] at hq; exact hq
theorem c_D_size (hJ : JR l g) : Jc_D_size l g := by
  intro b M Q hw
  unfold D_size gD' at hw
  obtain ⟨xs, is, m, c, hb, hq⟩ := gAdtAt_e hw
  refine convI fun U hB hR h1 h2 => ?_
  obtain ⟨M0, e, h, t, f, e2, hR0, hO, hd⟩ := open_D hJ hR hb
  have hu := up_Dr hJ hb hO hd e2 h1 h2
  obtain ⟨d1, d2, d3, d4, -⟩ := hd
  refine ⟨M0, e2, hR0, mgl (m_J3_size (F := 0) hJ.1 (hO.gi rfl (hO.gi rfl (hO.gf (r := some e) rfl (hO.len (by decide) ⟨fun q => ⟨M, ?_, hu⟩, fun q => ⟨M, ?_, hu⟩⟩))))) rfl rfl⟩
  · have h9 : (0 : Int) ≤ (nI t - nI h).toInt := by
      have := Int32.le_iff_toInt_le.mp q
      simpa using this
    have e9 : nI t - nI h = nI xs.length := by
      have e10 : h ≤ t := by
        by_cases h11 : h ≤ t
        · exact h11
        · exfalso
          have e12 : nI t - nI h = -(nI (h - t)) := by
            have := nI_sub (a := h) (b := t) (by omega)
            rw [← this]
            exact Int32.neg_sub.symm
          rw [e12, Int32.toInt_neg, nI_toInt (by omega)] at h9
          have : (-(((h - t : Nat) : Int))).bmod (2 ^ 32) = -((h - t : Nat) : Int) := Int.bmod_eq_of_le (by omega) (by omega)
          rw [this] at h9
          omega
      rw [nI_sub e10]
      congr 1
      omega
    rw [e9]; exact hq
  · have e9 : nI t - nI h + nI 17 = nI xs.length := by
      have e10 : t < h := by
        by_cases h11 : h ≤ t
        · exact absurd (by rw [nI_sub h11]; exact nI_pos' (by omega)) q
        · omega
      have e12 : nI t - nI h + nI 17 = nI (t + 17) - nI h := by
        rw [← nI_add]
        simp only [Int32.sub_eq_add_neg]
        rw [Int32.add_assoc, Int32.add_assoc, Int32.add_comm (-nI h)]
      rw [e12, nI_sub (by omega)]
      congr 1
      omega
    show Q (nI t - nI h + nI 17) M
    rw [e9]; exact hq
theorem dec17 {F h : Nat} {M : hM} {Q : Int32 → hM → Prop} (hh : h < 17) (hq : Q (nI ((h + 16) % 17)) M) : w_J3_dec g F (nI h) (nI 17) M Q := by
  unfold w_J3_dec w_J3_dec_11
  have key : ∀ h : Nat, h < 17 → ((0 ≤ nI h + (-1 : Int32)) → nI h + (-1 : Int32) = nI ((h + 16) % 17)) ∧ (¬ (0 ≤ nI h + (-1 : Int32)) → nI 17 - (1 : Int32) = nI ((h + 16) % 17)) := by decide +kernel
  obtain ⟨k1, k2⟩ := key h hh
  exact ⟨fun q => by rw [k1 q]; exact hq, fun q => by rw [k2 q]; exact hq⟩
theorem inc17 {F h : Nat} {M : hM} {Q : Int32 → hM → Prop} (hh : h < 17) (hq : Q (nI ((h + 1) % 17)) M) : w_J3_inc g F (nI h) (nI 17) M Q := by
  unfold w_J3_inc w_J3_inc_10
  have key : ∀ h : Nat, h < 17 → ((nI h + (1 : Int32) < nI 17) → nI h + (1 : Int32) = nI ((h + 1) % 17)) ∧ (¬ (nI h + (1 : Int32) < nI 17) → (0 : Int32) = nI ((h + 1) % 17)) := by decide +kernel
  obtain ⟨k1, k2⟩ := key h hh
  exact ⟨fun q => by rw [k1 q]; exact hq, fun q => by rw [k2 q]; exact hq⟩
theorem c_D_addF (hJ : JR l g) : Jc_D_addF l g := by
  intro b r M Q hw
  unfold D_addF gD' at hw
  obtain ⟨hr, hrn, hw⟩ := hw
  obtain ⟨xs, is, m, c, hb, hlt, hq⟩ := gAdtAt_e hw
  refine convU fun U hB hR h1 h2 => ?_
  obtain ⟨M0, e, h, t, f, e2, hR0, hO, hd⟩ := open_D hJ hR hb
  obtain ⟨d1, d2, d3, d4, d5, d6⟩ := hd
  have hh : (h + 16) % 17 < 17 := Nat.mod_lt _ (by decide)
  have ek : (nI ((h + 16) % 17)).toNatClampNeg = (h + 16) % 17 := nI_clamp (by omega)
  refine ⟨M0, e2, hR0, mgl (m_J3_addFirst (F := 0) hJ.1 ⟨fun _ => hO.gf (r := some e) rfl (hO.gi rfl (hO.len (by decide) (dec17 d1 (hO.pv (by simp [dF]) fun M1 e3 hO1 => hO1.put (vp_in_nI' hh (by decide)) hr fun M2 e4 hO2 => hO2.gi rfl (hO2.gi rfl ⟨fun _ => ?_, fun q => ?_⟩))))), fun q => absurd q hrn⟩) rfl rfl⟩
  · refine ⟨_, hq, up_D hJ (h := (h + 16) % 17) (t := t) hO2 ⟨hh, d2, by simp only [List.length_cons]; omega, by simp only [List.length_cons]; omega, fun i hi => ?_, fun x hx => ?_⟩ (e4.trans (e3.trans e2)) h1 h2⟩
    · simp only [va_up, ek]
      cases i with
      | zero => rw [if_pos (by omega)]; rfl
      | succ i =>
        have hi' : i < xs.length := by simp only [List.length_cons] at hi; omega
        rw [if_neg (by omega), List.getD_cons_succ, ← d5 i hi']
        congr 1; omega
    · rcases List.mem_cons.mp hx with rfl | hx
      · exact hrn
      · exact d6 x hx
  · have h9 := (nI_eq (by omega) (by omega)).mp q
    omega
theorem c_D_remL (hJ : JR l g) : Jc_D_remL l g := by
  intro b M Q hw
  unfold D_remL gD' at hw
  obtain ⟨xs, is, m, c, hb, hne, hq⟩ := gAdtAt_e hw
  refine convR fun U hB hR h1 h2 => ?_
  obtain ⟨M0, e, h, t, f, e2, hR0, hO, hd⟩ := open_D hJ hR hb
  obtain ⟨d1, d2, d3, d4, d5, d6⟩ := hd
  have hpos : 0 < xs.length := List.length_pos_iff.mpr hne
  have hh : (t + 16) % 17 < 17 := Nat.mod_lt _ (by decide)
  have ek : (nI ((t + 16) % 17)).toNatClampNeg = (t + 16) % 17 := nI_clamp (by omega)
  have ex : f ((t + 16) % 17) = xs.getLast?.join := by
    have h5 := d5 (xs.length - 1) (by omega)
    have : (h + (xs.length - 1)) % 17 = (t + 16) % 17 := by omega
    rw [this] at h5
    rw [h5, List.getLast?_eq_getElem?, List.getD_eq_getElem?_getD]
    rw [List.getElem?_eq_getElem (by omega)]; rfl
  have exn : ¬ f ((t + 16) % 17) = none := by
    rw [ex, List.getLast?_eq_getElem?, List.getElem?_eq_getElem (by omega)]
    exact d6 _ (List.getElem_mem _)
  refine ⟨M0, e2, hR0, mgl (m_J3_removeLast (F := 0) hJ.1 ⟨hO.cls, hO.gf (r := some e) rfl (hO.gi rfl (hO.len (by decide) (dec17 d2 (hO.get (vp_in_nI' hh (by decide)) ?_))))⟩) rfl rfl⟩
  rw [ek]
  refine ⟨fun q => absurd q exn, fun _ => hO.pv (by simp [dF]) fun M1 e3 hO1 => hO1.put (vp_in_nI' hh (by decide)) (Or.inl rfl) fun M2 e4 hO2 => ⟨fun _ => ⟨_, by rw [ex]; exact hq, up_D hJ (h := h) (t := (t + 16) % 17) hO2 ⟨d1, hh, by simp only [List.length_dropLast]; omega, by simp only [List.length_dropLast]; omega, fun i hi => ?_, fun x hx => d6 x (List.dropLast_subset _ hx)⟩ (e4.trans (e3.trans e2)) h1 h2⟩, fun q => absurd q exn⟩⟩
  simp only [List.length_dropLast] at hi
  simp only [va_up, ek]
  rw [if_neg (by omega), d5 i (by omega), List.getD_eq_getElem?_getD, List.getD_eq_getElem?_getD, List.getElem?_dropLast, if_pos hi]
theorem c_D_remF (hJ : JR l g) : Jc_D_remF l g := by
  intro b M Q hw
  unfold D_remF gD' at hw
  obtain ⟨xs, is, m, c, hb, hne, hq⟩ := gAdtAt_e hw
  refine convR fun U hB hR h1 h2 => ?_
  obtain ⟨M0, e, h, t, f, e2, hR0, hO, hd⟩ := open_D hJ hR hb
  obtain ⟨d1, d2, d3, d4, d5, d6⟩ := hd
  cases xs with
  | nil => exact absurd rfl hne
  | cons x xs =>
    have ek : (nI h).toNatClampNeg = h := nI_clamp (by omega)
    have ex : f h = x := by
      have := d5 0 (by simp)
      rw [Nat.add_zero, Nat.mod_eq_of_lt d1] at this
      exact this
    have exn : ¬ f h = none := by rw [ex]; exact d6 x List.mem_cons_self
    refine ⟨M0, e2, hR0, mgl (m_J3_removeFirst (F := 0) hJ.1 ⟨hO.cls, hO.gf (r := some e) rfl (hO.gi rfl (hO.get (vp_in_nI' d1 (by decide)) ?_))⟩) rfl rfl⟩
    rw [ek]
    simp only [List.length_cons] at d3 d4
    have hi1 : (h + 1) % 17 < 17 := Nat.mod_lt _ (by decide)
    refine ⟨fun q => absurd q exn, fun _ => hO.put (vp_in_nI' d1 (by decide)) (Or.inl rfl) fun M1 e3 hO1 => hO1.len (by decide) (inc17 d1 (hO1.pv (by simp [dF]) fun M2 e4 hO2 => ⟨fun _ => ⟨_, by rw [ex]; exact hq, up_D hJ (h := (h + 1) % 17) (t := t) (xs := xs) hO2 ⟨hi1, d2, by omega, by omega, fun i hi => ?_, fun z hz => d6 z (List.mem_cons_of_mem _ hz)⟩ (e4.trans (e3.trans e2)) h1 h2⟩, fun q => absurd q exn⟩))⟩
    have h5 := d5 (i + 1) (by simp only [List.length_cons]; omega)
    rw [List.getD_cons_succ] at h5
    rw [← h5]
    simp only [va_up, ek]
    rw [if_neg (by omega)]
    congr 1; omega
end L74
