/-! Collections.copy; ArrayList.equals: the contracts -/
set_option maxRecDepth 100000
section L71
variable {l : Launch} {g : gT}
theorem vp_in_nI' {k n : Nat} (h : k < n) (hn : n < 2 ^ 31) : vp_in (nI k) n := fun q => nI_in h hn q
theorem copy_loop {Y : hM} {d s : Nat} {m ms : Int32} {xs ys : List (Option Nat)} {e e' n n' : Nat} {f' : Nat → Option Nat} (hds : s ≠ d) (hYs : Y.1 s = some (.inl (.inr (21, [.int ms, .ref e', .int (nI ys.length)])))) (hed : e' ≠ d) (hYe : Y.1 e' = some (.inl (.inl (6, (n', .inr (.inr (.inr (.inr f')))))))) (hn' : ys.length ≤ n') (hn'z : n' ≤ capZ) (hf' : ∀ i, i < n' → f' i = ys.getD i none)
    (hyx : ys.length ≤ xs.length) (hxn : xs.length ≤ n) (hnz : n ≤ capZ) (hok : ∀ y ∈ ys, okR g Y y) {Q : hM → Prop} {F0 : Nat} : ∀ (F k : Nat) (M1 : hM) (f : Nat → Option Nat), OL g Y M1 d m (nI xs.length) e (some (n, f)) → k ≤ ys.length → ys.length - k < F → (∀ i, i < n → f i = if i < k then ys.getD i none else xs.getD i none) →
    (∀ M2 f2, M2.2 = M1.2 → OL g Y M2 d m (nI xs.length) e (some (n, f2)) → (∀ i, i < n → f2 i = if i < ys.length then ys.getD i none else xs.getD i none) → Q M2) → w_J25_copy_49 g F0 (some d) (some s) Q F (nI ys.length) (nI k) M1
  | 0, k, M1, f, _, _, h, _, _ => absurd h (Nat.not_lt_zero _)
  | F + 1, k, M1, f, hO, hk, hF, hf, hq => by
    have hc := capZ_lt
    refine ⟨fun q => hq M1 f rfl hO fun i hi => ?_, fun q => ?_⟩
    · have h1 := (nI_leI (by omega) (by omega)).mp q
      have : k = ys.length := by omega
      subst this
      exact hf i hi
    · have hlt : k < ys.length := Nat.not_le.mp fun h => q ((nI_leI (by omega) (by omega)).mpr h)
      have hs1 := hO.2.2.1 s _ hds hYs
      have he1 := hO.2.2.1 e' _ hed hYe
      have ek : (nI k).toNatClampNeg = k := nI_clamp (by omega)
      refine ⟨isC_obj hs1, gI_at hs1 rfl (ckIx (vp_in_nI' hlt (by omega)) (by omega) ⟨isC_obj hs1, gF_at (r := some e') hs1 rfl (gArr_at he1 ⟨rfl, vp_in_nI' (show k < n' by omega) (by omega), ?_⟩)⟩)⟩
      have hin : vp_in (nI k) n := vp_in_nI' (by omega) (by omega)
      refine ⟨hO.cls, hO.gs (ckIx (vp_in_nI' (show k < xs.length by omega) (by omega)) (by omega) ⟨hO.cls, hO.ge (hO.get hin (hO.ge (hO.put hin ?_ fun M2 e2 hO2 => ?_)))⟩)⟩
      · rw [ek, hf' _ (by omega), List.getD_eq_getElem?_getD, List.getElem?_eq_getElem hlt]
        exact hok _ (List.getElem_mem hlt)
      · rw [nI_1]
        refine copy_loop hds hYs hed hYe hn' hn'z hf' hyx hxn hnz hok F (k + 1) M2 _ hO2 (by omega) (by omega) (fun i hi => ?_) fun M3 f3 e3 => hq M3 f3 (e3.trans e2)
        simp only [va_up, ek]
        by_cases hik : i = k
        · rw [if_pos hik, if_pos (by omega), hf' _ (by omega), hik]
        · rw [if_neg hik, hf i hi]
          by_cases h9 : i < k
          · rw [if_pos h9, if_pos (by omega)]
          · rw [if_neg h9, if_neg (by omega)]
theorem c_C_copy (hJ : JR l g) : Jc_C_copy l g := by
  intro rd rs M Q hw
  obtain ⟨d, s, rfl, rfl, hne, hw⟩ := hw
  unfold gL at hw
  obtain ⟨xs, is, m, c, hd, hw⟩ := gAdtAt_e hw
  obtain ⟨ys, is', m', c', hs, hyx, hy10, hy, hq⟩ := gAdtAt_e hw
  refine convU fun U hB hR h1 h2 => ?_
  obtain ⟨M2, e, e', ar, ar', Y, e2, hR2, hO, ha, hYs, hal, hYe, hok, -, hcl⟩ := open_2 hJ hR hd hs hne
  have hc := capZ_lt
  have hxz := arOf_len ha
  have hs2 := hO.2.2.1 s _ hne.symm hYs
  have fin : ∀ M3 ar3, M3.2 = M2.2 → OL g Y M3 d m (nI (ys ++ xs.drop ys.length).length) e ar3 → arOf g (ys ++ xs.drop ys.length) c e ar3 → clU g Q M3 := by
    intro M3 ar3 e3 hO3 ha3
    have e4 : M3.2 = M.2 := e3.trans e2
    exact ⟨_, hq, by rw [e4]; exact Nat.le_refl _, by rw [e4]; exact Nat.le_refl _, h1, h2, fun H hR3 => hcl _ H (close_O (is := []) hJ hO3 ha3 hR3)⟩
  have hlen : (ys ++ xs.drop ys.length).length = xs.length := by simp; omega
  refine ⟨M2, e2, hR2, mgl (m_J25_copy (F := ys.length + 1) hJ.1 ⟨isC_obj hs2, gI_at hs2 rfl ⟨hO.cls, hO.gs ⟨fun _ => ⟨fun _ => ?_, fun h => absurd (nI_lt (b := 10) hy10 (by decide)) h⟩, fun h => absurd (nI_le hyx (by omega)) h⟩⟩⟩) rfl rfl⟩
  unfold w_J25_copy_47
  by_cases hy0 : ys.length = 0
  · have hye : ys = [] := List.length_eq_zero_iff.mp hy0
    subst hye
    exact ⟨fun _ => fin M2 ar rfl hO ha, fun h => absurd (show nI 0 ≤ (0 : Int32) by decide) h⟩
  · obtain ⟨n, f, rfl, rfl, h3, h4, h5, h6⟩ := arOf_own ha (by omega)
    obtain ⟨n', f', rfl, rfl, h3', h4', h5', h6'⟩ := arOf_own hal (by omega)
    obtain ⟨hed, hYe'⟩ := hYe _ rfl
    refine copy_loop hne.symm hYs hed hYe' h4' h5' h6' hyx h4 h5 (fun y h => hok y (hy y h)) _ 0 M2 f hO (Nat.zero_le _) (by omega) (fun i hi => by rw [if_neg (Nat.not_lt_zero _)]; exact h6 i hi) fun M3 f3 e3 hO3 hf3 => fin M3 (some (n, f3)) e3 (by rw [hlen]; exact hO3) (Or.inr (Or.inr ⟨n, f3, rfl, rfl, h3, by rw [hlen]; exact h4, h5, fun i hi => ?_⟩))
    rw [hf3 i hi, getD_app_le]
    by_cases h9 : i < ys.length
    · rw [if_pos h9, if_pos h9]
    · rw [if_neg h9, if_neg h9, getD_drop]
      congr 1; omega
end L71
