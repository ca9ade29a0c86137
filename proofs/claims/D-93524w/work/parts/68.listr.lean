/-! LISTS: members, sixth part: addAll -/
set_option maxRecDepth 100000
section L68
variable {l : Launch} {g : gT}
/-- what stands beside the open list b in M2, b closed -/
noncomputable def besY (M M2 : hM) (b e : Nat) (ar : Option (Nat × (Nat → Option Nat))) : hM := (fun z => if z = b then M.1 b else if ar ≠ none ∧ z = e then none else M2.1 z, M2.2)
theorem besY_b (M M2 : hM) (b e : Nat) (ar : Option (Nat × (Nat → Option Nat))) : (besY M M2 b e ar).1 b = M.1 b := if_pos rfl
theorem besY_o {M M2 : hM} {b e : Nat} {ar : Option (Nat × (Nat → Option Nat))} {z : Nat} (h : z ≠ b) (h2 : ar = none ∨ z ≠ e) : (besY M M2 b e ar).1 z = M2.1 z := by
  show (if z = b then M.1 b else if ar ≠ none ∧ z = e then none else M2.1 z) = _
  rw [if_neg h, if_neg]
  rintro ⟨h3, h4⟩
  rcases h2 with h2 | h2
  · exact h3 h2
  · exact h2 h4
theorem besY_OL {M Mb M2 : hM} {b : Nat} {m s : Int32} {e : Nat} {ar : Option (Nat × (Nat → Option Nat))} (h : OL g M Mb b m s e ar) (hb : M2.1 b = Mb.1 b) (he : ∀ p, ar = some p → M2.1 e = Mb.1 e) : OL g (besY M M2 b e ar) M2 b m s e ar := by
  obtain ⟨h1, h2, h3, ⟨c, h4, h4'⟩, h5⟩ := h
  refine ⟨hb.trans h1, h2, fun z v hz hv => ?_, ⟨c, (besY_b M M2 b e ar).trans h4, h4'⟩, ?_⟩
  · by_cases hh : ar ≠ none ∧ z = e
    · have : (besY M M2 b e ar).1 z = none := by
        show (if z = b then M.1 b else if ar ≠ none ∧ z = e then none else M2.1 z) = _
        rw [if_neg hz, if_pos hh]
      rw [this] at hv; cases hv
    · rw [besY_o hz (by
        by_cases h9 : ar = none
        · exact Or.inl h9
        · exact Or.inr fun h8 => hh ⟨h9, h8⟩)] at hv
      exact hv
  · cases ar with
    | none => exact h5
    | some p =>
      refine ⟨?_, (he p rfl).trans h5.2⟩
      show (if e = b then M.1 b else if some p ≠ none ∧ e = e then none else M2.1 e) = none
      rw [if_neg h2, if_pos ⟨by simp, rfl⟩]
/-- addAll, both ways: behind toArray -/
theorem addEnd (hJ : JR l g) {F : Nat} {M Mb M2 : hM} {b : Nat} {m : Int32} {xs ys : List (Option Nat)} {c e : Nat} {ar : Option (Nat × (Nat → Option Nat))} {q : Nat} {f2 : Nat → Option Nat} (hO : OL g M Mb b m (nI xs.length) e ar) (ha : arOf g xs c e ar) (hb2 : M2.1 b = Mb.1 b) (he2 : ∀ p, ar = some p → M2.1 e = Mb.1 e) (hx : okL g (besY M M2 b e ar) xs) (hy : okL g (besY M M2 b e ar) ys)
    (hqb : q ≠ b) (hqe : ar = none ∨ q ≠ e) (hq : M2.1 q = some (.inl (.inl (6, (ys.length, .inr (.inr (.inr (.inr f2)))))))) (hf2 : ∀ i, f2 i = ys.getD i none) (hyz : ys.length ≤ capZ) {Q : Int32 → hM → Prop} (hc2 : M2.2.1 ≤ M.2.1 + 4 ∧ M2.2.2 ≤ M.2.2 + (ys.length + 8)) (hrm : hasR M 4 (ys.length + 8))
    (hw : lRoom (cost M 4 (ys.length + 8)) c (xs.length + ys.length) fun c' M' => Q (if ys.length = 0 then 0 else 1) (pL M' b (xs ++ ys) (m + 1) c'))
    (hcl : ∀ (v : gCell) (H : Heap), Rel g (gUp (besY M M2 b e ar).1 b v) H → Rel g (gUp M.1 b v) H) {w56 : Option Nat → Int32 → Option Nat → Int32 → hM → Prop}
    (h56 : ∀ v2 v3 v4 v5 M9, (cQ g M9 v2 (0 : Int32) v4 v5 v3 fun M1 => pV M1 (some b) 21 2 (.int (v5 + v3)) fun M2 => clI g Q (1 : Int32) M2) → w56 v2 v3 v4 v5 M9) :
    gI M2 (some b) 21 0 fun x4 => pV M2 (some b) 21 0 (.int (x4 + (1 : Int32))) fun M5 => aLenK g M5 (some q) fun x6 => ((¬ x6 = 0 → gF M5 (some b) 21 1 fun x7 => aLenK g M5 x7 fun x8 => gI M5 (some b) 21 2 fun x9 => ((x6 ≤ (x8 - x9) → w56 (some q) x6 x7 x9 M5) ∧ (¬ (x6 ≤ (x8 - x9)) → (isC M5 b 21 ∧ w_J2_grow_2 g F b (x9 + x6) M5 (fun x11 M10 => w56 (some q) x6 x11 x9 M10))))) ∧ (x6 = 0 → clI g Q (0 : Int32) M5)) := by
  refine addTail (κ := fun c' => ∃ M' : hM, M'.1 = M.1 ∧ M'.2.1 ≤ capN ∧ M'.2.2 ≤ capZ ∧ (xs.length + ys.length ≤ lCap c → M'.2 = (M.2.1 + 4, M.2.2 + (ys.length + 8))) ∧ (lCap c < xs.length + ys.length → M'.2 = (M.2.1 + 4 + 1, M.2.2 + (ys.length + 8) + lGrow c (xs.length + ys.length))) ∧ Q (if ys.length = 0 then 0 else 1) (pL M' b (xs ++ ys) (m + 1) c')) hJ.1.2.2.2.1 (besY_OL hO hb2 he2) ha hx hy hqb ((besY_o hqb hqe).trans hq) hf2 hyz ?_ h56 ?_
  · rcases lRoom_e hw with ⟨h1, h2⟩ | ⟨h1, h3, h2⟩
    · exact Or.inl ⟨h1, cost M 4 (ys.length + 8), rfl, hrm.1, hrm.2, fun _ => rfl, fun h => absurd h (by omega), h2⟩
    · refine Or.inr ⟨h1, ?_, cost (cost M 4 (ys.length + 8)) 1 (lGrow c (xs.length + ys.length)), rfl, h3.1, h3.2, fun h => absurd h (by omega), fun _ => rfl, h2⟩
      have h4 : M.2.1 + 4 + 1 ≤ capN := h3.1
      have h5 : M.2.2 + (ys.length + 8) + lGrow c (xs.length + ys.length) ≤ capZ := h3.2
      exact ⟨by omega, by omega⟩
  · rintro x M3 e' c' ar' rfl ⟨M', k1, k2, k3, k4, k5, k6⟩ r1 r2 hO3 ha3
    refine ⟨_, k6, ?_, ?_, k2, k3, fun H hR => ?_⟩
    · show M3.2.1 ≤ M'.2.1
      rcases Nat.lt_or_ge (lCap c) (xs.length + ys.length) with h | h
      · rw [r2 h, k5 h]; show M2.2.1 + 1 ≤ M.2.1 + 4 + 1; omega
      · rw [r1 h, k4 h]; exact hc2.1
    · show M3.2.2 ≤ M'.2.2
      rcases Nat.lt_or_ge (lCap c) (xs.length + ys.length) with h | h
      · rw [r2 h, k5 h]; show M2.2.2 + _ ≤ M.2.2 + (ys.length + 8) + _; omega
      · rw [r1 h, k4 h]; exact hc2.2
    · show Rel g (gUp M'.1 b _) H
      rw [k1]
      exact hcl _ _ (close_O (is := []) hJ hO3 ha3 hR)
/-- toArray of a list of one -/
theorem toArr1 {M : hM} {lb : Nat} {x : Option Nat} (hl : M.1 lb = some (.inl (.inr (28, [.int 0, va_rf x])))) (hr : hasR M 2 3) (hx : okR g M x) {Q : Option Nat → hM → Prop}
    (hk : ∀ (q : Nat) (M2 : hM) (f2 : Nat → Option Nat), M2.2 = (M.2.1 + 2, M.2.2 + 3) → M.1 q = none → (∀ z v, M.1 z = some v → M2.1 z = some v) → M2.1 q = some (.inl (.inl (6, (1, .inr (.inr (.inr (.inr f2))))))) → (∀ i, f2 i = [x].getD i none) → Q (some q) M2) : w_J0_toArray_s28 g 2 lb M Q := by
  have h1 := hr.1
  have h2 := hr.2
  have c1 : (1 : Int32).toNatClampNeg = 1 := by decide
  refine ⟨isC_obj hl, by decide, by omega, by rw [c1]; omega, fun q hq => ?_⟩
  rw [c1]
  have hlq : lb ≠ q := fun hh => by subst hh; rw [hl] at hq; cases hq
  have hl2 : (gNewA M q 6 (1, .inr (.inr (.inr (.inr (fun _ => none)))))).1 lb = some (.inl (.inr (28, [.int 0, va_rf x]))) := (gUp_ne hlq).trans hl
  refine ⟨isC_obj hl2, gF_at hl2 rfl ⟨by show M.2.1 + 1 + 1 ≤ _; omega, by show M.2.2 + 1 + 2 ≤ _; omega, fun t ht => ?_⟩⟩
  have htq : t ≠ q := fun hh => by subst hh; rw [show (gNewA M t 6 (1, .inr (.inr (.inr (.inr (fun _ => none)))))).1 t = _ from gUp_self _ _ _] at ht; cases ht
  have hMt : M.1 t = none := (gUp_ne htq).symm.trans ht
  refine ⟨isC_obj (gUp_self _ _ _), pV_at (gUp_self _ _ _) (by simp [fsJ26]) (pV_at (gUp_self _ _ _) (by simp [fsJ26]) ?_)⟩
  -- the loop, first
  have hq5 : ∀ c1 c2 c3 : gCell, (gUp (gUp (gUp (gNewA M q 6 (1, .inr (.inr (.inr (.inr (fun _ => none)))))).1 t c1) t c2) t c3) q = some (.inl (.inl (6, (1, .inr (.inr (.inr (.inr (fun _ => none)))))))) := fun c1 c2 c3 => (gUp_ne htq.symm).trans ((gUp_ne htq.symm).trans ((gUp_ne htq.symm).trans (gUp_self _ _ _)))
  refine Or.inr (gArr_at (hq5 _ _ _) ⟨by decide, fun h9 => absurd h9 (by decide), fun _ => ⟨isC_obj (gUp_self _ _ _), gI_at (gUp_self _ _ _) rfl ⟨Or.inr rfl, fun _ => ⟨isC_obj (gUp_self _ _ _), gI_at (gUp_self _ _ _) rfl ⟨fun h9 => absurd h9 (by decide), fun _ => pV_at (gUp_self _ _ _) (by simp [fsJ26]) (gF_at (r := x) (gUp_self _ _ _) rfl ?_)⟩⟩, fun h9 => absurd h9 (by decide)⟩⟩⟩)
  have hext : ∀ c1 c2 c3 c4 : gCell, ∀ z v, M.1 z = some v → (gUp (gUp (gUp (gUp (gNewA M q 6 (1, .inr (.inr (.inr (.inr (fun _ => none)))))).1 t c1) t c2) t c3) t c4) z = some v := by
    intro c1 c2 c3 c4 z v hz
    have hzt : z ≠ t := fun hh => by subst hh; rw [hMt] at hz; cases hz
    have hzq : z ≠ q := fun hh => by subst hh; rw [hq] at hz; cases hz
    exact (gUp_ne hzt).trans ((gUp_ne hzt).trans ((gUp_ne hzt).trans ((gUp_ne hzt).trans ((gUp_ne hzq).trans hz))))
  refine ⟨?_, gArr_at ((gUp_ne htq.symm).trans (hq5 _ _ _)) ⟨rfl, (fun h9 => by rcases h9 with h9 | h9; exact absurd h9 (by decide); exact absurd (show 1 ≤ (0 : Int32).toNatClampNeg from h9) (by decide)), ?_⟩⟩
  · rcases hx with h | ⟨w, rfl, ⟨ci, c9, h3, h4⟩ | h⟩
    · exact Or.inl h
    · exact Or.inr ⟨w, rfl, Or.inl ⟨ci, c9, hext _ _ _ _ w c9 h3, h4⟩⟩
    · exact Or.inr ⟨w, rfl, Or.inr h⟩
  -- the loop, second
  have htt : ∀ (A : hM) (y : vp_A) (c : gCell), (gPutA (gUp A.1 t c, A.2) q 6 y).1 t = some c := fun A y c => (gUp_ne htq).trans (gUp_self _ _ _)
  refine Or.inr (gArr_at (gUp_self _ _ _) ⟨by decide, fun _ => ⟨isC_obj ((gUp_ne htq).trans (gUp_self _ _ _)), gI_at ((gUp_ne htq).trans (gUp_self _ _ _)) rfl ⟨Or.inl rfl, fun _ => ?_, fun h9 => absurd rfl h9⟩⟩, fun h9 => absurd (show (Int32.ofNat 1 : Int32) ≤ 0 + 1 by decide) h9⟩)
  refine hk q _ _ rfl hq (fun z v hz => ?_) (gUp_self _ _ _) fun i => ?_
  · have hzq : z ≠ q := fun hh => by subst hh; rw [hq] at hz; cases hz
    exact (gUp_ne hzq).trans (hext _ _ _ _ z v hz)
  · cases i with
    | zero => rfl
    | succ i => rfl
theorem c_L_addA (hJ : JR l g) : Jc_L_addA l g := by
  intro b r M Q hw
  unfold L_addA gL at hw
  obtain ⟨xs, is, m, c, hb, hx, hcv⟩ := gAdtAt_e hw
  obtain ⟨lb, rfl, hcv⟩ := hcv
  refine convI fun U hB hR h1 h2 => ?_
  obtain ⟨Mb, e, ar, e2, hRb, hO, ha⟩ := open_O hJ hR hb
  have hcz := capZ_lt
  have hcz2 : capZ = 5493754 := rfl
  have hbR := hO.1
  rcases hcv with hcv | ⟨x, hl, hne, hrm, hy, hw⟩
  · obtain ⟨ys, is', m', c', hl, hne, hrm, hy, hw⟩ := gAdtAt_e hcv
    have hl' : Mb.1 lb = some (.inr (21, ys, is', m', c')) := hO.2.2.1 lb _ hne hl
    obtain ⟨Ml, e', ar', e3, hRl, hOl, hal⟩ := open_O hJ hRb hl'
    have hrm1 : M.2.1 + 4 ≤ capN := hrm.1
    have hrm2 : M.2.2 + (ys.length + 8) ≤ capZ := hrm.2
    refine ⟨Ml, e3.trans e2, hRl, mgl (m_J2_addAll_v21 (F := 0) hJ.1 ⟨hOl.cls, toArr hOl hal (fun y h => hO.ok (hy y h)) (by unfold hasR; rw [e3, e2]; omega) fun q M2 f2 e4 hql hMq hqe hO2 hq hf2 => ?_⟩) rfl rfl⟩
    have e5 : M2.2 = (M.2.1 + 1, M.2.2 + ys.length) := by rw [e4, e3, e2]
    have hqb : q ≠ b := fun hh => by subst hh; rw [hbR] at hMq; cases hMq
    have heb : e ≠ b := hO.2.1
    have hel : ar = none ∨ e ≠ lb := by
      cases ar with
      | none => exact Or.inl rfl
      | some p => exact Or.inr fun hh => by subst hh; rw [hO.2.2.2.2.2] at hl'; cases hl'
    have hqe2 : ar = none ∨ q ≠ e := by
      cases ar with
      | none => exact Or.inl rfl
      | some p => exact Or.inr fun hh => by subst hh; rw [hO.2.2.2.2.2] at hMq; cases hMq
    have hb2 : M2.1 b = Mb.1 b := by rw [hbR]; exact hO2.2.2.1 b _ hne.symm hbR
    have he2 : ∀ p, ar = some p → M2.1 e = Mb.1 e := by
      rintro p rfl
      rw [hO.2.2.2.2.2]
      exact hO2.2.2.1 e _ (hel.resolve_left (by simp)) hO.2.2.2.2.2
    -- what M knows stands beside
    have keep : ∀ z v, z ≠ b → z ≠ lb → M.1 z = some v → (besY M M2 b e ar).1 z = some v := by
      intro z v hz hzl hv
      have h3 : Mb.1 z = some v := hO.2.2.1 z v hz hv
      rw [besY_o hz ?_]
      · exact hO2.2.2.1 z v hzl h3
      · cases ar with
        | none => exact Or.inl rfl
        | some p => exact Or.inr fun hh => by subst hh; rw [hO.2.2.2.2.1] at hv; cases hv
    have hYl : (besY M M2 b e ar).1 lb = some (.inl (.inr (21, [.int m', .ref e', .int (nI ys.length)]))) := by
      rw [besY_o hne (hel.imp id fun h => h.symm)]
      exact hO2.1
    have okY : ∀ v, okR g M v → okR g (besY M M2 b e ar) v := by
      rintro v (h | ⟨w, rfl, ⟨ci, c9, h3, h4⟩ | hk⟩)
      · exact Or.inl h
      · refine Or.inr ⟨w, rfl, Or.inl ⟨ci, ?_⟩⟩
        by_cases hwb : w = b
        · subst hwb
          exact ⟨c9, (besY_b M M2 w e ar).trans h3, h4⟩
        · by_cases hwl : w = lb
          · subst hwl
            rw [hl] at h3
            cases h3
            have : (21 : Nat) = ci := Option.some.inj h4
            subst this
            exact isC_obj hYl
          · exact ⟨c9, keep w c9 hwb hwl h3, h4⟩
      · exact Or.inr ⟨w, rfl, Or.inr hk⟩
    refine addEnd hJ hO ha hb2 he2 (fun y h => okY y (hx y h)) (fun y h => okY y (hy y h)) hqb hqe2 hq hf2 (arOf_len hal) (by rw [e5]; dsimp only; omega) hrm hw (fun v H hR9 => ?_) (fun v2 v3 v4 v5 M9 h => h)
    have hO9 : OL g (gUp M.1 b v, M.2) (gUp (besY M M2 b e ar).1 b v, M.2) lb m' (nI ys.length) e' ar' := by
      have hMe : ∀ p, ar' = some p → e' ≠ b ∧ M.1 e' = none ∧ (besY M M2 b e ar).1 e' = M2.1 e' := by
        rintro p rfl
        have h3 : Mb.1 e' = none := hO2.2.2.2.2.1
        have h4 : e' ≠ b := fun hh => by subst hh; rw [hbR] at h3; cases h3
        refine ⟨h4, ?_, besY_o h4 ?_⟩
        · cases h5 : M.1 e' with
          | none => rfl
          | some w => rw [hO.2.2.1 e' w h4 h5] at h3; cases h3
        · cases ar with
          | none => exact Or.inl rfl
          | some p9 => exact Or.inr fun hh => by subst hh; rw [hO.2.2.2.2.2] at h3; cases h3
      refine ⟨(gUp_ne hne).trans hYl, hO2.2.1, fun z w hz hw9 => ?_, ⟨_, (gUp_ne hne).trans hl, rfl⟩, ?_⟩
      · by_cases hzb : z = b
        · subst hzb
          dsimp only at hw9 ⊢
          rw [gUp_self] at hw9 ⊢
          exact hw9
        · dsimp only at hw9 ⊢
          rw [gUp_ne hzb] at hw9 ⊢
          exact keep z w hzb hz hw9
      · cases ar' with
        | none => exact hO2.2.2.2.2
        | some p =>
          obtain ⟨h3, h4, h5⟩ := hMe p rfl
          exact ⟨(gUp_ne h3).trans h4, (gUp_ne h3).trans (h5.trans hO2.2.2.2.2.2)⟩
    have := close_O (is := is') hJ hO9 hal hR9
    rwa [gUp_same (show (gUp M.1 b v) lb = _ from (gUp_ne hne).trans hl)] at this
  · have hl' : Mb.1 lb = some (.inl (.inr (28, [.int 0, va_rf x]))) := hO.2.2.1 lb _ hne hl
    have hrm1 : M.2.1 + 4 ≤ capN := hrm.1
    have hrm2 : M.2.2 + (1 + 8) ≤ capZ := hrm.2
    refine ⟨Mb, e2, hRb, mgl (m_J2_addAll_v28 (F := 2) hJ.1 ⟨isC_obj hl', toArr1 hl' (by unfold hasR; rw [e2]; omega) (hO.ok (hy x (List.mem_singleton.mpr rfl))) fun q M2 f2 e5 hMq hext hq hf2 => ?_⟩) rfl rfl⟩
    rw [e2] at e5
    have hqb : q ≠ b := fun hh => by subst hh; rw [hbR] at hMq; cases hMq
    have hqe2 : ar = none ∨ q ≠ e := by
      cases ar with
      | none => exact Or.inl rfl
      | some p => exact Or.inr fun hh => by subst hh; rw [hO.2.2.2.2.2] at hMq; cases hMq
    have hb2 : M2.1 b = Mb.1 b := by rw [hbR]; exact hext b _ hbR
    have he2 : ∀ p, ar = some p → M2.1 e = Mb.1 e := by
      rintro p rfl
      rw [hO.2.2.2.2.2]
      exact hext e _ hO.2.2.2.2.2
    have keep : ∀ z v, z ≠ b → M.1 z = some v → (besY M M2 b e ar).1 z = some v := by
      intro z v hz hv
      rw [besY_o hz ?_]
      · exact hext z v (hO.2.2.1 z v hz hv)
      · cases ar with
        | none => exact Or.inl rfl
        | some p => exact Or.inr fun hh => by subst hh; rw [hO.2.2.2.2.1] at hv; cases hv
    have okY : ∀ v, okR g M v → okR g (besY M M2 b e ar) v := by
      rintro v (h | ⟨w, rfl, ⟨ci, c9, h3, h4⟩ | hk⟩)
      · exact Or.inl h
      · refine Or.inr ⟨w, rfl, Or.inl ⟨ci, ?_⟩⟩
        by_cases hwb : w = b
        · subst hwb
          exact ⟨c9, (besY_b M M2 w e ar).trans h3, h4⟩
        · exact ⟨c9, keep w c9 hwb h3, h4⟩
      · exact Or.inr ⟨w, rfl, Or.inr hk⟩
    refine addEnd hJ (ys := [x]) hO ha hb2 he2 (fun y h => okY y (hx y h)) (fun y h => okY y (hy y h)) hqb hqe2 hq hf2 (show 1 ≤ capZ by decide) (by rw [e5]; dsimp only [List.length]; omega) hrm hw (fun v H hR9 => gRel_mono hR9 fun z v' hz => ?_) (fun v2 v3 v4 v5 M9 h => h)
    by_cases hzb : z = b
    · subst hzb
      rw [gUp_self] at hz ⊢
      exact hz
    · rw [gUp_ne hzb] at hz ⊢
      exact keep z v' hzb hz
end L68
