/-! AN OBJECT WITH ONE ARRAY OF ITS OWN: laid open -/
set_option maxRecDepth 100000
section L73
variable {l : Launch} {g : gT}
/-- M1: M with b laid open: its fields, its array of kind k -/
def OA (M M1 : hM) (b ci : Nat) (fs : List Value) (e k : Nat) (x : vp_A) : Prop :=
  M1.1 b = some (.inl (.inr (ci, fs))) ∧ e ≠ b ∧ (∀ q v, q ≠ b → M.1 q = some v → M1.1 q = some v) ∧ isC M b ci ∧ M.1 e = none ∧ M1.1 e = some (.inl (.inl (k, x)))
section
variable {M M1 : hM} {b ci : Nat} {fs : List Value} {e k : Nat} {x : vp_A}
theorem OA.ok (h : OA M M1 b ci fs e k x) {r : Option Nat} (hr : okR g M r) : okR g M1 r := by
  rcases hr with hr | ⟨v, hv, ⟨c', c, h1, h2⟩ | hk⟩
  · exact Or.inl hr
  · refine Or.inr ⟨v, hv, Or.inl ⟨c', ?_⟩⟩
    by_cases hvb : v = b
    · subst hvb
      obtain ⟨c9, h3, h4⟩ := h.2.2.2.1
      rw [h1] at h3
      cases h3
      have : c' = ci := Option.some.inj (h2.symm.trans h4)
      subst this
      exact isC_obj h.1
    · exact ⟨c, h.2.2.1 v c hvb h1, h2⟩
  · exact Or.inr ⟨v, hv, Or.inr hk⟩
theorem OA.cls (h : OA M M1 b ci fs e k x) : isC M1 b ci := isC_obj h.1
theorem OA.gi (h : OA M M1 b ci fs e k x) {f : Nat} {v : Int32} (hf : fs[f]? = some (.int v)) {κ : Int32 → Prop} (hk : κ v) : gI M1 (some b) ci f κ := gI_at h.1 hf hk
theorem OA.gf (h : OA M M1 b ci fs e k x) {f : Nat} {r : Option Nat} (hf : fs[f]? = some (va_rf r)) {κ : Option Nat → Prop} (hk : κ r) : gF M1 (some b) ci f κ := gF_at h.1 hf hk
theorem OA.pv (h : OA M M1 b ci fs e k x) {f : Nat} {v : Value} (hf : f < fs.length) {κ : hM → Prop} (hk : ∀ M2, M2.2 = M1.2 → OA M M2 b ci (fs.set f v) e k x → κ M2) : pV M1 (some b) ci f v κ := by
  refine pV_at h.1 hf (hk _ rfl ?_)
  obtain ⟨h1, h2, h3, h4, h5, h6⟩ := h
  exact ⟨gUp_self _ _ _, h2, fun q w hq hw => (gUp_ne hq).trans (h3 q w hq hw), h4, h5, (gUp_ne h2).trans h6⟩
theorem OA.len (h : OA M M1 b ci fs e k x) (hk7 : k < 7) {κ : Int32 → Prop} (hk : κ (nI x.1)) : aLenK g M1 (some e) κ := Or.inr (gArr_at h.2.2.2.2.2 ⟨hk7, hk⟩)
theorem OA.arr (h : OA M M1 b ci fs e k x) {x' : vp_A} : OA M (gPutA M1 e k x') b ci fs e k x' := by
  obtain ⟨h1, h2, h3, h4, h5, h6⟩ := h
  refine ⟨(gUp_ne h2.symm).trans h1, h2, fun q w hq hw => ?_, h4, h5, gUp_self _ _ _⟩
  have : q ≠ e := fun hh => by subst hh; rw [h5] at hw; cases hw
  exact (gUp_ne this).trans (h3 q w hq hw)
end
section
variable {M M1 : hM} {b ci : Nat} {fs : List Value} {e n : Nat} {f : Nat → Option Nat}
theorem OA.get (h : OA M M1 b ci fs e 6 (n, .inr (.inr (.inr (.inr f))))) {i : Int32} (hi : vp_in i n) {κ : Option Nat → Prop} (hk : κ (f i.toNatClampNeg)) : aR M1 (some e) i κ := gArr_at h.2.2.2.2.2 ⟨rfl, hi, hk⟩
theorem OA.put (h : OA M M1 b ci fs e 6 (n, .inr (.inr (.inr (.inr f))))) {i : Int32} (hi : vp_in i n) {v : Option Nat} (hv : okR g M v) {κ : hM → Prop} (hk : ∀ M2, M2.2 = M1.2 → OA M M2 b ci fs e 6 (n, .inr (.inr (.inr (.inr (va_up f i.toNatClampNeg v))))) → κ M2) : sR g M1 (some e) i v κ :=
  ⟨h.ok hv, gArr_at h.2.2.2.2.2 ⟨rfl, hi, hk _ rfl h.arr⟩⟩
end
theorem open_A {M : hM} {H : Heap} {b e k : Nat} {t : gAdt} {fs : List Value} {x : vp_A} {Cb : gCon} (hb : M.1 b = some (.inr t)) (hq : ∀ q e, Cb q = some e → gZ g ≤ q ∧ (q ≠ b → M.1 q = none)) (hop : ∀ M0 : gMap, (∀ q c, M0 q = some c → (∃ x, c = .inl x ∧ Cb q = some (toE g x)) ∨ (q ≠ b ∧ M.1 q = some c)) → Rel g M0 H)
    (h1 : Cb b = some (.inr (t.1, fs))) (hne : e ≠ b) (h2 : Cb e = some (.inl (gC g k, x))) : ∃ M0 : hM, M0.2 = M.2 ∧ Rel g M0.1 H ∧ OA M M0 b t.1 fs e k x := by
  have hMe := (hq e _ h2).2 hne
  refine ⟨(gUp (gUp M.1 e (.inl (.inl (k, x)))) b (.inl (.inr (t.1, fs))), M.2), rfl, hop _ fun q v hv => ?_, gUp_self _ _ _, hne, fun q v h3 h4 => ?_, isC_adt hb, hMe, (gUp_ne hne).trans (gUp_self _ _ _)⟩
  · by_cases hqb : q = b
    · subst hqb
      dsimp only at hv
      rw [gUp_self] at hv
      cases hv
      exact Or.inl ⟨_, rfl, h1⟩
    · dsimp only at hv
      rw [gUp_ne hqb] at hv
      by_cases hqe : q = e
      · subst hqe
        rw [gUp_self] at hv
        cases hv
        exact Or.inl ⟨_, rfl, h2⟩
      · rw [gUp_ne hqe] at hv
        exact Or.inr ⟨hqb, hv⟩
  · have : q ≠ e := fun hh => by subst hh; rw [hMe] at h4; cases h4
    exact (gUp_ne h3).trans ((gUp_ne this).trans h4)
theorem close_A {M M1 : hM} {H : Heap} {b e k : Nat} {t : gAdt} {fs : List Value} {x : vp_A} (h : OA M M1 b t.1 fs e k x) (hR : Rel g M1.1 H) (hrep : ∀ C : gCon, C b = some (.inr (t.1, fs)) → C e = some (.inl (gC g k, x)) → gR g t b C) : Rel g (gUp M.1 b (.inr t)) H := by
  obtain ⟨h1, h2, h3, h4, h5, h6⟩ := h
  refine Rel_close hR (fun q => q = b ∨ q = e) (Or.inl rfl) (fun q hq => ?_) ⟨_, h1⟩ (fun C hC => hrep C (hC b _ (Or.inl rfl) h1) (hC e _ (Or.inr rfl) h6)) fun q v hv => ?_
  · rcases hq with rfl | rfl
    · exact ⟨_, h1⟩
    · exact ⟨_, h6⟩
  · by_cases hq : q = b
    · subst hq
      rw [gUp_self] at hv
      cases hv
      exact Or.inl ⟨rfl, rfl⟩
    · rw [gUp_ne hq] at hv
      refine Or.inr ⟨fun hs => ?_, h3 q v hq hv⟩
      rcases hs with rfl | rfl
      · exact hq rfl
      · rw [h5] at hv; cases hv
end L73
