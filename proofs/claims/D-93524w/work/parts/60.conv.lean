/-! FROM RAW CELLS TO ADT CELLS: conversions of contracts, opening and closing -/
set_option maxRecDepth 100000
theorem room_mono {s : State} {pl : Platform} {r r' : Room} (h : s.hasRoom pl r = true) (h1 : r'.frames ≤ r.frames) (h2 : r'.cells ≤ r.cells) (h3 : r'.slots ≤ r.slots) (h4 : r'.locals ≤ r.locals) : s.hasRoom pl r' = true := by
  simp only [State.hasRoom, Bool.and_eq_true, decide_eq_true_eq] at h ⊢
  obtain ⟨⟨⟨⟨a1, a2, a3, a4, a5, a6⟩, a7⟩, a8⟩, a9⟩ := h
  all_goals exact ⟨⟨⟨⟨by omega, by omega, by omega, by omega, by omega, a6⟩, by omega⟩, by omega⟩, a9⟩
theorem loose_mono {x : MethodName} {ws : List Cond} {pl : Platform} {s : State} {r r' : Room} (h : (headSpec ws r).appliesLoose x pl s = true) (h1 : r'.frames ≤ r.frames) (h2 : r'.cells ≤ r.cells) (h3 : r'.slots ≤ r.slots) (h4 : r'.locals ≤ r.locals) : (headSpec ws r').appliesLoose x pl s = true := by
  unfold Spec.appliesLoose at h ⊢
  split
  · next m args below hf =>
    rw [hf] at h
    simp only [Bool.and_eq_true] at h ⊢
    exact ⟨⟨h.1.1, room_mono h.1.2 h1 h2 h3 h4⟩, h.2⟩
  · next hf =>
    split at h
    · next m args below hf2 => exact absurd hf2 (hf m args below)
    · exact h
/-- M1, closed to M2 -/
def upM (g : gT) (M1 M2 : hM) : Prop := M1.2.1 ≤ M2.2.1 ∧ M1.2.2 ≤ M2.2.2 ∧ M2.2.1 ≤ capN ∧ M2.2.2 ≤ capZ ∧ ∀ H : Heap, Rel g M1.1 H → Rel g M2.1 H
def clI {α : Type} (g : gT) (Q : α → hM → Prop) : α → hM → Prop := fun x M1 => ∃ M2, Q x M2 ∧ upM g M1 M2
def clU (g : gT) (Q : hM → Prop) : hM → Prop := fun M1 => ∃ M2, Q M2 ∧ upM g M1 M2
theorem MG_conv {l : Launch} {g : gT} {y : MethodName} {ws : List Cond} {fr lc : Nat} {av : List Value} {M : hM} {P : Option Value → hM → Prop}
    (h : ∀ U : State, Base g U → Rel g M.1 U.heap → M.2.1 ≤ capN → M.2.2 ≤ capZ → ∃ (M0 : hM) (P0 : Option Value → hM → Prop) (fr' lc' : Nat), fr' ≤ fr ∧ lc' ≤ lc ∧ M0.2 = M.2 ∧ Rel g M0.1 U.heap ∧ MG l g y ws fr' lc' av M0 P0 ∧ ∀ v M1, P0 v M1 → ∃ M2, P v M2 ∧ upM g M1 M2) : MG l g y ws fr lc av M P := by
  intro hs ht p e ha hc hk s m args below hf happ hP hK
  obtain ⟨h0, hsz, htt, hR, hB, h1, h2⟩ := hP
  obtain ⟨M0, P0, fr', lc', hfr, hlc, e2, hR0, hM0, hcl⟩ := h s hB hR h1 h2
  obtain ⟨n, o, w1, w2, w3, ⟨hq, hF⟩, hfr2⟩ := hM0 hs ht p e ha hc hk s m args below hf (loose_mono happ (by exact hfr) (by rw [e2]; exact Nat.le_refl _) (by rw [e2]; exact Nat.le_refl _) (by exact hlc)) ⟨h0, hsz, htt, hR0, hB, by rw [e2]; exact h1, by rw [e2]; exact h2⟩ hK
  obtain ⟨v, M1, ho, hp, hR1, n1, n2, n3, n4, n5, n6⟩ := hq
  obtain ⟨M2, hp2, u1, u2, u3, u4, u5⟩ := hcl v M1 hp
  rw [e2] at n1 n2 n5 n6 hfr2
  exact ⟨n, o, w1, w2, w3, ⟨⟨v, M2, ho, hp2, u5 _ hR1, by omega, by omega, u3, u4, by omega, by omega⟩, hF⟩, hfr2⟩
/-- a contract with less room -/
def MGl (l : Launch) (g : gT) (y : MethodName) (ws : List Cond) (fr lc : Nat) (av : List Value) (M : hM) (P : Option Value → hM → Prop) : Prop := ∃ fr' lc' : Nat, MG l g y ws fr' lc' av M P ∧ fr' ≤ fr ∧ lc' ≤ lc
theorem mgl {l : Launch} {g : gT} {y : MethodName} {ws : List Cond} {fr fr' lc lc' : Nat} {av : List Value} {M : hM} {P : Option Value → hM → Prop} (h : MG l g y ws fr' lc' av M P) (h1 : Nat.ble fr' fr = true) (h2 : Nat.ble lc' lc = true) : MGl l g y ws fr lc av M P := ⟨fr', lc', h, Nat.le_of_ble_eq_true h1, Nat.le_of_ble_eq_true h2⟩
theorem convI {l : Launch} {g : gT} {y : MethodName} {ws : List Cond} {fr lc : Nat} {av : List Value} {M : hM} {Q : Int32 → hM → Prop}
    (h : ∀ U : State, Base g U → Rel g M.1 U.heap → M.2.1 ≤ capN → M.2.2 ≤ capZ → ∃ M0 : hM, M0.2 = M.2 ∧ Rel g M0.1 U.heap ∧ MGl l g y ws fr lc av M0 (PI (clI g Q))) : MG l g y ws fr lc av M (PI Q) :=
  MG_conv fun U hB hR h1 h2 => by
    obtain ⟨M0, e, hR0, fr', lc', hm, h3, h4⟩ := h U hB hR h1 h2
    refine ⟨M0, _, fr', lc', h3, h4, e, hR0, hm, ?_⟩
    rintro v M1 ⟨x, rfl, M2, hq, hu⟩
    exact ⟨M2, ⟨x, rfl, hq⟩, hu⟩
theorem convR {l : Launch} {g : gT} {y : MethodName} {ws : List Cond} {fr lc : Nat} {av : List Value} {M : hM} {Q : Option Nat → hM → Prop}
    (h : ∀ U : State, Base g U → Rel g M.1 U.heap → M.2.1 ≤ capN → M.2.2 ≤ capZ → ∃ M0 : hM, M0.2 = M.2 ∧ Rel g M0.1 U.heap ∧ MGl l g y ws fr lc av M0 (PR (clI g Q))) : MG l g y ws fr lc av M (PR Q) :=
  MG_conv fun U hB hR h1 h2 => by
    obtain ⟨M0, e, hR0, fr', lc', hm, h3, h4⟩ := h U hB hR h1 h2
    refine ⟨M0, _, fr', lc', h3, h4, e, hR0, hm, ?_⟩
    rintro v M1 ⟨x, rfl, M2, hq, hu⟩
    exact ⟨M2, ⟨x, rfl, hq⟩, hu⟩
theorem convU {l : Launch} {g : gT} {y : MethodName} {ws : List Cond} {fr lc : Nat} {av : List Value} {M : hM} {Q : hM → Prop}
    (h : ∀ U : State, Base g U → Rel g M.1 U.heap → M.2.1 ≤ capN → M.2.2 ≤ capZ → ∃ M0 : hM, M0.2 = M.2 ∧ Rel g M0.1 U.heap ∧ MGl l g y ws fr lc av M0 (PU (clU g Q))) : MG l g y ws fr lc av M (PU Q) :=
  MG_conv fun U hB hR h1 h2 => by
    obtain ⟨M0, e, hR0, fr', lc', hm, h3, h4⟩ := h U hB hR h1 h2
    refine ⟨M0, _, fr', lc', h3, h4, e, hR0, hm, ?_⟩
    rintro v M1 ⟨rfl, M2, hq, hu⟩
    exact ⟨M2, ⟨rfl, hq⟩, hu⟩
-- ===== opening, closing =====
theorem Rel_open {g : gT} {M : gMap} {H : Heap} {b : Nat} {t : gAdt} (hR : Rel g M H) (hb : M b = some (.inr t)) : ∃ Cb : gCon, gR g t b Cb ∧ (∃ fs, Cb b = some (.inr (t.1, fs))) ∧ (∀ q e, Cb q = some e → gZ g ≤ q ∧ (q ≠ b → M q = none)) ∧
    ∀ M0 : gMap, (∀ q c, M0 q = some c → (∃ x, c = .inl x ∧ Cb q = some (toE g x)) ∨ (q ≠ b ∧ M q = some c)) → Rel g M0 H := by
  obtain ⟨C, own, ws, ⟨hP, hD, hw⟩, hM⟩ := hR
  obtain ⟨ho, ⟨fs, hf⟩, hr⟩ := hM b _ hb
  refine ⟨gRest C own b, hr, ⟨fs, by simp only [gRest, ho, if_true]; exact hf⟩, fun q e hq => ?_, fun M0 hM0 => ⟨C, fun q => if own q = b then q else own q, ws, ⟨hP, hD, hw⟩, fun a c ha => ?_⟩⟩
  · simp only [gRest] at hq
    split at hq
    · next hown =>
      obtain ⟨j, hj⟩ := List.getElem?_of_mem (hw q e hq)
      refine ⟨hD.2 j _ hj, fun hne => ?_⟩
      cases hc : M q with
      | none => rfl
      | some c => exact absurd ((hM q c hc).1.symm.trans hown) hne
    · cases hq
  · rcases hM0 a c ha with ⟨x, rfl, hx⟩ | ⟨hne, hc⟩
    · simp only [gRest] at hx
      split at hx
      · next hown => exact ⟨by simp [hown], hx⟩
      · cases hx
    · obtain ⟨h1, h2⟩ := hM a c hc
      refine ⟨by simp [h1, hne], ?_⟩
      cases c with
      | inl y => exact h2
      | inr t' =>
        refine ⟨h2.1, ?_⟩
        have : gRest C (fun q => if own q = b then q else own q) a = gRest C own a := by
          funext z
          simp only [gRest]
          by_cases hz : own z = b
          · simp only [hz, if_true]
            have hza : z ≠ a := fun hh => by subst hh; rw [h1] at hz; exact hne hz
            rw [if_neg hza, if_neg (fun hh => hne hh.symm)]
          · simp only [hz, if_false]
        rw [this]
        exact h2.2
theorem Rel_close {g : gT} {M1 M2 : gMap} {H : Heap} {b : Nat} {t : gAdt} (hR : Rel g M1 H) (S : Nat → Prop) (hbS : S b) (hS : ∀ q, S q → ∃ x, M1 q = some (.inl x)) (hfs : ∃ fs, M1 b = some (.inl (.inr (t.1, fs))))
    (hrep : ∀ C : gCon, (∀ q x, S q → M1 q = some (.inl x) → C q = some (toE g x)) → gR g t b C) (hM2 : ∀ q c, M2 q = some c → (q = b ∧ c = .inr t) ∨ (¬ S q ∧ M1 q = some c)) : Rel g M2 H := by
  classical
  obtain ⟨C, own, ws, ⟨hP, hD, hw⟩, hM⟩ := hR
  refine ⟨C, fun q => if S q then b else own q, ws, ⟨hP, hD, hw⟩, fun a c ha => ?_⟩
  rcases hM2 a c ha with ⟨rfl, rfl⟩ | ⟨hnS, hc⟩
  · refine ⟨by simp [hbS], ?_, hrep _ fun q x hq hx => ?_⟩
    · obtain ⟨fs, hf⟩ := hfs
      exact ⟨fs, (hM _ _ hf).2⟩
    · simp only [gRest, hq, if_true]
      exact (hM _ _ hx).2
  · obtain ⟨h1, h2⟩ := hM a c hc
    refine ⟨by simp [hnS, h1], ?_⟩
    cases c with
    | inl y => exact h2
    | inr t' =>
      refine ⟨h2.1, ?_⟩
      have hab : b ≠ a := fun hh => hnS (hh ▸ hbS)
      have : gRest C (fun q => if S q then b else own q) a = gRest C own a := by
        funext z
        simp only [gRest]
        by_cases hz : S z
        · simp only [hz, if_true]
          obtain ⟨x, hx⟩ := hS z hz
          rw [if_neg hab, (hM z _ hx).1, if_neg (fun hh => hnS (by rw [← hh]; exact hz))]
        · simp only [hz, if_false]
      rw [this]
      exact h2.2
-- ===== steps at known cells =====
theorem gI_at {M : hM} {a ci f : Nat} {fs : List Value} {x : Int32} {κ : Int32 → Prop} (h : M.1 a = some (.inl (.inr (ci, fs)))) (hf : fs[f]? = some (.int x)) (hk : κ x) : gI M (some a) ci f κ := gObj_i h (by rw [hf]; exact hk)
theorem gF_at {M : hM} {a ci f : Nat} {fs : List Value} {r : Option Nat} {κ : Option Nat → Prop} (h : M.1 a = some (.inl (.inr (ci, fs)))) (hf : fs[f]? = some (va_rf r)) (hk : κ r) : gF M (some a) ci f κ := gObj_i h (by rw [hf]; exact (rfV_rf r κ).mpr hk)
theorem pV_at {M : hM} {a ci f : Nat} {fs : List Value} {v : Value} {κ : hM → Prop} (h : M.1 a = some (.inl (.inr (ci, fs)))) (hf : f < fs.length) (hk : κ (gPut M a ci (fs.set f v))) : pV M (some a) ci f v κ := gObj_i h ⟨hf, hk⟩
theorem gThis_at {M : hM} {a ci : Nat} {κ : Nat → Prop} (h : isC M a ci) (hk : κ a) : gThis M (some a) ci κ := ⟨h, hk⟩
theorem gArr_at {M : hM} {a t : Nat} {x : vp_A} {κ : Nat → Nat → vp_A → Prop} (h : M.1 a = some (.inl (.inl (t, x)))) (hk : κ a t x) : gArr M (some a) κ := by
  unfold gArr
  simp only [h]
  exact hk
theorem adt_at {M : hM} {b t : Nat} {xs : List (Option Nat)} {is : List Int32} {m : Int32} {c : Nat} {κ : List (Option Nat) → List Int32 → Int32 → Nat → Prop} (h : M.1 b = some (.inr (t, xs, is, m, c))) (hk : κ xs is m c) : gAdtAt M b t κ := by
  unfold gAdtAt
  simp only [h]
  exact ⟨trivial, hk⟩
