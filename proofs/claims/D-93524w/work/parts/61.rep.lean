/-! HOW THE ADT CELLS LIE IN THE HEAP -/
set_option maxRecDepth 100000
section REP
variable (c6 c4 : ClassId) (K : Nat → Nat)
def repL (xs : List (Option Nat)) (m : Int32) (c a : Nat) (C : gCon) : Prop := ∃ e : Nat, C a = some (.inr (21, [.int m, .ref e, .int (nI xs.length)])) ∧
  ((c = 0 ∧ xs = [] ∧ e = K 256) ∨ (c = 1 ∧ xs = [] ∧ e = K 257) ∨ ∃ n, c = n + 2 ∧ 0 < n ∧ xs.length ≤ n ∧ n ≤ capZ ∧ e ≠ a ∧ ∃ f, C e = some (.inl (c6, (n, .inr (.inr (.inr (.inr f)))))) ∧ ∀ i, i < n → f i = xs.getD i none)
def repD (xs : List (Option Nat)) (a : Nat) (C : gCon) : Prop := ∃ (e h t : Nat) (f : Nat → Option Nat), C a = some (.inr (22, [.ref e, .int (nI h), .int (nI t)])) ∧ e ≠ a ∧ C e = some (.inl (c6, (17, .inr (.inr (.inr (.inr f)))))) ∧
  h < 17 ∧ t < 17 ∧ xs.length < 17 ∧ t = (h + xs.length) % 17 ∧ (∀ i, i < xs.length → f ((h + i) % 17) = xs.getD i none) ∧ ∀ x ∈ xs, x ≠ none
def repQ (xs : List (Option Nat)) (m : Int32) (c a : Nat) (C : gCon) : Prop := ∃ (p : Nat) (hs : List (Option Nat)) (e : Nat) (f : Nat → Option Nat), xs = some p :: hs ∧ C a = some (.inr (29, [.ref e, .int (nI hs.length), .ref p, .int m])) ∧ e ≠ a ∧ C e = some (.inl (c6, (c, .inr (.inr (.inr (.inr f)))))) ∧
  hs.length ≤ c ∧ c ≤ capZ ∧ ∀ i, i < hs.length → f i = hs.getD i none
/-- a tree, by its links: the root, the parent of the root, the nodes from the left to the right; n: no less than its height -/
def isT (le ri pa : Nat → Option Nat) : Nat → Option Nat → Option Nat → List Nat → Prop
  | 0, r, _, L => r = none ∧ L = []
  | n + 1, r, p, L => (r = none ∧ L = []) ∨ ∃ (a : Nat) (L1 L2 : List Nat), r = some a ∧ pa a = p ∧ L = L1 ++ a :: L2 ∧ isT le ri pa n (le a) (some a) L1 ∧ isT le ri pa n (ri a) (some a) L2
def repM (ks : List Int32) (vs : List (Option Nat)) (a : Nat) (C : gCon) : Prop := ∃ (root : Option Nat) (mc : Int32) (n : Nat) (L : List Nat) (le ri pa : Nat → Option Nat) (ke : Nat → Nat) (va : Nat → Option Nat) (co : Nat → Int32),
  C a = some (.inr (30, [.null, .null, .null, va_rf root, .int (nI ks.length), .int mc, .null, .null, .null])) ∧ isT le ri pa n root none L ∧ L.Nodup ∧ a ∉ L ∧
  (∀ q ∈ L, ke q < 256 ∧ (co q = 0 ∨ co q = 1) ∧ C q = some (.inr (31, [.ref (K (ke q)), va_rf (va q), va_rf (le q), va_rf (ri q), va_rf (pa q), .int (co q)]))) ∧
  (L.map ke).Pairwise (· < ·) ∧ L.length = ks.length ∧ ks.length ≤ 1000 ∧ vs.length = ks.length ∧ ks.Nodup ∧ ∀ q ∈ L, ∃ i : Nat, ks[i]? = some (vb_c (ke q)) ∧ vs[i]? = some (va q)
/-- bytes that hold chars -/
def chB (co : Int32) (f : Nat → Int32) (cs : List Int32) : Prop := (∀ x ∈ cs, isCh x) ∧
  ((co = 0 ∧ ∀ i, i < cs.length → (cs.getD i 0).toInt < 256 ∧ f i = (cs.getD i 0).toInt8.toInt32) ∨ (co = 1 ∧ ∀ i, i < cs.length → f (2 * i) = (cs.getD i 0).toInt8.toInt32 ∧ f (2 * i + 1) = ((cs.getD i 0) >>> (8 &&& 31)).toInt8.toInt32))
def repB (cs : List Int32) (a : Nat) (C : gCon) : Prop := ∃ (e n : Nat) (f : Nat → Int32) (co ml : Int32), C a = some (.inr (23, [.ref e, .int co, .int ml, .int (nI cs.length)])) ∧ e ≠ a ∧ C e = some (.inl (c4, (n, .inl f))) ∧
  (∀ i, i < n → fits .byte (.int (f i)) = true) ∧ (co = 0 → cs.length ≤ n ∧ n ≤ 140) ∧ (co = 1 → 2 * cs.length ≤ n ∧ n ≤ 280) ∧ (ml = 0 ∨ ml = 1) ∧ chB co f cs ∧ cs.length ≤ 64
def repS (cs : List Int32) (a : Nat) (C : gCon) : Prop := ∃ (e n : Nat) (f : Nat → Int32) (co h hz : Int32), C a = some (.inr (24, [.ref e, .int co, .int h, .int hz])) ∧ e ≠ a ∧ C e = some (.inl (c4, (n, .inl f))) ∧
  (∀ i, i < n → fits .byte (.int (f i)) = true) ∧ (co = 0 → cs.length = n) ∧ (co = 1 → 2 * cs.length = n) ∧ chB co f cs ∧ cs.length ≤ 64
def repA (t : gAdt) (a : Nat) (C : gCon) : Prop := match t with
  | (21, xs, _, m, c) => repL c6 K xs m c a C
  | (22, xs, _, _, _) => repD c6 xs a C
  | (23, _, cs, _, _) => repB c4 cs a C
  | (24, _, cs, _, _) => repS c4 cs a C
  | (29, xs, _, m, c) => repQ c6 xs m c a C
  | (30, vs, ks, _, _) => repM K ks vs a C
  | _ => False
end REP
/-- what the contracts of the library's members stand on -/
def JR (l : Launch) (g : gT) : Prop := JK l g ∧ gR g = repA (gC g 6) (gC g 4) (gK g)
theorem gK_lt {l : Launch} {g : gT} {U : State} (hJ : JK l g) (hB : Base g U) {j : Nat} (hj : j < 256) : gK g j < gZ g := by
  obtain ⟨cell, -, -, -, h⟩ := (hJ.1.2.2.2.1 _ _ (hB.2.2.2.2 0)).1 j hj
  exact Nat.not_le.mp h
/-- one value of a box -/
theorem isBox_eq {l : Launch} {g : gT} {U : State} {M : hM} {H : Heap} (hJ : JK l g) (hB : Base g U) (hR : Rel g M.1 H) {a : Nat} {x y : Int32} (h1 : isBox g M a x) (h2 : isBox g M a y) : x = y := by
  rcases h1 with ⟨j, hj, rfl, rfl⟩ | h1 <;> rcases h2 with ⟨i, hi, e, rfl⟩ | h2
  · rw [hJ.1.2.2.2.2.1 j i hj hi e]
  · exact absurd (gRel_lt hR h2).2 (Nat.not_le.mpr (gK_lt hJ hB hj))
  · subst e
    exact absurd (gRel_lt hR h1).2 (Nat.not_le.mpr (gK_lt hJ hB hi))
  · rw [h1] at h2
    cases h2
    rfl
-- ===== lists, opened =====
/-- the list b, laid open: its object, its array -/
def opL (g : gT) (M M0 : hM) (b : Nat) (xs : List (Option Nat)) (m : Int32) (c e : Nat) : Prop :=
  M0.2 = M.2 ∧ M0.1 b = some (.inl (.inr (21, [.int m, .ref e, .int (nI xs.length)]))) ∧ e ≠ b ∧ (∀ q v, q ≠ b → M.1 q = some v → M0.1 q = some v) ∧ (∀ q v, q ≠ b → q ≠ e → M0.1 q = some v → M.1 q = some v) ∧
  ((c = 0 ∧ xs = [] ∧ e = gK g 256 ∧ M0.1 e = none) ∨ (c = 1 ∧ xs = [] ∧ e = gK g 257 ∧ M0.1 e = none) ∨ ∃ n f, c = n + 2 ∧ 0 < n ∧ xs.length ≤ n ∧ n ≤ capZ ∧ gZ g ≤ e ∧ M.1 e = none ∧ M0.1 e = some (.inl (.inl (6, (n, .inr (.inr (.inr (.inr f))))))) ∧ ∀ i, i < n → f i = xs.getD i none)
theorem open_L {l : Launch} {g : gT} {M : hM} {H : Heap} {b : Nat} {xs : List (Option Nat)} {is : List Int32} {m : Int32} {c : Nat} (hJ : JR l g) (hR : Rel g M.1 H) (hb : M.1 b = some (.inr (21, xs, is, m, c))) : ∃ (M0 : hM) (e : Nat), opL g M M0 b xs m c e ∧ Rel g M0.1 H := by
  obtain ⟨Cb, hr, -, hq, hop⟩ := Rel_open hR hb
  rw [hJ.2] at hr
  obtain ⟨e, ha, hc⟩ := (hr : repL _ _ xs m c b Cb)
  have hbz := (gRel_lt hR hb).2
  have hK : ∀ j, j = 256 ∨ j = 257 → e = gK g j → e ≠ b ∧ M.1 e = none := fun j hj he => by
    have h1 := hJ.1.2.2.2.2 j hj
    refine ⟨by omega, ?_⟩
    cases h2 : M.1 e with
    | none => rfl
    | some v => exact absurd (gRel_lt hR h2).2 (by omega)
  rcases hc with ⟨hc, hx, he⟩ | ⟨hc, hx, he⟩ | ⟨n, hc, hn0, hx, hn, hea, f, he, hf⟩
  · obtain ⟨h1, h2⟩ := hK 256 (Or.inl rfl) he
    refine ⟨(gUp M.1 b (.inl (.inr (21, [.int m, .ref e, .int (nI xs.length)]))), M.2), e, ⟨rfl, gUp_self _ _ _, h1, fun q v h3 h4 => (gUp_ne h3).trans h4, fun q v h3 _ h4 => (gUp_ne h3).symm.trans h4, Or.inl ⟨hc, hx, he, (gUp_ne h1).trans h2⟩⟩, hop _ fun q v hv => ?_⟩
    by_cases hqb : q = b
    · subst hqb
      dsimp only at hv
      rw [gUp_self] at hv
      cases hv
      exact Or.inl ⟨_, rfl, ha⟩
    · exact Or.inr ⟨hqb, (gUp_ne hqb).symm.trans hv⟩
  · obtain ⟨h1, h2⟩ := hK 257 (Or.inr rfl) he
    refine ⟨(gUp M.1 b (.inl (.inr (21, [.int m, .ref e, .int (nI xs.length)]))), M.2), e, ⟨rfl, gUp_self _ _ _, h1, fun q v h3 h4 => (gUp_ne h3).trans h4, fun q v h3 _ h4 => (gUp_ne h3).symm.trans h4, Or.inr (Or.inl ⟨hc, hx, he, (gUp_ne h1).trans h2⟩)⟩, hop _ fun q v hv => ?_⟩
    by_cases hqb : q = b
    · subst hqb
      dsimp only at hv
      rw [gUp_self] at hv
      cases hv
      exact Or.inl ⟨_, rfl, ha⟩
    · exact Or.inr ⟨hqb, (gUp_ne hqb).symm.trans hv⟩
  · obtain ⟨h3, h4⟩ := hq e _ he
    refine ⟨(gUp (gUp M.1 e (.inl (.inl (6, (n, .inr (.inr (.inr (.inr f)))))))) b (.inl (.inr (21, [.int m, .ref e, .int (nI xs.length)]))), M.2), e, ⟨rfl, gUp_self _ _ _, hea, fun q v h5 h6 => ?_, fun q v h5 h6 h7 => ?_, Or.inr (Or.inr ⟨n, f, hc, hn0, hx, hn, h3, h4 hea, (gUp_ne hea).trans (gUp_self _ _ _), hf⟩)⟩, hop _ fun q v hv => ?_⟩
    · have : q ≠ e := fun hh => by subst hh; rw [h4 hea] at h6; cases h6
      exact (gUp_ne h5).trans ((gUp_ne this).trans h6)
    · exact (gUp_ne h6).symm.trans ((gUp_ne h5).symm.trans h7)
    · by_cases hqb : q = b
      · subst hqb
        dsimp only at hv
        rw [gUp_self] at hv
        cases hv
        exact Or.inl ⟨_, rfl, ha⟩
      · dsimp only at hv
        rw [gUp_ne hqb] at hv
        by_cases hqe : q = e
        · subst hqe
          rw [gUp_self] at hv
          cases hv
          exact Or.inl ⟨_, rfl, he⟩
        · rw [gUp_ne hqe] at hv
          exact Or.inr ⟨hqb, hv⟩
