/-! LISTS: the contracts of ArrayList's members -/
set_option maxRecDepth 100000
-- ===== arithmetic of lengths =====
theorem capZ_lt : capZ < 2 ^ 31 := by decide
theorem nI_sub {a b : Nat} (h : b ≤ a) : nI a - nI b = nI (a - b) := by
  have : nI a = nI (a - b) + nI b := by rw [nI_add]; congr 1; omega
  rw [this]
  exact Int32.add_sub_cancel _ _
theorem in_nI {i : Int32} {n : Nat} (h : vp_in i n) : ∃ k, k < n ∧ i.toNatClampNeg = k ∧ 0 ≤ i ∧ (n < 2 ^ 31 → i = nI k) := by
  have h0 : ¬ i < 0 := fun q => h (Or.inl q)
  have h1 : i.toNatClampNeg < n := Nat.not_le.mp fun q => h (Or.inr q)
  refine ⟨_, h1, rfl, Int32.not_lt.mp h0, fun hn => ?_⟩
  apply Int32.toInt_inj.mp
  have h2 : (0 : Int) ≤ i.toInt := by
    have := Int32.not_lt.mp h0
    simpa using Int32.le_iff_toInt_le.mp this
  have h3 : i.toNatClampNeg = i.toInt.toNat := rfl
  rw [nI_toInt (by omega), h3]
  omega
-- ===== a list laid open =====
/-- M1: M with the list b laid open: its mod count, size, array; ar: none where the array is one of the start's -/
def OL (g : gT) (M M1 : hM) (b : Nat) (m s : Int32) (e : Nat) (ar : Option (Nat × (Nat → Option Nat))) : Prop :=
  M1.1 b = some (.inl (.inr (21, [.int m, .ref e, .int s]))) ∧ e ≠ b ∧ (∀ q v, q ≠ b → M.1 q = some v → M1.1 q = some v) ∧ isC M b 21 ∧
  match ar with
  | none => e = gK g 256 ∨ e = gK g 257
  | some (n, f) => M.1 e = none ∧ M1.1 e = some (.inl (.inl (6, (n, .inr (.inr (.inr (.inr f)))))))
theorem OL.ok {g : gT} {M M1 : hM} {b : Nat} {m s : Int32} {e : Nat} {ar : Option (Nat × (Nat → Option Nat))} (h : OL g M M1 b m s e ar) {r : Option Nat} (hr : okR g M r) : okR g M1 r := by
  rcases hr with hr | ⟨v, hv, ⟨ci, c, h1, h2⟩ | hk⟩
  · exact Or.inl hr
  · refine Or.inr ⟨v, hv, Or.inl ⟨ci, ?_⟩⟩
    by_cases hvb : v = b
    · subst hvb
      obtain ⟨c', h3, h4⟩ := h.2.2.2.1
      rw [h1] at h3
      cases h3
      have : ci = 21 := Option.some.inj (h2.symm.trans h4)
      subst this
      exact isC_obj h.1
    · exact ⟨c, h.2.2.1 v c hvb h1, h2⟩
  · exact Or.inr ⟨v, hv, Or.inr hk⟩
section OLS
variable {g : gT} {M M1 : hM} {b : Nat} {m s : Int32} {e : Nat} {ar : Option (Nat × (Nat → Option Nat))}
theorem OL.cls (h : OL g M M1 b m s e ar) : isC M1 b 21 := isC_obj h.1
theorem OL.gm (h : OL g M M1 b m s e ar) {κ : Int32 → Prop} (hk : κ m) : gI M1 (some b) 21 0 κ := gI_at h.1 rfl hk
theorem OL.gs (h : OL g M M1 b m s e ar) {κ : Int32 → Prop} (hk : κ s) : gI M1 (some b) 21 2 κ := gI_at h.1 rfl hk
theorem OL.ge (h : OL g M M1 b m s e ar) {κ : Option Nat → Prop} (hk : κ (some e)) : gF M1 (some b) 21 1 κ := gF_at h.1 rfl hk
theorem OL.pm (h : OL g M M1 b m s e ar) {v : Int32} {κ : hM → Prop} (hk : ∀ M2, M2.2 = M1.2 → OL g M M2 b v s e ar → κ M2) : pV M1 (some b) 21 0 (.int v) κ := by
  refine pV_at h.1 (by simp) (hk _ rfl ?_)
  obtain ⟨h1, h2, h3, h4, h5⟩ := h
  refine ⟨gUp_self _ _ _, h2, fun q w hq hw => (gUp_ne hq).trans (h3 q w hq hw), h4, ?_⟩
  cases ar with
  | none => exact h5
  | some p => exact ⟨h5.1, (gUp_ne h2).trans h5.2⟩
theorem OL.ps (h : OL g M M1 b m s e ar) {v : Int32} {κ : hM → Prop} (hk : ∀ M2, M2.2 = M1.2 → OL g M M2 b m v e ar → κ M2) : pV M1 (some b) 21 2 (.int v) κ := by
  refine pV_at h.1 (by simp) (hk _ rfl ?_)
  obtain ⟨h1, h2, h3, h4, h5⟩ := h
  refine ⟨gUp_self _ _ _, h2, fun q w hq hw => (gUp_ne hq).trans (h3 q w hq hw), h4, ?_⟩
  cases ar with
  | none => exact h5
  | some p => exact ⟨h5.1, (gUp_ne h2).trans h5.2⟩
theorem OL.len (h : OL g M M1 b m s e ar) {κ : Int32 → Prop} (hk : κ (nI ((ar.map (·.1)).getD 0))) : aLenK g M1 (some e) κ := by
  cases ar with
  | none =>
    refine Or.inl ⟨?_, hk⟩
    rcases h.2.2.2.2 with he | he
    · exact ⟨256, Or.inl rfl, by rw [he]⟩
    · exact ⟨257, Or.inr rfl, by rw [he]⟩
  | some p => exact Or.inr (gArr_at h.2.2.2.2.2 ⟨by decide, hk⟩)
theorem OL.get {n : Nat} {f : Nat → Option Nat} (h : OL g M M1 b m s e (some (n, f))) {i : Int32} (hi : vp_in i n) {κ : Option Nat → Prop} (hk : κ (f i.toNatClampNeg)) : aR M1 (some e) i κ := gArr_at h.2.2.2.2.2 ⟨rfl, hi, hk⟩
theorem OL.arr {n n' : Nat} {f f' : Nat → Option Nat} (h : OL g M M1 b m s e (some (n, f))) : OL g M (gPutA M1 e 6 (n', .inr (.inr (.inr (.inr f'))))) b m s e (some (n', f')) := by
  obtain ⟨h1, h2, h3, h4, h5, h6⟩ := h
  refine ⟨(gUp_ne h2.symm).trans h1, h2, fun q w hq hw => ?_, h4, h5, gUp_self _ _ _⟩
  have : q ≠ e := fun hh => by subst hh; rw [h5] at hw; cases hw
  exact (gUp_ne this).trans (h3 q w hq hw)
theorem OL.put {n : Nat} {f : Nat → Option Nat} (h : OL g M M1 b m s e (some (n, f))) {i : Int32} (hi : vp_in i n) {v : Option Nat} (hv : okR g M v) {κ : hM → Prop} (hk : ∀ M2, M2.2 = M1.2 → OL g M M2 b m s e (some (n, va_up f i.toNatClampNeg v)) → κ M2) : sR g M1 (some e) i v κ :=
  ⟨h.ok hv, gArr_at h.2.2.2.2.2 ⟨rfl, hi, hk _ rfl h.arr⟩⟩
/-- a stretch of the array, moved within it -/
theorem OL.cpy {n : Nat} {f : Nat → Option Nat} (h : OL g M M1 b m s e (some (n, f))) {sp dp k : Nat} (h1 : sp + k ≤ n) (h2 : dp + k ≤ n) (hn : n ≤ capZ) (hok : ∀ i, i < k → okR g M (f (sp + i))) {κ : hM → Prop} (hk : ∀ M2, M2.2 = M1.2 → OL g M M2 b m s e (some (n, va_cpy f f sp dp k)) → κ M2) : cQ g M1 (some e) (nI sp) (some e) (nI dp) (nI k) κ := by
  have hc := capZ_lt
  have c1 : (nI sp).toNatClampNeg = sp := nI_clamp (by omega)
  have c2 : (nI dp).toNatClampNeg = dp := nI_clamp (by omega)
  have c3 : (nI k).toNatClampNeg = k := nI_clamp (by omega)
  refine ⟨nI_pos (by omega), nI_pos (by omega), nI_pos (by omega), gArr_at h.2.2.2.2.2 ⟨rfl, ?_, Or.inr (gArr_at h.2.2.2.2.2 ⟨rfl, ?_, fun i hi => ?_, ?_⟩)⟩⟩
  · dsimp only; rw [c2, c3]; exact h2
  · dsimp only; rw [c1, c3]; exact h1
  · rw [c3] at hi; rw [c1]; exact h.ok (hok i hi)
  · rw [c1, c2, c3]; exact hk _ rfl h.arr
theorem nI_shr1 {k : Nat} (h : k < 2 ^ 31) : nI k >>> ((1 : Int32) &&& 31) = nI (k / 2) := pk_shrN h _ 1 (by decide)
theorem nI_ite_lt {a b : Nat} (ha : a < 2 ^ 31) (hb : b < 2 ^ 31) : (if nI a < nI b then nI b else nI a) = nI (max a b) := by
  by_cases h : a < b
  · rw [if_pos ((nI_ltI ha hb).mpr h)]
    congr 1; omega
  · rw [if_neg (fun q => h ((nI_ltI ha hb).mp q))]
    congr 1; omega
theorem newLen {F k a p : Nat} {M : hM} {Q : Int32 → hM → Prop} (h0 : 0 < k + max a p) (h1 : k + max a p ≤ capZ) (hq : Q (nI (k + max a p)) M) : w_J8_newLength g F (nI k) (nI a) (nI p) M Q := by
  have hc : capZ = 5493754 := rfl
  unfold w_J8_newLength
  rw [nI_ite_lt (by omega) (by omega), nI_add]
  refine ⟨fun q => absurd q (nI_nle h0 (by omega)), fun _ => ⟨fun q => ?_, fun _ => hq⟩⟩
  exfalso
  have h2 := Int32.lt_iff_toInt_lt.mp q
  rw [nI_toInt (by omega)] at h2
  have h3 : (2147483639 : Int32).toInt = 2147483639 := by decide
  omega
/-- a new array -/
theorem OL.anew (h : OL g M M1 b m s e ar) {n : Nat} {κ : Nat → hM → Prop} (hr : hasR M1 1 n) (hk : ∀ q M2, M2.2 = (M1.2.1 + 1, M1.2.2 + n) → q ≠ b → M.1 q = none → M1.1 q = none → OL g M M2 b m s e ar → M2.1 q = some (.inl (.inl (6, (n, .inr (.inr (.inr (.inr (fun _ => none)))))))) → κ q M2) : nA M1 6 (nI n) (.inr (.inr (.inr (.inr (fun _ => none))))) κ := by
  have hc := capZ_lt
  have hn : n < 2 ^ 31 := by have := hr.2; omega
  have c1 : (nI n).toNatClampNeg = n := nI_clamp hn
  refine ⟨nI_pos hn, hr.1, by rw [c1]; exact hr.2, fun q hq => ?_⟩
  obtain ⟨h1, h2, h3, h4, h5⟩ := h
  have hqb : q ≠ b := fun hh => by subst hh; rw [h1] at hq; cases hq
  have hMq : M.1 q = none := by
    cases hm : M.1 q with
    | none => rfl
    | some v => rw [h3 q v hqb hm] at hq; cases hq
  refine hk q _ (by rw [c1]; rfl) hqb hMq hq ?_ (by rw [c1]; exact gUp_self _ _ _)
  refine ⟨(gUp_ne hqb.symm).trans h1, h2, fun z w hz hw => ?_, h4, ?_⟩
  · exact (gUp_ne (fun hh => by subst hh; rw [hMq] at hw; cases hw)).trans (h3 z w hz hw)
  · cases ar with
    | none => exact h5
    | some p =>
      refine ⟨h5.1, (gUp_ne (fun hh => ?_)).trans h5.2⟩
      subst hh
      rw [h5.2] at hq
      cases hq
/-- the array field -/
theorem OL.pe (h : OL g M M1 b m s e ar) {q n : Nat} {f : Nat → Option Nat} (hqb : q ≠ b) (hMq : M.1 q = none) (hq : M1.1 q = some (.inl (.inl (6, (n, .inr (.inr (.inr (.inr f)))))))) {κ : hM → Prop} (hk : ∀ M2, M2.2 = M1.2 → OL g M M2 b m s q (some (n, f)) → κ M2) : pV M1 (some b) 21 1 (va_rf (some q)) κ := by
  refine pV_at h.1 (by simp) (hk _ rfl ?_)
  obtain ⟨h1, h2, h3, h4, h5⟩ := h
  exact ⟨gUp_self _ _ _, hqb, fun z w hz hw => (gUp_ne hz).trans (h3 z w hz hw), h4, hMq, (gUp_ne hqb).trans hq⟩
/-- the old array's places, into a new one -/
theorem OL.cpn (h : OL g M M1 b m s e ar) {q N k : Nat} (hqe : ∀ p, ar = some p → q ≠ e) (hqb : q ≠ b) (hMq : M.1 q = none) (hq : M1.1 q = some (.inl (.inl (6, (N, .inr (.inr (.inr (.inr (fun _ => none)))))))) ) (hN : N ≤ capZ) (hk1 : k ≤ (ar.map (·.1)).getD 0) (hk2 : k ≤ N)
    (hok : ∀ p, ar = some p → ∀ i, i < p.1 → okR g M (p.2 i)) {κ : hM → Prop} (hk : ∀ (M2 : hM) (f2 : Nat → Option Nat), M2.2 = M1.2 → OL g M M2 b m s e ar → M2.1 q = some (.inl (.inl (6, (N, .inr (.inr (.inr (.inr f2))))))) → (∀ i, f2 i = if i < k then ((ar.map (·.2)).getD (fun _ => none)) i else none) → κ M2) : cQ g M1 (some e) (0 : Int32) (some q) (0 : Int32) (nI k) κ := by
  have hc := capZ_lt
  have c3 : (nI k).toNatClampNeg = k := nI_clamp (by omega)
  have c0 : (0 : Int32).toNatClampNeg = 0 := by decide
  have hOL : ∀ f2, OL g M (gPutA M1 q 6 (N, .inr (.inr (.inr (.inr f2))))) b m s e ar := by
    intro f2
    obtain ⟨h1, h2, h3, h4, h5⟩ := h
    refine ⟨(gUp_ne hqb.symm).trans h1, h2, fun z w hz hw => (gUp_ne (fun hh => by subst hh; rw [hMq] at hw; cases hw)).trans (h3 z w hz hw), h4, ?_⟩
    cases ar with
    | none => exact h5
    | some p => exact ⟨h5.1, (gUp_ne (hqe p rfl).symm).trans h5.2⟩
  refine ⟨by decide, by decide, nI_pos (by omega), gArr_at hq ⟨rfl, by dsimp only; rw [c0, c3]; omega, ?_⟩⟩
  cases ar with
  | none =>
    refine Or.inl ⟨?_, by rw [c0, c3]; have : k ≤ 0 := hk1; omega, hk _ _ rfl (hOL _) (gUp_self _ _ _) fun i => ?_⟩
    · rcases h.2.2.2.2 with he | he
      · exact ⟨256, Or.inl rfl, by rw [he]⟩
      · exact ⟨257, Or.inr rfl, by rw [he]⟩
    · simp [va_cpy]
  | some p =>
    obtain ⟨n, f⟩ := p
    have hkn : k ≤ n := hk1
    refine Or.inr (gArr_at h.2.2.2.2.2 ⟨rfl, by dsimp only; rw [c0, c3]; omega, fun i hi => ?_, hk _ _ rfl (hOL _) (gUp_self _ _ _) fun i => ?_⟩)
    · rw [c3] at hi
      rw [c0, Nat.zero_add]
      exact h.ok (hok _ rfl i (by omega))
    · simp only [va_cpy, c0, c3]
      by_cases hi : i < k
      · simp [hi]
      · simp [hi]
theorem OL.ao (h : OL g M M1 b m s e ar) : isAO g M1 (some e) := by
  cases ar with
  | none =>
    rcases h.2.2.2.2 with he | he
    · exact Or.inl ⟨256, Or.inl rfl, by rw [he]⟩
    · exact Or.inl ⟨257, Or.inr rfl, by rw [he]⟩
  | some p => exact Or.inr ⟨e, _, rfl, h.2.2.2.2.2⟩
/-- Arrays.copyOf on the list's array -/
theorem OL.copyOf {F : Nat} (h : OL g M M1 b m s e ar) {N : Nat} (hr : hasR M1 1 N) (hz : (ar.map (·.1)).getD 0 ≤ capZ) (hok : ∀ p, ar = some p → ∀ i, i < p.1 → okR g M (p.2 i)) {Q : Option Nat → hM → Prop}
    (hk : ∀ (q : Nat) (M2 : hM) (f2 : Nat → Option Nat), M2.2 = (M1.2.1 + 1, M1.2.2 + N) → q ≠ b → M.1 q = none → (∀ p, ar = some p → q ≠ e) → OL g M M2 b m s e ar → M2.1 q = some (.inl (.inl (6, (N, .inr (.inr (.inr (.inr f2))))))) → (∀ i, f2 i = if i < min ((ar.map (·.1)).getD 0) N then ((ar.map (·.2)).getD (fun _ => none)) i else none) → Q (some q) M2) : w_J10_copyOf g F (some e) (nI N) M1 Q := by
  have hc := capZ_lt
  have hNc : N ≤ capZ := by have := hr.2; omega
  refine ⟨h.ao, fun q => absurd rfl q, fun _ => h.anew hr fun q M2 e2 hqb hMq hM1q hO hq => hO.len ?_⟩
  have hkk : (if nI N < nI ((ar.map (·.1)).getD 0) then nI N else nI ((ar.map (·.1)).getD 0)) = nI (min ((ar.map (·.1)).getD 0) N) := by
    by_cases hlt : N < (ar.map (·.1)).getD 0
    · rw [if_pos (nI_lt hlt (by omega))]
      congr 1; omega
    · rw [if_neg (nI_nlt (by omega) (by omega))]
      congr 1; omega
  rw [hkk]
  have hqe : ∀ p, ar = some p → q ≠ e := by
    rintro p rfl hh
    subst hh
    rw [h.2.2.2.2.2] at hM1q
    cases hM1q
  exact hO.cpn hqe hqb hMq hq hNc (Nat.min_le_left _ _) (Nat.min_le_right _ _) hok fun M3 f2 e3 hO3 hq3 hf => hk q M3 f2 (e3.trans e2) hqb hMq hqe hO3 hq3 hf
/-- grow(n), where there is no room for n -/
theorem OL.grow {F : Nat} {c : Nat} (hK : gK g 256 ≠ gK g 257) (h : OL g M M1 b m s e ar) (hcc : (c = 0 ∧ ar = none ∧ e = gK g 256) ∨ (c = 1 ∧ ar = none ∧ e = gK g 257) ∨ ∃ n f, c = n + 2 ∧ ar = some (n, f) ∧ 0 < n ∧ n ≤ capZ) {n' : Nat} (hn : lCap c < n') (hr : hasR M1 1 (lGrow c n')) (hok : ∀ p, ar = some p → ∀ i, i < p.1 → okR g M (p.2 i)) {Q : Option Nat → hM → Prop}
    (hk : ∀ (q : Nat) (M2 : hM) (f2 : Nat → Option Nat), M2.2 = (M1.2.1 + 1, M1.2.2 + lGrow c n') → OL g M M2 b m s q (some (lGrow c n', f2)) → (∀ i, f2 i = if i < lCap c then ((ar.map (·.2)).getD (fun _ => none)) i else none) → Q (some q) M2) : w_J2_grow_2 g F b (nI n') M1 Q := by
  have hc : capZ = 5493754 := rfl
  have hG := hr.2
  unfold w_J2_grow_2
  refine h.ge (h.len ?_)
  rcases hcc with ⟨rfl, rfl, rfl⟩ | ⟨rfl, rfl, rfl⟩ | ⟨n, f, rfl, rfl, hn0, hn2⟩
  · refine ⟨fun q => absurd q (by decide), fun _ => h.ge ⟨fun _ => ?_, fun q => absurd rfl q⟩⟩
    have hg : lGrow 0 n' = max 10 n' := by
      simp only [lGrow]
      split <;> omega
    have hn3 : n' ≤ capZ := by rw [hg] at hG; omega
    have e1 : (if (10 : Int32) < nI n' then nI n' else (10 : Int32)) = nI (lGrow 0 n') := by
      rw [hg]
      exact nI_ite_lt (a := 10) (by omega) (by omega)
    rw [e1]
    exact h.anew hr fun q M2 e2 hqb hMq hM1q hO hq => hO.pe hqb hMq hq fun M3 e3 hO3 => hk q M3 _ (e3.trans e2) hO3 fun i => by simp [lCap]
  · refine ⟨fun q => absurd q (by decide), fun _ => h.ge ⟨fun q => absurd (Option.some.inj q) hK.symm, fun _ => ?_⟩⟩
    unfold w_J2_grow_2_20
    have hg : lGrow 1 n' = n' := rfl
    rw [hg] at hG
    have e0 : (nI ((Option.map (fun x : Nat × (Nat → Option Nat) => x.1) none).getD 0)) = nI 0 := rfl
    rw [e0, nI_shr1 (by omega), nI_sub (Nat.zero_le _)]
    refine newLen (k := 0) (a := n' - 0) (p := 0 / 2) (by omega) (by omega) (h.ge ?_)
    have e1 : 0 + max (n' - 0) (0 / 2) = lGrow 1 n' := by rw [hg]; omega
    rw [e1]
    refine h.copyOf hr (Nat.zero_le _) hok fun q M2 f2 e2 hqb hMq _ hO hq hf => hO.pe hqb hMq hq fun M3 e3 hO3 => hk q M3 f2 (e3.trans e2) hO3 fun i => by rw [hf i]; simp [lCap]
  · have e0 : (nI ((Option.map (fun x : Nat × (Nat → Option Nat) => x.1) (some (n, f))).getD 0)) = nI n := rfl
    rw [e0]
    have hn1 : n < n' := hn
    have main : w_J2_grow_2_20 g F b (nI n') Q (nI n) M1 := by
      unfold w_J2_grow_2_20
      have hg : lGrow (n + 2) n' = n + max (n' - n) (n / 2) := by
        simp only [lGrow]
        split <;> omega
      have hb1 : n + max (n' - n) (n / 2) ≤ capZ := by rw [← hg]; omega
      rw [nI_shr1 (by omega), nI_sub (Nat.le_of_lt hn1)]
      refine newLen (by omega) hb1 (h.ge ?_)
      rw [← hg]
      refine h.copyOf hr hn2 hok fun q M2 f2 e2 hqb hMq _ hO hq hf => hO.pe hqb hMq hq fun M3 e3 hO3 => hk q M3 f2 (e3.trans e2) hO3 fun i => by
        rw [hf i]
        have : min ((Option.map (fun x : Nat × (Nat → Option Nat) => x.1) (some (n, f))).getD 0) (lGrow (n + 2) n') = lCap (n + 2) := by
          show min n _ = n
          rw [hg]; omega
        rw [this]
    exact ⟨fun _ => main, fun q => absurd (show (0 : Int32) < nI n from by rw [← nI_0]; exact nI_lt hn0 (by omega)) q⟩
end OLS
-- ===== from a cell to the open list, and back =====
/-- the open list's array, as the cell tells -/
def arOf (g : gT) (xs : List (Option Nat)) (c e : Nat) (ar : Option (Nat × (Nat → Option Nat))) : Prop :=
  (c = 0 ∧ xs = [] ∧ ar = none ∧ e = gK g 256) ∨ (c = 1 ∧ xs = [] ∧ ar = none ∧ e = gK g 257) ∨ ∃ n f, c = n + 2 ∧ ar = some (n, f) ∧ 0 < n ∧ xs.length ≤ n ∧ n ≤ capZ ∧ ∀ i, i < n → f i = xs.getD i none
theorem open_O {l : Launch} {g : gT} {M : hM} {H : Heap} {b : Nat} {xs : List (Option Nat)} {is : List Int32} {m : Int32} {c : Nat} (hJ : JR l g) (hR : Rel g M.1 H) (hb : M.1 b = some (.inr (21, xs, is, m, c))) : ∃ (M0 : hM) (e : Nat) (ar : Option (Nat × (Nat → Option Nat))), M0.2 = M.2 ∧ Rel g M0.1 H ∧ OL g M M0 b m (nI xs.length) e ar ∧ arOf g xs c e ar := by
  obtain ⟨M0, e, ⟨h1, h2, h3, h4, h5, h6⟩, hR0⟩ := open_L hJ hR hb
  rcases h6 with ⟨a1, a2, a3, -⟩ | ⟨a1, a2, a3, -⟩ | ⟨n, f, a1, a2, a3, a4, a5, a6, a7, a8⟩
  · exact ⟨M0, e, none, h1, hR0, ⟨h2, h3, h4, isC_adt hb, Or.inl a3⟩, Or.inl ⟨a1, a2, rfl, a3⟩⟩
  · exact ⟨M0, e, none, h1, hR0, ⟨h2, h3, h4, isC_adt hb, Or.inr a3⟩, Or.inr (Or.inl ⟨a1, a2, rfl, a3⟩)⟩
  · exact ⟨M0, e, some (n, f), h1, hR0, ⟨h2, h3, h4, isC_adt hb, a6, a7⟩, Or.inr (Or.inr ⟨n, f, a1, rfl, a2, a3, a4, a8⟩)⟩
theorem close_O {l : Launch} {g : gT} {M M1 : hM} {b : Nat} {xs : List (Option Nat)} {is : List Int32} {m : Int32} {c e : Nat} {ar : Option (Nat × (Nat → Option Nat))} (hJ : JR l g) (h : OL g M M1 b m (nI xs.length) e ar) (ha : arOf g xs c e ar) {H : Heap} (hR : Rel g M1.1 H) : Rel g (gUp M.1 b (.inr (21, xs, is, m, c))) H := by
  obtain ⟨h1, h2, h3, h4, h5⟩ := h
  have hM2 : ∀ (S : Nat → Prop), S b → (∀ q v, S q → q ≠ b → M.1 q = some v → False) → ∀ q v, gUp M.1 b (.inr (21, xs, is, m, c)) q = some v → (q = b ∧ v = .inr (21, xs, is, m, c)) ∨ (¬ S q ∧ M1.1 q = some v) := by
    intro S hSb hS q v hv
    by_cases hq : q = b
    · subst hq
      rw [gUp_self] at hv
      cases hv
      exact Or.inl ⟨rfl, rfl⟩
    · rw [gUp_ne hq] at hv
      exact Or.inr ⟨fun hs => hS q v hs hq hv, h3 q v hq hv⟩
  rcases ha with ⟨a1, a2, rfl, a4⟩ | ⟨a1, a2, rfl, a4⟩ | ⟨n, f, a1, rfl, a2, a3, a4, a5⟩
  · refine Rel_close hR (fun q => q = b) rfl (fun q hq => ⟨_, hq ▸ h1⟩) ⟨_, h1⟩ (fun C hC => ?_) (hM2 _ rfl fun q v hs hq _ => hq hs)
    rw [hJ.2]
    exact ⟨e, hC b _ rfl h1, Or.inl ⟨a1, a2, a4⟩⟩
  · refine Rel_close hR (fun q => q = b) rfl (fun q hq => ⟨_, hq ▸ h1⟩) ⟨_, h1⟩ (fun C hC => ?_) (hM2 _ rfl fun q v hs hq _ => hq hs)
    rw [hJ.2]
    exact ⟨e, hC b _ rfl h1, Or.inr (Or.inl ⟨a1, a2, a4⟩)⟩
  · refine Rel_close hR (fun q => q = b ∨ q = e) (Or.inl rfl) (fun q hq => ?_) ⟨_, h1⟩ (fun C hC => ?_) (hM2 _ (Or.inl rfl) fun q v hs hq hv => ?_)
    · rcases hq with rfl | rfl
      · exact ⟨_, h1⟩
      · exact ⟨_, h5.2⟩
    · rw [hJ.2]
      exact ⟨e, hC b _ (Or.inl rfl) h1, Or.inr (Or.inr ⟨n, a1, a2, a3, a4, h2, f, hC e _ (Or.inr rfl) h5.2, a5⟩)⟩
    · rcases hs with rfl | rfl
      · exact hq rfl
      · rw [h5.1] at hv; cases hv
theorem gUp_same {M : gMap} {a : Nat} {c : gCell} (h : M a = some c) : gUp M a c = M := by
  funext q
  by_cases hq : q = a
  · subst hq; rw [gUp_self, h]
  · exact gUp_ne hq
/-- nothing changed -/
theorem up_ro {l : Launch} {g : gT} {M M1 : hM} {b : Nat} {xs : List (Option Nat)} {is : List Int32} {m : Int32} {c e : Nat} {ar : Option (Nat × (Nat → Option Nat))} (hJ : JR l g) (hb : M.1 b = some (.inr (21, xs, is, m, c))) (h : OL g M M1 b m (nI xs.length) e ar) (ha : arOf g xs c e ar) (h2 : M1.2 = M.2) (c1 : M.2.1 ≤ capN) (c2 : M.2.2 ≤ capZ) : upM g M1 M :=
  ⟨by rw [h2]; exact Nat.le_refl _, by rw [h2]; exact Nat.le_refl _, c1, c2, fun H hR => by have := close_O (is := is) hJ h ha hR; rwa [gUp_same hb] at this⟩
/-- the list, changed -/
theorem up_L {l : Launch} {g : gT} {M M1 M' : hM} {b : Nat} {xs : List (Option Nat)} {m : Int32} {c e : Nat} {ar : Option (Nat × (Nat → Option Nat))} (hJ : JR l g) (h : OL g M M1 b m (nI xs.length) e ar) (ha : arOf g xs c e ar) (h2 : M1.2.1 ≤ M'.2.1 ∧ M1.2.2 ≤ M'.2.2) (hM : M'.1 = M.1) (c1 : M'.2.1 ≤ capN) (c2 : M'.2.2 ≤ capZ) : upM g M1 (pL M' b xs m c) :=
  ⟨h2.1, h2.2, c1, c2, fun H hR => by
    show Rel g (gUp M'.1 b _) H
    rw [hM]
    exact close_O hJ h ha hR⟩
