/-! LISTS: members, fifth part: addAll, equals -/
set_option maxRecDepth 100000
section L67
variable {l : Launch} {g : gT}
/-- places of another array, into the open list's -/
theorem OL.cpi {M M1 : hM} {b : Nat} {m s : Int32} {e : Nat} {n k dp : Nat} {f : Nat → Option Nat} (h : OL g M M1 b m s e (some (n, f))) {q : Nat} {f2 : Nat → Option Nat} (hqb : q ≠ b) (hq : M.1 q = some (.inl (.inl (6, (k, .inr (.inr (.inr (.inr f2)))))))) (h2 : dp + k ≤ n) (hn : n ≤ capZ) (hok : ∀ i, i < k → okR g M (f2 i)) {κ : hM → Prop}
    (hk : ∀ M2, M2.2 = M1.2 → OL g M M2 b m s e (some (n, va_cpy f2 f 0 dp k)) → κ M2) : cQ g M1 (some q) (0 : Int32) (some e) (nI dp) (nI k) κ := by
  have hc := capZ_lt
  have c2 : (nI dp).toNatClampNeg = dp := nI_clamp (by omega)
  have c3 : (nI k).toNatClampNeg = k := nI_clamp (by omega)
  have c0 : (0 : Int32).toNatClampNeg = 0 := by decide
  refine ⟨by decide, nI_pos (by omega), nI_pos (by omega), gArr_at h.2.2.2.2.2 ⟨rfl, by dsimp only; rw [c2, c3]; exact h2, Or.inr (gArr_at (h.2.2.1 q _ hqb hq) ⟨rfl, by dsimp only; rw [c0, c3]; omega, fun i hi => ?_, ?_⟩)⟩⟩
  · rw [c3] at hi; rw [c0, Nat.zero_add]; exact h.ok (hok i hi)
  · rw [c0, c2, c3]; exact hk _ rfl h.arr
/-- addAll behind toArray: q: the array that came -/
theorem addTail {F : Nat} {M M1 : hM} {b : Nat} {m : Int32} {xs ys : List (Option Nat)} {c e : Nat} {ar : Option (Nat × (Nat → Option Nat))} {q : Nat} {f2 : Nat → Option Nat} (hK : gK g 256 ≠ gK g 257) (h : OL g M M1 b m (nI xs.length) e ar) (ha : arOf g xs c e ar) (hx : okL g M xs) (hy : okL g M ys) (hqb : q ≠ b) (hq : M.1 q = some (.inl (.inl (6, (ys.length, .inr (.inr (.inr (.inr f2)))))))) (hf2 : ∀ i, f2 i = ys.getD i none) (hyz : ys.length ≤ capZ)
    {κ : Nat → Prop} (hr : (xs.length + ys.length ≤ lCap c ∧ κ c) ∨ (lCap c < xs.length + ys.length ∧ hasR M1 1 (lGrow c (xs.length + ys.length)) ∧ κ (lGrow c (xs.length + ys.length) + 2))) {w56 : Option Nat → Int32 → Option Nat → Int32 → hM → Prop} {Q : Int32 → hM → Prop}
    (h56 : ∀ v2 v3 v4 v5 M9, (cQ g M9 v2 (0 : Int32) v4 v5 v3 fun M1 => pV M1 (some b) 21 2 (.int (v5 + v3)) fun M2 => Q (1 : Int32) M2) → w56 v2 v3 v4 v5 M9)
    (hk : ∀ (x : Int32) (M2 : hM) (e' c' : Nat) (ar' : Option (Nat × (Nat → Option Nat))), x = (if ys.length = 0 then 0 else 1) → κ c' → (xs.length + ys.length ≤ lCap c → M2.2 = M1.2) → (lCap c < xs.length + ys.length → M2.2 = (M1.2.1 + 1, M1.2.2 + lGrow c (xs.length + ys.length))) → OL g M M2 b (m + 1) (nI (xs ++ ys).length) e' ar' → arOf g (xs ++ ys) c' e' ar' → Q x M2) :
    gI M1 (some b) 21 0 fun x4 => pV M1 (some b) 21 0 (.int (x4 + (1 : Int32))) fun M5 => aLenK g M5 (some q) fun x6 => ((¬ x6 = 0 → gF M5 (some b) 21 1 fun x7 => aLenK g M5 x7 fun x8 => gI M5 (some b) 21 2 fun x9 => ((x6 ≤ (x8 - x9) → w56 (some q) x6 x7 x9 M5) ∧ (¬ (x6 ≤ (x8 - x9)) → (isC M5 b 21 ∧ w_J2_grow_2 g F b (x9 + x6) M5 (fun x11 M10 => w56 (some q) x6 x11 x9 M10))))) ∧ (x6 = 0 → Q (0 : Int32) M5)) := by
  have hc := capZ_lt
  have hcz : capZ = 5493754 := rfl
  have hlz := arOf_len ha
  have hle := arOf_le ha
  have hcap := arOf_cap ha
  have hlc : lCap c ≤ capZ := by
    rcases arOf_g ha with ⟨rfl, -⟩ | ⟨rfl, -⟩ | ⟨n, f, rfl, -, -, h⟩
    · exact Nat.zero_le _
    · exact Nat.zero_le _
    · exact h
  refine h.gm (h.pm fun M5 e5 hO => Or.inr (gArr_at (hO.2.2.1 q _ hqb hq) ⟨by decide, ?_⟩))
  show (¬ nI ys.length = 0 → _) ∧ (nI ys.length = 0 → _)
  -- the copy
  have fin : ∀ (M6 : hM) (e' n : Nat) (f : Nat → Option Nat), OL g M M6 b (m + 1) (nI xs.length) e' (some (n, f)) → (∀ i, i < n → f i = xs.getD i none) → xs.length + ys.length ≤ n → n ≤ capZ → κ (n + 2) → ¬ ys.length = 0 → (xs.length + ys.length ≤ lCap c → M6.2 = M1.2) → (lCap c < xs.length + ys.length → M6.2 = (M1.2.1 + 1, M1.2.2 + lGrow c (xs.length + ys.length))) → w56 (some q) (nI ys.length) (some e') (nI xs.length) M6 := by
    intro M6 e' n f hO6 hf hn hnz hkk hy0 r1 r2
    refine h56 _ _ _ _ _ (hO6.cpi hqb hq hn hnz (fun i hi => ?_) fun M7 e7 hO7 => ?_)
    · rw [hf2, List.getD_eq_getElem?_getD, List.getElem?_eq_getElem hi]
      exact hy _ (List.getElem_mem hi)
    · rw [nI_add]
      refine hO7.ps fun M8 e8 hO8 => hk 1 M8 e' (n + 2) (some (n, va_cpy f2 f 0 xs.length ys.length)) (by rw [if_neg hy0]) hkk (fun h9 => e8.trans (e7.trans (r1 h9))) (fun h9 => e8.trans (e7.trans (r2 h9))) (by rw [List.length_append]; exact hO8) (Or.inr (Or.inr ⟨n, _, rfl, rfl, by omega, by rw [List.length_append]; exact hn, hnz, fun j hj => ?_⟩))
      rw [getD_app_le]
      simp only [va_cpy]
      by_cases h1 : j < xs.length
      · rw [if_neg (by omega), if_pos h1, hf j hj]
      · rw [if_neg h1]
        by_cases h2 : j < xs.length + ys.length
        · rw [if_pos ⟨by omega, h2⟩, hf2, Nat.zero_add]
        · rw [if_neg (by omega), hf j hj, getD_big _ _ _ (by omega), getD_big _ _ _ (by omega)]
  refine ⟨fun hy0' => ?_, fun hy0' => ?_⟩
  · have hy0 : ¬ ys.length = 0 := fun h => hy0' (by rw [h]; rfl)
    refine hO.ge (hO.len (hO.gs ?_))
    rw [hcap, nI_sub hle]
    refine ⟨fun q1 => ?_, fun q1 => ⟨hO.cls, ?_⟩⟩
    · have h1 : ys.length ≤ lCap c - xs.length := (nI_leI (by omega) (by omega)).mp q1
      obtain ⟨n, f, rfl, rfl, h3, h4, h5, h6⟩ : ∃ n f, c = n + 2 ∧ ar = some (n, f) ∧ 0 < n ∧ xs.length ≤ n ∧ n ≤ capZ ∧ ∀ i, i < n → f i = xs.getD i none := by
        rcases ha with ⟨rfl, -⟩ | ⟨rfl, -⟩ | h
        · have : lCap 0 = 0 := rfl
          omega
        · have : lCap 1 = 0 := rfl
          omega
        · exact h
      have hn : xs.length + ys.length ≤ lCap (n + 2) := by omega
      rcases hr with ⟨-, hkk⟩ | ⟨h9, -⟩
      · exact fin M5 e n f hO h6 hn h5 hkk hy0 (fun _ => e5) (fun h9 => absurd h9 (by omega))
      · omega
    · have h1 : lCap c < xs.length + ys.length := Nat.not_le.mp fun h9 => q1 ((nI_leI (by omega) (by omega)).mpr (by omega))
      rcases hr with ⟨h9, -⟩ | ⟨-, hrr, hkk⟩
      · omega
      · show w_J2_grow_2 g F b (nI xs.length + nI ys.length) M5 _
        rw [nI_add]
        refine hO.grow hK (arOf_g ha) h1 (by unfold hasR; rw [e5]; exact hrr) (arOf_ok ha hx) fun q9 M6 f9 e6 hO6 hf9 => ?_
        have hge : xs.length + ys.length ≤ lGrow c (xs.length + ys.length) := by
          rcases arOf_g ha with ⟨rfl, -⟩ | ⟨rfl, -⟩ | ⟨n, f, rfl, -⟩
          · simp only [lGrow]; split <;> omega
          · exact Nat.le_refl _
          · simp only [lGrow]
            split <;> omega
        exact fin M6 q9 _ f9 hO6 (fun i _ => arOf_f2 (N := 0) ha hf9 i) hge (by have := hrr.2; omega) hkk hy0 (fun h9 => absurd h9 (by omega)) (fun _ => by rw [e6, e5])
  · have hy0 := nI_eq0 (by omega) hy0'
    have hye : ys = [] := List.length_eq_zero_iff.mp hy0
    subst hye
    have hn : xs.length + ([] : List (Option Nat)).length ≤ lCap c := by simpa using hle
    rcases hr with ⟨-, hkk⟩ | ⟨h9, -⟩
    · exact hk 0 M5 e c ar rfl hkk (fun _ => e5) (fun h9 => absurd h9 (by omega)) (by rw [List.append_nil]; exact hO) (by rw [List.append_nil]; exact ha)
    · omega
end L67
