/-! GRIDS: int[][] -/
set_option maxRecDepth 100000
def aG (M : hM) (r : Option Nat) (i : Int32) (κ : Option Nat → Prop) : Prop := gArr M r fun _ t' x => t' = 7 ∧ vp_in i x.1 ∧ match x.2 with
  | .inr (.inr (.inr (.inr f))) => κ (f i.toNatClampNeg)
  | _ => False
def gGrid (M : hM) (q n k : Nat) : hM := (fun z => if z = q then some (.inl (.inl (7, n, .inr (.inr (.inr (.inr (fun j => some (q + 1 + j)))))))) else if q < z ∧ z ≤ q + n then some (.inl (.inl (0, k, .inl (fun _ => 0)))) else M.1 z, M.2.1 + (1 + n), M.2.2 + (n + n * k))
def nG (M : hM) (n k : Int32) (κ : Nat → hM → Prop) : Prop := ¬ n < 0 ∧ ¬ k < 0 ∧ M.2.1 + (1 + n.toNatClampNeg) ≤ capN ∧ M.2.2 + (n.toNatClampNeg + n.toNatClampNeg * k.toNatClampNeg) ≤ capZ ∧ k.toNatClampNeg ≤ 1000000 ∧ ∀ q, (∀ j, j ≤ n.toNatClampNeg → M.1 (q + j) = none) → κ q (gGrid M q n.toNatClampNeg k.toNatClampNeg)
theorem outer_mk (cA : ClassId) (N h0 : Nat) : ∀ i, Jvm.Free.Multi.outerC cA N h0 i = { cls := cA, slots := (Jvm.Free.Multi.outerC cA N h0 i).slots, vm := .none }
  | 0 => rfl
  | i + 1 => by
    show (Jvm.Free.Multi.outerC cA N h0 i).setSlot i (.ref (h0 + 1 + i)) = { cls := cA, slots := ((Jvm.Free.Multi.outerC cA N h0 i).setSlot i (.ref (h0 + 1 + i))).slots, vm := .none }
    rw [outer_mk cA N h0 i]
    rfl
theorem outer_arrV (cA : ClassId) (N h0 : Nat) : Jvm.Free.Multi.outerC cA N h0 N = arrV cA N (fun j => va_rf (some (h0 + 1 + j))) := by
  obtain ⟨o1, o2, o3⟩ := Jvm.Free.Multi.outerC_facts cA N h0 N
  have hs : (Jvm.Free.Multi.outerC cA N h0 N).slots = (arrV cA N (fun j => va_rf (some (h0 + 1 + j)))).slots := by
    refine Array.ext_getElem? fun j => ?_
    by_cases hj : j < N
    · rw [Jvm.Free.Multi.outerC_slot cA N h0 N j hj, if_pos hj, arrV_read _ _ hj]
      rfl
    · rw [Array.getElem?_eq_none (by rw [o3]; omega), Array.getElem?_eq_none (by rw [arrV_size]; omega)]
  rw [outer_mk cA N h0 N, hs]
  rfl
theorem gRel_grid {g : gT} {M : gMap} {H H' : Heap} {n k : Nat} (h : Rel g M H) (hz : gZ g ≤ H.size) (hsz : H'.size = H.size + 1 + n) (hold : ∀ a : Nat, a < H.size → H'[a]? = H[a]?)
    (h0 : H'[H.size]? = some (arrV (gC g 7) n (fun j => va_rf (some (H.size + 1 + j))))) (h1 : ∀ j : Nat, j < n → H'[H.size + 1 + j]? = some (arrV (gC g 0) k (fun _ => .int 0))) :
    (∀ j, j ≤ n → M (H.size + j) = none) ∧ Rel g (gGrid (M, 0, 0) H.size n k).1 H' := by
  obtain ⟨C, own, ws, ⟨hP, hD, hw⟩, hM⟩ := h
  have hlt : ∀ a e, C a = some e → a < H.size := fun a e he => by
    obtain ⟨j, hj⟩ := List.getElem?_of_mem (hw a e he)
    exact (hP j _ hj).lt
  have hCn : ∀ a, H.size ≤ a → C a = none := fun a ha => by
    cases hc : C a with
    | none => rfl
    | some e => exact absurd (hlt a e hc) (by omega)
  have hMn : ∀ a, H.size ≤ a → M a = none := fun a ha => by
    cases hc : M a with
    | none => rfl
    | some c =>
      obtain ⟨e, he⟩ := gCR_some (hM a c hc).2
      rw [hCn a ha] at he
      cases he
  refine ⟨fun j _ => hMn _ (by omega), ?_⟩
  let eo : va_E := .inl (gC g 7, n, .inr (.inr (.inr (.inr (fun j => some (H.size + 1 + j))))))
  let ei : va_E := .inl (gC g 0, k, .inl (fun _ => 0))
  let L : va_W := (H.size, eo) :: (List.range n).map (fun j => (H.size + 1 + j, ei))
  have hL : ∀ q ∈ L, H.size ≤ q.1 ∧ va_at (gD g) vwAll q H' := by
    intro q hq
    rcases List.mem_cons.mp hq with rfl | hq
    · exact ⟨Nat.le_refl _, h0⟩
    · obtain ⟨j, hj, rfl⟩ := List.mem_map.mp hq
      exact ⟨by dsimp only; omega, h1 j (List.mem_range.mp hj)⟩
  have hLn : ∀ (i : Nat) (q : Nat × va_E), L[i]? = some q → q.1 = H.size + i := by
    intro i q hq
    cases i with
    | zero => cases hq; rfl
    | succ i =>
      have h9 : ((List.range n).map (fun j => (H.size + 1 + j, ei)))[i]? = some q := hq
      rw [List.getElem?_map] at h9
      cases hr : (List.range n)[i]? with
      | none => rw [hr] at h9; cases h9
      | some j =>
        rw [hr] at h9
        cases h9
        have := List.getElem?_eq_some_iff.mp hr
        obtain ⟨hi, he⟩ := this
        rw [List.getElem_range] at he
        show H.size + 1 + j = _
        omega
  refine ⟨fun z => if z = H.size then some eo else if H.size < z ∧ z ≤ H.size + n then some ei else C z, fun z => if H.size ≤ z then z else own z, ws ++ L, ⟨(hP.kept fun i q hq => hold q.1 (hP i q hq).lt).app (fun i q hq => (hL q (List.mem_of_getElem? hq)).2), ?_, ?_⟩, ?_⟩
  · refine va_D.app hD ⟨fun i j p q hp hq hpq => ?_, fun i q hq => Nat.le_trans hz (hL q (List.mem_of_getElem? hq)).1⟩ (fun i j p q hp hq hpq => ?_)
    · have e1 := hLn i p hp
      have e2 := hLn j q hq
      omega
    · have e1 := (hP i p hp).lt
      have e2 := (hL q (List.mem_of_getElem? hq)).1
      omega
  · intro a e he
    by_cases ha : a = H.size
    · subst ha
      simp only [if_true] at he
      cases he
      exact List.mem_append_right _ List.mem_cons_self
    · simp only [if_neg ha] at he
      by_cases hb : H.size < a ∧ a ≤ H.size + n
      · simp only [if_pos hb] at he
        cases he
        refine List.mem_append_right _ (List.mem_cons_of_mem _ (List.mem_map.mpr ⟨a - (H.size + 1), List.mem_range.mpr (by omega), ?_⟩))
        congr 1
        omega
      · simp only [if_neg hb] at he
        exact List.mem_append_left _ (hw a e he)
  · intro a c hc
    by_cases ha : a = H.size
    · subst ha
      simp only [gGrid, if_true] at hc
      cases hc
      exact ⟨if_pos (Nat.le_refl _), if_pos rfl⟩
    · simp only [gGrid, if_neg ha] at hc
      by_cases hb : H.size < a ∧ a ≤ H.size + n
      · simp only [if_pos hb] at hc
        cases hc
        exact ⟨if_pos (by omega), (if_neg ha).trans (if_pos hb)⟩
      · simp only [if_neg hb] at hc
        obtain ⟨e1, e2⟩ := hM a c hc
        obtain ⟨e, he⟩ := gCR_some e2
        have hal := hlt a e he
        refine ⟨(if_neg (by omega)).trans e1, ?_⟩
        have hCa : (fun z => if z = H.size then some eo else if H.size < z ∧ z ≤ H.size + n then some ei else C z) a = C a := (if_neg ha).trans (if_neg hb)
        cases c with
        | inl x => exact hCa.trans e2
        | inr t =>
          refine ⟨e2.1.imp fun fs h => hCa.trans h, ?_⟩
          have : gRest (fun z => if z = H.size then some eo else if H.size < z ∧ z ≤ H.size + n then some ei else C z) (fun z => if H.size ≤ z then z else own z) a = gRest C own a := by
            funext z
            simp only [gRest]
            by_cases hz2 : H.size ≤ z
            · rw [if_pos hz2, if_neg (by omega), hCn z hz2]
              split <;> rfl
            · have e9 : (if z = H.size then some eo else if H.size < z ∧ z ≤ H.size + n then some ei else C z) = C z := by rw [if_neg (by omega), if_neg (by omega)]
              rw [if_neg hz2, e9]
          rw [this]
          exact e2.2
section GG
variable {k : kT} {nL : Nat} {cc : ByteArray} {own : String} {ret : Option FieldType} {fr lc : Nat} {M : hM} {pc : Nat} {lv : List (Option Value)} {st : List Value}
theorem G_aaldG {r : Option Nat} {i : Int32} {κ : Option Nat → Prop} (hC : CX k nL cc own ret fr lc) (d : decode cc pc = .ok (.aaload, 1)) (hw : aG M r i κ) (kk : ∀ x, κ x → GW k nL M (pc + 1) lv (va_rf x :: st)) : GW k nL M pc lv (.int i :: va_rf r :: st) := fun H locs ls cells slots a1 a2 a3 a4 a5 a6 a7 => by
  obtain ⟨a, t, x, rfl, hm, rfl, hin, hk⟩ := gArr_e hw
  obtain ⟨ws, q0, hP, hD, hq, -⟩ := gRel_get a1 hm
  obtain ⟨n, f⟩ := x
  have hlt : i.toNatClampNeg < n := Nat.not_le.mp fun q => hin (Or.inr q)
  rcases f with f | f | f | f | f
  · exact hk.elim
  · exact hk.elim
  · exact hk.elim
  · exact hk.elim
  · exact W.aald (v := va_rf (f i.toNatClampNeg)) (ty := .array .int) hC.ex hC.by (hP q0 _ hq) ((hC.K.2 7 _ rfl).1 n (fun j => va_rf (f j))) rfl (fun q => by cases q) (by show ¬ (i < 0 ∨ (arrV _ _ _).slots.size ≤ _); rw [arrV_size]; exact hin) (by show (arrV _ _ _).slots[_]? = _; rw [arrV_read _ _ hlt]) rfl rfl d (kk _ hk H locs ls cells slots a1 a2 a3 a4 a5 a6 a7)
theorem G_multi {n m : Int32} {index : Nat} {κ : Nat → hM → Prop} (hO : gO1 (kl k) (kg k)) (hC : CX k nL cc own ret fr lc) (hcl : Cond.classLink own index "[[I" ∈ lw_all) (harr : Cond.arrayClass .int ∈ lw_all) (d : decode cc pc = .ok (.multianewarray index 2, 4)) (hw : nG M n m κ) (kk : ∀ q M', κ q M' → GW k nL M' (pc + 4) lv (va_rf (some q) :: st)) : GW k nL M pc lv (.int m :: .int n :: st) := fun H locs ls cells slots a1 a2 a3 a4 a5 a6 a7 => by
  obtain ⟨w0, w1, w2, w3, w4, w5⟩ := hw
  have hrc := hC.rc
  have hrs := hC.rs
  have hcap : capZ = 5493754 := rfl
  intro T hT X
  obtain ⟨vm₁, cA, comp, hW1, hfA, hfC, -, -, X1, step⟩ := X.multianewarray2F hC.ex (ty := .int) hC.ow (hC.ts _ hcl) (hO.2.2.2.2.2.1 _ _ (hC.bs.2.2.2.2 3)) (hC.ts _ harr)
    (g := F0 (km k) pc ls (.int m :: .int n :: st)) rfl (by rw [hC.by]; exact d) (n := n) (k := m) (rest := st) rfl w0 w1 (by omega) (by show m.toNatClampNeg * 4 ≤ _; omega) (by omega) rfl rfl (by omega) (by omega)
  have eA : cA = gC (kg k) 7 := Option.some.inj (hfA.symm.trans (hC.K.2 7 (gC (kg k) 7, .array .int) rfl).2)
  have eC : comp = gC (kg k) 0 := Option.some.inj (hfC.symm.trans (hC.K.2 0 (gC (kg k) 0, .int) rfl).2)
  subst eA eC
  obtain ⟨f1, f2, f3, f4⟩ := Jvm.Free.Multi.fill_facts (T.setVm vm₁) (gC (kg k) 7) (gC (kg k) 0) n.toNatClampNeg m.toNatClampNeg (defaultValue .int) n.toNatClampNeg
  have hTh : (T.setVm vm₁).heap = H := hT
  have hold : ∀ a : Nat, a < H.size → (Jvm.Free.Multi.fill (T.setVm vm₁) (gC (kg k) 7) (gC (kg k) 0) n.toNatClampNeg m.toNatClampNeg (defaultValue .int) n.toNatClampNeg).heap[a]? = H[a]? := fun a ha => by
    rw [Jvm.Free.Multi.fill_old (T.setVm vm₁) _ _ _ _ _ (by rw [hTh]; exact ha), hTh]
  have hin : ∀ j : Nat, j < n.toNatClampNeg → (Jvm.Free.Multi.fill (T.setVm vm₁) (gC (kg k) 7) (gC (kg k) 0) n.toNatClampNeg m.toNatClampNeg (defaultValue .int) n.toNatClampNeg).heap[H.size + 1 + j]? = some (arrV (gC (kg k) 0) m.toNatClampNeg (fun _ => .int 0)) := fun j hj => by
    have h9 := Jvm.Free.Multi.fill_inner (T.setVm vm₁) (gC (kg k) 7) (gC (kg k) 0) n.toNatClampNeg m.toNatClampNeg (defaultValue .int) n.toNatClampNeg j hj
    rw [hTh] at h9
    rw [h9, ← arrV_new]
    rfl
  rw [hTh] at f1 f2
  rw [outer_arrV] at f2
  generalize hF : Jvm.Free.Multi.fill (T.setVm vm₁) (gC (kg k) 7) (gC (kg k) 0) n.toNatClampNeg m.toNatClampNeg (defaultValue .int) n.toNatClampNeg = T1 at X1 step f1 f2 hold hin
  obtain ⟨hq, hR⟩ := gRel_grid a1 (Nat.le_trans hC.bs.2.2.2.1 a2.1) f1 hold f2 hin
  obtain ⟨t, b1, b2⟩ := kk H.size _ (w5 H.size hq) T1.heap locs ls _ _ hR ⟨Nat.le_trans a2.1 (by rw [f1]; omega), fun q h1 h2 => (hold q (Nat.lt_of_lt_of_le h1 a2.1)).trans (a2.2.1 q h1 h2), a2.2.2⟩ a3 (by show _ = M.2.1 + (1 + _); omega) (by show _ = M.2.2 + (_ + _); omega) w2 w3 T1 rfl X1
  rw [hT] at step
  exact ⟨t, step t b1, b2⟩
end GG
