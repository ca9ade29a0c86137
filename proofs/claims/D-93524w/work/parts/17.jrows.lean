/-! ROWS for the library's own members, at raw level -/
set_option maxRecDepth 100000
-- ===== constants of the start =====
/-- private methods of AbstractStringBuilder that are called on builders -/
def pvM : List MethodName := [⟨"java/lang/AbstractStringBuilder", "ensureCapacityInternal", "(I)V"⟩, ⟨"java/lang/AbstractStringBuilder", "newCapacity", "(I)I"⟩, ⟨"java/lang/AbstractStringBuilder", "inflate", "()V"⟩]
def stK (g : gT) (U : State) (H : Heap) : Prop :=
  va_Z "java/util/ArrayList" "DEFAULTCAPACITY_EMPTY_ELEMENTDATA" "[Ljava/lang/Object;" (.ref (gK g 256)) (gA g) U H ∧
  va_Z "java/util/ArrayList" "EMPTY_ELEMENTDATA" "[Ljava/lang/Object;" (.ref (gK g 257)) (gA g) U H ∧
  (∀ j, j = 256 ∨ j = 257 → ∃ f, va_T (.object "java/lang/Object") (gK g j) 0 f (gA g) U H) ∧
  va_Z "java/lang/Integer$IntegerCache" "high" "I" (.int 127) (gA g) U H ∧
  va_Z "java/lang/Integer$IntegerCache" "cache" "[Ljava/lang/Integer;" (.ref (gK g 258)) (gA g) U H ∧
  va_T (.object "java/lang/Integer") (gK g 258) 256 (fun k => .ref (gK g k)) (gA g) U H ∧
  va_Z "java/lang/String" "COMPACT_STRINGS" "Z" (.int 1) (gA g) U H ∧
  va_Z "java/lang/StringUTF16" "$assertionsDisabled" "Z" (.int 1) (gA g) U H ∧
  va_Z "java/lang/StringUTF16" "HI_BYTE_SHIFT" "I" (.int 0) (gA g) U H ∧
  va_Z "java/lang/StringUTF16" "LO_BYTE_SHIFT" "I" (.int 8) (gA g) U H ∧
  va_Zq "jdk/internal/util/Preconditions" "SIOOBE_FORMATTER" "Ljava/util/function/BiFunction;" (gA g) U H ∧
  (∀ j, j = 256 ∨ j = 257 → va_O "[Ljava/lang/Object;" (gK g j) (gA g) U H) ∧
  va_Mi "[Ljava/lang/Object;" (gK g 260) U ∧ va_Mi "java/util/ArrayList" (gK g 261) U ∧ ∀ y ∈ pvM, va_Nw (.privateMethod y) U
def gO2 (g : gT) : Prop := (∀ U H, gS g 5 U H → stK g U H) ∧ gK g 256 ≠ gK g 257 ∧ (∀ j, j = 256 ∨ j = 257 → gK g j < gZ g)
/-- what the walk of the library's members stands on -/
def JK (l : Launch) (g : gT) : Prop := gO1 l g ∧ gOK g ∧ gO2 g
section G17
variable {k : kT} {nL : Nat} {cc : ByteArray} {own : String} {ret : Option FieldType} {fr lc : Nat} {M : hM} {pc : Nat} {lv : List (Option Value)} {st : List Value}
theorem CX.sK (hJ : JK (kl k) (kg k)) (hC : CX k nL cc own ret fr lc) : stK (kg k) (ks k) (ks k).heap := hJ.2.2.1 _ _ (hC.bs.2.2.2.2 5)
theorem G_gets {C n d ref : String} {v : Value} {index : Nat} (hC : CX k nL cc own ret fr lc) (hZ : va_Z C n d v (gA (kg k)) (ks k) (ks k).heap) (hlink : Cond.fieldLink own index ref n d ∈ lw_all) (hsame : ∀ x, (ks k).fieldFound? C n d = some x → (ks k).fieldFound? ref n d = some x) (d0 : decode cc pc = .ok (.getstatic index, 3)) (kk : GW k nL M (pc + 3) lv (v :: st)) : GW k nL M pc lv st := fun H locs ls cells slots a1 a2 a3 a4 a5 a6 a7 =>
  va_gets hC.ex hC.by hZ a2 hC.ow (hC.ts _ hlink) hsame d0 (kk H locs ls cells slots a1 a2 a3 a4 a5 a6 a7)
theorem G_getsQ {C n d ref : String} {index : Nat} (hC : CX k nL cc own ret fr lc) (hZ : va_Zq C n d (gA (kg k)) (ks k) (ks k).heap) (hlink : Cond.fieldLink own index ref n d ∈ lw_all) (hsame : ∀ x, (ks k).fieldFound? C n d = some x → (ks k).fieldFound? ref n d = some x) (d0 : decode cc pc = .ok (.getstatic index, 3)) (kk : ∀ r : Option Nat, GW k nL M (pc + 3) lv (va_rf r :: st)) : GW k nL M pc lv st := by
  rcases hZ with h | ⟨t, h⟩
  · exact G_gets hC h hlink hsame d0 (kk none)
  · exact G_gets hC h hlink hsame d0 (kk (some t))
-- ===== arrays of references =====
/-- the length of an array, or of one of the two empty ones of the start -/
def aLenK (g : gT) (M : hM) (r : Option Nat) (κ : Int32 → Prop) : Prop := ((∃ j, (j = 256 ∨ j = 257) ∧ r = some (gK g j)) ∧ κ 0) ∨ aLen M r κ
theorem G_alenK {r : Option Nat} {κ : Int32 → Prop} (hJ : JK (kl k) (kg k)) (hC : CX k nL cc own ret fr lc) (d : decode cc pc = .ok (.arraylength, 1)) (hw : aLenK (kg k) M r κ) (kk : ∀ x, κ x → GW k nL M (pc + 1) lv (.int x :: st)) : GW k nL M pc lv (va_rf r :: st) := by
  rcases hw with ⟨⟨j, hj, rfl⟩, hk⟩ | hw
  · intro H locs ls cells slots a1 a2 a3 a4 a5 a6 a7
    obtain ⟨f, cell, h1, h2, h3, h4, h5, h6, h7⟩ := (hC.sK hJ).2.2.1 j hj
    exact W.alen (n := 0) hC.ex hC.by (by rw [a2.2.1 _ (Array.getElem?_eq_some_iff.mp h1).1 h7]; exact h1) h2 (by rw [h5]; rfl) rfl rfl d (kk 0 hk H locs ls cells slots a1 a2 a3 a4 a5 a6 a7)
  · exact G_alen hC d hw kk
theorem G_anewO {n : Int32} {index : Nat} {κ : Nat → hM → Prop} (hC : CX k nL cc own ret fr lc) (hcl : Cond.classLink own index "java/lang/Object" ∈ lw_all) (d : decode cc pc = .ok (.anewarray index, 3)) (hw : nA M 6 n (.inr (.inr (.inr (.inr (fun _ => none))))) κ) (kk : ∀ q M', κ q M' → GW k nL M' (pc + 3) lv (va_rf (some q) :: st)) : GW k nL M pc lv (.int n :: st) := fun H locs ls cells slots a1 a2 a3 a4 a5 a6 a7 => by
  obtain ⟨w0, w1, w2, w3⟩ := hw
  obtain ⟨ws, hP, hD, hnew⟩ := gRel_new a1
  have hrc := hC.rc
  have hrs := hC.rs
  have hcap : capZ = 5493754 := rfl
  refine va_newq (C := "java/lang/Object") hC.ex hC.by hC.ow (hC.ts _ hcl) hC.bs.2.2.1 hC.K hP hD a2 hC.new w0 rfl (by omega) (by omega) (by omega) d (fun q cA H1 hK1 hP1 hD1 hS1 => ?_)
  have e1 : cA = gC (kg k) 6 := by
    have h1 := (hK1.2 8 (cA, .object "java/lang/Object") rfl).2
    have h2 := (hC.K.2 6 (gC (kg k) 6, .object "java/lang/Object") rfl).2
    obtain ⟨kA, comp, k1, k2, k3, k4⟩ := h1
    obtain ⟨kA', comp', k1', k2', k3', k4'⟩ := h2
    exact Option.some.inj (k4.symm.trans k4')
  subst e1
  obtain ⟨hq, hR⟩ := hnew q (.inl (6, n.toNatClampNeg, .inr (.inr (.inr (.inr (fun _ => none)))))) H1 hP1 hD1
  exact kk q _ (w3 q hq) H1 locs ls _ _ hR hS1 a3 (by show _ = M.2.1 + 1; omega) (by show _ = M.2.2 + n.toNatClampNeg; omega) w1 w2
end G17

-- ===== several cells at once =====
theorem gRel_all {g : gT} {M : gMap} {H : Heap} (h : Rel g M H) : ∃ ws : va_W, va_P (gD g) vwAll ws H ∧ va_D (gA g) ws ∧
    (∀ (a : Nat) (x : gRaw), M a = some (.inl x) → ∃ q0 : Nat, ws[q0]? = some (a, toE g x) ∧ ∀ (x' : gRaw) (H' : Heap), va_P (gD g) vwAll (ws.set q0 (a, toE g x')) H' → va_D (gA g) (ws.set q0 (a, toE g x')) → Rel g (gUp M a (.inl x')) H') ∧
    (∀ (q : Nat) (x : gRaw) (H' : Heap), va_P (gD g) vwAll (ws ++ [(q, toE g x)]) H' → va_D (gA g) (ws ++ [(q, toE g x)]) → M q = none ∧ Rel g (gUp M q (.inl x)) H') := by
  obtain ⟨C, own, ws, ⟨hP, hD, hw⟩, hM⟩ := h
  refine ⟨ws, hP, hD, fun a x ha => ?_, fun q x H' hP' hD' => ?_⟩
  · obtain ⟨ho, hc⟩ := hM a _ ha
    have hc' : C a = some (toE g x) := hc
    obtain ⟨q0, hq⟩ := List.getElem?_of_mem (hw a _ hc')
    have hl := (List.getElem?_eq_some_iff.mp hq).1
    refine ⟨q0, hq, fun x' H' hP' hD' => ⟨fun z => if z = a then some (toE g x') else C z, own, ws.set q0 (a, toE g x'), ⟨hP', hD', fun b e hb => ?_⟩, fun b c hb => ?_⟩⟩
    · by_cases hba : b = a
      · subst hba
        simp only [if_true] at hb
        cases hb
        exact List.mem_of_getElem? (List.getElem?_set_self hl)
      · simp only [if_neg hba] at hb
        obtain ⟨j, hj⟩ := List.getElem?_of_mem (hw b e hb)
        have hjq : q0 ≠ j := fun hh => by subst hh; rw [hq] at hj; cases hj; exact hba rfl
        exact List.mem_of_getElem? (by rw [List.getElem?_set_ne hjq]; exact hj)
    · by_cases hba : b = a
      · subst hba
        rw [gUp_self] at hb
        cases hb
        exact ⟨ho, if_pos rfl⟩
      · rw [gUp_ne hba] at hb
        obtain ⟨h1, h2⟩ := hM b c hb
        refine ⟨h1, ?_⟩
        cases c with
        | inl y => exact (if_neg hba).trans h2
        | inr t =>
          refine ⟨h2.1.imp fun e he => (if_neg hba).trans he, ?_⟩
          rw [gRest_eq (C := C) (own := own) (q := a) (fun z hz => ⟨if_neg hz, rfl⟩) (by rw [ho]; exact fun hh => hba hh.symm) (fun hh => absurd (ho.symm.trans hh).symm hba)]
          exact h2.2
  · have hCq : C q = none := by
      cases hc : C q with
      | none => rfl
      | some e =>
        exfalso
        obtain ⟨j, hj⟩ := List.getElem?_of_mem (hw q e hc)
        have hl := (List.getElem?_eq_some_iff.mp hj).1
        have h1 : (ws ++ [(q, toE g x)])[j]? = some (q, e) := by rw [List.getElem?_append_left hl]; exact hj
        have h2 : (ws ++ [(q, toE g x)])[ws.length]? = some (q, toE g x) := by simp
        have := hD'.1 _ _ _ _ h1 h2 rfl
        omega
    have hMq : M q = none := by
      cases hc : M q with
      | none => rfl
      | some c =>
        obtain ⟨e, he⟩ := gCR_some (hM q c hc).2
        rw [hCq] at he
        cases he
    refine ⟨hMq, fun z => if z = q then some (toE g x) else C z, fun z => if z = q then q else own z, ws ++ [(q, toE g x)], ⟨hP', hD', fun b e hb => ?_⟩, fun b c hb => ?_⟩
    · by_cases hbq : b = q
      · subst hbq
        simp only [if_true] at hb
        cases hb
        simp
      · simp only [if_neg hbq] at hb
        exact List.mem_append_left _ (hw b e hb)
    · by_cases hbq : b = q
      · subst hbq
        rw [gUp_self] at hb
        cases hb
        exact ⟨if_pos rfl, if_pos rfl⟩
      · rw [gUp_ne hbq] at hb
        obtain ⟨h1, h2⟩ := hM b c hb
        refine ⟨(if_neg hbq).trans h1, ?_⟩
        cases c with
        | inl y => exact (if_neg hbq).trans h2
        | inr t =>
          refine ⟨h2.1.imp fun e he => (if_neg hbq).trans he, ?_⟩
          rw [gRest_eq (C := C) (own := own) (q := q) (fun z hz => ⟨if_neg hz, if_neg hz⟩) (by rw [if_pos rfl]; exact fun hh => hbq hh.symm) (fun _ => hCq)]
          exact h2.2
theorem castO : ∀ q ∈ vwAll, Cond.castable q.1 "java/lang/Object" ∈ nwAll := List.forall_mem_cons.mpr ⟨nw_in q3904 rfl, List.forall_mem_cons.mpr ⟨nw_in q3906 rfl, List.forall_mem_cons.mpr ⟨nw_in q3909 rfl, List.forall_mem_cons.mpr ⟨nw_in q3914 rfl, List.forall_mem_cons.mpr ⟨nw_in q3919 rfl, List.forall_mem_cons.mpr ⟨nw_in q3920 rfl, List.forall_mem_cons.mpr ⟨nw_in q3921 rfl, List.forall_mem_cons.mpr ⟨nw_in q3922 rfl, List.forall_mem_cons.mpr ⟨nw_in q3928 rfl, List.forall_mem_cons.mpr ⟨nw_in q3932 rfl, List.forall_mem_cons.mpr ⟨nw_in q3933 rfl, List.forall_mem_cons.mpr ⟨nw_in q3934 rfl, List.forall_mem_cons.mpr ⟨nw_in q3936 rfl, List.forall_mem_cons.mpr ⟨nw_in q3941 rfl, List.forall_mem_cons.mpr ⟨nw_in q3942 rfl, List.forall_mem_cons.mpr ⟨nw_in q3943 rfl, List.forall_mem_cons.mpr ⟨nw_in q3944 rfl, List.forall_mem_cons.mpr ⟨nw_in q3945 rfl, List.forall_mem_cons.mpr ⟨nw_in q3946 rfl, List.forall_mem_cons.mpr ⟨nw_in q3947 rfl, List.forall_mem_cons.mpr ⟨nw_in q3948 rfl, List.forall_mem_cons.mpr ⟨nw_in q3905 rfl, List.forall_mem_cons.mpr ⟨nw_in q3907 rfl, List.forall_mem_cons.mpr ⟨nw_in q3908 rfl, List.forall_mem_cons.mpr ⟨nw_in q3912 rfl, List.forall_mem_cons.mpr ⟨nw_in q3913 rfl, List.forall_mem_cons.mpr ⟨nw_in q3918 rfl, List.forall_mem_cons.mpr ⟨nw_in q3925 rfl, List.forall_mem_cons.mpr ⟨nw_in q3923 rfl, List.forall_mem_cons.mpr ⟨nw_in q3940 rfl, List.forall_mem_cons.mpr ⟨nw_in q3929 rfl, List.forall_mem_cons.mpr ⟨nw_in q3931 rfl, fun _ h => absurd h List.not_mem_nil⟩⟩⟩⟩⟩⟩⟩⟩⟩⟩⟩⟩⟩⟩⟩⟩⟩⟩⟩⟩⟩⟩⟩⟩⟩⟩⟩⟩⟩⟩⟩⟩

section G17b
variable {k : kT} {nL : Nat} {cc : ByteArray} {own : String} {ret : Option FieldType} {fr lc : Nat} {M : hM} {pc : Nat} {lv : List (Option Value)} {st : List Value}
/-- what may be laid into an array of objects -/
theorem okAny {H : Heap} {locs : List Loc} {v : Nat} (hO : gO1 (kl k) (kg k)) (hC : CX k nL cc own ret fr lc) (a1 : Rel (kg k) M.1 H) (a2 : va_S (gA (kg k)) (ks k).heap H locs) (h : okR (kg k) M (some v)) : va_Any "java/lang/Object" (ks k) H v := by
  rcases h with h | ⟨w, h, hh⟩
  · cases h
  · cases h
    have main : ∀ (C : String), va_Nw (.castable C "java/lang/Object") (ks k) → (∃ cell : Cell, H[v]? = some cell ∧ cell.vm.isStatics = false ∧ (ks k).vm.findClass C = some cell.cls) → va_Any "java/lang/Object" (ks k) H v := by
      rintro C hca ⟨cell, h1, h2, h3⟩
      obtain ⟨kC, hkC, -⟩ := Vm.findClass_spec h3
      exact ⟨cell, h1, h2, ⟨kC, hkC⟩, fun comp hc => vb_asgC hca comp _ hc h3⟩
    rcases hh with ⟨ci, hci⟩ | ⟨j, hj, rfl⟩
    · obtain ⟨c, h1, h2⟩ := hci
      have hlt : ∃ q, vwAll[ci]? = some q := by
        obtain ⟨C, ow, ws, ⟨hP, hD, hw⟩, hM⟩ := a1
        have h3 := (hM v c h1).2
        have h4 : ∃ fs, C v = some (.inr (ci, fs)) := by
          cases c with
          | inl x =>
            cases x with
            | inl y => cases h2
            | inr o =>
              have e : o.1 = ci := Option.some.inj h2
              subst e
              exact ⟨o.2, h3⟩
          | inr t =>
            have e : t.1 = ci := Option.some.inj h2
            subst e
            exact h3.1
        obtain ⟨fs, h4⟩ := h4
        obtain ⟨i, hi⟩ := List.getElem?_of_mem (hw v _ h4)
        obtain ⟨q', k1, -⟩ := hP i _ hi
        exact ⟨q', k1⟩
      obtain ⟨q, hq⟩ := hlt
      exact main q.1 (hC.nw (castO q (List.mem_of_getElem? hq))) (gRecv hC.K a1 ⟨c, h1, h2⟩ hq)
    · obtain ⟨cell, h1, h2, h3, -⟩ := ((hO.2.2.2.1 _ _ (hC.bs.2.2.2.2 0)).1 j hj).kept a2.2.1
      exact main "java/lang/Integer" (hC.nw (castO _ (List.mem_of_getElem? (i := 25) rfl))) ⟨cell, h1, h2, h3⟩
/-- a reference into an array of objects -/
def sR (g : gT) (M : hM) (r : Option Nat) (i : Int32) (v : Option Nat) (κ : hM → Prop) : Prop := okR g M v ∧ gArr M r fun a t' x => t' = 6 ∧ vp_in i x.1 ∧ match x.2 with
  | .inr (.inr (.inr (.inr f))) => κ (gPutA M a 6 (x.1, .inr (.inr (.inr (.inr (va_up f i.toNatClampNeg v))))))
  | _ => False
theorem G_aastO {r v : Option Nat} {i : Int32} {κ : hM → Prop} (hJ : JK (kl k) (kg k)) (hC : CX k nL cc own ret fr lc) (d : decode cc pc = .ok (.aastore, 1)) (hw : sR (kg k) M r i v κ) (kk : ∀ M', κ M' → GW k nL M' (pc + 1) lv st) : GW k nL M pc lv (va_rf v :: .int i :: va_rf r :: st) := fun H locs ls cells slots a1 a2 a3 a4 a5 a6 a7 => by
  obtain ⟨hv, hw⟩ := hw
  obtain ⟨a, t, x, rfl, hm, rfl, hin, hk⟩ := gArr_e hw
  obtain ⟨ws, q0, hP, hD, hq, hset⟩ := gRel_get a1 hm
  obtain ⟨n, f⟩ := x
  rcases f with f | f | f | f | f
  · exact hk.elim
  · exact hk.elim
  · exact hk.elim
  · exact hk.elim
  · cases v with
    | none => exact va_astqN (C := "java/lang/Object") hC.ex hC.by hC.K hP hD a2 q0 6 hq rfl hin d (fun H1 locs1 hP1 hD1 hS1 => kk _ hk H1 locs1 ls cells slots (hset (.inl (6, n, .inr (.inr (.inr (.inr (va_up f i.toNatClampNeg none)))))) H1 hP1 hD1) hS1 a3 a4 a5 a6 a7)
    | some v => exact va_astqM (E := "java/lang/Object") hC.ex hC.by hC.K hP hD a2 q0 6 hq rfl (okAny hJ.1 hC a1 a2 hv) hin d (fun H1 locs1 hP1 hD1 hS1 => kk _ hk H1 locs1 ls cells slots (hset (.inl (6, n, .inr (.inr (.inr (.inr (va_up f i.toNatClampNeg (some v))))))) H1 hP1 hD1) hS1 a3 a4 a5 a6 a7)
/-- System.arraycopy of references; the source may be one of the start's empty arrays -/
def cQ (g : gT) (M : hM) (r0 : Option Nat) (sp : Int32) (r1 : Option Nat) (dp n : Int32) (κ : hM → Prop) : Prop :=
  ¬ sp < 0 ∧ ¬ dp < 0 ∧ ¬ n < 0 ∧ gArr M r1 fun b t' y => t' = 6 ∧ dp.toNatClampNeg + n.toNatClampNeg ≤ y.1 ∧ match y.2 with
  | .inr (.inr (.inr (.inr h))) => ((∃ j, (j = 256 ∨ j = 257) ∧ r0 = some (gK g j)) ∧ sp.toNatClampNeg + n.toNatClampNeg ≤ 0 ∧ κ (gPutA M b 6 (y.1, .inr (.inr (.inr (.inr (va_cpy (fun _ => none) h sp.toNatClampNeg dp.toNatClampNeg n.toNatClampNeg))))))) ∨
      gArr M r0 fun _ t x => t = 6 ∧ sp.toNatClampNeg + n.toNatClampNeg ≤ x.1 ∧ match x.2 with
        | .inr (.inr (.inr (.inr f))) => (∀ i : Nat, i < n.toNatClampNeg → okR g M (f (sp.toNatClampNeg + i))) ∧ κ (gPutA M b 6 (y.1, .inr (.inr (.inr (.inr (va_cpy f h sp.toNatClampNeg dp.toNatClampNeg n.toNatClampNeg))))))
        | _ => False
  | _ => False
theorem G_copyQ {r0 r1 : Option Nat} {sp dp n : Int32} {index : Nat} {κ : hM → Prop} (hJ : JK (kl k) (kg k)) (hC : CX k nL cc own ret fr lc) (hl : Cond.methodLink own index arraycopyName ∈ lw_all) (hn1 : Cond.native arraycopyName ∈ lw_all) (hn2 : Cond.static arraycopyName ∈ lw_all) (hn3 : Cond.initialized "java/lang/System" ∈ lw_all) (hs : stS st) (hfr : Nat.ble 1 fr = true) (hlc : Nat.ble 40 lc = true)
    (d : decode cc pc = .ok (.invokestatic index, 3)) (hw : cQ (kg k) M r0 sp r1 dp n κ) (kk : ∀ M', κ M' → GW k nL M' (pc + 3) lv st) : GW k nL M pc lv (.int n :: .int dp :: va_rf r1 :: .int sp :: va_rf r0 :: st) := fun H locs ls cells slots a1 a2 a3 a4 a5 a6 a7 => by
  obtain ⟨w1, w2, w3, hw⟩ := hw
  obtain ⟨b, t, y, rfl, hm, rfl, hle, hk⟩ := gArr_e hw
  obtain ⟨ws, hP, hD, hget, -⟩ := gRel_all a1
  obtain ⟨q1, hq1, hset⟩ := hget b _ hm
  obtain ⟨n1, h⟩ := y
  have hs' : (st.map fun v => v.category).sum ≤ 8 := hs
  have h8 := Nat.le_trans (Nat.le_of_ble_eq_true hfr) hC.hfr
  have h9 := Nat.le_trans (Nat.le_of_ble_eq_true hlc) hC.hlc
  have hnw : nativeFrameWords "java/lang/System" "arraycopy" 5 ≤ 20 := by decide +kernel
  rcases h with h | h | h | h | h
  · exact hk.elim
  · exact hk.elim
  · exact hk.elim
  · exact hk.elim
  · rcases hk with ⟨⟨j, hj, rfl⟩, hz, hk⟩ | hk
    · obtain ⟨fv, hT⟩ := (hC.sK hJ).2.2.1 j hj
      exact va_copyg (E0 := "java/lang/Object") (E1 := "java/lang/Object") hC.ex hC.by (hC.ml.trans a3.1.symm) hC.ow (hC.ts _ hl) (hC.ts _ hn1) (hC.ts _ hn2) (hC.ts _ hn3) hC.K hP hD a2 q1 6 hT hq1 rfl w1 w2 w3 hz hle h8 (by omega) d (fun H1 locs1 hP1 hD1 hS1 => kk _ hk H1 locs1 ls cells slots (hset (.inl (6, n1, .inr (.inr (.inr (.inr (va_cpy (fun _ => none) h sp.toNatClampNeg dp.toNatClampNeg n.toNatClampNeg)))))) H1 hP1 hD1) hS1 a3 a4 a5 a6 a7)
    · obtain ⟨a, t, x, rfl, hm0, rfl, hle0, hk⟩ := gArr_e hk
      obtain ⟨q0, hq0, -⟩ := hget a _ hm0
      obtain ⟨n0, f⟩ := x
      rcases f with f | f | f | f | f
      · exact hk.elim
      · exact hk.elim
      · exact hk.elim
      · exact hk.elim
      · obtain ⟨hel, hk⟩ := hk
        exact va_copyM (E0 := "java/lang/Object") (E1 := "java/lang/Object") hC.ex hC.by (hC.ml.trans a3.1.symm) hC.ow (hC.ts _ hl) (hC.ts _ hn1) (hC.ts _ hn2) (hC.ts _ hn3) hC.K hP hD a2 q0 q1 6 6 hq0 hq1 rfl rfl w1 w2 w3 hle0 hle (fun i hi z hz => okAny hJ.1 hC a1 a2 (by rw [← hz]; exact hel i hi)) h8 (by omega) d (fun H1 locs1 hP1 hD1 hS1 => kk _ hk H1 locs1 ls cells slots (hset (.inl (6, n1, .inr (.inr (.inr (.inr (va_cpy f h sp.toNatClampNeg dp.toNatClampNeg n.toNatClampNeg)))))) H1 hP1 hD1) hS1 a3 a4 a5 a6 a7)
end G17b
