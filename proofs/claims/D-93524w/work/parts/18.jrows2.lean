/-! ROWS for the library's own members, at raw level, second part -/
set_option maxRecDepth 100000
section G18
variable {k : kT} {nL : Nat} {cc : ByteArray} {own : String} {ret : Option FieldType} {fr lc : Nat} {M : hM} {pc : Nat} {lv : List (Option Value)} {st : List Value}
-- ===== bytes =====
/-- System.arraycopy of bytes -/
def cB (M : hM) (r0 : Option Nat) (sp : Int32) (r1 : Option Nat) (dp n : Int32) (κ : hM → Prop) : Prop :=
  ¬ sp < 0 ∧ ¬ dp < 0 ∧ ¬ n < 0 ∧ gArr M r1 fun b t' y => t' = 4 ∧ dp.toNatClampNeg + n.toNatClampNeg ≤ y.1 ∧ match y.2 with
  | .inl h => gArr M r0 fun _ t x => t = 4 ∧ sp.toNatClampNeg + n.toNatClampNeg ≤ x.1 ∧ match x.2 with
        | .inl f => (∀ i : Nat, i < n.toNatClampNeg → fits .byte (.int (f (sp.toNatClampNeg + i))) = true) ∧ κ (gPutA M b 4 (y.1, .inl (va_cpy f h sp.toNatClampNeg dp.toNatClampNeg n.toNatClampNeg)))
        | _ => False
  | _ => False
theorem G_copyB {r0 r1 : Option Nat} {sp dp n : Int32} {index : Nat} {κ : hM → Prop} (hC : CX k nL cc own ret fr lc) (hl : Cond.methodLink own index arraycopyName ∈ lw_all) (hn1 : Cond.native arraycopyName ∈ lw_all) (hn2 : Cond.static arraycopyName ∈ lw_all) (hn3 : Cond.initialized "java/lang/System" ∈ lw_all) (hs : stS st) (hfr : Nat.ble 1 fr = true) (hlc : Nat.ble 40 lc = true)
    (d : decode cc pc = .ok (.invokestatic index, 3)) (hw : cB M r0 sp r1 dp n κ) (kk : ∀ M', κ M' → GW k nL M' (pc + 3) lv st) : GW k nL M pc lv (.int n :: .int dp :: va_rf r1 :: .int sp :: va_rf r0 :: st) := fun H locs ls cells slots a1 a2 a3 a4 a5 a6 a7 => by
  obtain ⟨w1, w2, w3, hw⟩ := hw
  obtain ⟨b, t, y, rfl, hm, rfl, hle, hk⟩ := gArr_e hw
  obtain ⟨ws, hP, hD, hget, -⟩ := gRel_all a1
  obtain ⟨q1, hq1, hset⟩ := hget b _ hm
  obtain ⟨n1, h⟩ := y
  have hs' : (st.map fun v => v.category).sum ≤ 8 := hs
  have h8 := Nat.le_trans (Nat.le_of_ble_eq_true hfr) hC.hfr
  have h9 := Nat.le_trans (Nat.le_of_ble_eq_true hlc) hC.hlc
  have hnw : nativeFrameWords "java/lang/System" "arraycopy" 5 ≤ 20 := by decide +kernel
  rcases h with h | h
  · obtain ⟨a, t, x, rfl, hm0, rfl, hle0, hk⟩ := gArr_e hk
    obtain ⟨q0, hq0, -⟩ := hget a _ hm0
    obtain ⟨n0, f⟩ := x
    rcases f with f | f
    · obtain ⟨hel, hk⟩ := hk
      exact va_copyi (ty := .byte) hC.ex hC.by (hC.ml.trans a3.1.symm) hC.ow (hC.ts _ hl) (hC.ts _ hn1) (hC.ts _ hn2) (hC.ts _ hn3) hC.K hP hD a2 q0 q1 4 4 hq0 hq1 rfl rfl rfl w1 w2 w3 hle0 hle hel h8 (by omega) d (fun H1 locs1 hP1 hD1 hS1 => kk _ hk H1 locs1 ls cells slots (hset (.inl (4, n1, .inl (va_cpy f h sp.toNatClampNeg dp.toNatClampNeg n.toNatClampNeg))) H1 hP1 hD1) hS1 a3 a4 a5 a6 a7)
    · exact hk.elim
  · exact hk.elim
/-- an array of bytes, cloned -/
def clB (M : hM) (r : Option Nat) (κ : Nat → hM → Prop) : Prop := gArr M r fun _ t x => t = 4 ∧ match x.2 with
  | .inl f => (∀ i : Nat, i < x.1 → fits .byte (.int (f i)) = true) ∧ M.2.1 + 1 ≤ capN ∧ M.2.2 + x.1 ≤ capZ ∧ ∀ q, M.1 q = none → κ q (gNewA M q 4 (x.1, .inl f))
  | _ => False
theorem G_cloneB {r : Option Nat} {index : Nat} {κ : Nat → hM → Prop} (hC : CX k nL cc own ret fr lc) (hl : Cond.methodLink own index ⟨"[B", "clone", "()Ljava/lang/Object;"⟩ ∈ lw_all) (h1 : Cond.sameMethod "[B" "java/lang/Object" "clone" "()Ljava/lang/Object;" ∈ lw_all) (h2 : Cond.native ⟨"java/lang/Object", "clone", "()Ljava/lang/Object;"⟩ ∈ lw_all) (h3 : Cond.instanceMethod ⟨"java/lang/Object", "clone", "()Ljava/lang/Object;"⟩ ∈ lw_all) (h4 : Cond.selects "[B" ⟨"[B", "clone", "()Ljava/lang/Object;"⟩ ⟨"java/lang/Object", "clone", "()Ljava/lang/Object;"⟩ ∈ lw_all) (h5 : Cond.castable "[B" "java/lang/Cloneable" ∈ nwAll) (hs : stS st) (hfr : Nat.ble 1 fr = true) (hlc : Nat.ble 40 lc = true)
    (d : decode cc pc = .ok (.invokevirtual index, 3)) (hw : clB M r κ) (kk : ∀ q M', κ q M' → GW k nL M' (pc + 3) lv (va_rf (some q) :: st)) : GW k nL M pc lv (va_rf r :: st) := fun H locs ls cells slots a1 a2 a3 a4 a5 a6 a7 => by
  obtain ⟨a, t, x, rfl, hm, rfl, hk⟩ := gArr_e hw
  obtain ⟨ws, hP, hD, hget, hnew⟩ := gRel_all a1
  obtain ⟨q0, hq0, -⟩ := hget a _ hm
  obtain ⟨n, f⟩ := x
  have hs' : (st.map fun v => v.category).sum ≤ 8 := hs
  have h8 := Nat.le_trans (Nat.le_of_ble_eq_true hfr) hC.hfr
  have h9 := Nat.le_trans (Nat.le_of_ble_eq_true hlc) hC.hlc
  have hrc := hC.rc
  have hrs := hC.rs
  rcases f with f | f
  · obtain ⟨hfit, w1, w2, hk⟩ := hk
    dsimp only at w2 hfit
    refine va_clone hC.ex hC.by (hC.ml.trans a3.1.symm) hC.ow (hC.ts _ hl) (hC.ts _ h1) (hC.ts _ h2) (hC.ts _ h3) (hC.ts _ h4) (hC.nw h5) hC.K hP hD a2 hC.new q0 4 (ty := .byte) hq0 rfl (hC.K.2 4 (gC (kg k) 4, .byte) rfl).2 (fun i v hv => ?_) h8 (by omega) (by omega) (by show _ + n ≤ _; omega) d (fun q H1 hK1 hP1 hD1 hS1 => ?_)
    · replace hv : (arrV (gC (kg k) 4) n (fun j => .int (f j))).slots[i]? = some v := hv
      have hi : i < n := by
        have := (Array.getElem?_eq_some_iff.mp hv).1
        rw [arrV_size] at this
        exact this
      have h7 : (arrV (gC (kg k) 4) n (fun j => .int (f j))).slots[i]? = some (.int (f i)) := arrV_read _ _ hi
      rw [h7] at hv
      cases hv
      exact hfit i hi
    · obtain ⟨hq, hR⟩ := hnew q (.inl (4, n, .inl f)) H1 hP1 hD1
      exact kk q _ (hk q hq) H1 locs ls _ _ hR hS1 a3 (by show _ = M.2.1 + 1; omega) (by show kZ k + (slots + n) = M.2.2 + n; omega) w1 w2
  · exact hk.elim
-- ===== class objects =====
def gcN' : MethodName := ⟨"java/lang/Object", "getClass", "()Ljava/lang/Class;"⟩
/-- an array of objects -/
def isAO (g : gT) (M : hM) (r : Option Nat) : Prop := (∃ j, (j = 256 ∨ j = 257) ∧ r = some (gK g j)) ∨ ∃ a x, r = some a ∧ M.1 a = some (.inl (.inl (6, x)))
theorem G_getClA {r : Option Nat} {index : Nat} (hJ : JK (kl k) (kg k)) (hC : CX k nL cc own ret fr lc) (hl : Cond.methodLink own index gcN' ∈ lw_all) (h1 : Cond.declares gcN' ∈ nwAll) (h2 : Cond.selects "[Ljava/lang/Object;" gcN' gcN' ∈ lw_all) (h3 : Cond.instanceMethod gcN' ∈ lw_all) (h4 : Cond.native gcN' ∈ lw_all) (hs : stS st) (hfr : Nat.ble 1 fr = true) (hlc : Nat.ble 40 lc = true)
    (d : decode cc pc = .ok (.invokevirtual index, 3)) (hw : isAO (kg k) M r) (kk : GW k nL M (pc + 3) lv (va_rf (some (gK (kg k) 260)) :: st)) : GW k nL M pc lv (va_rf r :: st) := fun H locs ls cells slots a1 a2 a3 a4 a5 a6 a7 => by
  have hs' : (st.map fun v => v.category).sum ≤ 8 := hs
  have h8 := Nat.le_trans (Nat.le_of_ble_eq_true hfr) hC.hfr
  have h9 := Nat.le_trans (Nat.le_of_ble_eq_true hlc) hC.hlc
  have main : ∀ a, r = some a → (∃ cell : Cell, H[a]? = some cell ∧ cell.vm.isStatics = false ∧ (ks k).vm.findClass "[Ljava/lang/Object;" = some cell.cls) → W (kp k) (kl k) (ke k) (kR k) (ks k) (km k) (ka k) (kb k) (kt k) (kc k) H locs cells slots (kQ k) (F0 (km k) pc ls (va_rf r :: st)) := by
    rintro a rfl hr
    exact va_getC hC.ex hC.by (hC.ml.trans a3.1.symm) hC.ow (hC.ts _ hl) (va_Nw.use (nw_tab h1) (hC.nw h1)) (hC.ts _ h2) (hC.ts _ h3) (hC.ts _ h4) (hC.sK hJ).2.2.2.2.2.2.2.2.2.2.2.2.1 hr h8 (by omega) d (kk H locs ls cells slots a1 a2 a3 a4 a5 a6 a7)
  rcases hw with ⟨j, hj, rfl⟩ | ⟨a, x, rfl, hm⟩
  · obtain ⟨cell, g1, g2, g3, -⟩ := ((hC.sK hJ).2.2.2.2.2.2.2.2.2.2.2.1 j hj).kept a2.2.1
    exact main _ rfl ⟨cell, g1, g2, g3⟩
  · obtain ⟨ws, q0, hP, hD, hq, -⟩ := gRel_get a1 hm
    have hcell : H[a]? = some (vp_cell (gC (kg k) 6) x) := hP q0 _ hq
    have hcls : (vp_cell (gC (kg k) 6) x).cls = gC (kg k) 6 ∧ (vp_cell (gC (kg k) 6) x).vm.isStatics = false := by
      obtain ⟨n, f⟩ := x
      rcases f with f | f | f | f | f <;> exact ⟨rfl, rfl⟩
    exact main a rfl ⟨_, hcell, hcls.2, by rw [hcls.1]; exact va_nmO (hC.K.2 6 (gC (kg k) 6, .object "java/lang/Object") rfl).2 rfl⟩
theorem G_getClL {b index : Nat} (hJ : JK (kl k) (kg k)) (hC : CX k nL cc own ret fr lc) (hl : Cond.methodLink own index gcN' ∈ lw_all) (h1 : Cond.declares gcN' ∈ nwAll) (h2 : Cond.selects "java/util/ArrayList" gcN' gcN' ∈ lw_all) (h3 : Cond.instanceMethod gcN' ∈ lw_all) (h4 : Cond.native gcN' ∈ lw_all) (hs : stS st) (hfr : Nat.ble 1 fr = true) (hlc : Nat.ble 40 lc = true)
    (d : decode cc pc = .ok (.invokevirtual index, 3)) (hb : isRcv k M b "java/util/ArrayList") (kk : GW k nL M (pc + 3) lv (va_rf (some (gK (kg k) 261)) :: st)) : GW k nL M pc lv (va_rf (some b) :: st) := fun H locs ls cells slots a1 a2 a3 a4 a5 a6 a7 => by
  have hs' : (st.map fun v => v.category).sum ≤ 8 := hs
  have h8 := Nat.le_trans (Nat.le_of_ble_eq_true hfr) hC.hfr
  have h9 := Nat.le_trans (Nat.le_of_ble_eq_true hlc) hC.hlc
  exact va_getC hC.ex hC.by (hC.ml.trans a3.1.symm) hC.ow (hC.ts _ hl) (va_Nw.use (nw_tab h1) (hC.nw h1)) (hC.ts _ h2) (hC.ts _ h3) (hC.ts _ h4) (hC.sK hJ).2.2.2.2.2.2.2.2.2.2.2.2.2.1 (hb H locs a1 a2) h8 (by omega) d (kk H locs ls cells slots a1 a2 a3 a4 a5 a6 a7)
theorem G_ldcM {C : String} {index mi : Nat} (hC : CX k nL cc own ret fr lc) (hl : Cond.classLink own index C ∈ lw_all) (hM : va_Mi C mi (ks k)) (d : decode cc pc = .ok (.ldc index, 2)) (kk : GW k nL M (pc + 2) lv (va_rf (some mi) :: st)) : GW k nL M pc lv st := fun H locs ls cells slots a1 a2 a3 a4 a5 a6 a7 =>
  va_ldcM hC.ex hC.by hC.ow (hC.ts _ hl) hM d (kk H locs ls cells slots a1 a2 a3 a4 a5 a6 a7)
theorem G_instY {b index : Nat} {C nm : String} (hC : CX k nL cc own ret fr lc) (hl : Cond.classLink own index nm ∈ lw_all) (hca : Cond.castable C nm ∈ nwAll) (hb : isRcv k M b C) (d : decode cc pc = .ok (.instanceof index, 3)) (kk : GW k nL M (pc + 3) lv (.int 1 :: st)) : GW k nL M pc lv (va_rf (some b) :: st) := fun H locs ls cells slots a1 a2 a3 a4 a5 a6 a7 =>
  va_instY hC.ex hC.by hC.ow (hC.ts _ hl) (hC.nw hca) (hb H locs a1 a2) d (kk H locs ls cells slots a1 a2 a3 a4 a5 a6 a7)
theorem G_instE {b index : Nat} {nm : String} (hC : CX k nL cc own ret fr lc) (hl : Cond.classLink own index nm ∈ lw_all) (hb : isRcv k M b nm) (d : decode cc pc = .ok (.instanceof index, 3)) (kk : GW k nL M (pc + 3) lv (.int 1 :: st)) : GW k nL M pc lv (va_rf (some b) :: st) := fun H locs ls cells slots a1 a2 a3 a4 a5 a6 a7 =>
  va_instE hC.ex hC.by hC.ow (hC.ts _ hl) (hb H locs a1 a2) d (kk H locs ls cells slots a1 a2 a3 a4 a5 a6 a7)
-- ===== boxes =====
def bxV (g : gT) (M : hM) (r : Option Nat) (κ : Int32 → Prop) : Prop := ∃ a x, r = some a ∧ isBox g M a x ∧ κ x
theorem G_getBox {r : Option Nat} {index : Nat} {ref : String} {κ : Int32 → Prop} (hJ : JK (kl k) (kg k)) (hC : CX k nL cc own ret fr lc) (hlink : Cond.fieldLink own index ref "value" "I" ∈ lw_all) (hsame : ∀ x, (ks k).fieldFound? "java/lang/Integer" "value" "I" = some x → (ks k).fieldFound? ref "value" "I" = some x) (d : decode cc pc = .ok (.getfield index, 3)) (hw : bxV (kg k) M r κ) (kk : ∀ x, κ x → GW k nL M (pc + 3) lv (.int x :: st)) : GW k nL M pc lv (va_rf r :: st) := by
  obtain ⟨a, x, rfl, hb, hk⟩ := hw
  rcases hb with ⟨j, hj, rfl, rfl⟩ | hm
  · intro H locs ls cells slots a1 a2 a3 a4 a5 a6 a7
    exact va_getX (i := j) (v := fun k => .int (vb_c k)) hC.ex hC.by (hJ.1.2.2.2.1 _ _ (hC.bs.2.2.2.2 0)).2 hj a2 hC.ow (hC.ts _ hlink) hsame d (kk _ hk H locs ls cells slots a1 a2 a3 a4 a5 a6 a7)
  · exact G_getI (ci := 25) (C := RJ19) (T := TJ19) (N := 1) (f := 0) hC rfl in_J19 (Nat.le_of_ble_eq_true rfl) hlink hsame d (gObj_i hm hk) kk
/-- the cache of small boxes -/
def cacheR (g : gT) (r : Option Nat) (i : Int32) (κ : Option Nat → Prop) : Prop := r = some (gK g 258) ∧ vp_in i 256 ∧ κ (some (gK g i.toNatClampNeg))
theorem G_cache {r : Option Nat} {i : Int32} {κ : Option Nat → Prop} (hJ : JK (kl k) (kg k)) (hC : CX k nL cc own ret fr lc) (d : decode cc pc = .ok (.aaload, 1)) (hw : cacheR (kg k) r i κ) (kk : ∀ x, κ x → GW k nL M (pc + 1) lv (va_rf x :: st)) : GW k nL M pc lv (.int i :: va_rf r :: st) := fun H locs ls cells slots a1 a2 a3 a4 a5 a6 a7 => by
  obtain ⟨rfl, hin, hk⟩ := hw
  exact vb_tq (C := "java/lang/Integer") hC.ex hC.by (hC.sK hJ).2.2.2.2.2.1 a2 hin rfl d (kk _ hk H locs ls cells slots a1 a2 a3 a4 a5 a6 a7)
-- ===== calls =====
theorem G_ldcI {index : Nat} {v : Int32} (hC : CX k nL cc own ret fr lc) (hl : Cond.constant own index v ∈ lw_all) (d : decode cc pc = .ok (.ldc index, 2)) (kk : GW k nL M (pc + 2) lv (.int v :: st)) : GW k nL M pc lv st := fun H locs ls cells slots a1 a2 a3 a4 a5 a6 a7 =>
  lv_ldc hC.ex hC.by hC.ow (hC.ts _ hl) d (kk H locs ls cells slots a1 a2 a3 a4 a5 a6 a7)
/-- an array of bytes, cast -/
def ckBy (M : hM) (r : Option Nat) (A : Prop) : Prop := (∃ a x, r = some a ∧ M.1 a = some (.inl (.inl (4, x)))) ∧ A
theorem G_castBy {r : Option Nat} {index : Nat} (hC : CX k nL cc own ret fr lc) (hl : Cond.classLink own index "[B" ∈ lw_all) (hb : ∃ a x, r = some a ∧ M.1 a = some (.inl (.inl (4, x)))) (d : decode cc pc = .ok (.checkcast index, 3)) (kk : GW k nL M (pc + 3) lv (va_rf r :: st)) : GW k nL M pc lv (va_rf r :: st) := fun H locs ls cells slots a1 a2 a3 a4 a5 a6 a7 => by
  obtain ⟨a, x, rfl, hm⟩ := hb
  obtain ⟨ws, q0, hP, hD, hq, -⟩ := gRel_get a1 hm
  exact va_castA hC.ex hC.by hC.ow (hC.ts _ hl) hP q0 hq (hC.K.2 4 (gC (kg k) 4, .byte) rfl).2 d (kk H locs ls cells slots a1 a2 a3 a4 a5 a6 a7)
/-- getClass() of a list, named at an interface -/
theorem G_getClI {b index count : Nat} {x : MethodName} (hJ : JK (kl k) (kg k)) (hC : CX k nL cc own ret fr lc) (hl : Cond.methodLink own index x ∈ lw_all) (h1 : Cond.declares gcN' ∈ nwAll) (h2 : Cond.interfaceMethod x.cls "java/lang/Object" x.name x.desc ∈ nwAll) (h3 : Cond.selects "java/util/ArrayList" gcN' gcN' ∈ lw_all) (h4 : Cond.instanceMethod gcN' ∈ lw_all) (h5 : Cond.publicMethod gcN' ∈ nwAll) (h6 : Cond.unhidden "java/util/ArrayList" x.name x.desc ∈ nwAll) (h7 : Cond.castable "java/util/ArrayList" x.cls ∈ nwAll) (h8 : Cond.native gcN' ∈ lw_all)
    (hx : x.cls ≠ "java/lang/invoke/MethodHandle" ∧ x.cls ≠ "java/lang/invoke/VarHandle") (hxo : x.cls ≠ "java/lang/Object") (hn : x.name = "getClass") (hd : x.desc = "()Ljava/lang/Class;") (hs : stS st) (hfr : Nat.ble 1 fr = true) (hlc : Nat.ble 40 lc = true)
    (d : decode cc pc = .ok (.invokeinterface index count, 5)) (hb : isRcv k M b "java/util/ArrayList") (kk : GW k nL M (pc + 5) lv (va_rf (some (gK (kg k) 261)) :: st)) : GW k nL M pc lv (va_rf (some b) :: st) := fun H locs ls cells slots a1 a2 a3 a4 a5 a6 a7 => by
  have hs' : (st.map fun v => v.category).sum ≤ 8 := hs
  have h18 := Nat.le_trans (Nat.le_of_ble_eq_true hfr) hC.hfr
  have h19 := Nat.le_trans (Nat.le_of_ble_eq_true hlc) hC.hlc
  have hnw : nativeFrameWords "java/lang/Object" "getClass" 1 = 3 := by decide
  obtain ⟨c0, k0, m1, m2, m3⟩ := (hC.sK hJ).2.2.2.2.2.2.2.2.2.2.2.2.2.1
  obtain ⟨cell, g1, g2, g3⟩ := hb H locs a1 a2
  cases m1.symm.trans g3
  have hsel' : (Cond.selects "java/util/ArrayList" x gcN').before (ka k) (ks k) = true := by
    obtain ⟨ci, kI, m9, i1, i2, i3, i4, i5⟩ := Cond.interfaceMethod_spec (va_Nw.use (A := ka k) (nw_tab h2) (hC.nw h2))
    obtain ⟨c2, r2, m2, q1, q2, q3, q4, kP, hkP, hkPi⟩ := Cond.selects_spec (hC.ts _ h3)
    have i5' : (ks k).methodNamed? gcN' = some m9 := by
      have e : (⟨"java/lang/Object", x.name, x.desc⟩ : MethodName) = gcN' := by rw [hn, hd]; rfl
      rw [← e]; exact i5
    have e9 := State.methodFound?_of_named i5' ⟨by decide, by decide⟩
    cases e9.symm.trans q2
    simp only [Cond.before, Cond.holds, Cond.value, q1, i4, q3, q4, hkP]
    simp [hkPi]
  intro T hT X
  obtain ⟨vm', X', st'⟩ := X.getClassOfI hC.ex hC.ow (hC.ts _ hl) (va_Nw.use (nw_tab h1) (hC.nw h1)) (va_Nw.use (nw_tab h2) (hC.nw h2)) hsel' (hC.ts _ h4) (va_Nw.use (nw_tab h5) (hC.nw h5)) (va_Nw.use (nw_tab h6) (hC.nw h6)) (va_Nw.use (nw_tab h7) (hC.nw h7)) (hC.ts _ h8) hx hxo hn hd m1 m2 ⟨cell, by rw [hT]; exact g1, rfl, g2⟩ m3 (g := F0 (km k) pc ls (va_rf (some b) :: st)) rfl (by rw [hC.ml]; exact a3.1) rfl (by rw [hC.by]; exact d) h18 (by show 2 * 0 + _ + _ ≤ _; omega)
  obtain ⟨t, b1, b2⟩ := kk H locs ls cells slots a1 a2 a3 a4 a5 a6 a7 (T.setVm vm') hT X'
  exact ⟨t, st' t b1, b2⟩
section C18
variable {y x : MethodName} {bytes : ByteArray} {maxL index n fr' lc' b : Nat} {rt : Option FieldType} {C owner : String} {As rest : List Value} {P : Option Value → hM → Prop}
/-- the named method is abstract -/
theorem G_callA (hC : CX k nL cc own ret fr lc) (hM : MG (kl k) (kg k) y (ws_ y bytes maxL rt) fr' lc' (.ref b :: As) M P) (hT : GoodIn lw_all (va_wsU own index C owner x y (ws_ y bytes maxL rt))) (hz : Cond.declares ⟨owner, x.name, x.desc⟩ ∈ nwAll) (hb : isRcv k M b C) (hd : owner ≠ "java/lang/invoke/MethodHandle" ∧ owner ≠ "java/lang/invoke/VarHandle" ∧ (parseMethodDescriptor x.desc).map (fun d => d.parameters.length) = some n) (hrm : rmOK fr lc fr' lc' maxL = true) (hn : As.length = n) (hst : st = As.reverse ++ .ref b :: rest) (hs : stS rest) (d : decode cc pc = .ok (.invokevirtual index, 3))
    (kk : ∀ v M', P v M' → GW k nL M' (pc + 3) lv (v.toList ++ rest)) : GW k nL M pc lv st := by
  refine GW_run (A := (Value.ref b :: As).toArray) hC (fun H locs ls cells slots a1 a2 a3 a4 a5 a6 a7 => ?_) kk
  have hrc := hC.rc
  have hrs := hC.rs
  exact va_runU ⟨hC.ex, hC.by, hC.ml, hC.ow, hC.ts⟩ (hM H.size (tot H)) (va_cwA n hC.ts hT rfl rfl rfl (hC.nw hz) hd (rm_ok hrm hC.hfr hC.hlc)) ⟨WU_blind hC.ok, hb H locs a1 a2, fun U hU hW => ⟨rfl, WU_now hC a1 a2 a6 a7 hU hW⟩⟩ rfl hn a3 hst (lv_room hs) d ⟨by omega, by omega⟩
/-- the named method is abstract, its words stand among the premises of the start -/
theorem G_callAN (hC : CX k nL cc own ret fr lc) (hM : MG (kl k) (kg k) y (ws_ y bytes maxL rt) fr' lc' (.ref b :: As) M P) (hl : Cond.methodLink own index x ∈ nwAll) (hsm : Cond.sameMethod x.cls owner x.name x.desc ∈ nwAll) (hz : Cond.declares ⟨owner, x.name, x.desc⟩ ∈ nwAll) (hsel : Cond.selects C ⟨owner, x.name, x.desc⟩ y ∈ lw_all) (hinst : Cond.instanceMethod y ∈ lw_all) (hini : Cond.initialized y.cls ∈ lw_all) (hcode : Cond.code y bytes maxL rt ∈ lw_all) (hb : isRcv k M b C) (hd : owner ≠ "java/lang/invoke/MethodHandle" ∧ owner ≠ "java/lang/invoke/VarHandle" ∧ (parseMethodDescriptor x.desc).map (fun d => d.parameters.length) = some n) (hrm : rmOK fr lc fr' lc' maxL = true) (hn : As.length = n) (hst : st = As.reverse ++ .ref b :: rest) (hs : stS rest) (d : decode cc pc = .ok (.invokevirtual index, 3))
    (kk : ∀ v M', P v M' → GW k nL M' (pc + 3) lv (v.toList ++ rest)) : GW k nL M pc lv st := by
  refine GW_run (A := (Value.ref b :: As).toArray) hC (fun H locs ls cells slots a1 a2 a3 a4 a5 a6 a7 => ?_) kk
  have hrc := hC.rc
  have hrs := hC.rs
  have hR := rm_ok hrm hC.hfr hC.hlc
  have hG : GoodIn lw_all (ws_ y bytes maxL rt) := lw_meth hcode
  have hsm' := va_Nw.use (A := ka k) (nw_tab hsm) (hC.nw hsm)
  have hsel' : (Cond.selects C x y).before (ka k) (ks k) = true := by
    obtain ⟨r0, r, hn, hrm, hstR, hsigR⟩ := va_Decl.abs (hC.nw hz)
    obtain ⟨cn, ck, r1, hcn, hck, hni, hf, hn1⟩ := Cond.sameMethod_found hsm'
    cases hn.symm.trans hn1
    obtain ⟨c2, r2, m2, q1, q2, q3, q4, kP, hkP, hkPi⟩ := Cond.selects_spec (hC.ts _ hsel)
    have e := State.methodFound?_of_named hn ⟨hd.1, hd.2.1⟩
    cases e.symm.trans q2
    simp only [Cond.before, Cond.holds, Cond.value, q1, hf, q3, q4, hkP]
    simp [hkPi]
  have hlen : ∀ sig, parseMethodDescriptor x.desc = some sig → n = sig.parameters.length := fun sig h => by
    have h2 := hd.2.2
    rw [h] at h2
    exact (Option.some.inj h2).symm
  exact va_runU ⟨hC.ex, hC.by, hC.ml, hC.ow, hC.ts⟩ (hM H.size (tot H)) (owner := owner) (x := x) (C := C) ⟨⟨rfl, rfl, hR.1, hR.2, pay_in hC.ts hG, List.mem_cons_self⟩, hC.ts _ hcode, hC.ts _ hini, ⟨hd.1, hd.2.1⟩, hlen, va_Nw.use (nw_tab hl) (hC.nw hl), hsm', va_Decl.abs (hC.nw hz), hsel', hC.ts _ hinst⟩ ⟨WU_blind hC.ok, hb H locs a1 a2, fun U hU hW => ⟨rfl, WU_now hC a1 a2 a6 a7 hU hW⟩⟩ rfl hn a3 hst (lv_room hs) d ⟨by omega, by omega⟩
/-- a private method of a class above the receiver's -/
theorem G_callUP {z : MethodName} (hC : CX k nL cc own ret fr lc) (hM : MG (kl k) (kg k) y (ws_ y bytes maxL rt) fr' lc' (.ref b :: As) M P) (hl : Cond.methodLink own index y ∈ lw_all) (hJ : JK (kl k) (kg k)) (hpv : y ∈ pvM) (hzs : Cond.selects C z z ∈ lw_all) (hzy : z.cls = y.cls) (hinst : Cond.instanceMethod y ∈ lw_all) (hini : Cond.initialized y.cls ∈ lw_all) (hcode : Cond.code y bytes maxL rt ∈ lw_all) (hb : isRcv k M b C) (hd : y.cls ≠ "java/lang/invoke/MethodHandle" ∧ y.cls ≠ "java/lang/invoke/VarHandle" ∧ (parseMethodDescriptor y.desc).map (fun d => d.parameters.length) = some n) (hrm : rmOK fr lc fr' lc' maxL = true) (hn : As.length = n) (hst : st = As.reverse ++ .ref b :: rest) (hs : stS rest) (d : decode cc pc = .ok (.invokevirtual index, 3))
    (kk : ∀ v M', P v M' → GW k nL M' (pc + 3) lv (v.toList ++ rest)) : GW k nL M pc lv st := by
  refine GW_run (A := (Value.ref b :: As).toArray) hC (fun H locs ls cells slots a1 a2 a3 a4 a5 a6 a7 => ?_) kk
  have hrc := hC.rc
  have hrs := hC.rs
  have hR := rm_ok hrm hC.hfr hC.hlc
  have hG : GoodIn lw_all (ws_ y bytes maxL rt) := lw_meth hcode
  obtain ⟨c2, r2, m2, q1, q2, q3, q4, kP, hkP, hkPi⟩ := Cond.selects_spec (hC.ts _ hzs)
  obtain ⟨mk, methM, hnamed, hmethM, -, -⟩ := Cond.instanceMethod_spec (hC.ts _ hinst)
  have hfound : (ks k).methodFound? y.cls y.name y.desc = some mk := State.methodFound?_of_named hnamed ⟨hd.1, hd.2.1⟩
  have hfc := findClass_of_methodNamed hnamed
  have hcl : mk.cls = m2.cls := Option.some.inj (hfc.symm.trans (hzy ▸ findClass_of_methodNamed q3))
  have hselp : selectMethod {} (ks k).vm c2 mk = .method mk := selectMethod_private hmethM (Cond.privateMethod_at (va_Nw.use (A := ka k) rfl ((hC.sK hJ).2.2.2.2.2.2.2.2.2.2.2.2.2.2 y hpv)) mk methM hnamed hmethM)
  have hsel' : (Cond.selects C y y).before (ka k) (ks k) = true := by
    simp only [Cond.before, Cond.holds, Cond.value, q1, hfound, hnamed, hselp, hcl, hkP]
    simp [hkPi]
  have hsm' : (Cond.sameMethod y.cls y.cls y.name y.desc).before (ka k) (ks k) = true := by
    simp only [Cond.before, Cond.holds, Cond.value, hfc, hfound, hcl, hkP]
    simp [hkPi, hnamed, hkP]
  have hlen : ∀ sig, parseMethodDescriptor y.desc = some sig → n = sig.parameters.length := fun sig h => by
    have h2 := hd.2.2
    rw [h] at h2
    exact (Option.some.inj h2).symm
  exact va_runU ⟨hC.ex, hC.by, hC.ml, hC.ow, hC.ts⟩ (hM H.size (tot H)) (owner := y.cls) (x := y) (C := C) ⟨⟨rfl, rfl, hR.1, hR.2, pay_in hC.ts hG, List.mem_cons_self⟩, hC.ts _ hcode, hC.ts _ hini, ⟨hd.1, hd.2.1⟩, hlen, hC.ts _ hl, hsm', va_Decl.of (hC.ts _ hinst) (hC.ts _ hcode), hsel', hC.ts _ hinst⟩ ⟨WU_blind hC.ok, hb H locs a1 a2, fun U hU hW => ⟨rfl, WU_now hC a1 a2 a6 a7 hU hW⟩⟩ rfl hn a3 hst (lv_room hs) d ⟨by omega, by omega⟩
theorem lw_SU {own : String} {idx : Nat} {y : MethodName} {b : ByteArray} {L : Nat} {r : Option FieldType} (h1 : Cond.methodLink own idx y ∈ lw_all) (h2 : Cond.sameMethod y.cls y.cls y.name y.desc ∈ lw_all) (h3 : Cond.superclass own y.cls ∈ lw_all) (h4 : Cond.instanceMethod y ∈ lw_all) (h5 : Cond.initialized y.cls ∈ lw_all) (h6 : Cond.code y b L r ∈ lw_all) : GoodIn lw_all (va_wsSU own idx y (ws_ y b L r)) := by
  refine lw_app ?_ (lw_meth h6)
  intro w hw
  simp only [List.mem_cons, List.not_mem_nil, or_false] at hw
  rcases hw with rfl | rfl | rfl | rfl | rfl <;> assumption
/-- super.method(..) -/
theorem G_callSU {ci N : Nat} {T : u_T} (hC : CX k nL cc own ret fr lc) (hc : vwAll[ci]? = some (C, T, N)) (hM : MG (kl k) (kg k) y (ws_ y bytes maxL rt) fr' lc' (.ref b :: As) M P) (hT : GoodIn lw_all (va_wsSU own index y (ws_ y bytes maxL rt))) (hb : isRcv k M b C) (hd : y.name ≠ "<init>" ∧ (parseMethodDescriptor y.desc).map (fun d => d.parameters.length) = some n) (hrm : rmOK fr lc fr' lc' maxL = true) (hn : As.length = n) (hst : st = As.reverse ++ .ref b :: rest) (hs : stS rest) (d : decode cc pc = .ok (.invokespecial index, 3))
    (kk : ∀ v M', P v M' → GW k nL M' (pc + 3) lv (v.toList ++ rest)) : GW k nL M pc lv st := by
  refine GW_run (A := (Value.ref b :: As).toArray) hC (fun H locs ls cells slots a1 a2 a3 a4 a5 a6 a7 => ?_) kk
  have hrc := hC.rc
  have hrs := hC.rs
  exact va_runSU (hC.K.1 ci _ hc).2 ⟨hC.ex, hC.by, hC.ml, hC.ow, hC.ts⟩ (hM H.size (tot H)) (va_cwSU n hC.ts hT rfl rfl rfl hd (rm_ok hrm hC.hfr hC.hlc)) ⟨WU_blind hC.ok, hb H locs a1 a2, fun U hU hW => ⟨rfl, WU_now hC a1 a2 a6 a7 hU hW⟩⟩ rfl hn a3 hst (lv_room hs) d ⟨by omega, by omega⟩
end C18
end G18
