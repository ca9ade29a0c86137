/-! THE LIBRARY'S MEMBERS as predicates over ADT cells; helpers of the printed walks -/
set_option maxRecDepth 100000
-- ===== defaults =====
def fsX1 : List Value := [.null, .null, .null, .int 0, .int 0, .null, .null, .null, .null, .int 0]
theorem dfX1 : ∀ j, j < 10 → defaultValue (tyX1 j) = vp_V fsX1 j
  | 0, _ => rfl
  | 1, _ => rfl
  | 2, _ => rfl
  | 3, _ => rfl
  | 4, _ => rfl
  | 5, _ => rfl
  | 6, _ => rfl
  | 7, _ => rfl
  | 8, _ => rfl
  | 9, _ => rfl
  | n + 10, h => absurd h (by omega)
def fsX2 : List Value := [.null]
theorem dfX2 : ∀ j, j < 1 → defaultValue (tyX2 j) = vp_V fsX2 j
  | 0, _ => rfl
  | n + 1, h => absurd h (by omega)
def fsX3 : List Value := [.int 0, .null, .null, .int 0, .int 0, .null, .int 0, .null, .null, .null, .int 0, .int 0, .null, .null, .int 0, .null, .int 0, .int 0, .int 0, .null, .null, .null, .int 0, .null, .null, .int 0, .null, .int 0, .null, .int 0, .null, .int 0, .null, .int 0, .null, .int 0, .null, .null, .int 0, .null, .int 0, .null, .int 0, .null, .int 0, .null, .null, .null, .int 0, .null, .int 0, .int 0, .null, .int 0, .null, .null, .int 0, .null, .int 0, .int 0, .null]
theorem dfX3 : ∀ j, j < 61 → defaultValue (tyX3 j) = vp_V fsX3 j
  | 0, _ => rfl
  | 1, _ => rfl
  | 2, _ => rfl
  | 3, _ => rfl
  | 4, _ => rfl
  | 5, _ => rfl
  | 6, _ => rfl
  | 7, _ => rfl
  | 8, _ => rfl
  | 9, _ => rfl
  | 10, _ => rfl
  | 11, _ => rfl
  | 12, _ => rfl
  | 13, _ => rfl
  | 14, _ => rfl
  | 15, _ => rfl
  | 16, _ => rfl
  | 17, _ => rfl
  | 18, _ => rfl
  | 19, _ => rfl
  | 20, _ => rfl
  | 21, _ => rfl
  | 22, _ => rfl
  | 23, _ => rfl
  | 24, _ => rfl
  | 25, _ => rfl
  | 26, _ => rfl
  | 27, _ => rfl
  | 28, _ => rfl
  | 29, _ => rfl
  | 30, _ => rfl
  | 31, _ => rfl
  | 32, _ => rfl
  | 33, _ => rfl
  | 34, _ => rfl
  | 35, _ => rfl
  | 36, _ => rfl
  | 37, _ => rfl
  | 38, _ => rfl
  | 39, _ => rfl
  | 40, _ => rfl
  | 41, _ => rfl
  | 42, _ => rfl
  | 43, _ => rfl
  | 44, _ => rfl
  | 45, _ => rfl
  | 46, _ => rfl
  | 47, _ => rfl
  | 48, _ => rfl
  | 49, _ => rfl
  | 50, _ => rfl
  | 51, _ => rfl
  | 52, _ => rfl
  | 53, _ => rfl
  | 54, _ => rfl
  | 55, _ => rfl
  | 56, _ => rfl
  | 57, _ => rfl
  | 58, _ => rfl
  | 59, _ => rfl
  | 60, _ => rfl
  | n + 61, h => absurd h (by omega)
def fsX4 : List Value := [.int 0, .null]
theorem dfX4 : ∀ j, j < 2 → defaultValue (tyX4 j) = vp_V fsX4 j
  | 0, _ => rfl
  | 1, _ => rfl
  | n + 2, h => absurd h (by omega)
def fsX5 : List Value := [.null, .null, .null, .int 0]
theorem dfX5 : ∀ j, j < 4 → defaultValue (tyX5 j) = vp_V fsX5 j
  | 0, _ => rfl
  | 1, _ => rfl
  | 2, _ => rfl
  | 3, _ => rfl
  | n + 4, h => absurd h (by omega)
def fsX6 : List Value := [.int 0, .int 0]
theorem dfX6 : ∀ j, j < 2 → defaultValue (tyX6 j) = vp_V fsX6 j
  | 0, _ => rfl
  | 1, _ => rfl
  | n + 2, h => absurd h (by omega)
def fsX7 : List Value := [.null, .int 0, .int 0]
theorem dfX7 : ∀ j, j < 3 → defaultValue (tyX7 j) = vp_V fsX7 j
  | 0, _ => rfl
  | 1, _ => rfl
  | 2, _ => rfl
  | n + 3, h => absurd h (by omega)
def fsX8 : List Value := [.null, .null, .null, .null, .null, .int 0, .int 0]
theorem dfX8 : ∀ j, j < 7 → defaultValue (tyX8 j) = vp_V fsX8 j
  | 0, _ => rfl
  | 1, _ => rfl
  | 2, _ => rfl
  | 3, _ => rfl
  | 4, _ => rfl
  | 5, _ => rfl
  | 6, _ => rfl
  | n + 7, h => absurd h (by omega)
def fsX9 : List Value := [.null, .null, .null, .int 0, .null, .null]
theorem dfX9 : ∀ j, j < 6 → defaultValue (tyX9 j) = vp_V fsX9 j
  | 0, _ => rfl
  | 1, _ => rfl
  | 2, _ => rfl
  | 3, _ => rfl
  | 4, _ => rfl
  | 5, _ => rfl
  | n + 6, h => absurd h (by omega)
def fsX10 : List Value := [.null, .null]
theorem dfX10 : ∀ j, j < 2 → defaultValue (tyX10 j) = vp_V fsX10 j
  | 0, _ => rfl
  | 1, _ => rfl
  | n + 2, h => absurd h (by omega)
def fsX11 : List Value := [.null, .int 0, .int 0]
theorem dfX11 : ∀ j, j < 3 → defaultValue (tyX11 j) = vp_V fsX11 j
  | 0, _ => rfl
  | 1, _ => rfl
  | 2, _ => rfl
  | n + 3, h => absurd h (by omega)
def fsX12 : List Value := [.int 0, .int 0, .int 0, .null]
theorem dfX12 : ∀ j, j < 4 → defaultValue (tyX12 j) = vp_V fsX12 j
  | 0, _ => rfl
  | 1, _ => rfl
  | 2, _ => rfl
  | 3, _ => rfl
  | n + 4, h => absurd h (by omega)
def fsX13 : List Value := [.null, .null, .null]
theorem dfX13 : ∀ j, j < 3 → defaultValue (tyX13 j) = vp_V fsX13 j
  | 0, _ => rfl
  | 1, _ => rfl
  | 2, _ => rfl
  | n + 3, h => absurd h (by omega)
def tyX14 : Nat → FieldType := fun _ => .int
theorem tyX14_ok : ∀ k, k < 0 → parseFieldDescriptor (TX14 k).2.2.1 = some (tyX14 k) := fun k h => absurd h (Nat.not_lt_zero k)
def fsX14 : List Value := []
theorem dfX14 : ∀ j, j < 0 → defaultValue (tyX14 j) = vp_V fsX14 j := fun j h => absurd h (Nat.not_lt_zero j)
def fsX15 : List Value := [.int 0, .int 0, .int 0]
theorem dfX15 : ∀ j, j < 3 → defaultValue (tyX15 j) = vp_V fsX15 j
  | 0, _ => rfl
  | 1, _ => rfl
  | 2, _ => rfl
  | n + 3, h => absurd h (by omega)
def fsX16 : List Value := [.null, .null, .int 0, .null, .null]
theorem dfX16 : ∀ j, j < 5 → defaultValue (tyX16 j) = vp_V fsX16 j
  | 0, _ => rfl
  | 1, _ => rfl
  | 2, _ => rfl
  | 3, _ => rfl
  | 4, _ => rfl
  | n + 5, h => absurd h (by omega)
def fsX17 : List Value := [.int 0, .null, .null, .null, .int 0]
theorem dfX17 : ∀ j, j < 5 → defaultValue (tyX17 j) = vp_V fsX17 j
  | 0, _ => rfl
  | 1, _ => rfl
  | 2, _ => rfl
  | 3, _ => rfl
  | 4, _ => rfl
  | n + 5, h => absurd h (by omega)
def fsX18 : List Value := [.null, .null]
theorem dfX18 : ∀ j, j < 2 → defaultValue (tyX18 j) = vp_V fsX18 j
  | 0, _ => rfl
  | 1, _ => rfl
  | n + 2, h => absurd h (by omega)
def fsX19 : List Value := [.null, .null, .int 0, .int 0]
theorem dfX19 : ∀ j, j < 4 → defaultValue (tyX19 j) = vp_V fsX19 j
  | 0, _ => rfl
  | 1, _ => rfl
  | 2, _ => rfl
  | 3, _ => rfl
  | n + 4, h => absurd h (by omega)
def fsX20 : List Value := [.null, .int 0, .null, .null, .int 0, .int 0, .int 0]
theorem dfX20 : ∀ j, j < 7 → defaultValue (tyX20 j) = vp_V fsX20 j
  | 0, _ => rfl
  | 1, _ => rfl
  | 2, _ => rfl
  | 3, _ => rfl
  | 4, _ => rfl
  | 5, _ => rfl
  | 6, _ => rfl
  | n + 7, h => absurd h (by omega)
def fsX21 : List Value := [.int 0, .int 0]
theorem dfX21 : ∀ j, j < 2 → defaultValue (tyX21 j) = vp_V fsX21 j
  | 0, _ => rfl
  | 1, _ => rfl
  | n + 2, h => absurd h (by omega)
def fsJ2 : List Value := [.int 0, .null, .int 0]
theorem dfJ2 : ∀ j, j < 3 → defaultValue (tyJ2 j) = vp_V fsJ2 j
  | 0, _ => rfl
  | 1, _ => rfl
  | 2, _ => rfl
  | n + 3, h => absurd h (by omega)
def fsJ3 : List Value := [.null, .int 0, .int 0]
theorem dfJ3 : ∀ j, j < 3 → defaultValue (tyJ3 j) = vp_V fsJ3 j
  | 0, _ => rfl
  | 1, _ => rfl
  | 2, _ => rfl
  | n + 3, h => absurd h (by omega)
def fsJ5 : List Value := [.null, .int 0, .int 0, .int 0]
theorem dfJ5 : ∀ j, j < 4 → defaultValue (tyJ5 j) = vp_V fsJ5 j
  | 0, _ => rfl
  | 1, _ => rfl
  | 2, _ => rfl
  | 3, _ => rfl
  | n + 4, h => absurd h (by omega)
def fsJ6 : List Value := [.null, .int 0, .int 0, .int 0]
theorem dfJ6 : ∀ j, j < 4 → defaultValue (tyJ6 j) = vp_V fsJ6 j
  | 0, _ => rfl
  | 1, _ => rfl
  | 2, _ => rfl
  | 3, _ => rfl
  | n + 4, h => absurd h (by omega)
def fsJ19 : List Value := [.int 0]
theorem dfJ19 : ∀ j, j < 1 → defaultValue (tyJ19 j) = vp_V fsJ19 j
  | 0, _ => rfl
  | n + 1, h => absurd h (by omega)
def fsJ24 : List Value := [.int 0, .int 0, .int 0, .null]
theorem dfJ24 : ∀ j, j < 4 → defaultValue (tyJ24 j) = vp_V fsJ24 j
  | 0, _ => rfl
  | 1, _ => rfl
  | 2, _ => rfl
  | 3, _ => rfl
  | n + 4, h => absurd h (by omega)
def fsJ26 : List Value := [.int 0, .null]
theorem dfJ26 : ∀ j, j < 2 → defaultValue (tyJ26 j) = vp_V fsJ26 j
  | 0, _ => rfl
  | 1, _ => rfl
  | n + 2, h => absurd h (by omega)
def fsJ33 : List Value := [.int 0, .null]
theorem dfJ33 : ∀ j, j < 2 → defaultValue (tyJ33 j) = vp_V fsJ33 j
  | 0, _ => rfl
  | 1, _ => rfl
  | n + 2, h => absurd h (by omega)
def fsJ35 : List Value := [.null, .int 0, .null, .int 0]
theorem dfJ35 : ∀ j, j < 4 → defaultValue (tyJ35 j) = vp_V fsJ35 j
  | 0, _ => rfl
  | 1, _ => rfl
  | 2, _ => rfl
  | 3, _ => rfl
  | n + 4, h => absurd h (by omega)
def fsJ40 : List Value := [.null, .null, .null, .null, .int 0, .int 0, .null, .null, .null]
theorem dfJ40 : ∀ j, j < 9 → defaultValue (tyJ40 j) = vp_V fsJ40 j
  | 0, _ => rfl
  | 1, _ => rfl
  | 2, _ => rfl
  | 3, _ => rfl
  | 4, _ => rfl
  | 5, _ => rfl
  | 6, _ => rfl
  | 7, _ => rfl
  | 8, _ => rfl
  | n + 9, h => absurd h (by omega)
def fsJ41 : List Value := [.null, .null, .null, .null, .null, .int 0]
theorem dfJ41 : ∀ j, j < 6 → defaultValue (tyJ41 j) = vp_V fsJ41 j
  | 0, _ => rfl
  | 1, _ => rfl
  | 2, _ => rfl
  | 3, _ => rfl
  | 4, _ => rfl
  | 5, _ => rfl
  | n + 6, h => absurd h (by omega)
-- ===== helpers =====
theorem nz_n {x : Int32} (h : x = 0 ∨ x = 1) : narrow .boolean (.int x) = .int x := by rcases h with rfl | rfl <;> rfl
theorem nz_f {x : Int32} (h : x = 0 ∨ x = 1) : fits .boolean (.int x) = true := by rcases h with rfl | rfl <;> rfl
theorem nR_o (C : String) (r : Option Nat) : narrow (.object C) (va_rf r) = va_rf r := by cases r <;> rfl
theorem fR_o (C : String) (r : Option Nat) : fits (.object C) (va_rf r) = true := by cases r <;> rfl
theorem nR_a (t : FieldType) (r : Option Nat) : narrow (.array t) (va_rf r) = va_rf r := by cases r <;> rfl
theorem fR_a (t : FieldType) (r : Option Nat) : fits (.array t) (va_rf r) = true := by cases r <;> rfl
def thr (M : hM) (E : String) (X : String → Nat → hM → Prop) : Prop := M.2.1 + 1 ≤ capN ∧ M.2.2 + 6 ≤ capZ ∧ ∀ q, X E q (gExc M)
def nmE : List String := ["java/lang/RuntimeException", "java/lang/Exception"]
theorem nmE_fit : ∀ n ∈ nmE, Bundle.fit n = true := by decide +kernel
theorem sw_toInt {x : Int32} {v : Int} (h1 : x.toInt = v) {y : Int32} (h2 : y.toInt = v) : x = y := Int32.toInt_inj.mp (h1.trans h2.symm)
/-- what an interface call asks -/
theorem lw_F {own : String} {idx : Nat} {C : String} {x y : MethodName} {b : ByteArray} {L : Nat} {r : Option FieldType} (h1 : Cond.methodLink own idx x ∈ lw_all) (h2 : Cond.selects C x y ∈ lw_all) (h3 : Cond.instanceMethod y ∈ lw_all) (h4 : Cond.initialized y.cls ∈ lw_all) (h5 : Cond.code y b L r ∈ lw_all) : GoodIn lw_all (va_wsF own idx C x y (ws_ y b L r)) := by
  refine lw_app ?_ (lw_meth h5)
  intro w hw
  simp only [List.mem_cons, List.not_mem_nil, or_false] at hw
  rcases hw with e | e | e | e
  · rw [e]; exact h1
  · rw [e]; exact h2
  · rw [e]; exact h3
  · rw [e]; exact h4
theorem lw_O {own : String} {idx : Nat} {C owner : String} {x y : MethodName} {b : ByteArray} {L : Nat} {r : Option FieldType} (h1 : Cond.methodLink own idx x ∈ lw_all) (h2 : Cond.sameMethod x.cls owner x.name x.desc ∈ lw_all) (h3 : Cond.instanceMethod ⟨owner, x.name, x.desc⟩ ∈ lw_all) (h4 : Cond.selects C x y ∈ lw_all) (h5 : Cond.instanceMethod y ∈ lw_all) (h6 : Cond.initialized y.cls ∈ lw_all) (h7 : Cond.code y b L r ∈ lw_all) : GoodIn lw_all (va_wsO own idx C owner x y (ws_ y b L r)) := by
  refine lw_app ?_ (lw_meth h7)
  intro w hw
  simp only [List.mem_cons, List.not_mem_nil, or_false] at hw
  rcases hw with e | e | e | e | e | e
  · rw [e]; exact h1
  · rw [e]; exact h2
  · rw [e]; exact h3
  · rw [e]; exact h4
  · rw [e]; exact h5
  · rw [e]; exact h6
theorem lw_U {own : String} {idx : Nat} {C owner : String} {x y : MethodName} {b : ByteArray} {L : Nat} {r : Option FieldType} (h1 : Cond.methodLink own idx x ∈ lw_all) (h2 : Cond.sameMethod x.cls owner x.name x.desc ∈ lw_all) (h4 : Cond.selects C x y ∈ lw_all) (h5 : Cond.instanceMethod y ∈ lw_all) (h6 : Cond.initialized y.cls ∈ lw_all) (h7 : Cond.code y b L r ∈ lw_all) : GoodIn lw_all (va_wsU own idx C owner x y (ws_ y b L r)) := by
  refine lw_app ?_ (lw_meth h7)
  intro w hw
  simp only [List.mem_cons, List.not_mem_nil, or_false] at hw
  rcases hw with e | e | e | e | e
  · rw [e]; exact h1
  · rw [e]; exact h2
  · rw [e]; exact h4
  · rw [e]; exact h5
  · rw [e]; exact h6
-- ===== boxes =====
/-- a is an Integer of value x: one of the cache, or a made one -/
def isBox (g : gT) (M : hM) (a : Nat) (x : Int32) : Prop := (∃ j, j < 256 ∧ a = gK g j ∧ x = vb_c j) ∨ M.1 a = some (.inl (.inr (25, [.int x])))
def gBx (g : gT) (M : hM) (r : Option Nat) (κ : Nat → Prop) : Prop := match r with
  | none => False
  | some b => (∃ z, isBox g M b z) ∧ κ b
theorem gBx_e {g : gT} {M : hM} {r : Option Nat} {κ : Nat → Prop} (h : gBx g M r κ) : ∃ b, r = some b ∧ (∃ z, isBox g M b z) ∧ κ b := by
  cases r with
  | none => exact h.elim
  | some b => exact ⟨b, rfl, h.1, h.2⟩
def ckC (M : hM) (r : Option Nat) (ci : Nat) (A : Prop) : Prop := (∀ b, r = some b → isC M b ci) ∧ A
def ckB (g : gT) (M : hM) (r : Option Nat) (A : Prop) : Prop := (∀ b, r = some b → ∃ z, isBox g M b z) ∧ A
section GB
variable {k : kT} {nL : Nat} {cc : ByteArray} {own : String} {ret : Option FieldType} {fr lc : Nat} {M : hM} {pc : Nat} {lv : List (Option Value)} {st : List Value}
theorem rcvB {b : Nat} (hO : gO1 (kl k) (kg k)) (hC : CX k nL cc own ret fr lc) (h : ∃ z, isBox (kg k) M b z) : isRcv k M b "java/lang/Integer" := by
  intro H locs a1 a2
  obtain ⟨z, h | h⟩ := h
  · obtain ⟨j, hj, rfl, -⟩ := h
    obtain ⟨cell, h1, h2, h3, -⟩ := (hO.2.2.2.1 _ _ (hC.S 0 a2)).1 j hj
    exact ⟨cell, h1, h2, h3⟩
  · exact gRecv (q := (RJ19, TJ19, 1)) hC.K a1 (isC_obj h) rfl
theorem G_castB {r : Option Nat} {nm : String} {index : Nat} (hO : gO1 (kl k) (kg k)) (hC : CX k nL cc own ret fr lc) (hl : Cond.classLink own index nm ∈ lw_all) (hc : Cond.castable "java/lang/Integer" nm ∈ nwAll) (hb : ∀ b, r = some b → ∃ z, isBox (kg k) M b z) (d : decode cc pc = .ok (.checkcast index, 3)) (kk : GW k nL M (pc + 3) lv (va_rf r :: st)) : GW k nL M pc lv (va_rf r :: st) := by
  cases r with
  | none => exact G_castN hC d kk
  | some b => exact G_castY hC hl hc (rcvB hO hC (hb b rfl)) d kk
theorem G_castC {r : Option Nat} {nm C : String} {T : u_T} {N ci index : Nat} (hC : CX k nL cc own ret fr lc) (hcl : vwAll[ci]? = some (C, T, N)) (hl : Cond.classLink own index nm ∈ lw_all) (hc : Cond.castable C nm ∈ nwAll) (hb : ∀ b, r = some b → isC M b ci) (d : decode cc pc = .ok (.checkcast index, 3)) (kk : GW k nL M (pc + 3) lv (va_rf r :: st)) : GW k nL M pc lv (va_rf r :: st) := by
  cases r with
  | none => exact G_castN hC d kk
  | some b => exact G_castY hC hl hc (rcv hC (hb b rfl) hcl) d kk
theorem G_castCS {r : Option Nat} {C : String} {T : u_T} {N ci index : Nat} (hC : CX k nL cc own ret fr lc) (hcl : vwAll[ci]? = some (C, T, N)) (hl : Cond.classLink own index C ∈ lw_all) (hb : ∀ b, r = some b → isC M b ci) (d : decode cc pc = .ok (.checkcast index, 3)) (kk : GW k nL M (pc + 3) lv (va_rf r :: st)) : GW k nL M pc lv (va_rf r :: st) := by
  cases r with
  | none => exact G_castN hC d kk
  | some b => exact fun H locs ls cells slots a1 a2 a3 a4 a5 a6 a7 => va_castS hC.ex hC.by hC.ow (hC.ts _ hl) (hC.K.1 ci _ hcl).2 (rcv hC (hb b rfl) hcl H locs a1 a2) d (kk H locs ls cells slots a1 a2 a3 a4 a5 a6 a7)
theorem G_castBS {r : Option Nat} {index : Nat} (hO : gO1 (kl k) (kg k)) (hC : CX k nL cc own ret fr lc) (hl : Cond.classLink own index "java/lang/Integer" ∈ lw_all) (hb : ∀ b, r = some b → ∃ z, isBox (kg k) M b z) (d : decode cc pc = .ok (.checkcast index, 3)) (kk : GW k nL M (pc + 3) lv (va_rf r :: st)) : GW k nL M pc lv (va_rf r :: st) := by
  cases r with
  | none => exact G_castN hC d kk
  | some b => exact fun H locs ls cells slots a1 a2 a3 a4 a5 a6 a7 => va_castS hC.ex hC.by hC.ow (hC.ts _ hl) (hC.K.1 25 (RJ19, TJ19, 1) rfl).2 (rcvB hO hC (hb b rfl) H locs a1 a2) d (kk H locs ls cells slots a1 a2 a3 a4 a5 a6 a7)
end GB
-- ===== ADT cells =====
def okR (g : gT) (M : hM) (r : Option Nat) : Prop := r = none ∨ ∃ v, r = some v ∧ ((∃ ci, isC M v ci) ∨ ∃ j, j < 256 ∧ v = gK g j)
def gAdtAt (M : hM) (b t : Nat) (κ : List (Option Nat) → List Int32 → Int32 → Nat → Prop) : Prop := match M.1 b with
  | some (.inr x) => x.1 = t ∧ κ x.2.1 x.2.2.1 x.2.2.2.1 x.2.2.2.2
  | _ => False
theorem gAdtAt_e {M : hM} {b t : Nat} {κ : List (Option Nat) → List Int32 → Int32 → Nat → Prop} (h : gAdtAt M b t κ) : ∃ xs is m c, M.1 b = some (.inr (t, xs, is, m, c)) ∧ κ xs is m c := by
  unfold gAdtAt at h
  split at h
  · next x hx =>
    obtain ⟨t', xs, is, m, c⟩ := x
    obtain ⟨h1, h2⟩ := h
    cases h1
    exact ⟨xs, is, m, c, hx, h2⟩
  · exact h.elim
theorem gAdtAt_i {M : hM} {b t : Nat} {xs : List (Option Nat)} {is : List Int32} {m : Int32} {c : Nat} {κ : List (Option Nat) → List Int32 → Int32 → Nat → Prop} (h : M.1 b = some (.inr (t, xs, is, m, c))) (hk : κ xs is m c) : gAdtAt M b t κ := by
  unfold gAdtAt
  simp only [h]
  exact ⟨trivial, hk⟩
def pAdt (M : hM) (b t : Nat) (xs : List (Option Nat)) (is : List Int32) (m : Int32) (c : Nat) : hM := (gUp M.1 b (.inr (t, xs, is, m, c)), M.2)
def cost (M : hM) (n z : Nat) : hM := (M.1, M.2.1 + n, M.2.2 + z)
/-- room for n cells and z slots -/
def hasR (M : hM) (n z : Nat) : Prop := M.2.1 + n ≤ capN ∧ M.2.2 + z ≤ capZ
/-- a new cell where an object of the class was just made -/
def gBorn (M : hM) (b ci : Nat) (fs : List Value) (A : Prop) : Prop := M.1 b = some (.inl (.inr (ci, fs))) ∧ A
-- lists: cap 0: the default empty array; 1: the other empty array; n + 2: an own array of n places
def lCap : Nat → Nat
  | n + 2 => n
  | _ => 0
def lGrow (c n : Nat) : Nat := match c with
  | 0 => if n < 10 then 10 else n
  | 1 => n
  | k + 2 => if n - k < k / 2 then k + k / 2 else n
/-- the list b after its room was made for n places (n more than there is): the cost, and on -/
def lRoom (M : hM) (c n : Nat) (κ : Nat → hM → Prop) : Prop := if n ≤ lCap c then κ c M else hasR M 1 (lGrow c n) ∧ κ (lGrow c n + 2) (cost M 1 (lGrow c n))
def gL (M : hM) (b : Nat) (κ : List (Option Nat) → Int32 → Nat → Prop) : Prop := gAdtAt M b 21 fun xs _ m c => κ xs m c
def pL (M : hM) (b : Nat) (xs : List (Option Nat)) (m : Int32) (c : Nat) : hM := pAdt M b 21 xs [] m c
def L_new (g : gT) (b : Nat) (M : hM) (Q : hM → Prop) : Prop := gBorn M b 21 fsJ2 (Q (pL M b [] 0 0))
def okL (g : gT) (M : hM) (xs : List (Option Nat)) : Prop := ∀ x ∈ xs, okR g M x
def L_newC (g : gT) (b : Nat) (r : Option Nat) (M : hM) (Q : hM → Prop) : Prop := gBorn M b 21 fsJ2 (∃ l, r = some l ∧ gL M l fun xs _ _ => okL g M xs ∧ hasR M 1 xs.length ∧ Q (cost (pL M b xs 0 (if xs.length = 0 then 1 else xs.length + 2)) 1 xs.length))
def L_size (g : gT) (b : Nat) (M : hM) (Q : Int32 → hM → Prop) : Prop := gL M b fun xs _ _ => Q (nI xs.length) M
def L_get (g : gT) (b : Nat) (i : Int32) (M : hM) (Q : Option Nat → hM → Prop) : Prop := gL M b fun xs _ _ => vp_in i xs.length ∧ Q (xs.getD i.toNatClampNeg none) M
def L_add (g : gT) (b : Nat) (r : Option Nat) (M : hM) (Q : Int32 → hM → Prop) : Prop := okR g M r ∧ gL M b fun xs m c => okL g M xs ∧ lRoom M c (xs.length + 1) fun c' M' => Q 1 (pL M' b (xs ++ [r]) (m + 1) c')
def L_ins (g : gT) (b : Nat) (i : Int32) (r : Option Nat) (M : hM) (Q : hM → Prop) : Prop := okR g M r ∧ gL M b fun xs m c => okL g M xs ∧ vp_in i (xs.length + 1) ∧ lRoom M c (xs.length + 1) fun c' M' => Q (pL M' b (xs.take i.toNatClampNeg ++ r :: xs.drop i.toNatClampNeg) (m + 1) c')
def L_rem (g : gT) (b : Nat) (i : Int32) (M : hM) (Q : Option Nat → hM → Prop) : Prop := gL M b fun xs m c => okL g M xs ∧ vp_in i xs.length ∧ Q (xs.getD i.toNatClampNeg none) (pL M b (xs.eraseIdx i.toNatClampNeg) (m + 1) c)
def L_set (g : gT) (b : Nat) (i : Int32) (r : Option Nat) (M : hM) (Q : Option Nat → hM → Prop) : Prop := okR g M r ∧ gL M b fun xs m c => vp_in i xs.length ∧ Q (xs.getD i.toNatClampNeg none) (pL M b (xs.set i.toNatClampNeg r) m c)
def L_emp (g : gT) (b : Nat) (M : hM) (Q : Int32 → hM → Prop) : Prop := gL M b fun xs _ _ => Q (if xs.length = 0 then 1 else 0) M
def L_clr (g : gT) (b : Nat) (M : hM) (Q : hM → Prop) : Prop := gL M b fun _ m c => Q (pL M b [] (m + 1) c)
/-- what addAll's argument holds: a list, or a list of one -/
def collV (M : hM) (r : Option Nat) (κ : Nat → List (Option Nat) → Prop) : Prop := ∃ l, r = some l ∧ ((gL M l fun ys _ _ => κ l ys) ∨ ∃ x, M.1 l = some (.inl (.inr (28, [.int 0, va_rf x]))) ∧ κ l [x])
def L_addA (g : gT) (b : Nat) (r : Option Nat) (M : hM) (Q : Int32 → hM → Prop) : Prop := gL M b fun xs m c => okL g M xs ∧ collV M r fun l ys => l ≠ b ∧ hasR M 4 (ys.length + 8) ∧ (∀ y ∈ ys, okR g M y) ∧ lRoom (cost M 4 (ys.length + 8)) c (xs.length + ys.length) fun c' M' => Q (if ys.length = 0 then 0 else 1) (pL M' b (xs ++ ys) (m + 1) c')
def bxs (g : gT) (M : hM) (xs : List (Option Nat)) (vs : List Int32) : Prop := xs.length = vs.length ∧ ∀ i, i < vs.length → ∃ a, xs[i]? = some (some a) ∧ isBox g M a (vs.getD i 0)
def L_eq (g : gT) (b : Nat) (r : Option Nat) (M : hM) (Q : Int32 → hM → Prop) : Prop := gL M b fun xs _ _ => ∃ l, r = some l ∧ gL M l fun ys _ _ => ∃ vs ws, bxs g M xs vs ∧ bxs g M ys ws ∧ Q (if vs = ws then 1 else 0) M
def fsItr (n : Nat) (lr em : Int32) (l : Nat) : List Value := [.int (nI n), .int lr, .int em, va_rf (some l)]
def L_itr (g : gT) (b : Nat) (M : hM) (Q : Option Nat → hM → Prop) : Prop := gL M b fun _ m _ => nW M 26 (fsItr 0 (-1) m b) fun q M' => Q (some q) M'
def T_has (g : gT) (b : Nat) (M : hM) (Q : Int32 → hM → Prop) : Prop := ∃ n lr em l, M.1 b = some (.inl (.inr (26, fsItr n lr em l))) ∧ gL M l fun xs _ _ => n ≤ xs.length ∧ Q (if n = xs.length then 0 else 1) M
def T_next (g : gT) (b : Nat) (M : hM) (Q : Option Nat → hM → Prop) : Prop := ∃ n lr em l, M.1 b = some (.inl (.inr (26, fsItr n lr em l))) ∧ gL M l fun xs m _ => em = m ∧ n < xs.length ∧ Q (xs.getD n none) (gPut M b 26 (fsItr (n + 1) (nI n) em l))
def B_of (g : gT) (x : Int32) (M : hM) (Q : Option Nat → hM → Prop) : Prop := (∃ j, j < 256 ∧ x = vb_c j ∧ Q (some (gK g j)) M) ∨ ((∀ j, j < 256 → x ≠ vb_c j) ∧ nW M 25 [.int x] fun q M' => Q (some q) M')
def B_val (g : gT) (b : Nat) (M : hM) (Q : Int32 → hM → Prop) : Prop := ∃ x, isBox g M b x ∧ Q x M
def B_eq (g : gT) (b : Nat) (r : Option Nat) (M : hM) (Q : Int32 → hM → Prop) : Prop := ∃ x, isBox g M b x ∧ ∃ c y, r = some c ∧ isBox g M c y ∧ Q (if x = y then 1 else 0) M
def B_cmp (g : gT) (x y : Int32) (M : hM) (Q : Int32 → hM → Prop) : Prop := Q (if x < y then -1 else if x = y then 0 else 1) M
def C_sing (g : gT) (r : Option Nat) (M : hM) (Q : Option Nat → hM → Prop) : Prop := nW M 28 [.int 0, va_rf r] fun q M' => Q (some q) M'
def C_copy (g : gT) (rd rs : Option Nat) (M : hM) (Q : hM → Prop) : Prop := ∃ d s, rd = some d ∧ rs = some s ∧ d ≠ s ∧ gL M d fun xs m c => gL M s fun ys _ _ => ys.length ≤ xs.length ∧ ys.length < 10 ∧ (∀ y ∈ ys, okR g M y) ∧ Q (pL M d (ys ++ xs.drop ys.length) m c)
-- deques of at most 16
def gD' (M : hM) (b : Nat) (κ : List (Option Nat) → Prop) : Prop := gAdtAt M b 22 fun xs _ _ _ => κ xs
def pD (M : hM) (b : Nat) (xs : List (Option Nat)) : hM := pAdt M b 22 xs [] 0 0
def D_new (g : gT) (b : Nat) (M : hM) (Q : hM → Prop) : Prop := gBorn M b 22 fsJ3 (hasR M 1 17 ∧ Q (cost (pD M b []) 1 17))
def D_addF (g : gT) (b : Nat) (r : Option Nat) (M : hM) (Q : hM → Prop) : Prop := okR g M r ∧ r ≠ none ∧ gD' M b fun xs => xs.length < 16 ∧ Q (pD M b (r :: xs))
def D_remL (g : gT) (b : Nat) (M : hM) (Q : Option Nat → hM → Prop) : Prop := gD' M b fun xs => xs ≠ [] ∧ Q (xs.getLast?.join) (pD M b xs.dropLast)
def D_remF (g : gT) (b : Nat) (M : hM) (Q : Option Nat → hM → Prop) : Prop := gD' M b fun xs => xs ≠ [] ∧ Q (xs.head?.join) (pD M b xs.tail)
def D_size (g : gT) (b : Nat) (M : hM) (Q : Int32 → hM → Prop) : Prop := gD' M b fun xs => Q (nI xs.length) M
def D_emp (g : gT) (b : Nat) (M : hM) (Q : Int32 → hM → Prop) : Prop := gD' M b fun xs => Q (if xs.length = 0 then 1 else 0) M
def D_clr (g : gT) (b : Nat) (M : hM) (Q : hM → Prop) : Prop := gD' M b fun _ => Q (pD M b [])
-- maps from boxes to references
def gM' (M : hM) (b : Nat) (κ : List Int32 → List (Option Nat) → Prop) : Prop := gAdtAt M b 30 fun vs ks _ _ => ks.length = vs.length ∧ κ ks vs
def pM' (M : hM) (b : Nat) (ks : List Int32) (vs : List (Option Nat)) : hM := pAdt M b 30 vs ks 0 0
def mFind (ks : List Int32) (vs : List (Option Nat)) (x : Int32) : Option Nat := match ks.idxOf? x with
  | some i => vs.getD i none
  | none => none
def M_new (g : gT) (b : Nat) (M : hM) (Q : hM → Prop) : Prop := gBorn M b 30 fsJ40 (Q (pM' M b [] []))
def M_put (g : gT) (b : Nat) (rk rv : Option Nat) (M : hM) (Q : Option Nat → hM → Prop) : Prop := okR g M rv ∧ ∃ a x, rk = some a ∧ isBox g M a x ∧ gM' M b fun ks vs => match ks.idxOf? x with
  | some i => Q (vs.getD i none) (pM' M b ks (vs.set i rv))
  | none => hasR M 1 6 ∧ ks.length < 1000 ∧ Q none (cost (pM' M b (ks ++ [x]) (vs ++ [rv])) 1 6)
def M_get (g : gT) (b : Nat) (rk : Option Nat) (M : hM) (Q : Option Nat → hM → Prop) : Prop := ∃ a x, rk = some a ∧ isBox g M a x ∧ gM' M b fun ks vs => Q (mFind ks vs x) M
def M_has (g : gT) (b : Nat) (rk : Option Nat) (M : hM) (Q : Int32 → hM → Prop) : Prop := ∃ a x, rk = some a ∧ isBox g M a x ∧ gM' M b fun ks _ => Q (if x ∈ ks then 1 else 0) M
-- queues of moves: the comparator first, then the array
def mvK (M : hM) (r : Option Nat) (κ : Int32 → Int32 → Int32 → Prop) : Prop := ∃ a x y n, r = some a ∧ M.1 a = some (.inl (.inr (14, [.int x, .int y, .int n]))) ∧ κ x y n
/-- a stands no later than b in the order of moves -/
def mvLe (M : hM) (a b : Option Nat) : Prop := mvK M a fun x y n => mvK M b fun x' y' n' => n' < n ∨ (n = n' ∧ (x < x' ∨ (x = x' ∧ y ≤ y')))
def isHeap (M : hM) (hs : List (Option Nat)) : Prop := (∀ h ∈ hs, mvK M h fun _ _ _ => True) ∧ ∀ i, 0 < i → i < hs.length → mvLe M (hs.getD ((i - 1) / 2) none) (hs.getD i none)
def gQ (M : hM) (b : Nat) (κ : Nat → List (Option Nat) → Int32 → Nat → Prop) : Prop := gAdtAt M b 29 fun xs _ m c => match xs with
  | some p :: hs => M.1 p = some (.inl (.inr (13, []))) ∧ κ p hs m c
  | _ => False
def pQ (M : hM) (b p : Nat) (hs : List (Option Nat)) (m : Int32) (c : Nat) : hM := pAdt M b 29 (some p :: hs) [] m c
def qGrow (c : Nat) : Nat := if c < 64 then c + (c + 2) else c + c / 2
def Q_new (g : gT) (b : Nat) (r : Option Nat) (M : hM) (Q : hM → Prop) : Prop := gBorn M b 29 fsJ35 (∃ p, r = some p ∧ M.1 p = some (.inl (.inr (13, []))) ∧ hasR M 1 11 ∧ Q (cost (pQ M b p [] 0 11) 1 11))
def Q_add (g : gT) (b : Nat) (r : Option Nat) (M : hM) (Q : Int32 → hM → Prop) : Prop := (mvK M r fun _ _ _ => True) ∧ gQ M b fun p hs m c => hs.length ≤ c ∧ c ≤ 1000000 ∧ isHeap M hs ∧ (hs.length = c → hasR M 1 (qGrow c)) ∧ ∀ hs', hs'.Perm (hs ++ [r]) → isHeap M hs' →
  Q 1 (if hs.length = c then cost (pQ M b p hs' (m + 1) (qGrow c)) 1 (qGrow c) else pQ M b p hs' (m + 1) c)
def Q_emp (g : gT) (b : Nat) (M : hM) (Q : Int32 → hM → Prop) : Prop := gQ M b fun _ hs _ _ => Q (if hs.length = 0 then 1 else 0) M
def Q_rem (g : gT) (b : Nat) (M : hM) (Q : Option Nat → hM → Prop) : Prop := gQ M b fun p hs m c => hs ≠ [] ∧ hs.length ≤ c ∧ c ≤ 1000000 ∧ (∀ h ∈ hs, mvK M h fun _ _ _ => True) ∧ ∀ hs', hs'.Perm hs.tail → Q (hs.head?.join) (pQ M b p hs' (m + 1) c)
/-- Exception's constructor on an object of SyntaxException: its own field stays -/
def E_init (g : gT) (b : Nat) (M : hM) (Q : hM → Prop) : Prop := ∃ fs, M.1 b = some (.inl (.inr (7, fs))) ∧ fs.length = 7 ∧ ∀ fs', fs'.length = 7 → fs'[6]? = fs[6]? → Q (gPut M b 7 fs')
-- texts
def isCh (x : Int32) : Prop := 0 ≤ x.toInt ∧ x.toInt < 65536
def gS' (M : hM) (b t : Nat) (κ : List Int32 → Prop) : Prop := gAdtAt M b t fun _ cs _ _ => κ cs
def pS (M : hM) (b t : Nat) (cs : List Int32) : hM := pAdt M b t [] cs 0 0
def S_new (g : gT) (b : Nat) (M : hM) (Q : hM → Prop) : Prop := gBorn M b 23 fsJ5 (hasR M 1 16 ∧ Q (cost (pS M b 23 []) 1 16))
def S_app (g : gT) (b : Nat) (x : Int32) (M : hM) (Q : Option Nat → hM → Prop) : Prop := isCh x ∧ gS' M b 23 fun cs => cs.length < 64 ∧ hasR M 2 1000 ∧ Q (some b) (cost (pS M b 23 (cs ++ [x])) 2 1000)
def S_str (g : gT) (b : Nat) (M : hM) (Q : Option Nat → hM → Prop) : Prop := gS' M b 23 fun cs => cs.length ≤ 64 ∧ hasR M 4 1000 ∧ ∀ q, M.1 q = none → Q (some q) (cost (pS M q 24 cs) 4 1000)
def S_len (g : gT) (b : Nat) (M : hM) (Q : Int32 → hM → Prop) : Prop := gS' M b 24 fun cs => Q (nI cs.length) M
def S_chr (g : gT) (b : Nat) (i : Int32) (M : hM) (Q : Int32 → hM → Prop) : Prop := gS' M b 24 fun cs => vp_in i cs.length ∧ Q (cs.getD i.toNatClampNeg 0) M
def S_sbl (g : gT) (b : Nat) (M : hM) (Q : Int32 → hM → Prop) : Prop := gS' M b 23 fun cs => Q (nI cs.length) M
def S_set (g : gT) (b : Nat) (n : Int32) (M : hM) (Q : hM → Prop) : Prop := n = 0 ∧ gS' M b 23 fun _ => Q (pS M b 23 [])
def Jc_L_new (l : Launch) (g : gT) : Prop := ∀ (b : Nat) (M : hM) (Q : hM → Prop), L_new g b M Q → MG l g yJ2_init (ws_ yJ2_init cJ2_init 1 none) 40 2000 [va_rf (some b)] M (PU Q)
def Jc_L_newC (l : Launch) (g : gT) : Prop := ∀ (b : Nat) (p0 : Option Nat) (M : hM) (Q : hM → Prop), L_newC g b p0 M Q → MG l g yJ2_init_2 (ws_ yJ2_init_2 cJ2_init_2 3 none) 40 2000 [va_rf (some b), va_rf p0] M (PU Q)
def Jc_L_size (l : Launch) (g : gT) : Prop := ∀ (b : Nat) (M : hM) (Q : Int32 → hM → Prop), L_size g b M Q → MG l g yJ2_size (ws_ yJ2_size cJ2_size 1 (some .int)) 40 2000 [va_rf (some b)] M (PI Q)
def Jc_L_get (l : Launch) (g : gT) : Prop := ∀ (b : Nat) (p0 : Int32) (M : hM) (Q : Option Nat → hM → Prop), L_get g b p0 M Q → MG l g yJ2_get (ws_ yJ2_get cJ2_get 2 (some (.object "java/lang/Object"))) 40 2000 [va_rf (some b), .int p0] M (PR Q)
def Jc_L_add (l : Launch) (g : gT) : Prop := ∀ (b : Nat) (p0 : Option Nat) (M : hM) (Q : Int32 → hM → Prop), L_add g b p0 M Q → MG l g yJ2_add (ws_ yJ2_add cJ2_add 2 (some .boolean)) 40 2000 [va_rf (some b), va_rf p0] M (PI Q)
def Jc_L_ins (l : Launch) (g : gT) : Prop := ∀ (b : Nat) (p0 : Int32) (p1 : Option Nat) (M : hM) (Q : hM → Prop), L_ins g b p0 p1 M Q → MG l g yJ2_add_3 (ws_ yJ2_add_3 cJ2_add_3 5 none) 40 2000 [va_rf (some b), .int p0, va_rf p1] M (PU Q)
def Jc_L_rem (l : Launch) (g : gT) : Prop := ∀ (b : Nat) (p0 : Int32) (M : hM) (Q : Option Nat → hM → Prop), L_rem g b p0 M Q → MG l g yJ2_remove (ws_ yJ2_remove cJ2_remove 4 (some (.object "java/lang/Object"))) 40 2000 [va_rf (some b), .int p0] M (PR Q)
def Jc_L_set (l : Launch) (g : gT) : Prop := ∀ (b : Nat) (p0 : Int32) (p1 : Option Nat) (M : hM) (Q : Option Nat → hM → Prop), L_set g b p0 p1 M Q → MG l g yJ2_set (ws_ yJ2_set cJ2_set 4 (some (.object "java/lang/Object"))) 40 2000 [va_rf (some b), .int p0, va_rf p1] M (PR Q)
def Jc_L_emp (l : Launch) (g : gT) : Prop := ∀ (b : Nat) (M : hM) (Q : Int32 → hM → Prop), L_emp g b M Q → MG l g yJ2_isEmpty (ws_ yJ2_isEmpty cJ2_isEmpty 1 (some .boolean)) 40 2000 [va_rf (some b)] M (PI Q)
def Jc_L_clr (l : Launch) (g : gT) : Prop := ∀ (b : Nat) (M : hM) (Q : hM → Prop), L_clr g b M Q → MG l g yJ2_clear (ws_ yJ2_clear cJ2_clear 4 none) 40 2000 [va_rf (some b)] M (PU Q)
def Jc_L_addA (l : Launch) (g : gT) : Prop := ∀ (b : Nat) (p0 : Option Nat) (M : hM) (Q : Int32 → hM → Prop), L_addA g b p0 M Q → MG l g yJ2_addAll (ws_ yJ2_addAll cJ2_addAll 6 (some .boolean)) 40 2000 [va_rf (some b), va_rf p0] M (PI Q)
def Jc_L_eq (l : Launch) (g : gT) : Prop := ∀ (b : Nat) (p0 : Option Nat) (M : hM) (Q : Int32 → hM → Prop), L_eq g b p0 M Q → MG l g yJ2_equals (ws_ yJ2_equals cJ2_equals 4 (some .boolean)) 40 2000 [va_rf (some b), va_rf p0] M (PI Q)
def Jc_L_itr (l : Launch) (g : gT) : Prop := ∀ (b : Nat) (M : hM) (Q : Option Nat → hM → Prop), L_itr g b M Q → MG l g yJ2_iterator (ws_ yJ2_iterator cJ2_iterator 1 (some (.object "java/util/Iterator"))) 40 2000 [va_rf (some b)] M (PR Q)
def Jc_T_has (l : Launch) (g : gT) : Prop := ∀ (b : Nat) (M : hM) (Q : Int32 → hM → Prop), T_has g b M Q → MG l g yJ24_hasNext (ws_ yJ24_hasNext cJ24_hasNext 1 (some .boolean)) 40 2000 [va_rf (some b)] M (PI Q)
def Jc_T_next (l : Launch) (g : gT) : Prop := ∀ (b : Nat) (M : hM) (Q : Option Nat → hM → Prop), T_next g b M Q → MG l g yJ24_next (ws_ yJ24_next cJ24_next 3 (some (.object "java/lang/Object"))) 40 2000 [va_rf (some b)] M (PR Q)
def Jc_B_of (l : Launch) (g : gT) : Prop := ∀ (p0 : Int32) (M : hM) (Q : Option Nat → hM → Prop), B_of g p0 M Q → MG l g yJ19_valueOf (ws_ yJ19_valueOf cJ19_valueOf 1 (some (.object "java/lang/Integer"))) 40 2000 [.int p0] M (PR Q)
def Jc_B_val (l : Launch) (g : gT) : Prop := ∀ (b : Nat) (M : hM) (Q : Int32 → hM → Prop), B_val g b M Q → MG l g yJ19_intValue (ws_ yJ19_intValue cJ19_intValue 1 (some .int)) 40 2000 [va_rf (some b)] M (PI Q)
def Jc_B_eq (l : Launch) (g : gT) : Prop := ∀ (b : Nat) (p0 : Option Nat) (M : hM) (Q : Int32 → hM → Prop), B_eq g b p0 M Q → MG l g yJ19_equals (ws_ yJ19_equals cJ19_equals 2 (some .boolean)) 40 2000 [va_rf (some b), va_rf p0] M (PI Q)
def Jc_B_cmp (l : Launch) (g : gT) : Prop := ∀ (p0 : Int32) (p1 : Int32) (M : hM) (Q : Int32 → hM → Prop), B_cmp g p0 p1 M Q → MG l g yJ19_compare (ws_ yJ19_compare cJ19_compare 2 (some .int)) 40 2000 [.int p0, .int p1] M (PI Q)
def Jc_C_sing (l : Launch) (g : gT) : Prop := ∀ (p0 : Option Nat) (M : hM) (Q : Option Nat → hM → Prop), C_sing g p0 M Q → MG l g yJ25_singletonList (ws_ yJ25_singletonList cJ25_singletonList 1 (some (.object "java/util/List"))) 40 2000 [va_rf p0] M (PR Q)
def Jc_C_copy (l : Launch) (g : gT) : Prop := ∀ (p0 : Option Nat) (p1 : Option Nat) (M : hM) (Q : hM → Prop), C_copy g p0 p1 M Q → MG l g yJ25_copy (ws_ yJ25_copy cJ25_copy 6 none) 40 2000 [va_rf p0, va_rf p1] M (PU Q)
def Jc_D_new (l : Launch) (g : gT) : Prop := ∀ (b : Nat) (M : hM) (Q : hM → Prop), D_new g b M Q → MG l g yJ3_init (ws_ yJ3_init cJ3_init 1 none) 40 2000 [va_rf (some b)] M (PU Q)
def Jc_D_addF (l : Launch) (g : gT) : Prop := ∀ (b : Nat) (p0 : Option Nat) (M : hM) (Q : hM → Prop), D_addF g b p0 M Q → MG l g yJ3_addFirst (ws_ yJ3_addFirst cJ3_addFirst 3 none) 40 2000 [va_rf (some b), va_rf p0] M (PU Q)
def Jc_D_remL (l : Launch) (g : gT) : Prop := ∀ (b : Nat) (M : hM) (Q : Option Nat → hM → Prop), D_remL g b M Q → MG l g yJ3_removeLast (ws_ yJ3_removeLast cJ3_removeLast 2 (some (.object "java/lang/Object"))) 40 2000 [va_rf (some b)] M (PR Q)
def Jc_D_remF (l : Launch) (g : gT) : Prop := ∀ (b : Nat) (M : hM) (Q : Option Nat → hM → Prop), D_remF g b M Q → MG l g yJ3_removeFirst (ws_ yJ3_removeFirst cJ3_removeFirst 2 (some (.object "java/lang/Object"))) 40 2000 [va_rf (some b)] M (PR Q)
def Jc_D_size (l : Launch) (g : gT) : Prop := ∀ (b : Nat) (M : hM) (Q : Int32 → hM → Prop), D_size g b M Q → MG l g yJ3_size (ws_ yJ3_size cJ3_size 1 (some .int)) 40 2000 [va_rf (some b)] M (PI Q)
def Jc_D_emp (l : Launch) (g : gT) : Prop := ∀ (b : Nat) (M : hM) (Q : Int32 → hM → Prop), D_emp g b M Q → MG l g yJ3_isEmpty (ws_ yJ3_isEmpty cJ3_isEmpty 1 (some .boolean)) 40 2000 [va_rf (some b)] M (PI Q)
def Jc_D_clr (l : Launch) (g : gT) : Prop := ∀ (b : Nat) (M : hM) (Q : hM → Prop), D_clr g b M Q → MG l g yJ3_clear (ws_ yJ3_clear cJ3_clear 1 none) 40 2000 [va_rf (some b)] M (PU Q)
def Jc_M_new (l : Launch) (g : gT) : Prop := ∀ (b : Nat) (M : hM) (Q : hM → Prop), M_new g b M Q → MG l g yJ40_init (ws_ yJ40_init cJ40_init 1 none) 40 2000 [va_rf (some b)] M (PU Q)
def Jc_M_put (l : Launch) (g : gT) : Prop := ∀ (b : Nat) (p0 : Option Nat) (p1 : Option Nat) (M : hM) (Q : Option Nat → hM → Prop), M_put g b p0 p1 M Q → MG l g yJ40_put (ws_ yJ40_put cJ40_put 3 (some (.object "java/lang/Object"))) 40 2000 [va_rf (some b), va_rf p0, va_rf p1] M (PR Q)
def Jc_M_get (l : Launch) (g : gT) : Prop := ∀ (b : Nat) (p0 : Option Nat) (M : hM) (Q : Option Nat → hM → Prop), M_get g b p0 M Q → MG l g yJ40_get (ws_ yJ40_get cJ40_get 3 (some (.object "java/lang/Object"))) 40 2000 [va_rf (some b), va_rf p0] M (PR Q)
def Jc_M_has (l : Launch) (g : gT) : Prop := ∀ (b : Nat) (p0 : Option Nat) (M : hM) (Q : Int32 → hM → Prop), M_has g b p0 M Q → MG l g yJ40_containsKey (ws_ yJ40_containsKey cJ40_containsKey 2 (some .boolean)) 40 2000 [va_rf (some b), va_rf p0] M (PI Q)
def Jc_Q_new (l : Launch) (g : gT) : Prop := ∀ (b : Nat) (p0 : Option Nat) (M : hM) (Q : hM → Prop), Q_new g b p0 M Q → MG l g yJ35_init (ws_ yJ35_init cJ35_init 2 none) 40 2000 [va_rf (some b), va_rf p0] M (PU Q)
def Jc_Q_add (l : Launch) (g : gT) : Prop := ∀ (b : Nat) (p0 : Option Nat) (M : hM) (Q : Int32 → hM → Prop), Q_add g b p0 M Q → MG l g yJ35_add (ws_ yJ35_add cJ35_add 2 (some .boolean)) 40 2000 [va_rf (some b), va_rf p0] M (PI Q)
def Jc_S_new (l : Launch) (g : gT) : Prop := ∀ (b : Nat) (M : hM) (Q : hM → Prop), S_new g b M Q → MG l g yJ5_init (ws_ yJ5_init cJ5_init 1 none) 40 2000 [va_rf (some b)] M (PU Q)
def Jc_S_app (l : Launch) (g : gT) : Prop := ∀ (b : Nat) (p0 : Int32) (M : hM) (Q : Option Nat → hM → Prop), S_app g b p0 M Q → MG l g yJ5_append_3 (ws_ yJ5_append_3 cJ5_append_3 2 (some (.object "java/lang/StringBuilder"))) 40 2000 [va_rf (some b), .int p0] M (PR Q)
def Jc_S_str (l : Launch) (g : gT) : Prop := ∀ (b : Nat) (M : hM) (Q : Option Nat → hM → Prop), S_str g b M Q → MG l g yJ5_toString (ws_ yJ5_toString cJ5_toString 1 (some (.object "java/lang/String"))) 40 2000 [va_rf (some b)] M (PR Q)
def Jc_S_len (l : Launch) (g : gT) : Prop := ∀ (b : Nat) (M : hM) (Q : Int32 → hM → Prop), S_len g b M Q → MG l g yJ6_length (ws_ yJ6_length cJ6_length 1 (some .int)) 40 2000 [va_rf (some b)] M (PI Q)
def Jc_S_chr (l : Launch) (g : gT) : Prop := ∀ (b : Nat) (p0 : Int32) (M : hM) (Q : Int32 → hM → Prop), S_chr g b p0 M Q → MG l g yJ6_charAt (ws_ yJ6_charAt cJ6_charAt 2 (some .char)) 40 2000 [va_rf (some b), .int p0] M (PI Q)
def Jc_E_init (l : Launch) (g : gT) : Prop := ∀ (b : Nat) (M : hM) (Q : hM → Prop), E_init g b M Q → MG l g yJ12_init_2 (ws_ yJ12_init_2 cJ12_init_2 1 none) 40 2000 [va_rf (some b)] M (PU Q)
def Jc_Q_emp (l : Launch) (g : gT) : Prop := ∀ (b : Nat) (M : hM) (Q : Int32 → hM → Prop), Q_emp g b M Q → MG l g yJ0_isEmpty (ws_ yJ0_isEmpty cJ0_isEmpty 1 (some .boolean)) 40 2000 [va_rf (some b)] M (PI Q)
def Jc_Q_rem (l : Launch) (g : gT) : Prop := ∀ (b : Nat) (M : hM) (Q : Option Nat → hM → Prop), Q_rem g b M Q → MG l g yJ34_remove (ws_ yJ34_remove cJ34_remove 2 (some (.object "java/lang/Object"))) 40 2000 [va_rf (some b)] M (PR Q)
def Jc_S_sbl (l : Launch) (g : gT) : Prop := ∀ (b : Nat) (M : hM) (Q : Int32 → hM → Prop), S_sbl g b M Q → MG l g yJ5_length (ws_ yJ5_length cJ5_length 1 (some .int)) 40 2000 [va_rf (some b)] M (PI Q)
def Jc_S_set (l : Launch) (g : gT) : Prop := ∀ (b : Nat) (p0 : Int32) (M : hM) (Q : hM → Prop), S_set g b p0 M Q → MG l g yJ5_setLength (ws_ yJ5_setLength cJ5_setLength 2 none) 40 2000 [va_rf (some b), .int p0] M (PU Q)
/-- the contracts of the library's members that the class calls -/
def JOK (l : Launch) (g : gT) : Prop := gO1 l g ∧ gOK g ∧ Jc_L_new l g ∧ Jc_L_newC l g ∧ Jc_L_size l g ∧ Jc_L_get l g ∧ Jc_L_add l g ∧ Jc_L_ins l g ∧ Jc_L_rem l g ∧ Jc_L_set l g ∧ Jc_L_emp l g ∧ Jc_L_clr l g ∧ Jc_L_addA l g ∧ Jc_L_eq l g ∧ Jc_L_itr l g ∧ Jc_T_has l g ∧ Jc_T_next l g ∧ Jc_B_of l g ∧ Jc_B_val l g ∧ Jc_B_eq l g ∧ Jc_B_cmp l g ∧ Jc_C_sing l g ∧ Jc_C_copy l g ∧ Jc_D_new l g ∧ Jc_D_addF l g ∧ Jc_D_remL l g ∧ Jc_D_remF l g ∧ Jc_D_size l g ∧ Jc_D_emp l g ∧ Jc_D_clr l g ∧ Jc_M_new l g ∧ Jc_M_put l g ∧ Jc_M_get l g ∧ Jc_M_has l g ∧ Jc_Q_new l g ∧ Jc_Q_add l g ∧ Jc_S_new l g ∧ Jc_S_app l g ∧ Jc_S_str l g ∧ Jc_S_len l g ∧ Jc_S_chr l g ∧ Jc_E_init l g ∧ Jc_Q_emp l g ∧ Jc_Q_rem l g ∧ Jc_S_sbl l g ∧ Jc_S_set l g
theorem J_L_new {l : Launch} {g : gT} {b : Nat} {M : hM} {Q : hM → Prop} (hJ : JOK l g) (hw : L_new g b M Q) : MG l g yJ2_init (ws_ yJ2_init cJ2_init 1 none) 40 2000 [va_rf (some b)] M (PU Q) := hJ.2.2.1 _ _ _ hw
theorem J_L_newC {l : Launch} {g : gT} {b : Nat} {p0 : Option Nat} {M : hM} {Q : hM → Prop} (hJ : JOK l g) (hw : L_newC g b p0 M Q) : MG l g yJ2_init_2 (ws_ yJ2_init_2 cJ2_init_2 3 none) 40 2000 [va_rf (some b), va_rf p0] M (PU Q) := hJ.2.2.2.1 _ _ _ _ hw
theorem J_L_size {l : Launch} {g : gT} {b : Nat} {M : hM} {Q : Int32 → hM → Prop} (hJ : JOK l g) (hw : L_size g b M Q) : MG l g yJ2_size (ws_ yJ2_size cJ2_size 1 (some .int)) 40 2000 [va_rf (some b)] M (PI Q) := hJ.2.2.2.2.1 _ _ _ hw
theorem J_L_get {l : Launch} {g : gT} {b : Nat} {p0 : Int32} {M : hM} {Q : Option Nat → hM → Prop} (hJ : JOK l g) (hw : L_get g b p0 M Q) : MG l g yJ2_get (ws_ yJ2_get cJ2_get 2 (some (.object "java/lang/Object"))) 40 2000 [va_rf (some b), .int p0] M (PR Q) := hJ.2.2.2.2.2.1 _ _ _ _ hw
theorem J_L_add {l : Launch} {g : gT} {b : Nat} {p0 : Option Nat} {M : hM} {Q : Int32 → hM → Prop} (hJ : JOK l g) (hw : L_add g b p0 M Q) : MG l g yJ2_add (ws_ yJ2_add cJ2_add 2 (some .boolean)) 40 2000 [va_rf (some b), va_rf p0] M (PI Q) := hJ.2.2.2.2.2.2.1 _ _ _ _ hw
theorem J_L_ins {l : Launch} {g : gT} {b : Nat} {p0 : Int32} {p1 : Option Nat} {M : hM} {Q : hM → Prop} (hJ : JOK l g) (hw : L_ins g b p0 p1 M Q) : MG l g yJ2_add_3 (ws_ yJ2_add_3 cJ2_add_3 5 none) 40 2000 [va_rf (some b), .int p0, va_rf p1] M (PU Q) := hJ.2.2.2.2.2.2.2.1 _ _ _ _ _ hw
theorem J_L_rem {l : Launch} {g : gT} {b : Nat} {p0 : Int32} {M : hM} {Q : Option Nat → hM → Prop} (hJ : JOK l g) (hw : L_rem g b p0 M Q) : MG l g yJ2_remove (ws_ yJ2_remove cJ2_remove 4 (some (.object "java/lang/Object"))) 40 2000 [va_rf (some b), .int p0] M (PR Q) := hJ.2.2.2.2.2.2.2.2.1 _ _ _ _ hw
theorem J_L_set {l : Launch} {g : gT} {b : Nat} {p0 : Int32} {p1 : Option Nat} {M : hM} {Q : Option Nat → hM → Prop} (hJ : JOK l g) (hw : L_set g b p0 p1 M Q) : MG l g yJ2_set (ws_ yJ2_set cJ2_set 4 (some (.object "java/lang/Object"))) 40 2000 [va_rf (some b), .int p0, va_rf p1] M (PR Q) := hJ.2.2.2.2.2.2.2.2.2.1 _ _ _ _ _ hw
theorem J_L_emp {l : Launch} {g : gT} {b : Nat} {M : hM} {Q : Int32 → hM → Prop} (hJ : JOK l g) (hw : L_emp g b M Q) : MG l g yJ2_isEmpty (ws_ yJ2_isEmpty cJ2_isEmpty 1 (some .boolean)) 40 2000 [va_rf (some b)] M (PI Q) := hJ.2.2.2.2.2.2.2.2.2.2.1 _ _ _ hw
theorem J_L_clr {l : Launch} {g : gT} {b : Nat} {M : hM} {Q : hM → Prop} (hJ : JOK l g) (hw : L_clr g b M Q) : MG l g yJ2_clear (ws_ yJ2_clear cJ2_clear 4 none) 40 2000 [va_rf (some b)] M (PU Q) := hJ.2.2.2.2.2.2.2.2.2.2.2.1 _ _ _ hw
theorem J_L_addA {l : Launch} {g : gT} {b : Nat} {p0 : Option Nat} {M : hM} {Q : Int32 → hM → Prop} (hJ : JOK l g) (hw : L_addA g b p0 M Q) : MG l g yJ2_addAll (ws_ yJ2_addAll cJ2_addAll 6 (some .boolean)) 40 2000 [va_rf (some b), va_rf p0] M (PI Q) := hJ.2.2.2.2.2.2.2.2.2.2.2.2.1 _ _ _ _ hw
theorem J_L_eq {l : Launch} {g : gT} {b : Nat} {p0 : Option Nat} {M : hM} {Q : Int32 → hM → Prop} (hJ : JOK l g) (hw : L_eq g b p0 M Q) : MG l g yJ2_equals (ws_ yJ2_equals cJ2_equals 4 (some .boolean)) 40 2000 [va_rf (some b), va_rf p0] M (PI Q) := hJ.2.2.2.2.2.2.2.2.2.2.2.2.2.1 _ _ _ _ hw
theorem J_L_itr {l : Launch} {g : gT} {b : Nat} {M : hM} {Q : Option Nat → hM → Prop} (hJ : JOK l g) (hw : L_itr g b M Q) : MG l g yJ2_iterator (ws_ yJ2_iterator cJ2_iterator 1 (some (.object "java/util/Iterator"))) 40 2000 [va_rf (some b)] M (PR Q) := hJ.2.2.2.2.2.2.2.2.2.2.2.2.2.2.1 _ _ _ hw
theorem J_T_has {l : Launch} {g : gT} {b : Nat} {M : hM} {Q : Int32 → hM → Prop} (hJ : JOK l g) (hw : T_has g b M Q) : MG l g yJ24_hasNext (ws_ yJ24_hasNext cJ24_hasNext 1 (some .boolean)) 40 2000 [va_rf (some b)] M (PI Q) := hJ.2.2.2.2.2.2.2.2.2.2.2.2.2.2.2.1 _ _ _ hw
theorem J_T_next {l : Launch} {g : gT} {b : Nat} {M : hM} {Q : Option Nat → hM → Prop} (hJ : JOK l g) (hw : T_next g b M Q) : MG l g yJ24_next (ws_ yJ24_next cJ24_next 3 (some (.object "java/lang/Object"))) 40 2000 [va_rf (some b)] M (PR Q) := hJ.2.2.2.2.2.2.2.2.2.2.2.2.2.2.2.2.1 _ _ _ hw
theorem J_B_of {l : Launch} {g : gT} {p0 : Int32} {M : hM} {Q : Option Nat → hM → Prop} (hJ : JOK l g) (hw : B_of g p0 M Q) : MG l g yJ19_valueOf (ws_ yJ19_valueOf cJ19_valueOf 1 (some (.object "java/lang/Integer"))) 40 2000 [.int p0] M (PR Q) := hJ.2.2.2.2.2.2.2.2.2.2.2.2.2.2.2.2.2.1 _ _ _ hw
theorem J_B_val {l : Launch} {g : gT} {b : Nat} {M : hM} {Q : Int32 → hM → Prop} (hJ : JOK l g) (hw : B_val g b M Q) : MG l g yJ19_intValue (ws_ yJ19_intValue cJ19_intValue 1 (some .int)) 40 2000 [va_rf (some b)] M (PI Q) := hJ.2.2.2.2.2.2.2.2.2.2.2.2.2.2.2.2.2.2.1 _ _ _ hw
theorem J_B_eq {l : Launch} {g : gT} {b : Nat} {p0 : Option Nat} {M : hM} {Q : Int32 → hM → Prop} (hJ : JOK l g) (hw : B_eq g b p0 M Q) : MG l g yJ19_equals (ws_ yJ19_equals cJ19_equals 2 (some .boolean)) 40 2000 [va_rf (some b), va_rf p0] M (PI Q) := hJ.2.2.2.2.2.2.2.2.2.2.2.2.2.2.2.2.2.2.2.1 _ _ _ _ hw
theorem J_B_cmp {l : Launch} {g : gT} {p0 : Int32} {p1 : Int32} {M : hM} {Q : Int32 → hM → Prop} (hJ : JOK l g) (hw : B_cmp g p0 p1 M Q) : MG l g yJ19_compare (ws_ yJ19_compare cJ19_compare 2 (some .int)) 40 2000 [.int p0, .int p1] M (PI Q) := hJ.2.2.2.2.2.2.2.2.2.2.2.2.2.2.2.2.2.2.2.2.1 _ _ _ _ hw
theorem J_C_sing {l : Launch} {g : gT} {p0 : Option Nat} {M : hM} {Q : Option Nat → hM → Prop} (hJ : JOK l g) (hw : C_sing g p0 M Q) : MG l g yJ25_singletonList (ws_ yJ25_singletonList cJ25_singletonList 1 (some (.object "java/util/List"))) 40 2000 [va_rf p0] M (PR Q) := hJ.2.2.2.2.2.2.2.2.2.2.2.2.2.2.2.2.2.2.2.2.2.1 _ _ _ hw
theorem J_C_copy {l : Launch} {g : gT} {p0 : Option Nat} {p1 : Option Nat} {M : hM} {Q : hM → Prop} (hJ : JOK l g) (hw : C_copy g p0 p1 M Q) : MG l g yJ25_copy (ws_ yJ25_copy cJ25_copy 6 none) 40 2000 [va_rf p0, va_rf p1] M (PU Q) := hJ.2.2.2.2.2.2.2.2.2.2.2.2.2.2.2.2.2.2.2.2.2.2.1 _ _ _ _ hw
theorem J_D_new {l : Launch} {g : gT} {b : Nat} {M : hM} {Q : hM → Prop} (hJ : JOK l g) (hw : D_new g b M Q) : MG l g yJ3_init (ws_ yJ3_init cJ3_init 1 none) 40 2000 [va_rf (some b)] M (PU Q) := hJ.2.2.2.2.2.2.2.2.2.2.2.2.2.2.2.2.2.2.2.2.2.2.2.1 _ _ _ hw
theorem J_D_addF {l : Launch} {g : gT} {b : Nat} {p0 : Option Nat} {M : hM} {Q : hM → Prop} (hJ : JOK l g) (hw : D_addF g b p0 M Q) : MG l g yJ3_addFirst (ws_ yJ3_addFirst cJ3_addFirst 3 none) 40 2000 [va_rf (some b), va_rf p0] M (PU Q) := hJ.2.2.2.2.2.2.2.2.2.2.2.2.2.2.2.2.2.2.2.2.2.2.2.2.1 _ _ _ _ hw
theorem J_D_remL {l : Launch} {g : gT} {b : Nat} {M : hM} {Q : Option Nat → hM → Prop} (hJ : JOK l g) (hw : D_remL g b M Q) : MG l g yJ3_removeLast (ws_ yJ3_removeLast cJ3_removeLast 2 (some (.object "java/lang/Object"))) 40 2000 [va_rf (some b)] M (PR Q) := hJ.2.2.2.2.2.2.2.2.2.2.2.2.2.2.2.2.2.2.2.2.2.2.2.2.2.1 _ _ _ hw
theorem J_D_remF {l : Launch} {g : gT} {b : Nat} {M : hM} {Q : Option Nat → hM → Prop} (hJ : JOK l g) (hw : D_remF g b M Q) : MG l g yJ3_removeFirst (ws_ yJ3_removeFirst cJ3_removeFirst 2 (some (.object "java/lang/Object"))) 40 2000 [va_rf (some b)] M (PR Q) := hJ.2.2.2.2.2.2.2.2.2.2.2.2.2.2.2.2.2.2.2.2.2.2.2.2.2.2.1 _ _ _ hw
theorem J_D_size {l : Launch} {g : gT} {b : Nat} {M : hM} {Q : Int32 → hM → Prop} (hJ : JOK l g) (hw : D_size g b M Q) : MG l g yJ3_size (ws_ yJ3_size cJ3_size 1 (some .int)) 40 2000 [va_rf (some b)] M (PI Q) := hJ.2.2.2.2.2.2.2.2.2.2.2.2.2.2.2.2.2.2.2.2.2.2.2.2.2.2.2.1 _ _ _ hw
theorem J_D_emp {l : Launch} {g : gT} {b : Nat} {M : hM} {Q : Int32 → hM → Prop} (hJ : JOK l g) (hw : D_emp g b M Q) : MG l g yJ3_isEmpty (ws_ yJ3_isEmpty cJ3_isEmpty 1 (some .boolean)) 40 2000 [va_rf (some b)] M (PI Q) := hJ.2.2.2.2.2.2.2.2.2.2.2.2.2.2.2.2.2.2.2.2.2.2.2.2.2.2.2.2.1 _ _ _ hw
theorem J_D_clr {l : Launch} {g : gT} {b : Nat} {M : hM} {Q : hM → Prop} (hJ : JOK l g) (hw : D_clr g b M Q) : MG l g yJ3_clear (ws_ yJ3_clear cJ3_clear 1 none) 40 2000 [va_rf (some b)] M (PU Q) := hJ.2.2.2.2.2.2.2.2.2.2.2.2.2.2.2.2.2.2.2.2.2.2.2.2.2.2.2.2.2.1 _ _ _ hw
theorem J_M_new {l : Launch} {g : gT} {b : Nat} {M : hM} {Q : hM → Prop} (hJ : JOK l g) (hw : M_new g b M Q) : MG l g yJ40_init (ws_ yJ40_init cJ40_init 1 none) 40 2000 [va_rf (some b)] M (PU Q) := hJ.2.2.2.2.2.2.2.2.2.2.2.2.2.2.2.2.2.2.2.2.2.2.2.2.2.2.2.2.2.2.1 _ _ _ hw
theorem J_M_put {l : Launch} {g : gT} {b : Nat} {p0 : Option Nat} {p1 : Option Nat} {M : hM} {Q : Option Nat → hM → Prop} (hJ : JOK l g) (hw : M_put g b p0 p1 M Q) : MG l g yJ40_put (ws_ yJ40_put cJ40_put 3 (some (.object "java/lang/Object"))) 40 2000 [va_rf (some b), va_rf p0, va_rf p1] M (PR Q) := hJ.2.2.2.2.2.2.2.2.2.2.2.2.2.2.2.2.2.2.2.2.2.2.2.2.2.2.2.2.2.2.2.1 _ _ _ _ _ hw
theorem J_M_get {l : Launch} {g : gT} {b : Nat} {p0 : Option Nat} {M : hM} {Q : Option Nat → hM → Prop} (hJ : JOK l g) (hw : M_get g b p0 M Q) : MG l g yJ40_get (ws_ yJ40_get cJ40_get 3 (some (.object "java/lang/Object"))) 40 2000 [va_rf (some b), va_rf p0] M (PR Q) := hJ.2.2.2.2.2.2.2.2.2.2.2.2.2.2.2.2.2.2.2.2.2.2.2.2.2.2.2.2.2.2.2.2.1 _ _ _ _ hw
theorem J_M_has {l : Launch} {g : gT} {b : Nat} {p0 : Option Nat} {M : hM} {Q : Int32 → hM → Prop} (hJ : JOK l g) (hw : M_has g b p0 M Q) : MG l g yJ40_containsKey (ws_ yJ40_containsKey cJ40_containsKey 2 (some .boolean)) 40 2000 [va_rf (some b), va_rf p0] M (PI Q) := hJ.2.2.2.2.2.2.2.2.2.2.2.2.2.2.2.2.2.2.2.2.2.2.2.2.2.2.2.2.2.2.2.2.2.1 _ _ _ _ hw
theorem J_Q_new {l : Launch} {g : gT} {b : Nat} {p0 : Option Nat} {M : hM} {Q : hM → Prop} (hJ : JOK l g) (hw : Q_new g b p0 M Q) : MG l g yJ35_init (ws_ yJ35_init cJ35_init 2 none) 40 2000 [va_rf (some b), va_rf p0] M (PU Q) := hJ.2.2.2.2.2.2.2.2.2.2.2.2.2.2.2.2.2.2.2.2.2.2.2.2.2.2.2.2.2.2.2.2.2.2.1 _ _ _ _ hw
theorem J_Q_add {l : Launch} {g : gT} {b : Nat} {p0 : Option Nat} {M : hM} {Q : Int32 → hM → Prop} (hJ : JOK l g) (hw : Q_add g b p0 M Q) : MG l g yJ35_add (ws_ yJ35_add cJ35_add 2 (some .boolean)) 40 2000 [va_rf (some b), va_rf p0] M (PI Q) := hJ.2.2.2.2.2.2.2.2.2.2.2.2.2.2.2.2.2.2.2.2.2.2.2.2.2.2.2.2.2.2.2.2.2.2.2.1 _ _ _ _ hw
theorem J_S_new {l : Launch} {g : gT} {b : Nat} {M : hM} {Q : hM → Prop} (hJ : JOK l g) (hw : S_new g b M Q) : MG l g yJ5_init (ws_ yJ5_init cJ5_init 1 none) 40 2000 [va_rf (some b)] M (PU Q) := hJ.2.2.2.2.2.2.2.2.2.2.2.2.2.2.2.2.2.2.2.2.2.2.2.2.2.2.2.2.2.2.2.2.2.2.2.2.1 _ _ _ hw
theorem J_S_app {l : Launch} {g : gT} {b : Nat} {p0 : Int32} {M : hM} {Q : Option Nat → hM → Prop} (hJ : JOK l g) (hw : S_app g b p0 M Q) : MG l g yJ5_append_3 (ws_ yJ5_append_3 cJ5_append_3 2 (some (.object "java/lang/StringBuilder"))) 40 2000 [va_rf (some b), .int p0] M (PR Q) := hJ.2.2.2.2.2.2.2.2.2.2.2.2.2.2.2.2.2.2.2.2.2.2.2.2.2.2.2.2.2.2.2.2.2.2.2.2.2.1 _ _ _ _ hw
theorem J_S_str {l : Launch} {g : gT} {b : Nat} {M : hM} {Q : Option Nat → hM → Prop} (hJ : JOK l g) (hw : S_str g b M Q) : MG l g yJ5_toString (ws_ yJ5_toString cJ5_toString 1 (some (.object "java/lang/String"))) 40 2000 [va_rf (some b)] M (PR Q) := hJ.2.2.2.2.2.2.2.2.2.2.2.2.2.2.2.2.2.2.2.2.2.2.2.2.2.2.2.2.2.2.2.2.2.2.2.2.2.2.1 _ _ _ hw
theorem J_S_len {l : Launch} {g : gT} {b : Nat} {M : hM} {Q : Int32 → hM → Prop} (hJ : JOK l g) (hw : S_len g b M Q) : MG l g yJ6_length (ws_ yJ6_length cJ6_length 1 (some .int)) 40 2000 [va_rf (some b)] M (PI Q) := hJ.2.2.2.2.2.2.2.2.2.2.2.2.2.2.2.2.2.2.2.2.2.2.2.2.2.2.2.2.2.2.2.2.2.2.2.2.2.2.2.1 _ _ _ hw
theorem J_S_chr {l : Launch} {g : gT} {b : Nat} {p0 : Int32} {M : hM} {Q : Int32 → hM → Prop} (hJ : JOK l g) (hw : S_chr g b p0 M Q) : MG l g yJ6_charAt (ws_ yJ6_charAt cJ6_charAt 2 (some .char)) 40 2000 [va_rf (some b), .int p0] M (PI Q) := hJ.2.2.2.2.2.2.2.2.2.2.2.2.2.2.2.2.2.2.2.2.2.2.2.2.2.2.2.2.2.2.2.2.2.2.2.2.2.2.2.2.1 _ _ _ _ hw
theorem J_E_init {l : Launch} {g : gT} {b : Nat} {M : hM} {Q : hM → Prop} (hJ : JOK l g) (hw : E_init g b M Q) : MG l g yJ12_init_2 (ws_ yJ12_init_2 cJ12_init_2 1 none) 40 2000 [va_rf (some b)] M (PU Q) := hJ.2.2.2.2.2.2.2.2.2.2.2.2.2.2.2.2.2.2.2.2.2.2.2.2.2.2.2.2.2.2.2.2.2.2.2.2.2.2.2.2.2.1 _ _ _ hw
theorem J_Q_emp {l : Launch} {g : gT} {b : Nat} {M : hM} {Q : Int32 → hM → Prop} (hJ : JOK l g) (hw : Q_emp g b M Q) : MG l g yJ0_isEmpty (ws_ yJ0_isEmpty cJ0_isEmpty 1 (some .boolean)) 40 2000 [va_rf (some b)] M (PI Q) := hJ.2.2.2.2.2.2.2.2.2.2.2.2.2.2.2.2.2.2.2.2.2.2.2.2.2.2.2.2.2.2.2.2.2.2.2.2.2.2.2.2.2.2.1 _ _ _ hw
theorem J_Q_rem {l : Launch} {g : gT} {b : Nat} {M : hM} {Q : Option Nat → hM → Prop} (hJ : JOK l g) (hw : Q_rem g b M Q) : MG l g yJ34_remove (ws_ yJ34_remove cJ34_remove 2 (some (.object "java/lang/Object"))) 40 2000 [va_rf (some b)] M (PR Q) := hJ.2.2.2.2.2.2.2.2.2.2.2.2.2.2.2.2.2.2.2.2.2.2.2.2.2.2.2.2.2.2.2.2.2.2.2.2.2.2.2.2.2.2.2.1 _ _ _ hw
theorem J_S_sbl {l : Launch} {g : gT} {b : Nat} {M : hM} {Q : Int32 → hM → Prop} (hJ : JOK l g) (hw : S_sbl g b M Q) : MG l g yJ5_length (ws_ yJ5_length cJ5_length 1 (some .int)) 40 2000 [va_rf (some b)] M (PI Q) := hJ.2.2.2.2.2.2.2.2.2.2.2.2.2.2.2.2.2.2.2.2.2.2.2.2.2.2.2.2.2.2.2.2.2.2.2.2.2.2.2.2.2.2.2.2.1 _ _ _ hw
theorem J_S_set {l : Launch} {g : gT} {b : Nat} {p0 : Int32} {M : hM} {Q : hM → Prop} (hJ : JOK l g) (hw : S_set g b p0 M Q) : MG l g yJ5_setLength (ws_ yJ5_setLength cJ5_setLength 2 none) 40 2000 [va_rf (some b), .int p0] M (PU Q) := hJ.2.2.2.2.2.2.2.2.2.2.2.2.2.2.2.2.2.2.2.2.2.2.2.2.2.2.2.2.2.2.2.2.2.2.2.2.2.2.2.2.2.2.2.2.2 _ _ _ _ hw
