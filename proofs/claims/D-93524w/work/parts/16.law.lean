/-! THE LAW: of the skeleton; rows for its body -/
set_option maxRecDepth 100000
/-! THE CLAIM OUT OF ONE WALK OF THE LAW'S BODY. Your part is whole_start (and what it stands on); all else here is the same for every law, but numbers. -/
def R_law : String := "MergeWorkbenchLaw"
def lw_P (b : Addr) (xs : List Int32) (args : Array Value) (s : State) : Prop := args = #[.ref b] ∧ s.IntsAt b xs ∧ xs.length ≤ 96 ∧ (Jvm.Cond.and given_1 narrow_1).before args s = true
def lw_Q (_ : Array Value) (s : State) (o : Outcome) (t : State) : Prop := o = .returned (some (.int 1)) ∧ Framed s o t [] 1200144 5493754
def lw_Z (below : List Frame) (a : Array Value) (s : State) : State → Prop := fun t => ∃ o, t.status = .running ∧ Ended t below o ∧ lw_Q a s o t
/-- the law's own end, with 1 on the stack, nothing written that was there before, its room as the claim has it -/
theorem lw_ret {p : Program} {l : Launch} {e : Env} {s : State} {m : MethodId} {below : List Frame} {meth : Method} {c : Code} {b : Nat} (hx : p.tables.exec = Jvm.exec) (hb : c.code = code) (hr : meth.sig.returnType = ret) (hlocks : meth.locks = false) {pc : Nat} {H : Heap} {ls : Array Slot} (hdg : decode code pc = .ok (.ireturn, 1)) : W p l e room_1 s m #[Value.ref b] below meth c H [] 1200144 5493754 (lw_Z below #[Value.ref b] s) (F0 m pc ls [.int 1]) := by
  intro T hT X
  obtain ⟨fs, hret, hrun, hended, hW, hframe⟩ := X.leave (v := some (.int 1)) (hlocks := hlocks) (fun h => by rw [hr] at h; cases h)
  have hmeth' : T.vm.method? m = some meth := X.method'
  refine ⟨T.setFrames fs, ?_, .returned (some (.int 1)), hrun, hended, rfl, ⟨_, rfl⟩, hW, hframe⟩
  jvm_step X.here [X.here.top, hx, hb, hdg, hmeth', hr, ret, narrow_b1]
  (try refine ⟨rfl, ?_⟩); (try refine ⟨rfl, ?_⟩)
  first | (intro acts; rw [hret _ acts rfl rfl rfl]) | rw [hret _ _ rfl rfl rfl]
  exact Steps.refl _
/-- what holds at the law's entry: the machine, the code, the tables' words (any of lw_tbl by 'hts w (by decide +kernel)'), the script of L ints xs at the cell b, what the Statement gives of the start (any of its parts by flat_of_before) -/
def lw_At (p : Program) (s : State) (m : MethodId) (meth : Method) (c : Code) (b L : Nat) (xs : Nat → Int32) : Prop :=
  p.tables.exec = Jvm.exec ∧ c.code = code ∧ meth.sig.returnType = ret ∧ c.maxLocals = 9 ∧ s.vm.findClass R_law = some m.cls ∧ (∀ w ∈ lw_tbl, w.before #[Value.ref b] s = true) ∧ va_X b L xs s s.heap ∧ b < s.heap.size ∧ meth.locks = false ∧ (Jvm.Cond.and given_1 narrow_1).before #[Value.ref b] s = true

-- ===== mine from here =====
def isQL (k : kT) (b L : Nat) (xs : Nat → Int32) : Prop := kQ k = lw_Z (kb k) #[Value.ref b] (ks k) ∧ ka k = #[Value.ref b] ∧ kR k = room_1 ∧ kN k = 0 ∧ kZ k = 0 ∧ gZ (kg k) = (ks k).heap.size ∧ va_X b L xs (ks k) (ks k).heap ∧ b < (ks k).heap.size
def sldW (L : Nat) (xs : Nat → Int32) (i : Int32) (κ : Int32 → Prop) : Prop := vp_in i L ∧ κ (xs i.toNatClampNeg)
/-- a double in a local, beside what LV tells -/
def GWD (k : kT) (nL : Nat) (M : hM) (i : Nat) (x : UInt64) (pc : Nat) (lv : List (Option Value)) (st : List Value) : Prop :=
  ∀ (H : Heap) (locs : List Loc) (ls : Array Slot) (cells slots : Nat), Rel (kg k) M.1 H → va_S (gA (kg k)) (ks k).heap H locs → LV ls nL lv → kN k + cells = M.2.1 → kZ k + slots = M.2.2 → M.2.1 ≤ capN → M.2.2 ≤ capZ → ls[i]? = some (.val (.double x)) →
    W (kp k) (kl k) (ke k) (kR k) (ks k) (km k) (ka k) (kb k) (kt k) (kc k) H locs cells slots (kQ k) (F0 (km k) pc ls st)
section G16
variable {k : kT} {nL : Nat} {cc : ByteArray} {own : String} {ret : Option FieldType} {fr lc : Nat} {M : hM} {pc : Nat} {lv : List (Option Value)} {st : List Value}
theorem G_slen {b L : Nat} {xs : Nat → Int32} (hC : CX k nL cc own ret fr lc) (hL : isQL k b L xs) (d : decode cc pc = .ok (.arraylength, 1)) (kk : GW k nL M (pc + 1) lv (.int (Int32.ofNat L) :: st)) : GW k nL M pc lv (va_rf (some b) :: st) := fun H locs ls cells slots a1 a2 a3 a4 a5 a6 a7 =>
  va_slen hC.ex hC.by hL.2.2.2.2.2.2.1 hL.2.2.2.2.2.2.2 (show ¬ gA (kg k) b by unfold gA; rw [hL.2.2.2.2.2.1]; exact Nat.not_le.mpr hL.2.2.2.2.2.2.2) a2 d (kk H locs ls cells slots a1 a2 a3 a4 a5 a6 a7)
theorem G_sld {b L : Nat} {xs : Nat → Int32} {i : Int32} {κ : Int32 → Prop} (hC : CX k nL cc own ret fr lc) (hL : isQL k b L xs) (d : decode cc pc = .ok (.iaload, 1)) (hw : sldW L xs i κ) (kk : ∀ x, κ x → GW k nL M (pc + 1) lv (.int x :: st)) : GW k nL M pc lv (.int i :: va_rf (some b) :: st) := fun H locs ls cells slots a1 a2 a3 a4 a5 a6 a7 =>
  va_sld hC.ex hC.by hL.2.2.2.2.2.2.1 hL.2.2.2.2.2.2.2 (show ¬ gA (kg k) b by unfold gA; rw [hL.2.2.2.2.2.1]; exact Nat.not_le.mpr hL.2.2.2.2.2.2.2) a2 hw.1 d (kk _ hw.2 H locs ls cells slots a1 a2 a3 a4 a5 a6 a7)
theorem G_lret {b L : Nat} {xs : Nat → Int32} (hC : CX k nL code own (some .boolean) fr lc) (hL : isQL k b L xs) (d : decode code pc = .ok (.ireturn, 1)) : GW k nL M pc lv [.int 1] := fun H locs ls cells slots a1 a2 a3 a4 a5 a6 a7 => by
  refine va_forget (fun q hq => ?_) (W.widen (k := 1200144) (n := 5493754) ?_ ?_ ?_)
  · have := a2.2.2 q hq
    unfold gA at this
    rw [hL.2.2.2.2.2.1] at this
    exact this
  · have h1 := hL.2.2.2.1
    have : M.2.1 ≤ 1200144 := a6
    omega
  · have h1 := hL.2.2.2.2.1
    have : M.2.2 ≤ 5493754 := a7
    omega
  · rw [hL.1, hL.2.1, hL.2.2.1]
    exact lw_ret hC.ex hC.by hC.rt hC.lk d
-- ===== with a double =====
theorem G_dstoreD {i : Nat} {x : UInt64} {lw : List (Option Value)} (hC : CX k nL cc own ret fr lc) (d : decode cc pc = .ok (.dstore i, 2)) (hn : i + 1 < nL) (hlv : (lv.set i none).set (i + 1) none = lw) (kk : GWD k nL M i x (pc + 2) lw st) : GW k nL M pc lv (.double x :: st) := fun H locs ls cells slots a1 a2 a3 a4 a5 a6 a7 => by
  refine lv_dstore hC.ex hC.by d a3.has hn rfl (fun ls9 h9 => kk H locs ls9 cells slots a1 a2 ?_ a4 a5 a6 a7 (h9.2.2 _ List.mem_cons_self))
  refine ⟨h9.1, h9.2.1, fun j v hj => ?_⟩
  subst hlv
  by_cases h1 : j = i + 1
  · subst h1
    exfalso
    by_cases h2 : i + 1 < ((lv.set i none).set (i + 1) none).length
    · rw [List.getElem?_set_self (by simpa using h2)] at hj
      cases hj
    · rw [List.getElem?_eq_none (by omega)] at hj
      cases hj
  · rw [List.getElem?_set_ne (Ne.symm h1)] at hj
    by_cases h3 : j = i
    · subst h3
      exfalso
      by_cases h2 : j < (lv.set j none).length
      · rw [List.getElem?_set_self (by simpa using h2)] at hj
        cases hj
      · rw [List.getElem?_eq_none (by omega)] at hj
        cases hj
    · rw [List.getElem?_set_ne (Ne.symm h3)] at hj
      have hc := (a3.2.2 j v hj).2
      exact ⟨h9.2.2 (j, v) (List.mem_cons_of_mem _ (List.mem_filter.mpr ⟨lvL_mem.mpr hj, by simp [h1, h3, hc]⟩)), hc⟩
variable {di : Nat} {dx : UInt64}
theorem D_drop (h : GW k nL M pc lv st) : GWD k nL M di dx pc lv st := fun H locs ls cells slots a1 a2 a3 a4 a5 a6 a7 _ => h H locs ls cells slots a1 a2 a3 a4 a5 a6 a7
theorem D_iconst {n : Int} {v : Int32} (hC : CX k nL cc own ret fr lc) (d : decode cc pc = .ok (.iconst n, 1)) (hv : Int32.ofInt n = v) (kk : GWD k nL M di dx (pc + 1) lv (.int v :: st)) : GWD k nL M di dx pc lv st := fun H locs ls cells slots a1 a2 a3 a4 a5 a6 a7 a8 => lv_iconst hC.ex hC.by d hv (kk H locs ls cells slots a1 a2 a3 a4 a5 a6 a7 a8)
theorem D_aload_n {j : Fin 4} {i : Nat} {r : Nat} (hC : CX k nL cc own ret fr lc) (d : decode cc pc = .ok (.aload_n j, 1)) (hj : (j : Nat) = i) (hl : lv[i]? = some (some (va_rf (some r)))) (kk : GWD k nL M di dx (pc + 1) lv (va_rf (some r) :: st)) : GWD k nL M di dx pc lv st := fun H locs ls cells slots a1 a2 a3 a4 a5 a6 a7 a8 => lv_aload_n hC.ex hC.by d hj (a3.2.2 _ _ hl).1 (kk H locs ls cells slots a1 a2 a3 a4 a5 a6 a7 a8)
theorem D_aload {i : Nat} {r : Option Nat} (hC : CX k nL cc own ret fr lc) (d : decode cc pc = .ok (.aload i, 2)) (hl : lv[i]? = some (some (va_rf r))) (kk : GWD k nL M di dx (pc + 2) lv (va_rf r :: st)) : GWD k nL M di dx pc lv st := fun H locs ls cells slots a1 a2 a3 a4 a5 a6 a7 a8 => by
  cases r with
  | none => exact lv_aloadN hC.ex hC.by d (a3.2.2 _ _ hl).1 (kk H locs ls cells slots a1 a2 a3 a4 a5 a6 a7 a8)
  | some a => exact lv_aload hC.ex hC.by d (a3.2.2 _ _ hl).1 (kk H locs ls cells slots a1 a2 a3 a4 a5 a6 a7 a8)
theorem D_iload {i : Nat} {x : Int32} (hC : CX k nL cc own ret fr lc) (d : decode cc pc = .ok (.iload i, 2)) (hl : lv[i]? = some (some (.int x))) (kk : GWD k nL M di dx (pc + 2) lv (.int x :: st)) : GWD k nL M di dx pc lv st := fun H locs ls cells slots a1 a2 a3 a4 a5 a6 a7 a8 => lv_iload hC.ex hC.by d (a3.2.2 _ _ hl).1 (kk H locs ls cells slots a1 a2 a3 a4 a5 a6 a7 a8)
theorem D_dload {i : Nat} (hC : CX k nL cc own ret fr lc) (d : decode cc pc = .ok (.dload i, 2)) (hi : i = di) (kk : GWD k nL M di dx (pc + 2) lv (.double dx :: st)) : GWD k nL M di dx pc lv st := fun H locs ls cells slots a1 a2 a3 a4 a5 a6 a7 a8 => lv_dload hC.ex hC.by d (hi ▸ a8) (kk H locs ls cells slots a1 a2 a3 a4 a5 a6 a7 a8)
theorem D_dcmp {x y : UInt64} {op : CmpOp} (hC : CX k nL cc own ret fr lc) (d : decode cc pc = .ok (.dcmp op, 1)) (kk : GWD k nL M di dx (pc + 1) lv (.int (Op.cmpValue (FP.dcmp x y) op) :: st)) : GWD k nL M di dx pc lv (.double y :: .double x :: st) := fun H locs ls cells slots a1 a2 a3 a4 a5 a6 a7 a8 => lv_dcmp hC.ex hC.by d (kk H locs ls cells slots a1 a2 a3 a4 a5 a6 a7 a8)
theorem D_if_eq {x : Int32} {off : Int} {tgt : Nat} (hC : CX k nL cc own ret fr lc) (d : decode cc pc = .ok (.ifCond .eq off, 3)) (ht : (pc : Int) + off = (tgt : Int)) (kt : x = 0 → GWD k nL M di dx tgt lv st) (kf : ¬ (x = 0) → GWD k nL M di dx (pc + 3) lv st) : GWD k nL M di dx pc lv (.int x :: st) := fun H locs ls cells slots a1 a2 a3 a4 a5 a6 a7 a8 => lv_if_eq hC.ex hC.by d ht (fun hc => kt hc H locs ls cells slots a1 a2 a3 a4 a5 a6 a7 a8) (fun hc => kf hc H locs ls cells slots a1 a2 a3 a4 a5 a6 a7 a8)
theorem D_icmp_eq {x y : Int32} {off : Int} {tgt : Nat} (hC : CX k nL cc own ret fr lc) (d : decode cc pc = .ok (.if_icmp .eq off, 3)) (ht : (pc : Int) + off = (tgt : Int)) (kt : x = y → GWD k nL M di dx tgt lv st) (kf : ¬ (x = y) → GWD k nL M di dx (pc + 3) lv st) : GWD k nL M di dx pc lv (.int y :: .int x :: st) := fun H locs ls cells slots a1 a2 a3 a4 a5 a6 a7 a8 => lv_icmp_eq hC.ex hC.by d ht (fun hc => kt hc H locs ls cells slots a1 a2 a3 a4 a5 a6 a7 a8) (fun hc => kf hc H locs ls cells slots a1 a2 a3 a4 a5 a6 a7 a8)
theorem D_if_ne {x : Int32} {off : Int} {tgt : Nat} (hC : CX k nL cc own ret fr lc) (d : decode cc pc = .ok (.ifCond .ne off, 3)) (ht : (pc : Int) + off = (tgt : Int)) (kt : ¬ x = 0 → GWD k nL M di dx tgt lv st) (kf : x = 0 → GWD k nL M di dx (pc + 3) lv st) : GWD k nL M di dx pc lv (.int x :: st) := fun H locs ls cells slots a1 a2 a3 a4 a5 a6 a7 a8 => lv_if_ne hC.ex hC.by d ht (fun hc => kt hc H locs ls cells slots a1 a2 a3 a4 a5 a6 a7 a8) (fun hc => kf hc H locs ls cells slots a1 a2 a3 a4 a5 a6 a7 a8)
theorem D_dald {r : Option Nat} {i : Int32} {κ : UInt64 → Prop} (hC : CX k nL cc own ret fr lc) (d : decode cc pc = .ok (.daload, 1)) (hw : aD M r i κ) (kk : ∀ x, κ x → GWD k nL M di dx (pc + 1) lv (.double x :: st)) : GWD k nL M di dx pc lv (.int i :: va_rf r :: st) := fun H locs ls cells slots a1 a2 a3 a4 a5 a6 a7 a8 => by
  obtain ⟨a, t, x, rfl, hm, rfl, hin, hk⟩ := gArr_e hw
  obtain ⟨ws, q0, hP, hD, hq, -⟩ := gRel_get a1 hm
  obtain ⟨n, f⟩ := x
  rcases f with f | f | f | f | f
  · exact hk.elim
  · exact hk.elim
  · exact hk.elim
  · exact va_dald hC.ex hC.by hC.K hP q0 2 hq rfl hin d (kk _ hk H locs ls cells slots a1 a2 a3 a4 a5 a6 a7 a8)
  · exact hk.elim
theorem kID {Q : Int32 → hM → Prop} {rest : List Value} (h : ∀ x M', Q x M' → GWD k nL M' di dx pc lv (.int x :: rest)) : ∀ v M', PI Q v M' → GWD k nL M' di dx pc lv (v.toList ++ rest) := by
  rintro v M' ⟨x, rfl, hx⟩
  exact h x M' hx
theorem D_callV {y : MethodName} {bytes : ByteArray} {maxL index n fr' lc' b : Nat} {rt : Option FieldType} {C : String} {As rest : List Value} {P : Option Value → hM → Prop} (hC : CX k nL cc own ret fr lc) (hM : MG (kl k) (kg k) y (ws_ y bytes maxL rt) fr' lc' (.ref b :: As) M P) (hG : GoodIn lw_all (wsV own index C y (ws_ y bytes maxL rt))) (hd : y.cls = C ∧ y.cls ≠ "java/lang/invoke/MethodHandle" ∧ y.cls ≠ "java/lang/invoke/VarHandle" ∧ (parseMethodDescriptor y.desc).map (fun d => d.parameters.length) = some n) (hrm : rmOK fr lc fr' lc' maxL = true) (hb : isRcv k M b C) (hn : As.length = n) (hst : st = As.reverse ++ .ref b :: rest) (hs : stS rest) (d : decode cc pc = .ok (.invokevirtual index, 3))
    (kk : ∀ v M', P v M' → GWD k nL M' di dx (pc + 3) lv (v.toList ++ rest)) : GWD k nL M di dx pc lv st := by
  intro H locs ls cells slots a1 a2 a3 a4 a5 a6 a7 a8
  have hrc := hC.rc
  have hrs := hC.rs
  intro T hT X
  obtain ⟨v, st₀, t, T', L, h0, X', hL, e1, e2, hq, hgo⟩ := va_runV (g := F0 (km k) pc ls st) ⟨hC.ex, hC.by, hC.ml, hC.ow, hC.ts⟩ (hM H.size (tot H)) (cwV n hC.ts hG rfl rfl rfl hd (rm_ok hrm hC.hfr hC.hlc)) ⟨WU_blind hC.ok, hb H locs a1 a2, fun U hU hW => ⟨rfl, WU_now hC a1 a2 a6 a7 hU hW⟩⟩ rfl hn a3.1 hst (lv_room hs) d ⟨by omega, by omega⟩ T hT X
  obtain ⟨⟨v', M', hv, hp, hR, n1, n2, n3, n4, n5, n6⟩, hF, -⟩ := hq
  cases hv
  obtain ⟨s1, s2⟩ := stand_size X
  rw [hT] at s1 s2
  have X2 := stand_tight X' (k := M'.2.1 - kN k) (n := M'.2.2 - kZ k) (by rw [e1]; omega) (by rw [e1]; omega)
  obtain ⟨f1, f2⟩ := hF
  rw [h0] at f1 f2
  obtain ⟨t2, b1, b2⟩ := kk v M' hp t.heap (locs ++ L) ls _ _ hR ⟨Nat.le_trans a2.1 f1, fun q q1 q2 => (f2 q (Nat.lt_of_lt_of_le q1 a2.1) q2).trans (a2.2.1 q q1 q2), fun q hq => (List.mem_append.mp hq).elim (a2.2.2 q) (hL q)⟩ a3 (by omega) (by omega) n3 n4 a8 T' e1 X2
  exact ⟨t2, hgo t2 b1, b2⟩
end G16
