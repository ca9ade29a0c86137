/-! THE finally OF readDocument -/
set_option maxRecDepth 100000
abbrev hhR : List (Nat × Nat × Nat × Nat) := [(0, 56, 66, 141), (0, 56, 85, 0), (66, 75, 85, 0), (85, 87, 85, 0)]
theorem hdR_J5_setLength : yJ5_setLength.cls = "java/lang/StringBuilder" ∧ yJ5_setLength.cls ≠ "java/lang/invoke/MethodHandle" ∧ yJ5_setLength.cls ≠ "java/lang/invoke/VarHandle" ∧ (parseMethodDescriptor yJ5_setLength.desc).map (fun d => d.parameters.length) = some 1 := by decide +kernel
/-- an object whose class is known is thrown on, past the table -/
theorem W_athrow {k : kT} {nL : Nat} {cc : ByteArray} {own : String} {ret : Option FieldType} {fr lc : Nat} {M : hM} {pc : Nat} {st : List Value} {P : Option Value → hM → Prop} {PX : String → Nat → hM → Prop} {E : String} {q : Nat} {H : Heap} {locs : List Loc} {ls : Array Slot} {cells slots : Nat} {ce : Cell}
    (hC : CX k nL cc own ret fr lc) (hno : ∀ x ∈ (kc k).exceptionTable.toList, covers x pc = false) (hQ : isQX k P PX) (d : decode cc pc = .ok (.athrow, 1)) (hw : PX E q M)
    (a1 : Rel (kg k) M.1 H) (a2 : va_S (gA (kg k)) (ks k).heap H locs) (a4 : kN k + cells = M.2.1) (a5 : kZ k + slots = M.2.2) (a6 : M.2.1 ≤ capN) (a7 : M.2.2 ≤ capZ) (c1 : H[q]? = some ce) (c2 : ce.vm = .none) (c3 : (ks k).vm.findClass E = some ce.cls) :
    W (kp k) (kl k) (ke k) (kR k) (ks k) (km k) (ka k) (kb k) (kt k) (kc k) H locs cells slots (kQ k) (F0 (km k) pc ls (.ref q :: st)) := by
  intro T9 hT X
  have hsz := stand_size X
  rw [hT] at hsz
  have hrc := hC.rc
  have hrs := hC.rs
  obtain ⟨s1, s2, s3, s4, s5⟩ := X.athrowLeaves hC.ex (g := F0 (km k) pc ls (.ref q :: st)) rfl rfl rfl hno (a := q) (rest := st) rfl (by rw [hC.by]; exact d) hC.lk
  rw [hQ]
  refine ⟨_, s1, .threw q, s2, s3, Or.inr ⟨q, rfl, E, ce, locs, ⟨⟨M, hw, ?_, by omega, by omega, a6, a7, ?_, ?_⟩, ?_⟩, ?_, c2, c3, s4, s5.mono (by omega) (by omega), a2.2.2⟩⟩
  · show Rel _ _ T9.heap
    rw [hT]; exact a1
  · show T9.heap.size ≤ _
    rw [hT]; omega
  · show tot T9.heap ≤ _
    rw [hT]; omega
  · exact a2.F (t := T9.setFrames (.throwing q :: kb k)) hT
  · show T9.heap[q]? = _
    rw [hT]; exact c1
/-- input.setLength(0), then on with the exception -/
def finW (g : gT) (a0 : Nat) (E : String) (q : Nat) (M : hM) (X : String → Nat → hM → Prop) : Prop := gF M (some a0) 0 2 fun r => gThis M r 23 fun b => S_set g b 0 M fun M' => X E q M'
theorem GX_fin {k : kT} {fr lc : Nat} {M : hM} {pc a0 : Nat} {lv : List (Option Value)} {st : List Value} {P : Option Value → hM → Prop} {PX : String → Nat → hM → Prop} {E : String} {q : Nat} (hJ : JOK (kl k) (kg k)) (hC : CX k 5 cX1_readDocument RX1 (some .int) fr lc) (htab : (kc k).exceptionTable.toList = tableOf hhR) (hQ : isQX k P PX)
    (hpc : pc < 56) (hE : (E, "MergeWorkbench$SyntaxException") ∈ ncAll) (hlv : lv[0]? = some (some (.ref a0))) (hl5 : lv.length = 5) (hrm : rmOK fr lc 40 2000 2 = true)
    (hw : finW (kg k) a0 E q M PX) : GX k 5 M E q pc lv st := by
  intro H locs ls cells slots ce a1 a2 a3 a4 a5 a6 a7 a8 a9 a10
  refine vx_catchAny hC.ow [⟨0, 56, 66, 141⟩] ⟨0, 56, 85, 0⟩ [⟨66, 75, 85, 0⟩, ⟨85, 87, 85, 0⟩] (htab.trans rfl) (passL_use hJ.1 hC (pc := pc) (E := E) ⟨Or.inr ⟨by decide, _, q1750, hE⟩, trivial⟩) (by simp [covers, hpc]) rfl a8 a9 a10 ?_
  refine lv_astore hC.ex hC.by dX1_readDocument_85 a3.has (by decide) rfl (fun ls9 h9 => ?_)
  have b3 : LV ls9 5 (lv.set 4 (some (.ref q))) := a3.st rfl h9
  refine lv_aload_n hC.ex hC.by dX1_readDocument_87 rfl (b3.2.2 0 (.ref a0) (by rw [List.getElem?_set_ne (by decide)]; exact hlv)).1 ?_
  obtain ⟨a, fs, e, hm, hv⟩ := gObj_e (show gF M (some a0) 0 2 _ from hw)
  cases e
  obtain ⟨ws, q0, hP, hD, hq, -⟩ := gRel_get a1 hm
  cases hf : fs[2]? with
  | none => rw [hf] at hv; exact hv.elim
  | some v =>
    rw [hf] at hv
    obtain ⟨r, rfl, hx⟩ := rfV_e hv
    refine va_get hC.ex hC.by hC.ts in_X1 hC.ow hC.K hP q0 hq rfl 2 (by decide) (hC.ts _ q696) (fun _ h => h) hf dX1_readDocument_88 ?_
    obtain ⟨b, rfl, hb, hw2⟩ := gThis_e hx
    refine lv_iconst hC.ex hC.by dX1_readDocument_91 (v := 0) rfl ?_
    have hrc := hC.rc
    have hrs := hC.rs
    intro T hT X
    obtain ⟨v, st₀, t, T', L, h0, X', hL, e1, e2, hqq, hgo⟩ := va_runV (As := [.int 0]) (rest := []) ⟨hC.ex, hC.by, hC.ml, hC.ow, hC.ts⟩ ((J_S_set hJ hw2) H.size (tot H)) (cwV 1 hC.ts (lw_V q2118 q2119 q2120 q91 q2121) rfl rfl rfl hdR_J5_setLength (rm_ok hrm hC.hfr hC.hlc)) ⟨WU_blind hC.ok, rcv (C := RJ5) (T := TJ5) (N := 4) hC hb rfl H locs a1 a2, fun U hU hW => ⟨rfl, WU_now hC a1 a2 a6 a7 hU hW⟩⟩ rfl rfl b3.1 rfl (lv_room (st_c cat_e (Nat.le_of_ble_eq_true rfl))) dX1_readDocument_92 ⟨by omega, by omega⟩ T hT X
    obtain ⟨⟨v', M', hv', hp, hR, n1, n2, n3, n4, n5, n6⟩, hF, hKc⟩ := hqq
    obtain ⟨rfl, hp⟩ := hp
    cases hv'
    obtain ⟨ce', k1, k2, k3⟩ := hKc q ce (by rw [h0]; exact a8)
    obtain ⟨s1, s2⟩ := stand_size X
    rw [hT] at s1 s2
    have X2 := stand_tight X' (k := M'.2.1 - kN k) (n := M'.2.2 - kZ k) (by rw [e1]; omega) (by rw [e1]; omega)
    obtain ⟨f1, f2⟩ := hF
    rw [h0] at f1 f2
    have hn : ∀ x ∈ (kc k).exceptionTable.toList, covers x 97 = false := by
      rw [htab]
      decide
    obtain ⟨t2, b1, b2⟩ := lv_aload hC.ex hC.by dX1_readDocument_95 (rest := []) (b3.2.2 4 (.ref q) (by rw [List.getElem?_set_self (by omega)])).1
      (W_athrow (ls := ls9) (st := []) hC hn hQ dX1_readDocument_97 hp hR ⟨Nat.le_trans a2.1 f1, fun q q1 q2 => (f2 q (Nat.lt_of_lt_of_le q1 a2.1) q2).trans (a2.2.1 q q1 q2), fun q hq => (List.mem_append.mp hq).elim (a2.2.2 q) (hL q)⟩ (by omega) (by omega) n3 n4 k1 (k3.trans a9) (a10.trans (by rw [k2]))) T' e1 X2
    exact ⟨t2, hgo t2 b1, b2⟩
