/-! HANDLERS over the abstract heap -/
set_option maxRecDepth 100000
theorem MX_ofH {l : Launch} {g : gT} {y : MethodName} {cc : ByteArray} {nL fr lc : Nat} {ret : Option FieldType} {av : List Value} {M : hM} {P : Option Value → hM → Prop} {PX : String → Nat → hM → Prop} {hh : List (Nat × Nat × Nat × Nat)} (hok : gOK g) (hy : plainName y.cls = true) (hcat : ∀ w ∈ av, w.category = 1) (hlen : av.length ≤ nL)
    (body : ∀ k : kT, kl k = l → kg k = g → (kt k).name = y.name → (kc k).exceptionTable.toList = tableOf hh → isQX k P PX → CX k nL cc y.cls ret fr lc → GW k nL M 0 (lvA nL av) []) : MX l g y (wsW_ y cc nL ret hh) fr lc av M P PX := by
  intro hs ht
  refine vx_ofWH (cc := cc) (maxL := nL) (ret := ret) (hh := hh) hy rfl ?_
  intro p e s m args below meth c s₁ B hml hv
  obtain ⟨rfl, hsz, htt, hR, hB, h1, h2⟩ := hv
  have hts := atoms_spec (ws := wsW_ y cc nL ret hh) B.pre
  have htab := vx_table (x := y) B (hts _ List.mem_cons_self)
  have hts : ∀ w ∈ lw_all, w.before _ s = true := fun w h => hts w (List.mem_cons_of_mem _ h)
  subst hsz
  subst htt
  have hcells : capN - M.2.1 + M.2.1 = capN := Nat.sub_add_cancel h1
  have hslots : capZ - M.2.2 + M.2.2 = capZ := Nat.sub_add_cancel h2
  have hl := lg_sl_cat hcat
  have hin : meth.name = y.name := (name_of_methodNamed B.named B.method).1
  have hb := body (g, l, p, e, { frames := fr, cells := capN - M.2.1, slots := capZ - M.2.2, locals := lc }, s, m, av.toArray, below, meth, c, M.2.1, M.2.2, vx_MQ below (QG g M.2.1 M.2.2 s.heap.size (tot s.heap) P) (XG g M.2.1 M.2.2 s.heap.size (tot s.heap) PX) av.toArray s (capN - M.2.1) (capZ - M.2.2) (gA g)) rfl rfl hin htab rfl
    ⟨B.exec, B.bytes, B.returns, hml, findClass_of_methodNamed B.named, hts, B.notSynchronized, hB, hcells, hslots, hok, Nat.le_refl _, Nat.le_refl _⟩
  rw [lg_entry_eq]
  exact hb s.heap [] _ 0 0 hR va_S.rf (LV.entry hcat (by rw [hl]; exact hlen)) rfl rfl h1 h2
/-- rows of a table that are passed -/
def passL (own E : String) (pc : Nat) : List ExceptionTableEntry → Prop
  | [] => True
  | z :: l => (covers z pc = false ∨ (z.catchType ≠ 0 ∧ ∃ nm : String, Cond.classLink own z.catchType nm ∈ lw_all ∧ (E, nm) ∈ ncAll)) ∧ passL own E pc l
theorem passL_mem {own E : String} {pc : Nat} : ∀ {l : List ExceptionTableEntry}, passL own E pc l → ∀ z ∈ l, covers z pc = false ∨ (z.catchType ≠ 0 ∧ ∃ nm : String, Cond.classLink own z.catchType nm ∈ lw_all ∧ (E, nm) ∈ ncAll)
  | [], _, z, h => nomatch h
  | y :: l, h, z, hz => (List.mem_cons.mp hz).elim (fun e => e ▸ h.1) (passL_mem h.2 z)
theorem vx_catchAny {p : Program} {l : Launch} {e : Env} {R : Room} {s : State} {m : MethodId} {args : Array Value} {below : List Frame} {meth : Method} {c : Code} {H : Heap} {locs : List Loc} {cells slots : Nat} {Q : State → Prop} {ls : Array Slot} {rest : List Value} {pc : Nat}
    {own : String} {E : String} {ce : Cell} {q : Addr} (hown : s.vm.findClass own = some m.cls) (pre : List ExceptionTableEntry) (x : ExceptionTableEntry) (suf : List ExceptionTableEntry) (hsplit : c.exceptionTable.toList = pre ++ x :: suf)
    (hpass : ∀ z ∈ pre, covers z pc = false ∨ (z.catchType ≠ 0 ∧ ∃ nm : String, (Cond.classLink own z.catchType nm).before args s = true ∧ va_Nc E nm s)) (hx : covers x pc = true) (h0 : x.catchType = 0)
    (hcell : H[q]? = some ce) (hv : ce.vm = .none) (hcl : s.vm.findClass E = some ce.cls)
    (kk : W p l e R s m args below meth c H locs cells slots Q (F0 m x.handlerPc ls [.ref q])) : vx_W p l e R s m args below meth c H locs cells slots Q (F0 m pc ls rest) q := by
  intro T hT X
  have hpl : e.platform.magicAccessors = ({} : Platform).magicAccessors := by rw [X.admits.platform]
  obtain ⟨vm', X', st⟩ := X.thenCaughtThrough q (g := F0 m pc ls rest) rfl (Steps.refl _) (by rw [hT]; exact hcell) (by rw [hv]; rfl) (by obtain ⟨k9, h9, -⟩ := Vm.findClass_spec hcl; exact ⟨k9, h9⟩) pre x suf hsplit
    (fun z hz => by
      rcases hpass z hz with h | ⟨hz0, nm, hl1, hn1⟩
      · exact Or.inl h
      · obtain ⟨c6, hc6, hcl6⟩ := Cond.classLink_spec hown hl1 e.platform hpl
        obtain ⟨a8, b8, h1, h2, h3⟩ := hn1
        cases Option.some.inj (h1.symm.trans hcl)
        cases Option.some.inj (h2.symm.trans hc6)
        exact Or.inr ⟨hz0, _, hcl6, h3⟩) hx (Or.inl h0)
  obtain ⟨t, a1, b1⟩ := kk (T.setVm vm') hT X'
  exact ⟨t, st.trans a1, b1⟩
section GH14
variable {k : kT} {nL : Nat} {cc : ByteArray} {own : String} {ret : Option FieldType} {fr lc : Nat} {M : hM} {pc : Nat} {lv : List (Option Value)} {st : List Value}
theorem passL_use {E : String} (hO : gO1 (kl k) (kg k)) (hC : CX k nL cc own ret fr lc) {l : List ExceptionTableEntry} (h : passL own E pc l) : ∀ z ∈ l, covers z pc = false ∨ (z.catchType ≠ 0 ∧ ∃ nm : String, (Cond.classLink own z.catchType nm).before (ka k) (ks k) = true ∧ va_Nc E nm (ks k)) := by
  intro z hz
  rcases passL_mem h z hz with h1 | ⟨h1, nm, h2, h3⟩
  · exact Or.inl h1
  · exact Or.inr ⟨h1, nm, hC.ts _ h2, hO.2.2.2.2.2.2 _ _ (hC.bs.2.2.2.2 4) _ h3⟩
/-- caught by a row that names a class -/
theorem GX_catch {E name : String} {q : Nat} {hh : List (Nat × Nat × Nat × Nat)} (hO : gO1 (kl k) (kg k)) (hC : CX k nL cc own ret fr lc) (htab : (kc k).exceptionTable.toList = tableOf hh)
    (pre : List ExceptionTableEntry) (x : ExceptionTableEntry) (suf : List ExceptionTableEntry) (hsplit : tableOf hh = pre ++ x :: suf) (hpass : passL own E pc pre) (hx : covers x pc = true) (h0 : x.catchType ≠ 0)
    (hlink : Cond.classLink own x.catchType name ∈ lw_all) (hcast : Cond.castable E name ∈ nwAll) {tgt : Nat} (ht : x.handlerPc = tgt) (kk : GW k nL M tgt lv [va_rf (some q)]) : GX k nL M E q pc lv st := by
  intro H locs ls cells slots ce a1 a2 a3 a4 a5 a6 a7 a8 a9 a10
  subst ht
  exact vx_catch hC.ow pre x suf (htab.trans hsplit) (passL_use hO hC hpass) hx h0 (hC.ts _ hlink) (va_Nw.use (nw_tab hcast) (hC.nw hcast)) a8 a9 a10 (kk H locs ls cells slots a1 a2 a3 a4 a5 a6 a7)
section CALLSW
variable {y : MethodName} {bytes : ByteArray} {maxL index n fr' lc' b : Nat} {rt : Option FieldType} {C : String} {As rest : List Value} {P : Option Value → hM → Prop} {PX : String → Nat → hM → Prop} {hh : List (Nat × Nat × Nat × Nat)}
theorem GX_callSW (hC : CX k nL cc own ret fr lc) (hM : MX (kl k) (kg k) y (wsW_ y bytes maxL rt hh) fr' lc' As M P PX) (hT : GoodIn lw_all (va_wsS own index y (wsW_ y bytes maxL rt hh))) (hd : y.cls ≠ "java/lang/invoke/MethodHandle" ∧ y.cls ≠ "java/lang/invoke/VarHandle" ∧ (parseMethodDescriptor y.desc).map (fun d => d.parameters.length) = some n) (hrm : rmOK fr lc fr' lc' maxL = true) (hn : As.length = n) (hst : st = As.reverse ++ rest) (hs : stS rest) (d : decode cc pc = .ok (.invokestatic index, 3))
    (kx : ∀ E q M', PX E q M' → GX k nL M' E q pc lv rest) (kk : ∀ v M', P v M' → GW k nL M' (pc + 3) lv (v.toList ++ rest)) : GW k nL M pc lv st := by
  refine GX_run (A := As.toArray) hC (fun H locs ls cells slots a1 a2 a3 a4 a5 a6 a7 => ?_) kx kk
  have hrc := hC.rc
  have hrs := hC.rs
  exact vx_runSX ⟨hC.ex, hC.by, hC.ml, hC.ow, hC.ts⟩ (hM H.size (tot H)) (vx_cwSW n hC.ts hT rfl rfl rfl hd (rm_ok hrm hC.hfr hC.hlc)) ⟨WU_blind hC.ok, fun U hU hW => ⟨rfl, WU_now hC a1 a2 a6 a7 hU hW⟩⟩ rfl hn a3 hst (lv_room hs) d ⟨by omega, by omega⟩
theorem GX_callVW (hC : CX k nL cc own ret fr lc) (hM : MX (kl k) (kg k) y (wsW_ y bytes maxL rt hh) fr' lc' (.ref b :: As) M P PX) (hT : GoodIn lw_all (wsV own index C y (wsW_ y bytes maxL rt hh))) (hd : y.cls = C ∧ y.cls ≠ "java/lang/invoke/MethodHandle" ∧ y.cls ≠ "java/lang/invoke/VarHandle" ∧ (parseMethodDescriptor y.desc).map (fun d => d.parameters.length) = some n) (hrm : rmOK fr lc fr' lc' maxL = true) (hb : isRcv k M b C) (hn : As.length = n) (hst : st = As.reverse ++ .ref b :: rest) (hs : stS rest) (d : decode cc pc = .ok (.invokevirtual index, 3))
    (kx : ∀ E q M', PX E q M' → GX k nL M' E q pc lv rest) (kk : ∀ v M', P v M' → GW k nL M' (pc + 3) lv (v.toList ++ rest)) : GW k nL M pc lv st := by
  refine GX_run (A := (Value.ref b :: As).toArray) hC (fun H locs ls cells slots a1 a2 a3 a4 a5 a6 a7 => ?_) kx kk
  have hrc := hC.rc
  have hrs := hC.rs
  exact vx_runVX ⟨hC.ex, hC.by, hC.ml, hC.ow, hC.ts⟩ (hM H.size (tot H)) (vx_cwVW n hC.ts hT rfl rfl rfl hd (rm_ok hrm hC.hfr hC.hlc)) ⟨WU_blind hC.ok, hb H locs a1 a2, fun U hU hW => ⟨rfl, WU_now hC a1 a2 a6 a7 hU hW⟩⟩ rfl hn a3 hst (lv_room hs) d ⟨by omega, by omega⟩
end CALLSW
end GH14
