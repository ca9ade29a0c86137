/-! METHODS THAT MAY THROW, over the abstract heap -/
set_option maxRecDepth 100000
def XG (g : gT) (N0 Z0 hs ht : Nat) (PX : String → Nat → hM → Prop) : String → Nat → State → State → Prop := fun E q st t =>
  (∃ M' : hM, PX E q M' ∧ Rel g M'.1 t.heap ∧ N0 ≤ M'.2.1 ∧ Z0 ≤ M'.2.2 ∧ M'.2.1 ≤ capN ∧ M'.2.2 ≤ capZ ∧ t.heap.size ≤ hs + (M'.2.1 - N0) ∧ tot t.heap ≤ ht + (M'.2.2 - Z0)) ∧ va_F (gA g) st t
def MX (l : Launch) (g : gT) (y : MethodName) (ws : List Cond) (fr lc : Nat) (av : List Value) (M : hM) (P : Option Value → hM → Prop) (PX : String → Nat → hM → Prop) : Prop :=
  ∀ hs ht : Nat, vx_Met l y ws { frames := fr, cells := capN - M.2.1, slots := capZ - M.2.2, locals := lc } (va_Pc av (WU g M hs ht)) (QG g M.2.1 M.2.2 hs ht P) (XG g M.2.1 M.2.2 hs ht PX) (capN - M.2.1) (capZ - M.2.2) (gA g)
def isQX (k : kT) (P : Option Value → hM → Prop) (PX : String → Nat → hM → Prop) : Prop := kQ k = vx_MQ (kb k) (QG (kg k) (kN k) (kZ k) (ks k).heap.size (tot (ks k).heap) P) (XG (kg k) (kN k) (kZ k) (ks k).heap.size (tot (ks k).heap) PX) (ka k) (ks k) (capN - kN k) (capZ - kZ k) (gA (kg k))
theorem MX_of {l : Launch} {g : gT} {y : MethodName} {cc : ByteArray} {nL fr lc : Nat} {ret : Option FieldType} {av : List Value} {M : hM} {P : Option Value → hM → Prop} {PX : String → Nat → hM → Prop} (hok : gOK g) (hy : plainName y.cls = true) (hcat : ∀ w ∈ av, w.category = 1) (hlen : av.length ≤ nL)
    (body : ∀ k : kT, kl k = l → kg k = g → (kt k).name = y.name → (∀ x ∈ (kc k).exceptionTable.toList, False) → isQX k P PX → CX k nL cc y.cls ret fr lc → GW k nL M 0 (lvA nL av) []) : MX l g y (ws_ y cc nL ret) fr lc av M P PX := by
  intro hs ht
  refine vx_ofW (cc := cc) (maxL := nL) (ret := ret) hy rfl ?_
  intro p e s m args below meth c s₁ B hml hno hv
  obtain ⟨rfl, hsz, htt, hR, hB, h1, h2⟩ := hv
  have hts := atoms_spec (ws := ws_ y cc nL ret) B.pre
  have hts : ∀ w ∈ lw_all, w.before _ s = true := fun w h => hts w (List.mem_cons_of_mem _ h)
  subst hsz
  subst htt
  have hcells : capN - M.2.1 + M.2.1 = capN := Nat.sub_add_cancel h1
  have hslots : capZ - M.2.2 + M.2.2 = capZ := Nat.sub_add_cancel h2
  have hl := lg_sl_cat hcat
  have hin : meth.name = y.name := (name_of_methodNamed B.named B.method).1
  have hb := body (g, l, p, e, { frames := fr, cells := capN - M.2.1, slots := capZ - M.2.2, locals := lc }, s, m, av.toArray, below, meth, c, M.2.1, M.2.2, vx_MQ below (QG g M.2.1 M.2.2 s.heap.size (tot s.heap) P) (XG g M.2.1 M.2.2 s.heap.size (tot s.heap) PX) av.toArray s (capN - M.2.1) (capZ - M.2.2) (gA g)) rfl rfl hin hno rfl
    ⟨B.exec, B.bytes, B.returns, hml, findClass_of_methodNamed B.named, hts, B.notSynchronized, hB, hcells, hslots, hok, Nat.le_refl _, Nat.le_refl _⟩
  rw [lg_entry_eq]
  exact hb s.heap [] _ 0 0 hR va_S.rf (LV.entry hcat (by rw [hl]; exact hlen)) rfl rfl h1 h2
/-- the frame with q, of class E, thrown over it -/
def GX (k : kT) (nL : Nat) (M : hM) (E : String) (q : Nat) (pc : Nat) (lv : List (Option Value)) (st : List Value) : Prop :=
  ∀ (H : Heap) (locs : List Loc) (ls : Array Slot) (cells slots : Nat) (ce : Cell), Rel (kg k) M.1 H → va_S (gA (kg k)) (ks k).heap H locs → LV ls nL lv → kN k + cells = M.2.1 → kZ k + slots = M.2.2 → M.2.1 ≤ capN → M.2.2 ≤ capZ → H[q]? = some ce → ce.vm = .none → (ks k).vm.findClass E = some ce.cls →
    vx_W (kp k) (kl k) (ke k) (kR k) (ks k) (km k) (ka k) (kb k) (kt k) (kc k) H locs cells slots (kQ k) (F0 (km k) pc ls st) q
theorem gRel_kept {g : gT} {M : gMap} {H H1 : Heap} (h : Rel g M H) (hz : H.size ≤ H1.size) (hk : ∀ q : Nat, q < H.size → H1[q]? = H[q]?) : Rel g M H1 := by
  obtain ⟨C, ow, ws, ⟨hP, hD, hw⟩, hM⟩ := h
  exact ⟨C, ow, ws, ⟨hP.kept fun k q hq => hk q.1 (hP k q hq).lt, hD, hw⟩, hM⟩
/-- a static of a nest mate that may throw -/
theorem gx_runSN {p : Program} {l : Launch} {e : Env} {R : Room} {s : State} {m : MethodId} {args : Array Value} {below : List Frame} {meth : Method} {c : Code} {H : Heap} {locs : List Loc} {cells slots : Nat}
    {y : MethodName} {bytes cc : ByteArray} {maxL nL mc ms n index : Nat} {ret : Option FieldType} {ws : List Cond} {rm : Room} {Pc : Array Value → State → Prop} {Qc : Array Value → State → Outcome → State → Prop} {XC : String → Nat → State → State → Prop} {free : Addr → Prop} {Ts : List Cond} {own host : String} {As rest : List Value} {g : JFrame}
    (S : CallFix p m c cc nL s args Ts own) (hM : vx_Met l y ws rm Pc Qc XC mc ms free) (cw : va_CN R s args own index y host bytes maxL ret ws rm mc ms n ∧ (Cond.static y).before args s = true ∧ True) (hp : PreS s H Pc As)
    (hg : g.method = m) (hn : As.length = n) (hsize : g.locals.size = nL) (hstack : g.stack = As.reverse ++ rest) (hW : 2 * g.monitorRoom + (rest.map fun v => v.category).sum ≤ 8) (hdg : decode cc g.pc = .ok (.invokestatic index, 3)) (hf : cells + mc ≤ R.cells ∧ slots + ms ≤ R.slots) :
    vx_Run p l e R s m args below meth c H locs cells slots mc ms g rest (Qc As.toArray) XC free := by
  obtain ⟨⟨⟨hrc, hrs, hfr, hlo, hws, hcw⟩, hcode, hini, hy, hlen, hl⟩, hstt, -⟩ := cw
  have hK : vx_Back l R p e below s args y 3 8 (PreOf R mc ms Pc) (PostOf Qc mc ms free) (vx_Post XC mc ms free) := vx_back (bytes := bytes) (maxL := maxL) (ret := ret) hM hp.1 hrc hrs hfr hlo hws hcw (fun a' U hW => word_at hW (Or.inl (by first | rfl | simp [Cond.onTables, Cond.keeps, Cond.steady])) hini)
  obtain ⟨hx, hb, hml, ho, -⟩ := S
  intro T hT X
  obtain ⟨mk, hnamed⟩ := Cond.code_named hcode
  obtain ⟨methM, cM, hmethM, -, -, -, -, -, -, hsigM⟩ := Cond.code_spec hnamed hcode
  have hstatic : methM.isStatic = true := Cond.static_spec hnamed hmethM hstt
  obtain ⟨kP, hkP, -⟩ := className_of_methodNamed hnamed
  have hinitP : kP.init = .initialized := Cond.initialized_spec (findClass_of_methodNamed hnamed) hkP hini
  obtain ⟨vm₁, X₁, hstep₁⟩ := X.invokestaticNest hx ho hl hnamed hmethM hstatic hkP hinitP hy (g := g) hg (argsL := As) (rest := rest) (hn.trans (hlen _ hsigM)) hstack (by rw [hb]; exact hdg)
  rcases hK m meth c ⟨T.setVm vm₁, locs, cells, slots⟩ { g with stack := rest } (.invokestatic index) mk As.toArray X₁ hg (hsize.trans hml.symm) (by rw [hb]; exact hdg) hW (X₁.named hnamed) ⟨hf.1, hf.2, hp.2 (T.setVm vm₁) hT X₁.warmed⟩ with ⟨v, ⟨U', l2, c2, s2⟩, X', ⟨g', mk', t, L, e1, e2, hq, h1, hL, h2, h3⟩, st⟩ | ⟨q, ⟨U', l2, c2, s2⟩, X', ⟨g', mk', t, L, E, ce, e1, e2, hq, hce, hcv, hcl, h1, hL, h2, h3⟩, st⟩
  · dsimp only [Pt.U, Pt.locs, Pt.cells, Pt.slots] at X' e1 e2 h1 h2 h3 st
    subst h1; subst h2; subst h3
    exact Or.inl ⟨v, (T.setVm vm₁).calling g' mk' As.toArray, t, U', L, hT, X', hL, e1, e2, hq, fun target h => hstep₁ _ fun acts => by rw [doInvoke_state]; exact st.trans h⟩
  · dsimp only [Pt.U, Pt.locs, Pt.cells, Pt.slots] at X' e1 e2 h1 h2 h3 st hcl
    subst h1; subst h2; subst h3
    exact Or.inr ⟨q, (T.setVm vm₁).calling g' mk' As.toArray, t, U', L, E, ce, hT, X', hL, e1, e2, hq, hce, hcv, vx_cls X₁.warmed hcl, hstep₁ _ fun acts => by rw [doInvoke_state]; exact st⟩
section GEX
variable {k : kT} {nL : Nat} {cc : ByteArray} {own : String} {ret : Option FieldType} {fr lc : Nat} {M : hM} {pc : Nat} {lv : List (Option Value)} {st : List Value}
theorem GW_endX {P : Option Value → hM → Prop} {PX : String → Nat → hM → Prop} {v : Option Value} {fs : List Value} (hC : CX k nL cc own ret fr lc) (hQ : isQX k P PX) (hP : P v M)
    (hw : ∀ (H : Heap) (locs : List Loc) (ls : Array Slot) (cells slots : Nat), (∀ l ∈ locs, gA (kg k) l.base) → (∀ t : State, t.heap = H → (ks k).WarmedH t.vm → QG (kg k) (kN k) (kZ k) (ks k).heap.size (tot (ks k).heap) P (ka k) (ks k) (.returned v) t) →
      W (kp k) (kl k) (ke k) (kR k) (ks k) (km k) (ka k) (kb k) (kt k) (kc k) H locs cells slots (MQ (kb k) (QG (kg k) (kN k) (kZ k) (ks k).heap.size (tot (ks k).heap) P) (ka k) (ks k) cells slots (gA (kg k))) (F0 (km k) pc ls fs)) : GW k nL M pc lv fs := by
  intro H locs ls cells slots a1 a2 a3 a4 a5 a6 a7
  intro T hT X
  have hsz := stand_size X
  rw [hT] at hsz
  have hrc := hC.rc
  have hrs := hC.rs
  rw [hQ]
  refine vx_ret (W.widen (k := capN - kN k) (n := capZ - kZ k) (by omega) (by omega) ?_) T hT X
  refine hw H locs ls _ _ a2.2.2 (fun t ht hW => ⟨⟨v, M, rfl, hP, by rw [ht]; exact a1, by omega, by omega, a6, a7, by rw [ht]; omega, by rw [ht]; omega⟩, a2.F ht, by rw [ht, ← hT]; exact gKc_of X⟩)
theorem G_retX {Q : hM → Prop} {PX : String → Nat → hM → Prop} (hC : CX k nL cc own none fr lc) (hQ : isQX k (PU Q) PX) (d : decode cc pc = .ok (.return_, 1)) (hw : Q M) : GW k nL M pc lv [] :=
  GW_endX hC hQ (v := none) ⟨rfl, hw⟩ (fun H locs ls cells slots hf hq => W.vret hC.ex hC.by hC.rt hq hf d hC.lk)
theorem G_iretX {Q : Int32 → hM → Prop} {PX : String → Nat → hM → Prop} {x : Int32} {ty : FieldType} (hC : CX k nL cc own (some ty) fr lc) (hn : narrow ty (.int x) = .int x) (hQ : isQX k (PI Q) PX) (d : decode cc pc = .ok (.ireturn, 1)) (hw : Q x M) : GW k nL M pc lv [.int x] :=
  GW_endX hC hQ (v := some (.int x)) ⟨x, rfl, hw⟩ (fun H locs ls cells slots hf hq => W.zret hC.ex hC.by hC.rt hn hq hf d hC.lk)
theorem G_aretX {Q : Option Nat → hM → Prop} {PX : String → Nat → hM → Prop} {r : Option Nat} {rt : FieldType} (hC : CX k nL cc own (some rt) fr lc) (hrt : (∃ n, rt = .object n) ∨ ∃ t, rt = .array t) (hQ : isQX k (PR Q) PX) (d : decode cc pc = .ok (.areturn, 1)) (hw : Q r M) : GW k nL M pc lv [va_rf r] :=
  GW_endX hC hQ (v := some (va_rf r)) ⟨r, rfl, hw⟩ (fun H locs ls cells slots hf hq => W.aret hC.ex hC.by hC.rt hrt (by cases r with | none => exact Or.inl rfl | some a => exact Or.inr ⟨a, rfl⟩) hq hf d hC.lk)
theorem G_dretX {Q : UInt64 → hM → Prop} {PX : String → Nat → hM → Prop} {x : UInt64} (hC : CX k nL cc own (some .double) fr lc) (hQ : isQX k (PD Q) PX) (d : decode cc pc = .ok (.dreturn, 1)) (hw : Q x M) : GW k nL M pc lv [.double x] :=
  GW_endX hC hQ (v := some (.double x)) ⟨x, rfl, hw⟩ (fun H locs ls cells slots hf hq => W.dret hC.ex hC.by hC.rt hq hf d hC.lk)
/-- not caught here, where there is no table -/
theorem GX_out {P : Option Value → hM → Prop} {PX : String → Nat → hM → Prop} {E : String} {q : Nat} (hC : CX k nL cc own ret fr lc) (hno : ∀ x ∈ (kc k).exceptionTable.toList, False) (hQ : isQX k P PX) (hP : PX E q M) : GX k nL M E q pc lv st := by
  intro H locs ls cells slots ce a1 a2 a3 a4 a5 a6 a7 a8 a9 a10
  intro T hT X
  have hsz := stand_size X
  rw [hT] at hsz
  have hrc := hC.rc
  have hrs := hC.rs
  rw [hQ]
  exact vx_out (fun x hx => (hno x hx).elim) hC.lk a8 a9 a10 (fun t ht hW => ⟨⟨M, hP, by rw [ht]; exact a1, by omega, by omega, a6, a7, by rw [ht]; omega, by rw [ht]; omega⟩, a2.F ht⟩) a2.2.2 (by omega) (by omega) T hT X
/-- behind a call that threw -/
theorem GX_back {PX : String → Nat → hM → Prop} {rest : List Value} (hC : CX k nL cc own ret fr lc) (kx : ∀ E q M', PX E q M' → GX k nL M' E q pc lv rest) {H : Heap} {locs L : List Loc} {ls : Array Slot} {cells slots : Nat} (a2 : va_S (gA (kg k)) (ks k).heap H locs) (a3 : LV ls nL lv) (a4 : kN k + cells = M.2.1) (a5 : kZ k + slots = M.2.2)
    {T T' st₀ t : State} {E : String} {q : Nat} {ce : Cell} {cells' slots' : Nat} (hT : T.heap = H) (X : Stand (kp k) (kl k) (ke k) (kR k) (ks k) (km k) (ka k) (kb k) (kt k) (kc k) T locs cells slots) (h0 : st₀.heap = H) (X' : Stand (kp k) (kl k) (ke k) (kR k) (ks k) (km k) (ka k) (kb k) (kt k) (kc k) T' (locs ++ L) cells' slots') (hL : ∀ q ∈ L, gA (kg k) q.base) (e1 : T'.heap = t.heap)
    (hq : XG (kg k) M.2.1 M.2.2 H.size (tot H) PX E q st₀ t) (c1 : t.heap[q]? = some ce) (c2 : ce.vm = .none) (c3 : (ks k).vm.findClass E = some ce.cls) : ∃ t2, Steps (kp k).tables (ke k) (kb k) ((T'.setTop (F0 (km k) pc ls rest)).pushFrame (.throwing q)) t2 ∧ kQ k t2 := by
  obtain ⟨⟨M', hp, hR, n1, n2, n3, n4, n5, n6⟩, hF⟩ := hq
  obtain ⟨s1, s2⟩ := stand_size X
  rw [hT] at s1 s2
  have X2 := stand_tight X' (k := M'.2.1 - kN k) (n := M'.2.2 - kZ k) (by rw [e1]; omega) (by rw [e1]; omega)
  obtain ⟨f1, f2⟩ := hF
  rw [h0] at f1 f2
  exact kx E q M' hp t.heap (locs ++ L) ls _ _ ce hR ⟨Nat.le_trans a2.1 f1, fun q q1 q2 => (f2 q (Nat.lt_of_lt_of_le q1 a2.1) q2).trans (a2.2.1 q q1 q2), fun q hq => (List.mem_append.mp hq).elim (a2.2.2 q) (hL q)⟩ a3 (by omega) (by omega) n3 n4 c1 c2 c3 T' e1 X2
theorem GX_run {P : Option Value → hM → Prop} {PX : String → Nat → hM → Prop} {rest : List Value} {A : Array Value} (hC : CX k nL cc own ret fr lc)
    (hr : ∀ (H : Heap) (locs : List Loc) (ls : Array Slot) (cells slots : Nat), Rel (kg k) M.1 H → va_S (gA (kg k)) (ks k).heap H locs → ls.size = nL → kN k + cells = M.2.1 → kZ k + slots = M.2.2 → M.2.1 ≤ capN → M.2.2 ≤ capZ →
      vx_Run (kp k) (kl k) (ke k) (kR k) (ks k) (km k) (ka k) (kb k) (kt k) (kc k) H locs cells slots (capN - M.2.1) (capZ - M.2.2) (F0 (km k) pc ls st) rest (QG (kg k) M.2.1 M.2.2 H.size (tot H) P A) (XG (kg k) M.2.1 M.2.2 H.size (tot H) PX) (gA (kg k)))
    (kx : ∀ E q M', PX E q M' → GX k nL M' E q pc lv rest)
    (kk : ∀ v M', P v M' → GW k nL M' (pc + 3) lv (v.toList ++ rest)) : GW k nL M pc lv st := by
  intro H locs ls cells slots a1 a2 a3 a4 a5 a6 a7
  intro T hT X
  rcases hr H locs ls cells slots a1 a2 a3.1 a4 a5 a6 a7 T hT X with ⟨v, st₀, t, T', L, h0, X', hL, e1, e2, hq, hgo⟩ | ⟨q, st₀, t, T', L, E, ce, h0, X', hL, e1, e2, hq, c1, c2, c3, hgo⟩
  · obtain ⟨t2, b1, b2⟩ := GW_back hC kk a2 a3 a4 a5 hT X h0 X' hL e1 hq
    exact ⟨t2, hgo t2 b1, b2⟩
  · obtain ⟨t2, b1, b2⟩ := GX_back hC kx a2 a3 a4 a5 hT X h0 X' hL e1 hq c1 c2 c3
    exact ⟨t2, hgo.trans b1, b2⟩
section CALLSX
variable {y : MethodName} {bytes : ByteArray} {maxL index n fr' lc' b : Nat} {rt : Option FieldType} {C : String} {As rest : List Value} {P : Option Value → hM → Prop} {PX : String → Nat → hM → Prop} {hh : List (Nat × Nat × Nat × Nat)}
theorem GX_callV (hC : CX k nL cc own ret fr lc) (hM : MX (kl k) (kg k) y (ws_ y bytes maxL rt) fr' lc' (.ref b :: As) M P PX) (hT : GoodIn lw_all (wsV own index C y (ws_ y bytes maxL rt))) (hd : y.cls = C ∧ y.cls ≠ "java/lang/invoke/MethodHandle" ∧ y.cls ≠ "java/lang/invoke/VarHandle" ∧ (parseMethodDescriptor y.desc).map (fun d => d.parameters.length) = some n) (hrm : rmOK fr lc fr' lc' maxL = true) (hb : isRcv k M b C) (hn : As.length = n) (hst : st = As.reverse ++ .ref b :: rest) (hs : stS rest) (d : decode cc pc = .ok (.invokevirtual index, 3))
    (kx : ∀ E q M', PX E q M' → GX k nL M' E q pc lv rest) (kk : ∀ v M', P v M' → GW k nL M' (pc + 3) lv (v.toList ++ rest)) : GW k nL M pc lv st := by
  refine GX_run (A := (Value.ref b :: As).toArray) hC (fun H locs ls cells slots a1 a2 a3 a4 a5 a6 a7 => ?_) kx kk
  have hrc := hC.rc
  have hrs := hC.rs
  exact vx_runV ⟨hC.ex, hC.by, hC.ml, hC.ow, hC.ts⟩ (hM H.size (tot H)) (cwV n hC.ts hT rfl rfl rfl hd (rm_ok hrm hC.hfr hC.hlc)) ⟨WU_blind hC.ok, hb H locs a1 a2, fun U hU hW => ⟨rfl, WU_now hC a1 a2 a6 a7 hU hW⟩⟩ rfl hn a3 hst (lv_room hs) d ⟨by omega, by omega⟩
theorem GX_callS (hC : CX k nL cc own ret fr lc) (hM : MX (kl k) (kg k) y (ws_ y bytes maxL rt) fr' lc' As M P PX) (hT : GoodIn lw_all (va_wsS own index y (ws_ y bytes maxL rt))) (hd : y.cls ≠ "java/lang/invoke/MethodHandle" ∧ y.cls ≠ "java/lang/invoke/VarHandle" ∧ (parseMethodDescriptor y.desc).map (fun d => d.parameters.length) = some n) (hrm : rmOK fr lc fr' lc' maxL = true) (hn : As.length = n) (hst : st = As.reverse ++ rest) (hs : stS rest) (d : decode cc pc = .ok (.invokestatic index, 3))
    (kx : ∀ E q M', PX E q M' → GX k nL M' E q pc lv rest) (kk : ∀ v M', P v M' → GW k nL M' (pc + 3) lv (v.toList ++ rest)) : GW k nL M pc lv st := by
  refine GX_run (A := As.toArray) hC (fun H locs ls cells slots a1 a2 a3 a4 a5 a6 a7 => ?_) kx kk
  have hrc := hC.rc
  have hrs := hC.rs
  exact vx_runS ⟨hC.ex, hC.by, hC.ml, hC.ow, hC.ts⟩ (hM H.size (tot H)) (va_cwS n hC.ts hT rfl rfl rfl hd (rm_ok hrm hC.hfr hC.hlc)) ⟨WU_blind hC.ok, fun U hU hW => ⟨rfl, WU_now hC a1 a2 a6 a7 hU hW⟩⟩ rfl hn a3 hst (lv_room hs) d ⟨by omega, by omega⟩
theorem GX_callSN {host : String} (hC : CX k nL cc own ret fr lc) (hM : MX (kl k) (kg k) y (ws_ y bytes maxL rt) fr' lc' As M P PX) (hG : GoodIn lw_all (ws_ y bytes maxL rt)) (hl : Cond.methodLinkNest own index y host ∈ nwAll) (hini : Cond.initialized y.cls ∈ lw_all) (hi : Cond.static y ∈ lw_all) (hd : y.cls ≠ "java/lang/invoke/MethodHandle" ∧ y.cls ≠ "java/lang/invoke/VarHandle" ∧ (parseMethodDescriptor y.desc).map (fun d => d.parameters.length) = some n) (hrm : rmOK fr lc fr' lc' maxL = true) (hn : As.length = n) (hst : st = As.reverse ++ rest) (hs : stS rest) (d : decode cc pc = .ok (.invokestatic index, 3))
    (kx : ∀ E q M', PX E q M' → GX k nL M' E q pc lv rest) (kk : ∀ v M', P v M' → GW k nL M' (pc + 3) lv (v.toList ++ rest)) : GW k nL M pc lv st := by
  refine GX_run (A := As.toArray) hC (fun H locs ls cells slots a1 a2 a3 a4 a5 a6 a7 => ?_) kx kk
  have hrc := hC.rc
  have hrs := hC.rs
  exact gx_runSN ⟨hC.ex, hC.by, hC.ml, hC.ow, hC.ts⟩ (hM H.size (tot H)) ⟨va_cnB n hC.ts hG rfl rfl rfl (hC.nw hl) (hC.ts _ hini) hd (rm_ok hrm hC.hfr hC.hlc), hC.ts _ hi, trivial⟩ ⟨WU_blind hC.ok, fun U hU hW => ⟨rfl, WU_now hC a1 a2 a6 a7 hU hW⟩⟩ rfl hn a3 hst (lv_room hs) d ⟨by omega, by omega⟩
end CALLSX
-- ===== throw new E() =====
/-- classes that are no subclasses of others -/
def ncAll : List (String × String) := [("java/lang/IllegalStateException", "java/lang/IllegalArgumentException"), ("java/lang/IndexOutOfBoundsException", "java/lang/IllegalArgumentException"), ("java/lang/IndexOutOfBoundsException", "java/lang/IllegalStateException"), ("java/lang/IllegalArgumentException", "java/lang/IllegalStateException"), ("java/lang/IllegalArgumentException", "java/lang/IndexOutOfBoundsException"), ("java/util/NoSuchElementException", "java/lang/IllegalStateException"), ("java/lang/ArithmeticException", "java/lang/IllegalStateException"), ("java/lang/IllegalArgumentException", "java/util/NoSuchElementException"), ("java/lang/UnsupportedOperationException", "java/lang/IllegalArgumentException"), ("java/lang/UnsupportedOperationException", "java/lang/IllegalStateException"), ("java/lang/IllegalArgumentException", "MergeWorkbench$SyntaxException"), ("java/lang/IllegalStateException", "MergeWorkbench$SyntaxException")]
/-- of the launch and the start, for throws and boxes -/
def gO1 (l : Launch) (g : gT) : Prop := l.stackTraces = false ∧ (∀ U H, gS g 1 U H → vx_Zq Bundle.tN "UNASSIGNED_STACK" Bundle.steD (gA g) U H) ∧ (∀ U H, gS g 2 U H → vx_Zq Bundle.tN "SUPPRESSED_SENTINEL" Bundle.listD (gA g) U H) ∧ (∀ U H, gS g 0 U H → vb_C (gK g) (gA g) U H) ∧ (∀ i j : Nat, i < 256 → j < 256 → gK g i = gK g j → i = j) ∧ (∀ U H, gS g 3 U H → (Cond.arrayOver (.array .int)).before #[] U = true) ∧ ∀ U H, gS g 4 U H → ∀ q ∈ ncAll, va_Nc q.1 q.2 U
theorem at_in {ws : List Cond} (p1 p2 : List Nat) (h1 : ws.filter goodWord = p1.filterMap (fun i => lw_tbl[i]?)) (h2 : ws.filter (fun w => !goodWord w) = p2.filterMap (fun i => lw_tbl[i]?)) (h3 : (ws.filter (fun w => !goodWord w)).all nwk = true) : ∀ w ∈ ws, w ∈ lw_all ∨ w ∈ nwAll := by
  intro w hw
  by_cases hg : goodWord w = true
  · have h4 : w ∈ ws.filter goodWord := List.mem_filter.mpr ⟨hw, hg⟩
    rw [h1] at h4
    obtain ⟨i, -, hi⟩ := List.mem_filterMap.mp h4
    exact Or.inl (lw_w i hi hg)
  · have h4 : w ∈ ws.filter (fun w => !goodWord w) := List.mem_filter.mpr ⟨hw, by simp [hg]⟩
    have h5 := List.all_eq_true.mp h3 w h4
    rw [h2] at h4
    obtain ⟨i, -, hi⟩ := List.mem_filterMap.mp h4
    exact Or.inr (nw_in (List.mem_of_getElem? hi) h5)
def gExc (M : hM) : hM := (M.1, M.2.1 + 1, M.2.2 + 6)
theorem G_throw0 {P : Option Value → hM → Prop} {PX : String → Nat → hM → Prop} {cls : String} {names : List String} {ik ic : Nat} (hO : gO1 (kl k) (kg k)) (hC : CX k nL cc own ret fr lc) (hno : ∀ x ∈ (kc k).exceptionTable.toList, False) (hQ : isQX k P PX) (hcls : Bundle.fit cls = true) (hnames : ∀ n ∈ names, Bundle.fit n = true)
    (hk : Cond.classLink own ik cls ∈ lw_all) (hini : Cond.initialized cls ∈ lw_all) (hat : ∀ w ∈ vx_at0 own ic cls names, w ∈ lw_all ∨ w ∈ nwAll) (hgood : (Cond.classLink own ik cls :: Cond.initialized cls :: vx_at0 own ic cls names).all vx_ot = true)
    (d0 : decode cc pc = .ok (.new ik, 3)) (d3 : decode cc (pc + 3) = .ok (.dup, 1)) (d4 : decode cc (pc + 4) = .ok (.invokespecial ic, 3)) (d7 : decode cc (pc + 7) = .ok (.athrow, 1)) (hfr : Nat.ble (names.length + 4) fr = true) (hlc : Nat.ble (8 + (13 * (names.length + 1) + 42)) lc = true) (hs : stS st)
    (hw : M.2.1 + 1 ≤ capN ∧ M.2.2 + 6 ≤ capZ ∧ ∀ q, PX cls q (gExc M)) : GW k nL M pc lv st := by
  intro H locs ls cells slots a1 a2 a3 a4 a5 a6 a7
  intro T hT X
  have hsz := stand_size X
  rw [hT] at hsz
  have hrc := hC.rc
  have hrs := hC.rs
  have h9 := Nat.le_trans (Nat.le_of_ble_eq_true hlc) hC.hlc
  have h8 := Nat.le_trans (Nat.le_of_ble_eq_true hfr) hC.hfr
  have hs' : (st.map fun v => v.category).sum ≤ 8 := hs
  obtain ⟨w1, w2, w3⟩ := hw
  rw [hQ]
  refine vx_throw0 (A := gA (kg k)) hC.ex hC.by hO.1 hC.ow hcls hnames (hC.ts _ hk) (hC.ts _ hini) (fun w hw => (hat w hw).elim (fun h => hC.ts _ h) (fun h => va_Nw.use (nw_tab h) (hC.nw h))) (fun w hw => List.all_eq_true.mp hgood w hw)
    (hO.2.1 _ _ (hC.bs.2.2.2.2 1)) (hO.2.2.1 _ _ (hC.bs.2.2.2.2 2)) a2 (a3.1.trans hC.ml.symm) d0 d3 d4 d7 (fun x hx => (hno x hx).elim) (by omega) (by omega) (by omega) (by omega) hC.lk ?_ a2.2.2 (by omega) (by omega) T hT X
  intro q9 t hq9 hal hsz2 hkeep hsame
  have htr : t.slotsUsed = tot t.heap := by
    have h0 : (ks k).slotsTrue = true := by
      have h := X.room
      simp only [State.hasRoom, Bool.and_eq_true] at h
      exact h.2
    have h1 : ({ t with vm := (ks k).vm } : State).slotsTrue = true := State.slotsTrue_of_sameButNew h0 hsame
    simpa [State.slotsTrue, tot] using h1
  obtain ⟨e1, e2, e3, e4, e5, e6⟩ := hsame
  have e4' : t.slotsUsed ≤ (ks k).slotsUsed + (slots + 6) := Nat.le_trans (Nat.le_of_eq e4) (Nat.add_le_add_left e5 _)
  have e3' : t.heap.size ≤ (ks k).heap.size + (cells + 1) := e3
  have u1 := (tot_used X).1
  rw [htr, u1] at e4'
  have hx1 : (gExc M).2.1 = M.2.1 + 1 := rfl
  have hx2 : (gExc M).2.2 = M.2.2 + 6 := rfl
  refine ⟨⟨gExc M, w3 q9, gRel_kept a1 hsz2 hkeep, by omega, by omega, w1, w2, by omega, by omega⟩, Nat.le_trans a2.1 hsz2, fun q h1 h2 => (hkeep q (Nat.lt_of_lt_of_le h1 a2.1)).trans (a2.2.1 q h1 h2)⟩
theorem gRecv2 {g : gT} {U : State} {M : hM} {H : Heap} {b ci : Nat} {q : vw_C} (hK : va_K (gD g) vwAll (gTys g) U) (hR : Rel g M.1 H) (h : isC M b ci) (hc : vwAll[ci]? = some q) : ∃ cell : Cell, H[b]? = some cell ∧ cell.vm = .none ∧ U.vm.findClass q.1 = some cell.cls := by
  obtain ⟨c, h1, h2⟩ := h
  obtain ⟨C, ow, ws, ⟨hP, hD, hw⟩, hM⟩ := hR
  have h3 := (hM b c h1).2
  have h4 : ∃ fs, C b = some (.inr (ci, fs)) := by
    cases c with
    | inl x =>
      cases x with
      | inl y => cases h2
      | inr o =>
        have e : o.1 = ci := Option.some.inj h2
        subst e
        exact ⟨o.2, h3⟩
    | inr t =>
      have e : t.1 = ci := Option.some.inj h2
      subst e
      exact h3.1
  obtain ⟨fs, h4⟩ := h4
  obtain ⟨j, hj⟩ := List.getElem?_of_mem (hw b _ h4)
  obtain ⟨q', k1, cell, g1, g2, g3, -⟩ := hP j _ hj
  exact ⟨cell, g1, g3, by rw [g2]; exact (hK.1 ci q hc).2.1⟩
/-- an object of ours is thrown, where there is no table -/
theorem G_athrow {P : Option Value → hM → Prop} {PX : String → Nat → hM → Prop} {b ci N : Nat} {C : String} {T : u_T} (hC : CX k nL cc own ret fr lc) (hno : ∀ x ∈ (kc k).exceptionTable.toList, False) (hQ : isQX k P PX) (hcl : vwAll[ci]? = some (C, T, N)) (hb : isC M b ci) (d : decode cc pc = .ok (.athrow, 1)) (hw : PX C b M) : GW k nL M pc lv (va_rf (some b) :: st) := by
  intro H locs ls cells slots a1 a2 a3 a4 a5 a6 a7
  intro T9 hT X
  have hsz := stand_size X
  rw [hT] at hsz
  have hrc := hC.rc
  have hrs := hC.rs
  obtain ⟨ce, c1, c2, c3⟩ := gRecv2 hC.K a1 hb hcl
  obtain ⟨s1, s2, s3, s4, s5⟩ := X.athrowLeaves hC.ex (g := F0 (km k) pc ls (va_rf (some b) :: st)) rfl rfl rfl (fun x hx => (hno x hx).elim) (a := b) (rest := st) rfl (by rw [hC.by]; exact d) hC.lk
  rw [hQ]
  refine ⟨_, s1, .threw b, s2, s3, Or.inr ⟨b, rfl, C, ce, locs, ⟨⟨M, hw, ?_, by omega, by omega, a6, a7, ?_, ?_⟩, ?_⟩, ?_, c2, c3, s4, s5.mono (by omega) (by omega), a2.2.2⟩⟩
  · show Rel _ _ T9.heap
    rw [hT]; exact a1
  · show T9.heap.size ≤ _
    rw [hT]; omega
  · show tot T9.heap ≤ _
    rw [hT]; omega
  · exact a2.F (t := T9.setFrames (.throwing b :: kb k)) hT
  · show T9.heap[b]? = some ce
    rw [hT]; exact c1
end GEX
