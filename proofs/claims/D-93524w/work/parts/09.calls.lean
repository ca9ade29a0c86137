/-! METHODS over the abstract heap: entry, ends, calls -/
set_option maxRecDepth 100000
/-- cells keep their class -/
def gKc (H0 H : Heap) : Prop := ∀ (a : Nat) (c : Cell), H0[a]? = some c → ∃ c' : Cell, H[a]? = some c' ∧ c'.cls = c.cls ∧ c'.vm = c.vm
theorem gKc_of {p : Program} {l : Launch} {e : Env} {R : Room} {s : State} {m : MethodId} {args : Array Value} {below : List Frame} {meth : Method} {c : Code} {T : State} {locs : List Loc} {cells slots : Nat} (X : Stand p l e R s m args below meth c T locs cells slots) : gKc s.heap T.heap := by
  intro a ce h
  obtain ⟨c', h1, h2, -⟩ := X.same.2.2.2.2.2 a ce h
  exact ⟨c', h1, by rw [h2], by rw [h2]⟩
def QG (g : gT) (N0 Z0 hs ht : Nat) (P : Option Value → hM → Prop) : Array Value → State → Outcome → State → Prop := fun _ st o t =>
  (∃ (v : Option Value) (M' : hM), o = .returned v ∧ P v M' ∧ Rel g M'.1 t.heap ∧ N0 ≤ M'.2.1 ∧ Z0 ≤ M'.2.2 ∧ M'.2.1 ≤ capN ∧ M'.2.2 ≤ capZ ∧ t.heap.size ≤ hs + (M'.2.1 - N0) ∧ tot t.heap ≤ ht + (M'.2.2 - Z0)) ∧ va_F (gA g) st t ∧ gKc st.heap t.heap
def WU (g : gT) (M : hM) (hs ht : Nat) (U : State) : Prop := U.heap.size = hs ∧ tot U.heap = ht ∧ Rel g M.1 U.heap ∧ Base g U ∧ M.2.1 ≤ capN ∧ M.2.2 ≤ capZ
/-- a method's contract: from the abstract heap M, with the arguments av, it ends by P -/
def MG (l : Launch) (g : gT) (y : MethodName) (ws : List Cond) (fr lc : Nat) (av : List Value) (M : hM) (P : Option Value → hM → Prop) : Prop :=
  ∀ hs ht : Nat, Met l y ws { frames := fr, cells := capN - M.2.1, slots := capZ - M.2.2, locals := lc } (va_Pc av (WU g M hs ht)) (QG g M.2.1 M.2.2 hs ht P) (capN - M.2.1) (capZ - M.2.2) (gA g)
def isQ (k : kT) (P : Option Value → hM → Prop) : Prop := kQ k = MQ (kb k) (QG (kg k) (kN k) (kZ k) (ks k).heap.size (tot (ks k).heap) P) (ka k) (ks k) (capN - kN k) (capZ - kZ k) (gA (kg k))
theorem lg_sl_cat : ∀ {vs : List Value}, (∀ w ∈ vs, w.category = 1) → (lg_sl vs).length = vs.length
  | [], _ => rfl
  | v :: l, h => by
    have h1 : v.category = 1 := h v List.mem_cons_self
    have h2 := lg_sl_cat (vs := l) (fun w hw => h w (List.mem_cons_of_mem _ hw))
    have h3 : lg_sl (v :: l) = [Slot.val v] ++ lg_sl l := by simp [lg_sl, h1]
    rw [h3, List.length_append, h2]
    simp only [List.length_cons, List.length_nil]
    omega
theorem cat_e : ∀ w ∈ ([] : List Value), w.category = 1 := fun _ h => nomatch h
theorem cat_r {r : Option Nat} {l : List Value} (h : ∀ w ∈ l, w.category = 1) : ∀ w ∈ va_rf r :: l, w.category = 1 := fun w hw => (List.mem_cons.mp hw).elim (fun e => by rw [e]; exact rf_cat r) (h w)
theorem cat_i {x : Int32} {l : List Value} (h : ∀ w ∈ l, w.category = 1) : ∀ w ∈ Value.int x :: l, w.category = 1 := fun w hw => (List.mem_cons.mp hw).elim (fun e => by rw [e]; rfl) (h w)
theorem MG_of {l : Launch} {g : gT} {y : MethodName} {cc : ByteArray} {nL fr lc : Nat} {ret : Option FieldType} {av : List Value} {M : hM} {P : Option Value → hM → Prop} (hok : gOK g) (hy : plainName y.cls = true) (hcat : ∀ w ∈ av, w.category = 1) (hlen : av.length ≤ nL)
    (body : ∀ k : kT, kl k = l → kg k = g → (kt k).name = y.name → isQ k P → CX k nL cc y.cls ret fr lc → GW k nL M 0 (lvA nL av) []) : MG l g y (ws_ y cc nL ret) fr lc av M P := by
  intro hs ht
  refine Met.ofW (cc := cc) (maxL := nL) (ret := ret) hy rfl ?_
  intro p e s m args below meth c s₁ B hml hv
  obtain ⟨rfl, hsz, htt, hR, hB, h1, h2⟩ := hv
  have hts := atoms_spec (ws := ws_ y cc nL ret) B.pre
  have hts : ∀ w ∈ lw_all, w.before _ s = true := fun w h => hts w (List.mem_cons_of_mem _ h)
  subst hsz
  subst htt
  have hcells : capN - M.2.1 + M.2.1 = capN := Nat.sub_add_cancel h1
  have hslots : capZ - M.2.2 + M.2.2 = capZ := Nat.sub_add_cancel h2
  have hl := lg_sl_cat hcat
  have hin : meth.name = y.name := (name_of_methodNamed B.named B.method).1
  have hb := body (g, l, p, e, { frames := fr, cells := capN - M.2.1, slots := capZ - M.2.2, locals := lc }, s, m, av.toArray, below, meth, c, M.2.1, M.2.2, MQ below (QG g M.2.1 M.2.2 s.heap.size (tot s.heap) P) av.toArray s (capN - M.2.1) (capZ - M.2.2) (gA g)) rfl rfl hin rfl
    ⟨B.exec, B.bytes, B.returns, hml, findClass_of_methodNamed B.named, hts, B.notSynchronized, hB, hcells, hslots, hok, Nat.le_refl _, Nat.le_refl _⟩
  rw [lg_entry_eq]
  exact hb s.heap [] _ 0 0 hR va_S.rf (LV.entry hcat (by rw [hl]; exact hlen)) rfl rfl h1 h2
section GE
variable {k : kT} {nL : Nat} {cc : ByteArray} {own : String} {ret : Option FieldType} {fr lc : Nat} {M : hM} {pc : Nat} {lv : List (Option Value)} {st : List Value}
theorem GW_end {P : Option Value → hM → Prop} {v : Option Value} {fs : List Value} (hC : CX k nL cc own ret fr lc) (hQ : isQ k P) (hP : P v M)
    (hw : ∀ (H : Heap) (locs : List Loc) (ls : Array Slot) (cells slots : Nat), (∀ l ∈ locs, gA (kg k) l.base) → (∀ t : State, t.heap = H → (ks k).WarmedH t.vm → QG (kg k) (kN k) (kZ k) (ks k).heap.size (tot (ks k).heap) P (ka k) (ks k) (.returned v) t) →
      W (kp k) (kl k) (ke k) (kR k) (ks k) (km k) (ka k) (kb k) (kt k) (kc k) H locs cells slots (MQ (kb k) (QG (kg k) (kN k) (kZ k) (ks k).heap.size (tot (ks k).heap) P) (ka k) (ks k) cells slots (gA (kg k))) (F0 (km k) pc ls fs)) : GW k nL M pc lv fs := by
  intro H locs ls cells slots a1 a2 a3 a4 a5 a6 a7
  intro T hT X
  have hsz := stand_size X
  rw [hT] at hsz
  have hrc := hC.rc
  have hrs := hC.rs
  rw [hQ]
  refine W.widen (k := capN - kN k) (n := capZ - kZ k) (by omega) (by omega) ?_ T hT X
  refine hw H locs ls _ _ a2.2.2 (fun t ht hW => ⟨⟨v, M, rfl, hP, by rw [ht]; exact a1, by omega, by omega, a6, a7, by rw [ht]; omega, by rw [ht]; omega⟩, a2.F ht, by rw [ht, ← hT]; exact gKc_of X⟩)
theorem G_ret {Q : hM → Prop} (hC : CX k nL cc own none fr lc) (hQ : isQ k (PU Q)) (d : decode cc pc = .ok (.return_, 1)) (hw : Q M) : GW k nL M pc lv [] :=
  GW_end hC hQ (v := none) ⟨rfl, hw⟩ (fun H locs ls cells slots hf hq => W.vret hC.ex hC.by hC.rt hq hf d hC.lk)
theorem G_iret {Q : Int32 → hM → Prop} {x : Int32} {ty : FieldType} (hC : CX k nL cc own (some ty) fr lc) (hn : narrow ty (.int x) = .int x) (hQ : isQ k (PI Q)) (d : decode cc pc = .ok (.ireturn, 1)) (hw : Q x M) : GW k nL M pc lv [.int x] :=
  GW_end hC hQ (v := some (.int x)) ⟨x, rfl, hw⟩ (fun H locs ls cells slots hf hq => W.zret hC.ex hC.by hC.rt hn hq hf d hC.lk)
theorem G_aret {Q : Option Nat → hM → Prop} {r : Option Nat} {rt : FieldType} (hC : CX k nL cc own (some rt) fr lc) (hrt : (∃ n, rt = .object n) ∨ ∃ t, rt = .array t) (hQ : isQ k (PR Q)) (d : decode cc pc = .ok (.areturn, 1)) (hw : Q r M) : GW k nL M pc lv [va_rf r] :=
  GW_end hC hQ (v := some (va_rf r)) ⟨r, rfl, hw⟩ (fun H locs ls cells slots hf hq => W.aret hC.ex hC.by hC.rt hrt (by cases r with | none => exact Or.inl rfl | some a => exact Or.inr ⟨a, rfl⟩) hq hf d hC.lk)
theorem G_dret {Q : UInt64 → hM → Prop} {x : UInt64} (hC : CX k nL cc own (some .double) fr lc) (hQ : isQ k (PD Q)) (d : decode cc pc = .ok (.dreturn, 1)) (hw : Q x M) : GW k nL M pc lv [.double x] :=
  GW_end hC hQ (v := some (.double x)) ⟨x, rfl, hw⟩ (fun H locs ls cells slots hf hq => W.dret hC.ex hC.by hC.rt hq hf d hC.lk)
-- ===== calls =====
theorem WU_blind {av : List Value} {g : gT} {M : hM} {hs ht : Nat} (hok : gOK g) : FrameBlind (va_Pc av (WU g M hs ht)) := by
  intro a U gg mk h
  obtain ⟨h0, h1, h2, h3, h4, h5⟩ := h
  exact ⟨h0, h1, h2, h3, Base.moved hok h4 (State.WarmedH.refl U) (Nat.le_refl _) (fun _ _ _ => rfl), h5⟩
theorem WU_now (hC : CX k nL cc own ret fr lc) {H : Heap} {locs : List Loc} (hR : Rel (kg k) M.1 H) (hS : va_S (gA (kg k)) (ks k).heap H locs) (h6 : M.2.1 ≤ capN) (h7 : M.2.2 ≤ capZ) {U : State} (hU : U.heap = H) (hW : (ks k).WarmedH U.vm) : WU (kg k) M H.size (tot H) U :=
  ⟨by rw [hU], by rw [hU], by rw [hU]; exact hR, Base.moved hC.ok hC.bs hW (by rw [hU]; exact hS.1) (fun a h1 h2 => by rw [hU]; exact hS.2.1 a h1 h2), h6, h7⟩
/-- behind a call that came back -/
theorem GW_back {P : Option Value → hM → Prop} {pc' : Nat} {rest : List Value} (hC : CX k nL cc own ret fr lc) (kk : ∀ v M', P v M' → GW k nL M' pc' lv (v.toList ++ rest)) {H : Heap} {locs L : List Loc} {ls : Array Slot} {cells slots : Nat} (a2 : va_S (gA (kg k)) (ks k).heap H locs) (a3 : LV ls nL lv) (a4 : kN k + cells = M.2.1) (a5 : kZ k + slots = M.2.2)
    {T T' st₀ t : State} {v : Option Value} {cells' slots' : Nat} {A : Array Value} (hT : T.heap = H) (X : Stand (kp k) (kl k) (ke k) (kR k) (ks k) (km k) (ka k) (kb k) (kt k) (kc k) T locs cells slots) (h0 : st₀.heap = H) (X' : Stand (kp k) (kl k) (ke k) (kR k) (ks k) (km k) (ka k) (kb k) (kt k) (kc k) T' (locs ++ L) cells' slots') (hL : ∀ q ∈ L, gA (kg k) q.base) (e1 : T'.heap = t.heap)
    (hq : QG (kg k) M.2.1 M.2.2 H.size (tot H) P A st₀ (.returned v) t) : ∃ t2, Steps (kp k).tables (ke k) (kb k) (T'.setTop (F0 (km k) pc' ls (v.toList ++ rest))) t2 ∧ kQ k t2 := by
  obtain ⟨⟨v', M', hv, hp, hR, n1, n2, n3, n4, n5, n6⟩, hF, -⟩ := hq
  cases hv
  obtain ⟨s1, s2⟩ := stand_size X
  rw [hT] at s1 s2
  have X2 := stand_tight X' (k := M'.2.1 - kN k) (n := M'.2.2 - kZ k) (by rw [e1]; omega) (by rw [e1]; omega)
  obtain ⟨f1, f2⟩ := hF
  rw [h0] at f1 f2
  exact kk v M' hp t.heap (locs ++ L) ls _ _ hR ⟨Nat.le_trans a2.1 f1, fun q q1 q2 => (f2 q (Nat.lt_of_lt_of_le q1 a2.1) q2).trans (a2.2.1 q q1 q2), fun q hq => (List.mem_append.mp hq).elim (a2.2.2 q) (hL q)⟩ a3 (by omega) (by omega) n3 n4 T' e1 X2
theorem GW_run {P : Option Value → hM → Prop} {rest : List Value} {A : Array Value} (hC : CX k nL cc own ret fr lc)
    (hr : ∀ (H : Heap) (locs : List Loc) (ls : Array Slot) (cells slots : Nat), Rel (kg k) M.1 H → va_S (gA (kg k)) (ks k).heap H locs → ls.size = nL → kN k + cells = M.2.1 → kZ k + slots = M.2.2 → M.2.1 ≤ capN → M.2.2 ≤ capZ →
      va_Run (kp k) (kl k) (ke k) (kR k) (ks k) (km k) (ka k) (kb k) (kt k) (kc k) H locs cells slots (capN - M.2.1) (capZ - M.2.2) (F0 (km k) pc ls st) rest (QG (kg k) M.2.1 M.2.2 H.size (tot H) P A) (gA (kg k)))
    (kk : ∀ v M', P v M' → GW k nL M' (pc + 3) lv (v.toList ++ rest)) : GW k nL M pc lv st := by
  intro H locs ls cells slots a1 a2 a3 a4 a5 a6 a7
  intro T hT X
  obtain ⟨v, st₀, t, T', L, h0, X', hL, e1, e2, hq, hgo⟩ := hr H locs ls cells slots a1 a2 a3.1 a4 a5 a6 a7 T hT X
  obtain ⟨t2, b1, b2⟩ := GW_back hC kk a2 a3 a4 a5 hT X h0 X' hL e1 hq
  exact ⟨t2, hgo t2 b1, b2⟩
theorem GW_run5 {P : Option Value → hM → Prop} {rest : List Value} {A : Array Value} (hC : CX k nL cc own ret fr lc)
    (hr : ∀ (H : Heap) (locs : List Loc) (ls : Array Slot) (cells slots : Nat), Rel (kg k) M.1 H → va_S (gA (kg k)) (ks k).heap H locs → ls.size = nL → kN k + cells = M.2.1 → kZ k + slots = M.2.2 → M.2.1 ≤ capN → M.2.2 ≤ capZ →
      va_Run5 (kp k) (kl k) (ke k) (kR k) (ks k) (km k) (ka k) (kb k) (kt k) (kc k) H locs cells slots (capN - M.2.1) (capZ - M.2.2) (F0 (km k) pc ls st) rest (QG (kg k) M.2.1 M.2.2 H.size (tot H) P A) (gA (kg k)))
    (kk : ∀ v M', P v M' → GW k nL M' (pc + 5) lv (v.toList ++ rest)) : GW k nL M pc lv st := by
  intro H locs ls cells slots a1 a2 a3 a4 a5 a6 a7
  intro T hT X
  obtain ⟨v, st₀, t, T', L, h0, X', hL, e1, e2, hq, hgo⟩ := hr H locs ls cells slots a1 a2 a3.1 a4 a5 a6 a7 T hT X
  obtain ⟨t2, b1, b2⟩ := GW_back hC kk a2 a3 a4 a5 hT X h0 X' hL e1 hq
  exact ⟨t2, hgo t2 b1, b2⟩
theorem kI {Q : Int32 → hM → Prop} {pc' : Nat} {rest : List Value} (h : ∀ x M', Q x M' → GW k nL M' pc' lv (.int x :: rest)) : ∀ v M', PI Q v M' → GW k nL M' pc' lv (v.toList ++ rest) := by
  rintro v M' ⟨x, rfl, hq⟩
  exact h x M' hq
theorem kRf {Q : Option Nat → hM → Prop} {pc' : Nat} {rest : List Value} (h : ∀ r M', Q r M' → GW k nL M' pc' lv (va_rf r :: rest)) : ∀ v M', PR Q v M' → GW k nL M' pc' lv (v.toList ++ rest) := by
  rintro v M' ⟨x, rfl, hq⟩
  exact h x M' hq
theorem kU {Q : hM → Prop} {pc' : Nat} {rest : List Value} (h : ∀ M', Q M' → GW k nL M' pc' lv rest) : ∀ v M', PU Q v M' → GW k nL M' pc' lv (v.toList ++ rest) := by
  rintro v M' ⟨rfl, hq⟩
  exact h M' hq
theorem kD {Q : UInt64 → hM → Prop} {pc' : Nat} {rest : List Value} (h : ∀ x M', Q x M' → GW k nL M' pc' lv (.double x :: rest)) : ∀ v M', PD Q v M' → GW k nL M' pc' lv (v.toList ++ rest) := by
  rintro v M' ⟨x, rfl, hq⟩
  exact h x M' hq
/-- the room that a callee asks fits -/
def rmOK (fr lc fr' lc' maxL : Nat) : Bool := Nat.ble (fr' + 1) fr && Nat.ble (8 + (maxL + 11) + lc') lc
theorem rm_ok {fr lc fr' lc' maxL : Nat} (h : rmOK fr lc fr' lc' maxL = true) {R : Room} (h1 : fr ≤ R.frames) (h2 : lc ≤ R.locals) : fr' + 1 ≤ R.frames ∧ 8 + (maxL + 11) + lc' ≤ R.locals := by
  simp only [rmOK, Bool.and_eq_true] at h
  exact ⟨Nat.le_trans (Nat.le_of_ble_eq_true h.1) h1, Nat.le_trans (Nat.le_of_ble_eq_true h.2) h2⟩
/-- the stack below the arguments is short -/
def stS (l : List Value) : Prop := (l.map fun v => v.category).sum ≤ 8
theorem st_c {l : List Value} (h : ∀ w ∈ l, w.category = 1) (hl : l.length ≤ 8) : stS l := by
  have : ∀ l : List Value, (∀ w ∈ l, w.category = 1) → (l.map fun v => v.category).sum = l.length := by
    intro l
    induction l with
    | nil => intro _; rfl
    | cons a t ih =>
      intro h
      simp only [List.map_cons, List.sum_cons, List.length_cons, h a List.mem_cons_self, ih (fun w hw => h w (List.mem_cons_of_mem _ hw))]
      omega
  unfold stS
  rw [this l h]
  exact hl
section CALLS
/-- a receiver's class, in every heap of M -/
def isRcv (k : kT) (M : hM) (b : Nat) (C : String) : Prop := ∀ (H : Heap) (locs : List Loc), Rel (kg k) M.1 H → va_S (gA (kg k)) (ks k).heap H locs → ∃ cell : Cell, H[b]? = some cell ∧ cell.vm.isStatics = false ∧ (ks k).vm.findClass C = some cell.cls
theorem rcv {b ci N : Nat} {C : String} {T : u_T} (hC : CX k nL cc own ret fr lc) (hb : isC M b ci) (hc : vwAll[ci]? = some (C, T, N)) : isRcv k M b C := fun H locs a1 _ => gRecv hC.K a1 hb hc
variable {y : MethodName} {bytes : ByteArray} {maxL index n fr' lc' ci b : Nat} {rt : Option FieldType} {C host : String} {As rest : List Value} {P : Option Value → hM → Prop}
theorem G_callV (hC : CX k nL cc own ret fr lc) (hM : MG (kl k) (kg k) y (ws_ y bytes maxL rt) fr' lc' (.ref b :: As) M P) (hT : GoodIn lw_all (wsV own index C y (ws_ y bytes maxL rt))) (hd : y.cls = C ∧ y.cls ≠ "java/lang/invoke/MethodHandle" ∧ y.cls ≠ "java/lang/invoke/VarHandle" ∧ (parseMethodDescriptor y.desc).map (fun d => d.parameters.length) = some n) (hrm : rmOK fr lc fr' lc' maxL = true) (hb : isRcv k M b C) (hn : As.length = n) (hst : st = As.reverse ++ .ref b :: rest) (hs : stS rest) (d : decode cc pc = .ok (.invokevirtual index, 3))
    (kk : ∀ v M', P v M' → GW k nL M' (pc + 3) lv (v.toList ++ rest)) : GW k nL M pc lv st := by
  refine GW_run (A := (Value.ref b :: As).toArray) hC (fun H locs ls cells slots a1 a2 a3 a4 a5 a6 a7 => ?_) kk
  have hrc := hC.rc
  have hrs := hC.rs
  exact va_runV ⟨hC.ex, hC.by, hC.ml, hC.ow, hC.ts⟩ (hM H.size (tot H)) (cwV n hC.ts hT rfl rfl rfl hd (rm_ok hrm hC.hfr hC.hlc)) ⟨WU_blind hC.ok, hb H locs a1 a2, fun U hU hW => ⟨rfl, WU_now hC a1 a2 a6 a7 hU hW⟩⟩ rfl hn a3 hst (lv_room hs) d ⟨by omega, by omega⟩
theorem G_callS (hC : CX k nL cc own ret fr lc) (hM : MG (kl k) (kg k) y (ws_ y bytes maxL rt) fr' lc' As M P) (hT : GoodIn lw_all (va_wsS own index y (ws_ y bytes maxL rt))) (hd : y.cls ≠ "java/lang/invoke/MethodHandle" ∧ y.cls ≠ "java/lang/invoke/VarHandle" ∧ (parseMethodDescriptor y.desc).map (fun d => d.parameters.length) = some n) (hrm : rmOK fr lc fr' lc' maxL = true) (hn : As.length = n) (hst : st = As.reverse ++ rest) (hs : stS rest) (d : decode cc pc = .ok (.invokestatic index, 3))
    (kk : ∀ v M', P v M' → GW k nL M' (pc + 3) lv (v.toList ++ rest)) : GW k nL M pc lv st := by
  refine GW_run (A := As.toArray) hC (fun H locs ls cells slots a1 a2 a3 a4 a5 a6 a7 => ?_) kk
  have hrc := hC.rc
  have hrs := hC.rs
  exact va_runS ⟨hC.ex, hC.by, hC.ml, hC.ow, hC.ts⟩ (hM H.size (tot H)) (va_cwS n hC.ts hT rfl rfl rfl hd (rm_ok hrm hC.hfr hC.hlc)) ⟨WU_blind hC.ok, fun U hU hW => ⟨rfl, WU_now hC a1 a2 a6 a7 hU hW⟩⟩ rfl hn a3 hst (lv_room hs) d ⟨by omega, by omega⟩
theorem G_callI (hC : CX k nL cc own ret fr lc) (hM : MG (kl k) (kg k) y (ws_ y bytes maxL none) fr' lc' (.ref b :: As) M P) (hG : GoodIn lw_all (ws_ y bytes maxL none)) (hini : Cond.initialized y.cls ∈ lw_all) (hl : Cond.methodLink own index y ∈ lw_all) (hin : Cond.instanceMethod y ∈ lw_all) (hy1 : y.name = "<init>") (hd : y.cls ≠ "java/lang/invoke/MethodHandle" ∧ y.cls ≠ "java/lang/invoke/VarHandle" ∧ (parseMethodDescriptor y.desc).map (fun d => d.parameters.length) = some n) (hrm : rmOK fr lc fr' lc' maxL = true) (hn : As.length = n) (hst : st = As.reverse ++ .ref b :: rest) (hs : stS rest) (d : decode cc pc = .ok (.invokespecial index, 3))
    (kk : ∀ v M', P v M' → GW k nL M' (pc + 3) lv (v.toList ++ rest)) : GW k nL M pc lv st := by
  refine GW_run (A := (Value.ref b :: As).toArray) hC (fun H locs ls cells slots a1 a2 a3 a4 a5 a6 a7 => ?_) kk
  have hrc := hC.rc
  have hrs := hC.rs
  exact va_runI ⟨hC.ex, hC.by, hC.ml, hC.ow, hC.ts⟩ (hM H.size (tot H)) (cwI n hC.ts hG rfl rfl rfl (hC.ts _ hini) (hC.ts _ hl) (hC.ts _ hin) hy1 hd (rm_ok hrm hC.hfr hC.hlc)) ⟨WU_blind hC.ok, fun U hU hW => ⟨rfl, WU_now hC a1 a2 a6 a7 hU hW⟩⟩ rfl hn a3 hst (lv_room hs) d ⟨by omega, by omega⟩
theorem G_callVN (hC : CX k nL cc own ret fr lc) (hM : MG (kl k) (kg k) y (ws_ y bytes maxL rt) fr' lc' (.ref b :: As) M P) (hG : GoodIn lw_all (ws_ y bytes maxL rt)) (hl : Cond.methodLinkNest own index y host ∈ nwAll) (hini : Cond.initialized y.cls ∈ lw_all) (hi : Cond.instanceMethod y ∈ lw_all) (hsel : Cond.selects C y y ∈ lw_all) (hb : isRcv k M b C) (hd : y.cls ≠ "java/lang/invoke/MethodHandle" ∧ y.cls ≠ "java/lang/invoke/VarHandle" ∧ (parseMethodDescriptor y.desc).map (fun d => d.parameters.length) = some n) (hrm : rmOK fr lc fr' lc' maxL = true) (hn : As.length = n) (hst : st = As.reverse ++ .ref b :: rest) (hs : stS rest) (d : decode cc pc = .ok (.invokevirtual index, 3))
    (kk : ∀ v M', P v M' → GW k nL M' (pc + 3) lv (v.toList ++ rest)) : GW k nL M pc lv st := by
  refine GW_run (A := (Value.ref b :: As).toArray) hC (fun H locs ls cells slots a1 a2 a3 a4 a5 a6 a7 => ?_) kk
  have hrc := hC.rc
  have hrs := hC.rs
  exact va_runVN ⟨hC.ex, hC.by, hC.ml, hC.ow, hC.ts⟩ (hM H.size (tot H)) ⟨va_cnB n hC.ts hG rfl rfl rfl (hC.nw hl) (hC.ts _ hini) hd (rm_ok hrm hC.hfr hC.hlc), hC.ts _ hi, hC.ts _ hsel⟩ ⟨WU_blind hC.ok, hb H locs a1 a2, fun U hU hW => ⟨rfl, WU_now hC a1 a2 a6 a7 hU hW⟩⟩ rfl hn a3 hst (lv_room hs) d ⟨by omega, by omega⟩
theorem G_callSN (hC : CX k nL cc own ret fr lc) (hM : MG (kl k) (kg k) y (ws_ y bytes maxL rt) fr' lc' As M P) (hG : GoodIn lw_all (ws_ y bytes maxL rt)) (hl : Cond.methodLinkNest own index y host ∈ nwAll) (hini : Cond.initialized y.cls ∈ lw_all) (hi : Cond.static y ∈ lw_all) (hd : y.cls ≠ "java/lang/invoke/MethodHandle" ∧ y.cls ≠ "java/lang/invoke/VarHandle" ∧ (parseMethodDescriptor y.desc).map (fun d => d.parameters.length) = some n) (hrm : rmOK fr lc fr' lc' maxL = true) (hn : As.length = n) (hst : st = As.reverse ++  rest) (hs : stS rest) (d : decode cc pc = .ok (.invokestatic index, 3))
    (kk : ∀ v M', P v M' → GW k nL M' (pc + 3) lv (v.toList ++ rest)) : GW k nL M pc lv st := by
  refine GW_run (A := As.toArray) hC (fun H locs ls cells slots a1 a2 a3 a4 a5 a6 a7 => ?_) kk
  have hrc := hC.rc
  have hrs := hC.rs
  exact va_runSN ⟨hC.ex, hC.by, hC.ml, hC.ow, hC.ts⟩ (hM H.size (tot H)) ⟨va_cnB n hC.ts hG rfl rfl rfl (hC.nw hl) (hC.ts _ hini) hd (rm_ok hrm hC.hfr hC.hlc), hC.ts _ hi, trivial⟩ ⟨WU_blind hC.ok, fun U hU hW => ⟨rfl, WU_now hC a1 a2 a6 a7 hU hW⟩⟩ rfl hn a3 hst (lv_room hs) d ⟨by omega, by omega⟩
theorem G_callIN (hC : CX k nL cc own ret fr lc) (hM : MG (kl k) (kg k) y (ws_ y bytes maxL none) fr' lc' (.ref b :: As) M P) (hG : GoodIn lw_all (ws_ y bytes maxL none)) (hl : Cond.methodLinkNest own index y host ∈ nwAll) (hini : Cond.initialized y.cls ∈ lw_all) (hi : Cond.instanceMethod y ∈ lw_all) (hy1 : y.name = "<init>") (hd : y.cls ≠ "java/lang/invoke/MethodHandle" ∧ y.cls ≠ "java/lang/invoke/VarHandle" ∧ (parseMethodDescriptor y.desc).map (fun d => d.parameters.length) = some n) (hrm : rmOK fr lc fr' lc' maxL = true) (hn : As.length = n) (hst : st = As.reverse ++ .ref b :: rest) (hs : stS rest) (d : decode cc pc = .ok (.invokespecial index, 3))
    (kk : ∀ v M', P v M' → GW k nL M' (pc + 3) lv (v.toList ++ rest)) : GW k nL M pc lv st := by
  refine GW_run (A := (Value.ref b :: As).toArray) hC (fun H locs ls cells slots a1 a2 a3 a4 a5 a6 a7 => ?_) kk
  have hrc := hC.rc
  have hrs := hC.rs
  exact va_runIN ⟨hC.ex, hC.by, hC.ml, hC.ow, hC.ts⟩ (hM H.size (tot H)) ⟨va_cnB n hC.ts hG rfl rfl rfl (hC.nw hl) (hC.ts _ hini) hd (rm_ok hrm hC.hfr hC.hlc), hy1, hC.ts _ hi⟩ ⟨WU_blind hC.ok, fun U hU hW => ⟨rfl, WU_now hC a1 a2 a6 a7 hU hW⟩⟩ rfl hn a3 hst (lv_room hs) d ⟨by omega, by omega⟩
theorem G_callF {x : MethodName} {count ci N : Nat} {T : u_T} (hC : CX k nL cc own ret fr lc) (hM : MG (kl k) (kg k) y (ws_ y bytes maxL rt) fr' lc' (.ref b :: As) M P) (hT : GoodIn lw_all (va_wsF own index C x y (ws_ y bytes maxL rt))) (h1 : Cond.declares x ∈ nwAll) (h2 : Cond.interfaceMethod x.cls x.cls x.name x.desc ∈ nwAll) (h3 : Cond.publicMethod y ∈ nwAll) (h4 : Cond.unhidden C x.name x.desc ∈ nwAll) (h5 : Cond.castable C x.cls ∈ nwAll) (hc : vwAll[ci]? = some (C, T, N)) (hb : isRcv k M b C) (hd : x.cls ≠ "java/lang/invoke/MethodHandle" ∧ x.cls ≠ "java/lang/invoke/VarHandle" ∧ (parseMethodDescriptor x.desc).map (fun d => d.parameters.length) = some n) (hrm : rmOK fr lc fr' lc' maxL = true) (hn : As.length = n) (hst : st = As.reverse ++ .ref b :: rest) (hs : stS rest) (d : decode cc pc = .ok (.invokeinterface index count, 5))
    (kk : ∀ v M', P v M' → GW k nL M' (pc + 5) lv (v.toList ++ rest)) : GW k nL M pc lv st := by
  refine GW_run5 (A := (Value.ref b :: As).toArray) hC (fun H locs ls cells slots a1 a2 a3 a4 a5 a6 a7 => ?_) kk
  have hrc := hC.rc
  have hrs := hC.rs
  exact va_runF (hC.K.1 ci _ hc).2 ⟨hC.ex, hC.by, hC.ml, hC.ow, hC.ts⟩ (hM H.size (tot H)) (va_cwF n hC.ts hT rfl rfl rfl ⟨hC.nw h1, hC.nw h2, hC.nw h3, hC.nw h4, hC.nw h5⟩ hd (rm_ok hrm hC.hfr hC.hlc)) ⟨WU_blind hC.ok, hb H locs a1 a2, fun U hU hW => ⟨rfl, WU_now hC a1 a2 a6 a7 hU hW⟩⟩ rfl hn a3 hst (lv_room hs) d ⟨by omega, by omega⟩
theorem back5 {ws : List Cond} {rm : Room} {Pc : Array Value → State → Prop} {Qc : Array Value → State → Outcome → State → Prop} {mc ms : Nat} {free : Addr → Prop} {l : Launch} {R : Room} {p : Program} {e : Env} {below : List Frame} {s : State} {args : Array Value} {y : MethodName} {bytes : ByteArray} {maxL : Nat} {ret : Option FieldType} (hM : Met l y ws rm Pc Qc mc ms free) (hbl : FrameBlind Pc) (hrc : rm.cells = mc) (hrs : rm.slots = ms) (hR : rm.frames + 1 ≤ R.frames ∧ 8 + (maxL + 11) + rm.locals ≤ R.locals) (hws : ∀ w ∈ ws, ∀ (a' : Array Value) (U : State), s.WarmedH U.vm → w.before a' U = true) (hcode : Cond.code y bytes maxL ret ∈ ws) (hini : (Cond.initialized y.cls).before args s = true) : Back l R p e below s args y 5 8 (PreOf R mc ms Pc) (PostOf Qc mc ms free) :=
  back_of (bytes := bytes) (maxL := maxL) (ret := ret) hM hbl hrc hrs hR.1 hR.2 hws hcode (fun a' U hW => word_at hW (Or.inl (by first | rfl | simp [Cond.onTables, Cond.keeps, Cond.steady])) hini)
/-- a call through an interface whose method another class or interface, J, declares -/
theorem G_callFJ {x : MethodName} {J : String} {count ci N : Nat} {T : u_T} (hC : CX k nL cc own ret fr lc) (hM : MG (kl k) (kg k) y (ws_ y bytes maxL rt) fr' lc' (.ref b :: As) M P) (hG : GoodIn lw_all (ws_ y bytes maxL rt)) (hlk : Cond.methodLink own index x ∈ lw_all ∨ Cond.methodLink own index x ∈ nwAll) (hface : Cond.interfaceMethod x.cls J x.name x.desc ∈ nwAll) (hdecl : Cond.declares ⟨J, x.name, x.desc⟩ ∈ nwAll) (hpubJ : Cond.publicMethod ⟨J, x.name, x.desc⟩ ∈ nwAll) (hxo : x.cls ≠ J) (hJn : J ≠ "java/lang/invoke/MethodHandle" ∧ J ≠ "java/lang/invoke/VarHandle") (hsel : Cond.selects C ⟨J, x.name, x.desc⟩ y ∈ lw_all) (hinst : Cond.instanceMethod y ∈ lw_all) (hini : Cond.initialized y.cls ∈ lw_all) (hpub : Cond.publicMethod y ∈ nwAll) (hunh : Cond.unhidden C x.name x.desc ∈ nwAll) (hcast : Cond.castable C x.cls ∈ nwAll) (hc : vwAll[ci]? = some (C, T, N)) (hb : isRcv k M b C) (hd : x.cls ≠ "java/lang/invoke/MethodHandle" ∧ x.cls ≠ "java/lang/invoke/VarHandle" ∧ (parseMethodDescriptor x.desc).map (fun d => d.parameters.length) = some n) (hrm : rmOK fr lc fr' lc' maxL = true) (hn : As.length = n) (hst : st = As.reverse ++ .ref b :: rest) (hs : stS rest) (d : decode cc pc = .ok (.invokeinterface index count, 5))
    (kk : ∀ v M', P v M' → GW k nL M' (pc + 5) lv (v.toList ++ rest)) : GW k nL M pc lv st := by
  refine GW_run5 (A := (Value.ref b :: As).toArray) hC (fun H locs ls cells slots a1 a2 a3 a4 a5 a6 a7 => ?_) kk
  have hrc := hC.rc
  have hrs := hC.rs
  have hK := back5 (bytes := bytes) (maxL := maxL) (ret := rt) (R := kR k) (p := kp k) (e := ke k) (below := kb k) (s := ks k) (args := ka k) (hM H.size (tot H)) (WU_blind hC.ok) rfl rfl (rm_ok hrm hC.hfr hC.hlc) (pay_in hC.ts hG) List.mem_cons_self (hC.ts _ hini)
  obtain ⟨hfc, kB, hkB, -⟩ := (hC.K.1 ci _ hc).2
  obtain ⟨cellB, hcB, hoB, hclB⟩ := hb H locs a1 a2
  rw [Option.some.inj (hfc.symm.trans hclB)] at hkB
  have hlink : (Cond.methodLink own index x).before (ka k) (ks k) = true := hlk.elim (fun h => hC.ts _ h) (fun h => va_Nw.use (nw_tab h) (hC.nw h))
  have use : ∀ {w : Cond}, w ∈ nwAll → w.before (ka k) (ks k) = true := fun h => va_Nw.use (nw_tab h) (hC.nw h)
  obtain ⟨r0, r, hn0, hrm0, hstR, hsigR⟩ := Cond.declares_spec (use hdecl)
  obtain ⟨hnameR, hdescR⟩ := name_of_methodNamed hn0 hrm0
  obtain ⟨mk, methM, hnamed, hmethM, -, habM⟩ := Cond.instanceMethod_spec (hC.ts _ hinst)
  obtain ⟨c2, r2, m2, q1, q2, q3, q4, -⟩ := Cond.selects_spec (hC.ts _ hsel)
  cases hclB.symm.trans q1
  cases hnamed.symm.trans q3
  have hr2 : r2 = r0 := by
    obtain ⟨ok, hok, hokname⟩ := className_of_methodNamed hn0
    have ho : (ks k).vm.findClass J = some r0.cls := findClass_of_methodNamed hn0
    have hi : ok.findMethod x.name x.desc = some r0.idx := findMethod_of_methodNamed (x := ⟨J, x.name, x.desc⟩) hn0 hok
    have hmO : ok.methods[r0.idx]? = some r := by simpa [Vm.method?, hok] using hrm0
    have h9 := State.methodFound?_declared ho hok (fun y => by simp [signaturePolymorphic, hokname, hJn.1, hJn.2]) hi (by rw [hmO]; rfl)
    exact Option.some.inj (q2.symm.trans h9)
  subst hr2
  obtain ⟨c3, t3, w1, w2, w3⟩ := Cond.castable_spec (use hcast)
  cases hclB.symm.trans w1
  intro T hT X
  have hselP : selectMethod (ke k).platform (ks k).vm cellB.cls r2 = .method mk := by rw [Launch.admits_selectMethod X.admits]; exact q4
  have hpubM : hasFlag methM.accessFlags Acc.public_ = true := Cond.publicMethod_spec hnamed hmethM (use hpub)
  have hway : ((cellB.cls :: (ks k).vm.superclasses cellB.cls).any fun k0 => (declaredIn (ks k).vm r.name r.desc k0).any fun (_, z) => z.isPrivate || z.isStatic) = false := by
    rw [hnameR, hdescR]; exact Cond.unhidden_spec hclB (use hunh)
  obtain ⟨vm₁, X₁, hstep₁⟩ := X.invokeinterfaceUp hC.ex (J := J) hC.ow hlink (use hface) (use hdecl) (use hpubJ) hxo ⟨hd.1, hd.2.1⟩ (a := b) (cell := cellB) (kcell := kB) w2 (by rw [hT]; exact hcB)
    (fun z h => by rw [h] at hoB; cases hoB) hkB w3 hn0 hrm0 hselP hmethM hway hpubM habM (g := F0 (km k) pc ls st) rfl (argsL := As) (rest := rest) (by have h8 := hd.2.2; rw [hsigR] at h8; simp at h8; omega) hst (by rw [hC.by]; exact d)
  obtain ⟨v, ⟨U', l2, c2', s2⟩, X', ⟨g', mk', t, L, e1, e2, hq, h1, hL, h2, h3⟩, hsteps⟩ := hK (km k) (kt k) (kc k) ⟨T.setVm vm₁, locs, cells, slots⟩ { F0 (km k) pc ls st with stack := rest } (.invokeinterface index count) mk (Value.ref b :: As).toArray X₁ rfl (by rw [hC.ml]; exact a3) (by rw [hC.by]; exact d) (lv_room hs) (X₁.named hnamed) ⟨by dsimp only [Pt.cells]; omega, by dsimp only [Pt.slots]; omega, rfl, WU_now hC a1 a2 a6 a7 hT X₁.warmed⟩
  dsimp only [Pt.U, Pt.locs, Pt.cells, Pt.slots] at X' e1 e2 h1 h2 h3 hsteps
  subst h1; subst h2; subst h3
  exact ⟨v, (T.setVm vm₁).calling g' mk' (Value.ref b :: As).toArray, t, U', L, hT, X', hL, e1, e2, hq, fun target h => hstep₁ _ fun acts => by rw [doInvoke_state]; exact hsteps.trans h⟩
theorem G_callU {x : MethodName} {owner : String} (hC : CX k nL cc own ret fr lc) (hM : MG (kl k) (kg k) y (ws_ y bytes maxL rt) fr' lc' (.ref b :: As) M P) (hT : GoodIn lw_all (va_wsU own index C owner x y (ws_ y bytes maxL rt))) (hyx : y = ⟨owner, x.name, x.desc⟩) (hb : isRcv k M b C) (hd : owner ≠ "java/lang/invoke/MethodHandle" ∧ owner ≠ "java/lang/invoke/VarHandle" ∧ (parseMethodDescriptor x.desc).map (fun d => d.parameters.length) = some n) (hrm : rmOK fr lc fr' lc' maxL = true) (hn : As.length = n) (hst : st = As.reverse ++ .ref b :: rest) (hs : stS rest) (d : decode cc pc = .ok (.invokevirtual index, 3))
    (kk : ∀ v M', P v M' → GW k nL M' (pc + 3) lv (v.toList ++ rest)) : GW k nL M pc lv st := by
  refine GW_run (A := (Value.ref b :: As).toArray) hC (fun H locs ls cells slots a1 a2 a3 a4 a5 a6 a7 => ?_) kk
  have hrc := hC.rc
  have hrs := hC.rs
  exact va_runU ⟨hC.ex, hC.by, hC.ml, hC.ow, hC.ts⟩ (hM H.size (tot H)) (va_cwU n hC.ts hT rfl rfl rfl hyx hd (rm_ok hrm hC.hfr hC.hlc)) ⟨WU_blind hC.ok, hb H locs a1 a2, fun U hU hW => ⟨rfl, WU_now hC a1 a2 a6 a7 hU hW⟩⟩ rfl hn a3 hst (lv_room hs) d ⟨by omega, by omega⟩
theorem G_callO {x : MethodName} {owner : String} {b0 : ByteArray} {m0 : Nat} {r0 : Option FieldType} (hC : CX k nL cc own ret fr lc) (hM : MG (kl k) (kg k) y (ws_ y bytes maxL rt) fr' lc' (.ref b :: As) M P) (hT : GoodIn lw_all (va_wsO own index C owner x y (ws_ y bytes maxL rt))) (h0 : Cond.code ⟨owner, x.name, x.desc⟩ b0 m0 r0 ∈ lw_all) (hb : isRcv k M b C) (hd : owner ≠ "java/lang/invoke/MethodHandle" ∧ owner ≠ "java/lang/invoke/VarHandle" ∧ (parseMethodDescriptor x.desc).map (fun d => d.parameters.length) = some n) (hrm : rmOK fr lc fr' lc' maxL = true) (hn : As.length = n) (hst : st = As.reverse ++ .ref b :: rest) (hs : stS rest) (d : decode cc pc = .ok (.invokevirtual index, 3))
    (kk : ∀ v M', P v M' → GW k nL M' (pc + 3) lv (v.toList ++ rest)) : GW k nL M pc lv st := by
  refine GW_run (A := (Value.ref b :: As).toArray) hC (fun H locs ls cells slots a1 a2 a3 a4 a5 a6 a7 => ?_) kk
  have hrc := hC.rc
  have hrs := hC.rs
  exact va_runU ⟨hC.ex, hC.by, hC.ml, hC.ow, hC.ts⟩ (hM H.size (tot H)) (va_cwO n hC.ts hT rfl rfl rfl h0 hd (rm_ok hrm hC.hfr hC.hlc)) ⟨WU_blind hC.ok, hb H locs a1 a2, fun U hU hW => ⟨rfl, WU_now hC a1 a2 a6 a7 hU hW⟩⟩ rfl hn a3 hst (lv_room hs) d ⟨by omega, by omega⟩
theorem G_castY {nm : String} (hC : CX k nL cc own ret fr lc) (hl : Cond.classLink own index nm ∈ lw_all) (hc : Cond.castable C nm ∈ nwAll) (hb : isRcv k M b C) (d : decode cc pc = .ok (.checkcast index, 3)) (kk : GW k nL M (pc + 3) lv (va_rf (some b) :: rest)) : GW k nL M pc lv (va_rf (some b) :: rest) := fun H locs ls cells slots a1 a2 a3 a4 a5 a6 a7 => va_castY hC.ex hC.by hC.ow (hC.ts _ hl) (hC.nw hc) (hb H locs a1 a2) d (kk H locs ls cells slots a1 a2 a3 a4 a5 a6 a7)
theorem G_castN (hC : CX k nL cc own ret fr lc) (d : decode cc pc = .ok (.checkcast index, 3)) (kk : GW k nL M (pc + 3) lv (va_rf none :: rest)) : GW k nL M pc lv (va_rf none :: rest) := fun H locs ls cells slots a1 a2 a3 a4 a5 a6 a7 => lv_castN hC.ex hC.by d (kk H locs ls cells slots a1 a2 a3 a4 a5 a6 a7)
theorem G_max {x y : Int32} (hC : CX k nL cc own ret fr lc) (h1 : Cond.methodLink own index Lib.Math.max.name ∈ lw_all) (h2 : Cond.static Lib.Math.max.name ∈ lw_all) (h3 : Cond.initialized "java/lang/Math" ∈ lw_all) (h4 : Cond.code Lib.Math.max.name Lib.Math.max.code 2 (some .int) ∈ lw_all) (hfr : Nat.ble 1 fr = true) (hlc : Nat.ble 21 lc = true) (hs : stS rest) (d : decode cc pc = .ok (.invokestatic index, 3)) (kk : GW k nL M (pc + 3) lv (.int (if x < y then y else x) :: rest)) : GW k nL M pc lv (.int y :: .int x :: rest) := by
  intro H locs ls cells slots a1 a2 a3 a4 a5 a6 a7
  have hs' : (rest.map fun v => v.category).sum ≤ 8 := hs
  have h9 := Nat.le_trans (Nat.le_of_ble_eq_true hlc) hC.hlc
  have hrc := hC.rc
  have hrs := hC.rs
  exact va_mmax hC.ex hC.by (hC.ml.trans a3.1.symm) hC.ow (hC.ts _ h1) (hC.ts _ h2) (hC.ts _ h3) (hC.ts _ h4) (Nat.le_trans (Nat.le_of_ble_eq_true hfr) hC.hfr) (by omega) (by omega) (by omega) d (kk H locs ls cells slots a1 a2 a3 a4 a5 a6 a7)
theorem G_min {x y : Int32} (hC : CX k nL cc own ret fr lc) (h1 : Cond.methodLink own index Lib.Math.min.name ∈ lw_all) (h2 : Cond.static Lib.Math.min.name ∈ lw_all) (h3 : Cond.initialized "java/lang/Math" ∈ lw_all) (h4 : Cond.code Lib.Math.min.name Lib.Math.min.code 2 (some .int) ∈ lw_all) (hfr : Nat.ble 1 fr = true) (hlc : Nat.ble 21 lc = true) (hs : stS rest) (d : decode cc pc = .ok (.invokestatic index, 3)) (kk : GW k nL M (pc + 3) lv (.int (if y < x then y else x) :: rest)) : GW k nL M pc lv (.int y :: .int x :: rest) := by
  intro H locs ls cells slots a1 a2 a3 a4 a5 a6 a7
  have hs' : (rest.map fun v => v.category).sum ≤ 8 := hs
  have h9 := Nat.le_trans (Nat.le_of_ble_eq_true hlc) hC.hlc
  have hrc := hC.rc
  have hrs := hC.rs
  exact va_mmin hC.ex hC.by (hC.ml.trans a3.1.symm) hC.ow (hC.ts _ h1) (hC.ts _ h2) (hC.ts _ h3) (hC.ts _ h4) (Nat.le_trans (Nat.le_of_ble_eq_true hfr) hC.hfr) (by omega) (by omega) (by omega) d (kk H locs ls cells slots a1 a2 a3 a4 a5 a6 a7)
theorem G_objInit {index : Nat} {b : Nat} {rest : List Value} (hC : CX k nL cc own ret fr lc) (h1 : Cond.methodLink own index Lib.objectInit ∈ lw_all) (h2 : Cond.instanceMethod Lib.objectInit ∈ lw_all) (h3 : Cond.code Lib.objectInit ⟨#[0xb1]⟩ 1 none ∈ lw_all) (hfr : Nat.ble 1 fr = true) (hlc : Nat.ble 20 lc = true) (hs : stS rest) (d : decode cc pc = .ok (.invokespecial index, 3)) (kk : GW k nL M (pc + 3) lv rest) : GW k nL M pc lv (.ref b :: rest) := by
  intro H locs ls cells slots a1 a2 a3 a4 a5 a6 a7
  have hs' : (rest.map fun v => v.category).sum ≤ 8 := hs
  refine W.objInit hC.ex hC.by hC.ow (hC.ts _ h1) (hC.ts _ h2) (hC.ts _ h3) rfl (by rw [hC.ml]; exact a3.1) rfl d (Nat.le_trans (Nat.le_of_ble_eq_true hfr) hC.hfr) ?_ (kk H locs ls cells slots a1 a2 a3 a4 a5 a6 a7)
  have h9 := Nat.le_trans (Nat.le_of_ble_eq_true hlc) hC.hlc
  show 2 * 0 + _ + 12 ≤ _
  omega
end CALLS
end GE
