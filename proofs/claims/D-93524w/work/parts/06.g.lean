/-! THE G LAYER: an abstract heap, the machine's rows over it -/
set_option maxRecDepth 100000
-- ===== classes =====
def TX14 : u_T := fun _ => ("", "", "", false)
theorem in_X14 : ∀ w ∈ u_ws RX14 TX14 0, w ∈ lw_all := fun w h => by simp [u_ws] at h
def vwAll : List vw_C := [(RX1, TX1, 10), (RX2, TX2, 1), (RX3, TX3, 61), (RX4, TX4, 2), (RX5, TX5, 4), (RX6, TX6, 2), (RX7, TX7, 3), (RX8, TX8, 7), (RX9, TX9, 6), (RX10, TX10, 2), (RX11, TX11, 3), (RX12, TX12, 4), (RX13, TX13, 3), (RX14, TX14, 0), (RX15, TX15, 3), (RX16, TX16, 5), (RX17, TX17, 5), (RX18, TX18, 2), (RX19, TX19, 4), (RX20, TX20, 7), (RX21, TX21, 2), (RJ2, TJ2, 3), (RJ3, TJ3, 3), (RJ5, TJ5, 4), (RJ6, TJ6, 4), (RJ19, TJ19, 1), (RJ24, TJ24, 4), (RJ26, TJ26, 2), (RJ33, TJ33, 2), (RJ35, TJ35, 4), (RJ40, TJ40, 9), (RJ41, TJ41, 6)]
-- ===== the abstract heap =====
/-- an ADT cell: tag, references, ints, modification count, capacity -/
abbrev gAdt : Type := Nat × List (Option Nat) × List Int32 × Int32 × Nat
/-- a raw cell: an array (kind of array, length, contents) or an object (class, fields) -/
abbrev gRaw : Type := (Nat × vp_A) ⊕ (Nat × List Value)
abbrev gCell : Type := gRaw ⊕ gAdt
abbrev gCon : Type := Nat → Option va_E
abbrev gMap : Type := Nat → Option gCell
abbrev hM : Type := gMap × Nat × Nat
/-- classes' numbers, array classes' numbers, base, constants' addresses, how ADT cells lie in the heap, what is known of the start -/
abbrev gT : Type := va_G × (Nat → ClassId) × Nat × (Nat → Nat) × (gAdt → Nat → gCon → Prop) × (Nat → State → Heap → Prop)
abbrev gD (g : gT) : va_G := g.1
abbrev gC (g : gT) : Nat → ClassId := g.2.1
abbrev gZ (g : gT) : Nat := g.2.2.1
abbrev gK (g : gT) : Nat → Nat := g.2.2.2.1
abbrev gR (g : gT) : gAdt → Nat → gCon → Prop := g.2.2.2.2.1
abbrev gS (g : gT) : Nat → State → Heap → Prop := g.2.2.2.2.2
def gA (g : gT) : Nat → Prop := fun q => gZ g ≤ q
def capN : Nat := 1200144
def capZ : Nat := 5493754
def tot (H : Heap) : Nat := H.foldl (fun n c => n + c.slots.size) 0
def toE (g : gT) : gRaw → va_E
  | .inl x => .inl (gC g x.1, x.2)
  | .inr o => .inr o
def gUp (M : gMap) (a : Nat) (c : gCell) : gMap := fun q => if q = a then some c else M q
theorem gUp_self (M : gMap) (a : Nat) (c : gCell) : gUp M a c a = some c := if_pos rfl
theorem gUp_ne {M : gMap} {a q : Nat} {c : gCell} (h : q ≠ a) : gUp M a c q = M q := if_neg h
def gRest (C : gCon) (own : Nat → Nat) (a : Nat) : gCon := fun q => if own q = a then C q else none
def gCR (g : gT) (C : gCon) (own : Nat → Nat) (a : Nat) : gCell → Prop
  | .inl x => C a = some (toE g x)
  | .inr t => (∃ fs, C a = some (.inr (t.1, fs))) ∧ gR g t a (gRest C own a)
def gCs (g : gT) (C : gCon) (H : Heap) (ws : va_W) : Prop := va_P (gD g) vwAll ws H ∧ va_D (gA g) ws ∧ ∀ a e, C a = some e → (a, e) ∈ ws
/-- what the abstract map says of the heap -/
def Rel (g : gT) (M : gMap) (H : Heap) : Prop := ∃ (C : gCon) (own : Nat → Nat) (ws : va_W), gCs g C H ws ∧ ∀ a c, M a = some c → own a = a ∧ gCR g C own a c
theorem gCR_some {g : gT} {C : gCon} {own : Nat → Nat} {a : Nat} {c : gCell} (h : gCR g C own a c) : ∃ e, C a = some e := by
  cases c with
  | inl x => exact ⟨_, h⟩
  | inr t => exact h.1.elim fun fs h1 => ⟨_, h1⟩
theorem gRest_eq {C C' : gCon} {own own' : Nat → Nat} {b q : Nat} (h : ∀ z, z ≠ q → C' z = C z ∧ own' z = own z) (h1 : own' q ≠ b) (h2 : own q = b → C q = none) : gRest C' own' b = gRest C own b := by
  funext z
  by_cases hz : z = q
  · subst hz
    simp only [gRest]
    rw [if_neg h1]
    by_cases h3 : own z = b
    · rw [if_pos h3, h2 h3]
    · rw [if_neg h3]
  · obtain ⟨h3, h4⟩ := h z hz
    simp only [gRest, h3, h4]
theorem gRel_get {g : gT} {M : gMap} {H : Heap} {a : Nat} {x : gRaw} (h : Rel g M H) (ha : M a = some (.inl x)) :
    ∃ (ws : va_W) (q0 : Nat), va_P (gD g) vwAll ws H ∧ va_D (gA g) ws ∧ ws[q0]? = some (a, toE g x) ∧
      ∀ (x' : gRaw) (H' : Heap), va_P (gD g) vwAll (ws.set q0 (a, toE g x')) H' → va_D (gA g) (ws.set q0 (a, toE g x')) → Rel g (gUp M a (.inl x')) H' := by
  obtain ⟨C, own, ws, ⟨hP, hD, hw⟩, hM⟩ := h
  obtain ⟨ho, hc⟩ := hM a _ ha
  have hc' : C a = some (toE g x) := hc
  obtain ⟨q0, hq⟩ := List.getElem?_of_mem (hw a _ hc')
  have hl := (List.getElem?_eq_some_iff.mp hq).1
  refine ⟨ws, q0, hP, hD, hq, fun x' H' hP' hD' => ⟨fun z => if z = a then some (toE g x') else C z, own, ws.set q0 (a, toE g x'), ⟨hP', hD', fun b e hb => ?_⟩, fun b c hb => ?_⟩⟩
  · by_cases hba : b = a
    · subst hba
      simp only [if_true] at hb
      cases hb
      exact List.mem_of_getElem? (List.getElem?_set_self hl)
    · simp only [if_neg hba] at hb
      obtain ⟨j, hj⟩ := List.getElem?_of_mem (hw b e hb)
      have hjq : q0 ≠ j := fun hh => by subst hh; rw [hq] at hj; cases hj; exact hba rfl
      exact List.mem_of_getElem? (by rw [List.getElem?_set_ne hjq]; exact hj)
  · by_cases hba : b = a
    · subst hba
      rw [gUp_self] at hb
      cases hb
      exact ⟨ho, if_pos rfl⟩
    · rw [gUp_ne hba] at hb
      obtain ⟨h1, h2⟩ := hM b c hb
      refine ⟨h1, ?_⟩
      cases c with
      | inl y => exact (if_neg hba).trans h2
      | inr t =>
        refine ⟨h2.1.imp fun e he => (if_neg hba).trans he, ?_⟩
        rw [gRest_eq (C := C) (own := own) (q := a) (fun z hz => ⟨if_neg hz, rfl⟩) (by rw [ho]; exact fun hh => hba hh.symm) (fun hh => absurd (ho.symm.trans hh).symm hba)]
        exact h2.2
theorem gRel_new {g : gT} {M : gMap} {H : Heap} (h : Rel g M H) :
    ∃ ws : va_W, va_P (gD g) vwAll ws H ∧ va_D (gA g) ws ∧ ∀ (q : Nat) (x : gRaw) (H' : Heap), va_P (gD g) vwAll (ws ++ [(q, toE g x)]) H' → va_D (gA g) (ws ++ [(q, toE g x)]) → M q = none ∧ Rel g (gUp M q (.inl x)) H' := by
  obtain ⟨C, own, ws, ⟨hP, hD, hw⟩, hM⟩ := h
  refine ⟨ws, hP, hD, fun q x H' hP' hD' => ?_⟩
  have hCq : C q = none := by
    cases hc : C q with
    | none => rfl
    | some e =>
      exfalso
      obtain ⟨j, hj⟩ := List.getElem?_of_mem (hw q e hc)
      have hl := (List.getElem?_eq_some_iff.mp hj).1
      have h1 : (ws ++ [(q, toE g x)])[j]? = some (q, e) := by rw [List.getElem?_append_left hl]; exact hj
      have h2 : (ws ++ [(q, toE g x)])[ws.length]? = some (q, toE g x) := by simp
      have := hD'.1 _ _ _ _ h1 h2 rfl
      omega
  have hMq : M q = none := by
    cases hc : M q with
    | none => rfl
    | some c =>
      obtain ⟨e, he⟩ := gCR_some (hM q c hc).2
      rw [hCq] at he
      cases he
  refine ⟨hMq, fun z => if z = q then some (toE g x) else C z, fun z => if z = q then q else own z, ws ++ [(q, toE g x)], ⟨hP', hD', fun b e hb => ?_⟩, fun b c hb => ?_⟩
  · by_cases hbq : b = q
    · subst hbq
      simp only [if_true] at hb
      cases hb
      simp
    · simp only [if_neg hbq] at hb
      exact List.mem_append_left _ (hw b e hb)
  · by_cases hbq : b = q
    · subst hbq
      rw [gUp_self] at hb
      cases hb
      exact ⟨if_pos rfl, if_pos rfl⟩
    · rw [gUp_ne hbq] at hb
      obtain ⟨h1, h2⟩ := hM b c hb
      refine ⟨(if_neg hbq).trans h1, ?_⟩
      cases c with
      | inl y => exact (if_neg hbq).trans h2
      | inr t =>
        refine ⟨h2.1.imp fun e he => (if_neg hbq).trans he, ?_⟩
        rw [gRest_eq (C := C) (own := own) (q := q) (fun z hz => ⟨if_neg hz, if_neg hz⟩) (by rw [if_pos rfl]; exact fun hh => hbq hh.symm) (fun _ => hCq)]
        exact h2.2
theorem gRel_mono {g : gT} {M M' : gMap} {H : Heap} (h : Rel g M H) (hs : ∀ a c, M' a = some c → M a = some c) : Rel g M' H := by
  obtain ⟨C, own, ws, hC, hM⟩ := h
  exact ⟨C, own, ws, hC, fun a c hc => hM a c (hs a c hc)⟩
theorem gRel_lt {g : gT} {M : gMap} {H : Heap} {a : Nat} {c : gCell} (h : Rel g M H) (ha : M a = some c) : a < H.size ∧ gZ g ≤ a := by
  obtain ⟨C, own, ws, ⟨hP, hD, hw⟩, hM⟩ := h
  obtain ⟨e, he⟩ := gCR_some (hM a c ha).2
  obtain ⟨j, hj⟩ := List.getElem?_of_mem (hw a e he)
  exact ⟨(hP j _ hj).lt, hD.2 j _ hj⟩
-- ===== counting =====
theorem tot_used {p : Program} {l : Launch} {e : Env} {R : Room} {s : State} {m : MethodId} {args : Array Value} {below : List Frame} {meth : Method} {c : Code} {T : State} {locs : List Loc} {cells slots : Nat} (X : Stand p l e R s m args below meth c T locs cells slots) :
    s.slotsUsed = tot s.heap ∧ T.slotsUsed = tot T.heap := by
  constructor
  · have h := X.room
    simp only [State.hasRoom, Bool.and_eq_true] at h
    have h1 : s.slotsTrue = true := h.2
    simpa [State.slotsTrue, tot] using h1
  · have h1 := X.book
    simpa [State.slotsTrue, tot] using h1
theorem stand_size {p : Program} {l : Launch} {e : Env} {R : Room} {s : State} {m : MethodId} {args : Array Value} {below : List Frame} {meth : Method} {c : Code} {T : State} {locs : List Loc} {cells slots : Nat} (X : Stand p l e R s m args below meth c T locs cells slots) :
    T.heap.size ≤ s.heap.size + cells ∧ tot T.heap ≤ tot s.heap + slots := by
  obtain ⟨h1, h2⟩ := tot_used X
  refine ⟨X.heapSize, ?_⟩
  rw [← h1, ← h2]
  exact X.used
theorem stand_tight {p : Program} {l : Launch} {e : Env} {R : Room} {s : State} {m : MethodId} {args : Array Value} {below : List Frame} {meth : Method} {c : Code} {T : State} {locs : List Loc} {cells slots k n : Nat} (X : Stand p l e R s m args below meth c T locs cells slots) (h1 : T.heap.size ≤ s.heap.size + k) (h2 : tot T.heap ≤ tot s.heap + n) :
    Stand p l e R s m args below meth c T locs k n := by
  obtain ⟨u1, u2⟩ := tot_used X
  obtain ⟨e1, e2, e3, e4, e5, e6⟩ := X.same
  have e4' : T.slotsUsed = s.slotsUsed + _ := e4
  refine { X with same := ⟨e1, e2, h1, e4, ?_, e6⟩ }
  rw [u1, u2] at e4'
  omega
-- ===== what holds all through =====
def nwk : Cond → Bool
  | .fieldLinkNest _ _ _ _ _ _ => true
  | .methodLinkNest _ _ _ _ => true
  | .castable _ _ => true
  | .declares _ => true
  | .publicMethod _ => true
  | .unhidden _ _ _ => true
  | .interfaceMethod _ _ _ _ => true
  | _ => false
/-- the linking words that stand among the premises of the start, not in the tables -/
def xtAll : List Cond := [.methodLink "MergeWorkbench" 323 { cls := "java/util/Deque", name := "clear", desc := "()V" }, .methodLink "MergeWorkbench$History" 37 { cls := "java/util/Deque", name := "isEmpty", desc := "()Z" }, .interfaceMethod "java/util/Deque" "java/util/Collection" "clear" "()V", .interfaceMethod "java/util/Deque" "java/util/Collection" "isEmpty" "()Z", .methodLink "java/util/AbstractQueue" 20 { cls := "java/util/AbstractQueue", name := "poll", desc := "()Ljava/lang/Object;" }, .sameMethod "java/util/AbstractQueue" "java/util/Queue" "poll" "()Ljava/lang/Object;"]
def nwAll : List Cond := lw_tbl.filter nwk ++ xtAll
theorem nw_in {w : Cond} (h : w ∈ lw_tbl) (g : nwk w = true) : w ∈ nwAll := List.mem_append_left _ (List.mem_filter.mpr ⟨h, g⟩)
theorem xt_in {w : Cond} (i : Nat) (h : xtAll[i]? = some w) : w ∈ nwAll := List.mem_append_right _ (List.mem_of_getElem? h)
theorem xt_ok : xtAll.all (fun w => nwk w || (w.onTables && w.keeps)) = true := by decide +kernel
theorem nw_kind {w : Cond} (h : w ∈ nwAll) : nwk w = true ∨ (w.onTables && w.keeps) = true := by
  rcases List.mem_append.mp h with h | h
  · exact Or.inl (List.mem_filter.mp h).2
  · have h1 := List.all_eq_true.mp xt_ok w h
    exact (Bool.or_eq_true _ _).mp h1
theorem nwk_tab {w : Cond} (h : nwk w = true) : w.onTables = true := by
  cases w <;> first | rfl | exact absurd h (by simp [nwk])
theorem nw_tab {w : Cond} (h : w ∈ nwAll) : w.onTables = true := by
  rcases nw_kind h with h | h
  · exact nwk_tab h
  · exact ((Bool.and_eq_true _ _).mp h).1
theorem iface_mv {s U : State} (hal : s.vm.Alike U.vm) {ref owner name desc : String} (h : va_Nw (.interfaceMethod ref owner name desc) s) : va_Nw (.interfaceMethod ref owner name desc) U := by
  have h1 : (Cond.interfaceMethod ref owner name desc).before #[] (s.setVm U.vm) = (Cond.interfaceMethod ref owner name desc).before #[] s := by
    simp only [Cond.before, Cond.holds, Cond.value, State.vm_setVm, hal.findClass, State.methodFound?_setVm hal, State.methodNamed?_setVm hal, arm_isInterface_setVm hal]
  exact va_tabs rfl (rfl : (s.setVm U.vm).vm = U.vm) (h1.trans h)
theorem nw_moved {w : Cond} (g : nwk w = true) {s U : State} (hW : s.WarmedH U.vm) (h : va_Nw w s) : va_Nw w U := by
  cases w <;> first
    | exact va_Nw.warmF hW h
    | exact va_Nw.warmM hW h
    | exact va_Nw.warmC hW h
    | exact va_Nw.warmD hW h
    | exact iface_mv hW.alike h
    | exact va_tabs rfl (rfl : (s.setVm U.vm).vm = U.vm) (by rw [Cond.publicMethod_setVm hW.alike]; exact h)
    | exact va_tabs rfl (rfl : (s.setVm U.vm).vm = U.vm) (by rw [Cond.unhidden_setVm hW.alike]; exact h)
    | exact absurd g (by simp [nwk])
theorem nw_mv {w : Cond} (g : w ∈ nwAll) {s U : State} (hW : s.WarmedH U.vm) (h : va_Nw w s) : va_Nw w U := by
  rcases nw_kind g with g | g
  · exact nw_moved g hW h
  · exact word_at hW (Or.inl g) h
def gTys (g : gT) : List (ClassId × FieldType) := [(gC g 0, .int), (gC g 1, .long), (gC g 2, .double), (gC g 3, .boolean), (gC g 4, .byte), (gC g 5, .char), (gC g 6, .object "java/lang/Object"), (gC g 7, .array .int)]
def Base (g : gT) (U : State) : Prop := va_K (gD g) vwAll (gTys g) U ∧ (∀ w ∈ nwAll, va_Nw w U) ∧ va_AO "java/lang/Object" U ∧ gZ g ≤ U.heap.size ∧ ∀ k, gS g k U U.heap
def gOK (g : gT) : Prop := ∀ k, (∀ (u U : State) (H : Heap), u.vm.Alike U.vm → gS g k u H → gS g k U H) ∧ ∀ (U : State) (H H1 : Heap), gS g k U H → (∀ a : Nat, a < H.size → ¬ gA g a → H1[a]? = H[a]?) → gS g k U H1
theorem Base.moved {g : gT} {u U : State} (hok : gOK g) (h : Base g u) (hW : u.WarmedH U.vm) (hz : u.heap.size ≤ U.heap.size) (hk : ∀ a : Nat, a < u.heap.size → ¬ gA g a → U.heap[a]? = u.heap[a]?) : Base g U := by
  obtain ⟨h1, h2, h4, h5, h6⟩ := h
  exact ⟨va_K.moved hW.alike h1, fun w hw => nw_mv hw hW (h2 w hw), va_AO.moved hW.alike h4, Nat.le_trans h5 hz, fun k => (hok k).2 U _ _ ((hok k).1 u U _ hW.alike (h6 k)) hk⟩
-- ===== locals =====
/-- the locals, by their places; what isn't known (or a second half) is none -/
def LV (ls : Array Slot) (nL : Nat) (lv : List (Option Value)) : Prop := ls.size = nL ∧ lv_wf ls ∧ ∀ (i : Nat) (v : Value), lv[i]? = some (some v) → ls[i]? = some (.val v) ∧ v.category = 1
def lvL (lv : List (Option Value)) : List (Nat × Value) := (List.range lv.length).filterMap fun i => ((lv[i]?).join).map fun v => (i, v)
theorem lvL_mem {lv : List (Option Value)} {q : Nat × Value} : q ∈ lvL lv ↔ lv[q.1]? = some (some q.2) := by
  unfold lvL
  rw [List.mem_filterMap]
  constructor
  · rintro ⟨i, hi, h⟩
    cases h1 : lv[i]? with
    | none => rw [h1] at h; simp at h
    | some o =>
      cases o with
      | none => rw [h1] at h; simp at h
      | some v =>
        rw [h1] at h
        simp at h
        rw [← h]
        exact h1
  · intro h
    refine ⟨q.1, List.mem_range.mpr (List.getElem?_eq_some_iff.mp h).1, ?_⟩
    rw [h]
    rfl
theorem LV.has {ls : Array Slot} {nL : Nat} {lv : List (Option Value)} (h : LV ls nL lv) : lv_has ls nL (lvL lv) := ⟨h.1, h.2.1, fun q hq => (h.2.2 _ _ (lvL_mem.mp hq)).1⟩
theorem LV.st {ls ls' : Array Slot} {nL i : Nat} {lv : List (Option Value)} {v : Value} (h : LV ls nL lv) (hv : v.category = 1) (h' : lv_has ls' nL ((i, v) :: (lvL lv).filter (fun q => !(q.1 == i) && !(q.1 + 1 == i && q.2.category == 2)))) : LV ls' nL (lv.set i (some v)) := by
  refine ⟨h'.1, h'.2.1, fun j w hj => ?_⟩
  by_cases hji : j = i
  · subst hji
    have hl : j < lv.length := by
      have := (List.getElem?_eq_some_iff.mp hj).1
      simpa using this
    rw [List.getElem?_set_self hl] at hj
    cases hj
    exact ⟨h'.2.2 (j, v) List.mem_cons_self, hv⟩
  · rw [List.getElem?_set_ne (Ne.symm hji)] at hj
    have hc := (h.2.2 j w hj).2
    refine ⟨h'.2.2 (j, w) (List.mem_cons_of_mem _ (List.mem_filter.mpr ⟨lvL_mem.mpr hj, ?_⟩)), hc⟩
    simp [hji, hc]
def subL : List (Option Value) → List (Option Value) → Prop
  | [], [] => True
  | a :: l, b :: k => (b = none ∨ b = a) ∧ subL l k
  | _, _ => False
theorem subL_at : ∀ {l k : List (Option Value)}, subL l k → ∀ (i : Nat) (v : Value), k[i]? = some (some v) → l[i]? = some (some v)
  | [], [], _, i, v, h => by simp at h
  | a :: l, b :: k, h, 0, v, hi => by
    rw [List.getElem?_cons_zero] at hi ⊢
    rcases h.1 with e | e
    · rw [e] at hi; cases hi
    · rw [← e]; exact hi
  | a :: l, b :: k, h, i + 1, v, hi => by
    rw [List.getElem?_cons_succ] at hi ⊢
    exact subL_at h.2 i v hi
  | [], _ :: _, h, _, _, _ => h.elim
  | _ :: _, [], h, _, _, _ => h.elim
theorem LV.sub {ls : Array Slot} {nL : Nat} {lv lv' : List (Option Value)} (h : LV ls nL lv) (hs : subL lv lv') : LV ls nL lv' := ⟨h.1, h.2.1, fun i v hi => h.2.2 i v (subL_at hs i v hi)⟩
theorem rf_cat (r : Option Nat) : (va_rf r).category = 1 := by cases r <;> rfl
def lvA : Nat → List Value → List (Option Value)
  | n, [] => List.replicate n none
  | 0, _ => []
  | n + 1, v :: l => some v :: lvA n l
theorem lvA_at : ∀ (n : Nat) (vs : List Value) (i : Nat) (v : Value), (lvA n vs)[i]? = some (some v) → vs[i]? = some v
  | n, [], i, v, h => by
    have : ∀ n : Nat, (lvA n [])= List.replicate n none := fun n => by cases n <;> rfl
    rw [this] at h
    rw [List.getElem?_replicate] at h
    split at h <;> cases h
  | 0, _ :: _, i, v, h => by simp [lvA] at h
  | n + 1, w :: l, 0, v, h => by simpa [lvA] using h
  | n + 1, w :: l, i + 1, v, h => by
    simp only [lvA, List.getElem?_cons_succ] at h ⊢
    exact lvA_at n l i v h
theorem lv_args_at : ∀ (vs : List Value) (k i : Nat) (v : Value), (∀ w ∈ vs, w.category = 1) → vs[i]? = some v → (k + i, v) ∈ lv_args k vs
  | [], k, i, v, _, h => by simp at h
  | w :: l, k, 0, v, hc, h => by
    simp at h
    subst h
    simp [lv_args]
  | w :: l, k, i + 1, v, hc, h => by
    simp only [List.getElem?_cons_succ] at h
    have h1 := lv_args_at l (k + 1) i v (fun z hz => hc z (List.mem_cons_of_mem _ hz)) h
    have h2 : w.category = 1 := hc w List.mem_cons_self
    simp only [lv_args, h2]
    refine List.mem_cons_of_mem _ ?_
    have e : k + (i + 1) = k + 1 + i := by omega
    rw [e]
    exact h1
theorem LV.entry {vs : List Value} {n : Nat} (hc : ∀ w ∈ vs, w.category = 1) (h : (lg_sl vs).length ≤ n) : LV ((lg_sl vs ++ List.replicate (n - (lg_sl vs).length) Slot.unset).toArray) n (lvA n vs) := by
  have h1 := lv_entry vs h
  refine ⟨h1.1, h1.2.1, fun i v hi => ?_⟩
  have h2 := lvA_at n vs i v hi
  have h3 := lv_args_at vs 0 i v hc h2
  rw [Nat.zero_add] at h3
  exact ⟨h1.2.2 _ h3, hc v (List.mem_of_getElem? h2)⟩
