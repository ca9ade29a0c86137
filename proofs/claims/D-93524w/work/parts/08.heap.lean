/-! THE HEAP over the abstract map: what an instruction asks (predicates), and the rows -/
set_option maxRecDepth 100000
-- ===== predicates =====
def inV (v : Value) (κ : Int32 → Prop) : Prop := match v with
  | .int x => κ x
  | _ => False
def rfV (v : Value) (κ : Option Nat → Prop) : Prop := match v with
  | .ref b => κ (some b)
  | .null => κ none
  | _ => False
theorem rfV_rf (r : Option Nat) (κ : Option Nat → Prop) : rfV (va_rf r) κ ↔ κ r := by cases r <;> exact Iff.rfl
theorem inV_e {v : Value} {κ : Int32 → Prop} (h : inV v κ) : ∃ x, v = .int x ∧ κ x := by
  cases v <;> first | exact ⟨_, rfl, h⟩ | exact h.elim
theorem rfV_e {v : Value} {κ : Option Nat → Prop} (h : rfV v κ) : ∃ r, v = va_rf r ∧ κ r := by
  cases v <;> first | exact ⟨some _, rfl, h⟩ | exact ⟨none, rfl, h⟩ | exact h.elim
def gObj (M : hM) (r : Option Nat) (ci : Nat) (κ : Nat → List Value → Prop) : Prop := match r with
  | none => False
  | some a => match M.1 a with
    | some (.inl (.inr o)) => o.1 = ci ∧ κ a o.2
    | _ => False
theorem gObj_e {M : hM} {r : Option Nat} {ci : Nat} {κ : Nat → List Value → Prop} (h : gObj M r ci κ) : ∃ a fs, r = some a ∧ M.1 a = some (.inl (.inr (ci, fs))) ∧ κ a fs := by
  unfold gObj at h
  split at h
  · exact h.elim
  · next a =>
    split at h
    · next o ho =>
      obtain ⟨c, fs⟩ := o
      obtain ⟨h1, h2⟩ := h
      cases h1
      exact ⟨a, fs, rfl, ho, h2⟩
    · exact h.elim
theorem gObj_i {M : hM} {a ci : Nat} {fs : List Value} {κ : Nat → List Value → Prop} (h : M.1 a = some (.inl (.inr (ci, fs)))) (hk : κ a fs) : gObj M (some a) ci κ := by
  unfold gObj
  simp only [h]
  exact ⟨trivial, hk⟩
def gI (M : hM) (r : Option Nat) (ci f : Nat) (κ : Int32 → Prop) : Prop := gObj M r ci fun _ fs => match fs[f]? with
  | some v => inV v κ
  | none => False
def gF (M : hM) (r : Option Nat) (ci f : Nat) (κ : Option Nat → Prop) : Prop := gObj M r ci fun _ fs => match fs[f]? with
  | some v => rfV v κ
  | none => False
def gPut (M : hM) (a ci : Nat) (fs : List Value) : hM := (gUp M.1 a (.inl (.inr (ci, fs))), M.2)
def pV (M : hM) (r : Option Nat) (ci f : Nat) (v : Value) (κ : hM → Prop) : Prop := gObj M r ci fun a fs => f < fs.length ∧ κ (gPut M a ci (fs.set f v))
def pZ (M : hM) (r : Option Nat) (ci f : Nat) (x : Int32) (κ : hM → Prop) : Prop := (x = 0 ∨ x = 1) ∧ pV M r ci f (.int x) κ
def gNew (M : hM) (q ci : Nat) (fs : List Value) : hM := (gUp M.1 q (.inl (.inr (ci, fs))), M.2.1 + 1, M.2.2 + fs.length)
def nW (M : hM) (ci : Nat) (fs : List Value) (κ : Nat → hM → Prop) : Prop := M.2.1 + 1 ≤ capN ∧ M.2.2 + fs.length ≤ capZ ∧ ∀ q, M.1 q = none → κ q (gNew M q ci fs)
def gArr (M : hM) (r : Option Nat) (κ : Nat → Nat → vp_A → Prop) : Prop := match r with
  | none => False
  | some a => match M.1 a with
    | some (.inl (.inl x)) => κ a x.1 x.2
    | _ => False
theorem gArr_e {M : hM} {r : Option Nat} {κ : Nat → Nat → vp_A → Prop} (h : gArr M r κ) : ∃ a t x, r = some a ∧ M.1 a = some (.inl (.inl (t, x))) ∧ κ a t x := by
  unfold gArr at h
  split at h
  · exact h.elim
  · next a =>
    split at h
    · next x hx => exact ⟨a, x.1, x.2, rfl, hx, h⟩
    · exact h.elim
theorem gArr_i {M : hM} {a t : Nat} {x : vp_A} {κ : Nat → Nat → vp_A → Prop} (h : M.1 a = some (.inl (.inl (t, x)))) (hk : κ a t x) : gArr M (some a) κ := by
  unfold gArr
  simp only [h]
  exact hk
def aLen (M : hM) (r : Option Nat) (κ : Int32 → Prop) : Prop := gArr M r fun _ t x => t < 7 ∧ κ (Int32.ofNat x.1)
def gPutA (M : hM) (a t : Nat) (x : vp_A) : hM := (gUp M.1 a (.inl (.inl (t, x))), M.2)
def aI (M : hM) (r : Option Nat) (t : Nat) (i : Int32) (κ : Int32 → Prop) : Prop := gArr M r fun _ t' x => t' = t ∧ vp_in i x.1 ∧ match x.2 with
  | .inl f => κ (f i.toNatClampNeg)
  | _ => False
def sI (M : hM) (r : Option Nat) (t : Nat) (i : Int32) (v : Int32) (κ : hM → Prop) : Prop := gArr M r fun a t' x => t' = t ∧ vp_in i x.1 ∧ match x.2 with
  | .inl f => κ (gPutA M a t (x.1, .inl (upd f i.toNatClampNeg v)))
  | _ => False
def aJ (M : hM) (r : Option Nat) (i : Int32) (κ : Int64 → Prop) : Prop := gArr M r fun _ t' x => t' = 1 ∧ vp_in i x.1 ∧ match x.2 with
  | .inr (.inl f) => κ (f i.toNatClampNeg)
  | _ => False
def sJ (M : hM) (r : Option Nat) (i : Int32) (v : Int64) (κ : hM → Prop) : Prop := gArr M r fun a t' x => t' = 1 ∧ vp_in i x.1 ∧ match x.2 with
  | .inr (.inl f) => κ (gPutA M a 1 (x.1, .inr (.inl (vp_updL f i.toNatClampNeg v))))
  | _ => False
def aD (M : hM) (r : Option Nat) (i : Int32) (κ : UInt64 → Prop) : Prop := gArr M r fun _ t' x => t' = 2 ∧ vp_in i x.1 ∧ match x.2 with
  | .inr (.inr (.inr (.inl f))) => κ (f i.toNatClampNeg)
  | _ => False
def sD (M : hM) (r : Option Nat) (i : Int32) (v : UInt64) (κ : hM → Prop) : Prop := gArr M r fun a t' x => t' = 2 ∧ vp_in i x.1 ∧ match x.2 with
  | .inr (.inr (.inr (.inl f))) => κ (gPutA M a 2 (x.1, .inr (.inr (.inr (.inl (vf_upd f i.toNatClampNeg v))))))
  | _ => False
def aR (M : hM) (r : Option Nat) (i : Int32) (κ : Option Nat → Prop) : Prop := gArr M r fun _ t' x => t' = 6 ∧ vp_in i x.1 ∧ match x.2 with
  | .inr (.inr (.inr (.inr f))) => κ (f i.toNatClampNeg)
  | _ => False
def gNewA (M : hM) (q t : Nat) (x : vp_A) : hM := (gUp M.1 q (.inl (.inl (t, x))), M.2.1 + 1, M.2.2 + x.1)
/-- a new array of kind t, n places, all holding z -/
def nA (M : hM) (t : Nat) (n : Int32) (z : (Nat → Int32) ⊕ (Nat → Int64) ⊕ (Nat → UInt32) ⊕ (Nat → UInt64) ⊕ (Nat → Option Nat)) (κ : Nat → hM → Prop) : Prop := ¬ n < 0 ∧ M.2.1 + 1 ≤ capN ∧ M.2.2 + n.toNatClampNeg ≤ capZ ∧ ∀ q, M.1 q = none → κ q (gNewA M q t (n.toNatClampNeg, z))
/-- a cell's class -/
def gCi : gCell → Option Nat
  | .inl (.inr o) => some o.1
  | .inl (.inl _) => none
  | .inr t => some t.1
def isC (M : hM) (b ci : Nat) : Prop := ∃ c, M.1 b = some c ∧ gCi c = some ci
/-- a receiver -/
def gThis (M : hM) (r : Option Nat) (ci : Nat) (κ : Nat → Prop) : Prop := match r with
  | none => False
  | some b => isC M b ci ∧ κ b
theorem gThis_e {M : hM} {r : Option Nat} {ci : Nat} {κ : Nat → Prop} (h : gThis M r ci κ) : ∃ b, r = some b ∧ isC M b ci ∧ κ b := by
  cases r with
  | none => exact h.elim
  | some b => exact ⟨b, rfl, h.1, h.2⟩
theorem gThis_s {M : hM} {b ci : Nat} {κ : Nat → Prop} (h : gThis M (some b) ci κ) : isC M b ci ∧ κ b := h
theorem isC_obj {M : hM} {b ci : Nat} {fs : List Value} (h : M.1 b = some (.inl (.inr (ci, fs)))) : isC M b ci := ⟨_, h, rfl⟩
theorem isC_adt {M : hM} {b ci : Nat} {t : List (Option Nat) × List Int32 × Int32 × Nat} (h : M.1 b = some (.inr (ci, t))) : isC M b ci := ⟨_, h, rfl⟩
/-- how a method may end -/
def PI (Q : Int32 → hM → Prop) : Option Value → hM → Prop := fun v M => ∃ x, v = some (.int x) ∧ Q x M
def PR (Q : Option Nat → hM → Prop) : Option Value → hM → Prop := fun v M => ∃ r, v = some (va_rf r) ∧ Q r M
def PU (Q : hM → Prop) : Option Value → hM → Prop := fun v M => v = none ∧ Q M
def PJ (Q : Int64 → hM → Prop) : Option Value → hM → Prop := fun v M => ∃ x, v = some (.long x) ∧ Q x M
def PD (Q : UInt64 → hM → Prop) : Option Value → hM → Prop := fun v M => ∃ x, v = some (.double x) ∧ Q x M
section GH
variable {k : kT} {nL : Nat} {cc : ByteArray} {own : String} {ret : Option FieldType} {fr lc : Nat} {M : hM} {pc : Nat} {lv : List (Option Value)} {st : List Value}
theorem gRecv {g : gT} {U : State} {M : hM} {H : Heap} {b ci : Nat} {q : vw_C} (hK : va_K (gD g) vwAll (gTys g) U) (hR : Rel g M.1 H) (h : isC M b ci) (hc : vwAll[ci]? = some q) : ∃ cell : Cell, H[b]? = some cell ∧ cell.vm.isStatics = false ∧ U.vm.findClass q.1 = some cell.cls := by
  obtain ⟨c, h1, h2⟩ := h
  obtain ⟨C, ow, ws, ⟨hP, hD, hw⟩, hM⟩ := hR
  have h3 := (hM b c h1).2
  have h4 : ∃ fs, C b = some (.inr (ci, fs)) := by
    cases c with
    | inl x =>
      cases x with
      | inl y => cases h2
      | inr o =>
        have e : o.1 = ci := Option.some.inj h2
        subst e
        exact ⟨o.2, h3⟩
    | inr t =>
      have e : t.1 = ci := Option.some.inj h2
      subst e
      exact h3.1
  obtain ⟨fs, h4⟩ := h4
  obtain ⟨j, hj⟩ := List.getElem?_of_mem (hw b _ h4)
  exact va_recv hK hP hc hj
theorem G_getI {r : Option Nat} {ci f index : Nat} {ref C : String} {T : u_T} {N : Nat} {κ : Int32 → Prop} (hC : CX k nL cc own ret fr lc) (hc : vwAll[ci]? = some (C, T, N)) (hin : ∀ w ∈ u_ws C T N, w ∈ lw_all) (hk : f < N) (hlink : Cond.fieldLink own index ref (T f).2.1 (T f).2.2.1 ∈ lw_all) (hsame : ∀ x, (ks k).fieldFound? (T f).1 (T f).2.1 (T f).2.2.1 = some x → (ks k).fieldFound? ref (T f).2.1 (T f).2.2.1 = some x) (d : decode cc pc = .ok (.getfield index, 3)) (hw : gI M r ci f κ) (kk : ∀ x, κ x → GW k nL M (pc + 3) lv (.int x :: st)) : GW k nL M pc lv (va_rf r :: st) := fun H locs ls cells slots a1 a2 a3 a4 a5 a6 a7 => by
  obtain ⟨a, fs, rfl, hm, hv⟩ := gObj_e hw
  obtain ⟨ws, q0, hP, hD, hq, -⟩ := gRel_get a1 hm
  cases hf : fs[f]? with
  | none => rw [hf] at hv; exact hv.elim
  | some v =>
    rw [hf] at hv
    obtain ⟨x, rfl, hx⟩ := inV_e hv
    exact va_get hC.ex hC.by hC.ts hin hC.ow hC.K hP q0 hq hc f hk (hC.ts _ hlink) hsame hf d (kk x hx H locs ls cells slots a1 a2 a3 a4 a5 a6 a7)
theorem G_getIN {r : Option Nat} {ci f index : Nat} {ref C host : String} {T : u_T} {N : Nat} {κ : Int32 → Prop} (hC : CX k nL cc own ret fr lc) (hc : vwAll[ci]? = some (C, T, N)) (hin : ∀ w ∈ u_ws C T N, w ∈ lw_all) (hk : f < N) (hlink : Cond.fieldLinkNest own index ref (T f).2.1 (T f).2.2.1 host ∈ nwAll) (hsame : ∀ x, (ks k).fieldFound? (T f).1 (T f).2.1 (T f).2.2.1 = some x → (ks k).fieldFound? ref (T f).2.1 (T f).2.2.1 = some x) (d : decode cc pc = .ok (.getfield index, 3)) (hw : gI M r ci f κ) (kk : ∀ x, κ x → GW k nL M (pc + 3) lv (.int x :: st)) : GW k nL M pc lv (va_rf r :: st) := fun H locs ls cells slots a1 a2 a3 a4 a5 a6 a7 => by
  obtain ⟨a, fs, rfl, hm, hv⟩ := gObj_e hw
  obtain ⟨ws, q0, hP, hD, hq, -⟩ := gRel_get a1 hm
  cases hf : fs[f]? with
  | none => rw [hf] at hv; exact hv.elim
  | some v =>
    rw [hf] at hv
    obtain ⟨x, rfl, hx⟩ := inV_e hv
    exact va_getN hC.ex hC.by hC.ts hin hC.ow hC.K hP q0 hq hc f hk (va_Nw.use rfl (hC.nw hlink)) hsame hf d (kk x hx H locs ls cells slots a1 a2 a3 a4 a5 a6 a7)
theorem G_getF {r : Option Nat} {ci f index : Nat} {ref C : String} {T : u_T} {N : Nat} {κ : Option Nat → Prop} (hC : CX k nL cc own ret fr lc) (hc : vwAll[ci]? = some (C, T, N)) (hin : ∀ w ∈ u_ws C T N, w ∈ lw_all) (hk : f < N) (hlink : Cond.fieldLink own index ref (T f).2.1 (T f).2.2.1 ∈ lw_all) (hsame : ∀ x, (ks k).fieldFound? (T f).1 (T f).2.1 (T f).2.2.1 = some x → (ks k).fieldFound? ref (T f).2.1 (T f).2.2.1 = some x) (d : decode cc pc = .ok (.getfield index, 3)) (hw : gF M r ci f κ) (kk : ∀ x, κ x → GW k nL M (pc + 3) lv (va_rf x :: st)) : GW k nL M pc lv (va_rf r :: st) := fun H locs ls cells slots a1 a2 a3 a4 a5 a6 a7 => by
  obtain ⟨a, fs, rfl, hm, hv⟩ := gObj_e hw
  obtain ⟨ws, q0, hP, hD, hq, -⟩ := gRel_get a1 hm
  cases hf : fs[f]? with
  | none => rw [hf] at hv; exact hv.elim
  | some v =>
    rw [hf] at hv
    obtain ⟨x, rfl, hx⟩ := rfV_e hv
    exact va_get hC.ex hC.by hC.ts hin hC.ow hC.K hP q0 hq hc f hk (hC.ts _ hlink) hsame hf d (kk x hx H locs ls cells slots a1 a2 a3 a4 a5 a6 a7)
theorem G_getFN {r : Option Nat} {ci f index : Nat} {ref C host : String} {T : u_T} {N : Nat} {κ : Option Nat → Prop} (hC : CX k nL cc own ret fr lc) (hc : vwAll[ci]? = some (C, T, N)) (hin : ∀ w ∈ u_ws C T N, w ∈ lw_all) (hk : f < N) (hlink : Cond.fieldLinkNest own index ref (T f).2.1 (T f).2.2.1 host ∈ nwAll) (hsame : ∀ x, (ks k).fieldFound? (T f).1 (T f).2.1 (T f).2.2.1 = some x → (ks k).fieldFound? ref (T f).2.1 (T f).2.2.1 = some x) (d : decode cc pc = .ok (.getfield index, 3)) (hw : gF M r ci f κ) (kk : ∀ x, κ x → GW k nL M (pc + 3) lv (va_rf x :: st)) : GW k nL M pc lv (va_rf r :: st) := fun H locs ls cells slots a1 a2 a3 a4 a5 a6 a7 => by
  obtain ⟨a, fs, rfl, hm, hv⟩ := gObj_e hw
  obtain ⟨ws, q0, hP, hD, hq, -⟩ := gRel_get a1 hm
  cases hf : fs[f]? with
  | none => rw [hf] at hv; exact hv.elim
  | some v =>
    rw [hf] at hv
    obtain ⟨x, rfl, hx⟩ := rfV_e hv
    exact va_getN hC.ex hC.by hC.ts hin hC.ow hC.K hP q0 hq hc f hk (va_Nw.use rfl (hC.nw hlink)) hsame hf d (kk x hx H locs ls cells slots a1 a2 a3 a4 a5 a6 a7)
theorem G_put {r : Option Nat} {v : Value} {ci f index : Nat} {ref C : String} {T : u_T} {N : Nat} {κ : hM → Prop} (ty0 : Nat → FieldType) (hC : CX k nL cc own ret fr lc) (hc : vwAll[ci]? = some (C, T, N)) (hin : ∀ w ∈ u_ws C T N, w ∈ lw_all) (hty : ∀ k, k < N → parseFieldDescriptor (T k).2.2.1 = some (ty0 k)) (hnm : ∀ a, a < N → ∀ b, b < N → a ≠ b → (T a).2.1 ≠ (T b).2.1) (hk : f < N) (hlink : Cond.fieldLink own index ref (T f).2.1 (T f).2.2.1 ∈ lw_all) (hsame : ∀ x, (ks k).fieldFound? (T f).1 (T f).2.1 (T f).2.2.1 = some x → (ks k).fieldFound? ref (T f).2.1 (T f).2.2.1 = some x) (hfin : (T f).2.2.2 = false) (hn : narrow (ty0 f) v = v) (hfit : fits (ty0 f) v = true) (d : decode cc pc = .ok (.putfield index, 3)) (hw : pV M r ci f v κ) (kk : ∀ M', κ M' → GW k nL M' (pc + 3) lv st) : GW k nL M pc lv (v :: va_rf r :: st) := fun H locs ls cells slots a1 a2 a3 a4 a5 a6 a7 => by
  obtain ⟨a, fs, rfl, hm, hl, hv⟩ := gObj_e hw
  obtain ⟨ws, q0, hP, hD, hq, hset⟩ := gRel_get a1 hm
  exact va_put hC.ex hC.by hC.ts hin ty0 hty hnm hC.ow hC.K hP hD a2 q0 hq hc f hk (hC.ts _ hlink) hsame hfin (hty f hk) hn hfit hl d (fun H1 locs1 hP1 hD1 hS1 => kk (gPut M a ci (fs.set f v)) hv H1 locs1 ls cells slots (hset (.inr (ci, fs.set f v)) H1 hP1 hD1) hS1 a3 a4 a5 a6 a7)
theorem G_putN {r : Option Nat} {v : Value} {ci f index : Nat} {ref C host : String} {T : u_T} {N : Nat} {κ : hM → Prop} (ty0 : Nat → FieldType) (hC : CX k nL cc own ret fr lc) (hc : vwAll[ci]? = some (C, T, N)) (hin : ∀ w ∈ u_ws C T N, w ∈ lw_all) (hty : ∀ k, k < N → parseFieldDescriptor (T k).2.2.1 = some (ty0 k)) (hnm : ∀ a, a < N → ∀ b, b < N → a ≠ b → (T a).2.1 ≠ (T b).2.1) (hk : f < N) (hlink : Cond.fieldLinkNest own index ref (T f).2.1 (T f).2.2.1 host ∈ nwAll) (hsame : ∀ x, (ks k).fieldFound? (T f).1 (T f).2.1 (T f).2.2.1 = some x → (ks k).fieldFound? ref (T f).2.1 (T f).2.2.1 = some x) (hfin : (T f).2.2.2 = false) (hn : narrow (ty0 f) v = v) (hfit : fits (ty0 f) v = true) (d : decode cc pc = .ok (.putfield index, 3)) (hw : pV M r ci f v κ) (kk : ∀ M', κ M' → GW k nL M' (pc + 3) lv st) : GW k nL M pc lv (v :: va_rf r :: st) := fun H locs ls cells slots a1 a2 a3 a4 a5 a6 a7 => by
  obtain ⟨a, fs, rfl, hm, hl, hv⟩ := gObj_e hw
  obtain ⟨ws, q0, hP, hD, hq, hset⟩ := gRel_get a1 hm
  exact va_putN hC.ex hC.by hC.ts hin ty0 hty hnm hC.ow hC.K hP hD a2 q0 hq hc f hk (va_Nw.use rfl (hC.nw hlink)) hsame hfin (hty f hk) hn hfit hl d (fun H1 locs1 hP1 hD1 hS1 => kk (gPut M a ci (fs.set f v)) hv H1 locs1 ls cells slots (hset (.inr (ci, fs.set f v)) H1 hP1 hD1) hS1 a3 a4 a5 a6 a7)
theorem G_putF {r : Option Nat} {v : Value} {ci f index : Nat} {ref C : String} {T : u_T} {N : Nat} {κ : hM → Prop} (ty0 : Nat → FieldType) (hC : CX k nL cc own ret fr lc) (hc : vwAll[ci]? = some (C, T, N)) (hin : ∀ w ∈ u_ws C T N, w ∈ lw_all) (hty : ∀ k, k < N → parseFieldDescriptor (T k).2.2.1 = some (ty0 k)) (hnm : ∀ a, a < N → ∀ b, b < N → a ≠ b → (T a).2.1 ≠ (T b).2.1) (hk : f < N) (hlink : Cond.fieldLink own index ref (T f).2.1 (T f).2.2.1 ∈ lw_all) (hsame : ∀ x, (ks k).fieldFound? (T f).1 (T f).2.1 (T f).2.2.1 = some x → (ks k).fieldFound? ref (T f).2.1 (T f).2.2.1 = some x) (hfin : (T f).2.2.2 = true) (hin2 : (kt k).name = "<init>") (hoc : (T f).1 = own) (hn : narrow (ty0 f) v = v) (hfit : fits (ty0 f) v = true) (d : decode cc pc = .ok (.putfield index, 3)) (hw : pV M r ci f v κ) (kk : ∀ M', κ M' → GW k nL M' (pc + 3) lv st) : GW k nL M pc lv (v :: va_rf r :: st) := fun H locs ls cells slots a1 a2 a3 a4 a5 a6 a7 => by
  obtain ⟨a, fs, rfl, hm, hl, hv⟩ := gObj_e hw
  obtain ⟨ws, q0, hP, hD, hq, hset⟩ := gRel_get a1 hm
  exact va_putF hC.ex hC.by hC.ts hin ty0 hty hnm hC.ow hC.K hP hD a2 q0 hq hc f hk (hC.ts _ hlink) hsame hfin hin2 hoc (hty f hk) hn hfit hl d (fun H1 locs1 hP1 hD1 hS1 => kk (gPut M a ci (fs.set f v)) hv H1 locs1 ls cells slots (hset (.inr (ci, fs.set f v)) H1 hP1 hD1) hS1 a3 a4 a5 a6 a7)
theorem G_new {ci index : Nat} {C : String} {T : u_T} {N : Nat} {fs : List Value} {κ : Nat → hM → Prop} (ty : Nat → FieldType) (hC : CX k nL cc own ret fr lc) (hc : vwAll[ci]? = some (C, T, N)) (hin : ∀ w ∈ u_ws C T N, w ∈ lw_all) (hty : ∀ k, k < N → parseFieldDescriptor (T k).2.2.1 = some (ty k)) (hcl : Cond.classLink own index C ∈ lw_all) (hins : Cond.instantiable C N ∈ lw_all) (hini : Cond.initialized C ∈ lw_all) (hfs : ∀ j, j < N → defaultValue (ty j) = vp_V fs j) (hlen : fs.length = N) (d : decode cc pc = .ok (.new index, 3)) (hw : nW M ci fs κ) (kk : ∀ q M', κ q M' → GW k nL M' (pc + 3) lv (va_rf (some q) :: st)) : GW k nL M pc lv st := fun H locs ls cells slots a1 a2 a3 a4 a5 a6 a7 => by
  obtain ⟨w1, w2, w3⟩ := hw
  obtain ⟨ws, hP, hD, hnew⟩ := gRel_new a1
  have hrc := hC.rc
  have hrs := hC.rs
  subst hlen
  refine va_new (fs := fs) hC.ex hC.by hC.ts hin ty hty hC.ow (hC.ts _ hcl) (hC.ts _ hins) (hC.ts _ hini) hC.K hP hD a2 hC.new hc hfs (by omega) (by omega) d (fun q H1 hP1 hD1 hS1 => ?_)
  obtain ⟨hq, hR⟩ := hnew q (.inr (ci, fs)) H1 hP1 hD1
  exact kk q _ (w3 q hq) H1 locs ls _ _ hR hS1 a3 (by show _ = M.2.1 + 1; omega) (by show _ = M.2.2 + fs.length; omega) w1 w2
theorem gT_at (g : gT) : ∀ t, t < 7 → ∃ ty, (gTys g)[t]? = some (gC g t, ty)
  | 0, _ => ⟨_, rfl⟩
  | 1, _ => ⟨_, rfl⟩
  | 2, _ => ⟨_, rfl⟩
  | 3, _ => ⟨_, rfl⟩
  | 4, _ => ⟨_, rfl⟩
  | 5, _ => ⟨_, rfl⟩
  | 6, _ => ⟨_, rfl⟩
  | n + 7, h => absurd h (by omega)
theorem G_alen {r : Option Nat} {κ : Int32 → Prop} (hC : CX k nL cc own ret fr lc) (d : decode cc pc = .ok (.arraylength, 1)) (hw : aLen M r κ) (kk : ∀ x, κ x → GW k nL M (pc + 1) lv (.int x :: st)) : GW k nL M pc lv (va_rf r :: st) := fun H locs ls cells slots a1 a2 a3 a4 a5 a6 a7 => by
  obtain ⟨a, t, x, rfl, hm, ht, hk⟩ := gArr_e hw
  obtain ⟨ws, q0, hP, hD, hq, -⟩ := gRel_get a1 hm
  obtain ⟨ty, hty⟩ := gT_at (kg k) t ht
  exact va_alen hC.ex hC.by hC.K hP q0 t hq hty rfl d (kk _ hk H locs ls cells slots a1 a2 a3 a4 a5 a6 a7)
theorem G_iald {r : Option Nat} {i : Int32} {κ : Int32 → Prop} (hC : CX k nL cc own ret fr lc) (d : decode cc pc = .ok (.iaload, 1)) (hw : aI M r 0 i κ) (kk : ∀ x, κ x → GW k nL M (pc + 1) lv (.int x :: st)) : GW k nL M pc lv (.int i :: va_rf r :: st) := fun H locs ls cells slots a1 a2 a3 a4 a5 a6 a7 => by
  obtain ⟨a, t, x, rfl, hm, rfl, hin, hk⟩ := gArr_e hw
  obtain ⟨ws, q0, hP, hD, hq, -⟩ := gRel_get a1 hm
  obtain ⟨n, f⟩ := x
  rcases f with f | f
  · exact va_iald hC.ex hC.by hC.K hP q0 0 hq rfl hin d (kk _ hk H locs ls cells slots a1 a2 a3 a4 a5 a6 a7)
  · exact hk.elim
theorem G_zald {r : Option Nat} {i : Int32} {κ : Int32 → Prop} (hC : CX k nL cc own ret fr lc) (d : decode cc pc = .ok (.baload, 1)) (hw : aI M r 3 i κ) (kk : ∀ x, κ x → GW k nL M (pc + 1) lv (.int x :: st)) : GW k nL M pc lv (.int i :: va_rf r :: st) := fun H locs ls cells slots a1 a2 a3 a4 a5 a6 a7 => by
  obtain ⟨a, t, x, rfl, hm, rfl, hin, hk⟩ := gArr_e hw
  obtain ⟨ws, q0, hP, hD, hq, -⟩ := gRel_get a1 hm
  obtain ⟨n, f⟩ := x
  rcases f with f | f
  · exact va_zald hC.ex hC.by hC.K hP q0 3 hq rfl hin d (kk _ hk H locs ls cells slots a1 a2 a3 a4 a5 a6 a7)
  · exact hk.elim
theorem G_bald {r : Option Nat} {i : Int32} {κ : Int32 → Prop} (hC : CX k nL cc own ret fr lc) (d : decode cc pc = .ok (.baload, 1)) (hw : aI M r 4 i κ) (kk : ∀ x, κ x → GW k nL M (pc + 1) lv (.int x :: st)) : GW k nL M pc lv (.int i :: va_rf r :: st) := fun H locs ls cells slots a1 a2 a3 a4 a5 a6 a7 => by
  obtain ⟨a, t, x, rfl, hm, rfl, hin, hk⟩ := gArr_e hw
  obtain ⟨ws, q0, hP, hD, hq, -⟩ := gRel_get a1 hm
  obtain ⟨n, f⟩ := x
  rcases f with f | f
  · exact va_bald hC.ex hC.by hC.K hP q0 4 hq rfl hin d (kk _ hk H locs ls cells slots a1 a2 a3 a4 a5 a6 a7)
  · exact hk.elim
theorem G_cald {r : Option Nat} {i : Int32} {κ : Int32 → Prop} (hC : CX k nL cc own ret fr lc) (d : decode cc pc = .ok (.caload, 1)) (hw : aI M r 5 i κ) (kk : ∀ x, κ x → GW k nL M (pc + 1) lv (.int x :: st)) : GW k nL M pc lv (.int i :: va_rf r :: st) := fun H locs ls cells slots a1 a2 a3 a4 a5 a6 a7 => by
  obtain ⟨a, t, x, rfl, hm, rfl, hin, hk⟩ := gArr_e hw
  obtain ⟨ws, q0, hP, hD, hq, -⟩ := gRel_get a1 hm
  obtain ⟨n, f⟩ := x
  rcases f with f | f
  · exact va_cald hC.ex hC.by hC.K hP q0 5 hq rfl hin d (kk _ hk H locs ls cells slots a1 a2 a3 a4 a5 a6 a7)
  · exact hk.elim
theorem G_lald {r : Option Nat} {i : Int32} {κ : Int64 → Prop} (hC : CX k nL cc own ret fr lc) (d : decode cc pc = .ok (.laload, 1)) (hw : aJ M r i κ) (kk : ∀ x, κ x → GW k nL M (pc + 1) lv (.long x :: st)) : GW k nL M pc lv (.int i :: va_rf r :: st) := fun H locs ls cells slots a1 a2 a3 a4 a5 a6 a7 => by
  obtain ⟨a, t, x, rfl, hm, rfl, hin, hk⟩ := gArr_e hw
  obtain ⟨ws, q0, hP, hD, hq, -⟩ := gRel_get a1 hm
  obtain ⟨n, f⟩ := x
  rcases f with f | f | f
  · exact hk.elim
  · exact va_lald hC.ex hC.by hC.K hP q0 1 hq rfl hin d (kk _ hk H locs ls cells slots a1 a2 a3 a4 a5 a6 a7)
  · exact hk.elim
theorem G_dald {r : Option Nat} {i : Int32} {κ : UInt64 → Prop} (hC : CX k nL cc own ret fr lc) (d : decode cc pc = .ok (.daload, 1)) (hw : aD M r i κ) (kk : ∀ x, κ x → GW k nL M (pc + 1) lv (.double x :: st)) : GW k nL M pc lv (.int i :: va_rf r :: st) := fun H locs ls cells slots a1 a2 a3 a4 a5 a6 a7 => by
  obtain ⟨a, t, x, rfl, hm, rfl, hin, hk⟩ := gArr_e hw
  obtain ⟨ws, q0, hP, hD, hq, -⟩ := gRel_get a1 hm
  obtain ⟨n, f⟩ := x
  rcases f with f | f | f | f | f
  · exact hk.elim
  · exact hk.elim
  · exact hk.elim
  · exact va_dald hC.ex hC.by hC.K hP q0 2 hq rfl hin d (kk _ hk H locs ls cells slots a1 a2 a3 a4 a5 a6 a7)
  · exact hk.elim
theorem G_aald {r : Option Nat} {i : Int32} {κ : Option Nat → Prop} (hC : CX k nL cc own ret fr lc) (d : decode cc pc = .ok (.aaload, 1)) (hw : aR M r i κ) (kk : ∀ x, κ x → GW k nL M (pc + 1) lv (va_rf x :: st)) : GW k nL M pc lv (.int i :: va_rf r :: st) := fun H locs ls cells slots a1 a2 a3 a4 a5 a6 a7 => by
  obtain ⟨a, t, x, rfl, hm, rfl, hin, hk⟩ := gArr_e hw
  obtain ⟨ws, q0, hP, hD, hq, -⟩ := gRel_get a1 hm
  obtain ⟨n, f⟩ := x
  rcases f with f | f | f | f | f
  · exact hk.elim
  · exact hk.elim
  · exact hk.elim
  · exact hk.elim
  · exact va_aldq hC.ex hC.by hC.K hP q0 6 hq rfl hin d (kk _ hk H locs ls cells slots a1 a2 a3 a4 a5 a6 a7)
theorem G_iast {r : Option Nat} {i v : Int32} {κ : hM → Prop} (hC : CX k nL cc own ret fr lc) (d : decode cc pc = .ok (.iastore, 1)) (hw : sI M r 0 i v κ) (kk : ∀ M', κ M' → GW k nL M' (pc + 1) lv st) : GW k nL M pc lv (.int v :: .int i :: va_rf r :: st) := fun H locs ls cells slots a1 a2 a3 a4 a5 a6 a7 => by
  obtain ⟨a, t, x, rfl, hm, rfl, hin, hk⟩ := gArr_e hw
  obtain ⟨ws, q0, hP, hD, hq, hset⟩ := gRel_get a1 hm
  obtain ⟨n, f⟩ := x
  rcases f with f | f
  · exact va_iast hC.ex hC.by hC.K hP hD a2 q0 0 hq rfl hin d (fun H1 locs1 hP1 hD1 hS1 => kk _ hk H1 locs1 ls cells slots (hset (.inl (0, n, .inl (upd f i.toNatClampNeg v))) H1 hP1 hD1) hS1 a3 a4 a5 a6 a7)
  · exact hk.elim
theorem G_zast {r : Option Nat} {i v : Int32} {κ : hM → Prop} (hC : CX k nL cc own ret fr lc) (d : decode cc pc = .ok (.bastore, 1)) (hw : sI M r 3 i (vp_nar .boolean v) κ) (kk : ∀ M', κ M' → GW k nL M' (pc + 1) lv st) : GW k nL M pc lv (.int v :: .int i :: va_rf r :: st) := fun H locs ls cells slots a1 a2 a3 a4 a5 a6 a7 => by
  obtain ⟨a, t, x, rfl, hm, rfl, hin, hk⟩ := gArr_e hw
  obtain ⟨ws, q0, hP, hD, hq, hset⟩ := gRel_get a1 hm
  obtain ⟨n, f⟩ := x
  rcases f with f | f
  · exact va_zast hC.ex hC.by hC.K hP hD a2 q0 3 hq rfl hin d (fun H1 locs1 hP1 hD1 hS1 => kk _ hk H1 locs1 ls cells slots (hset (.inl (3, n, .inl (upd f i.toNatClampNeg (vp_nar .boolean v)))) H1 hP1 hD1) hS1 a3 a4 a5 a6 a7)
  · exact hk.elim
theorem G_bast {r : Option Nat} {i v : Int32} {κ : hM → Prop} (hC : CX k nL cc own ret fr lc) (d : decode cc pc = .ok (.bastore, 1)) (hw : sI M r 4 i (vp_nar .byte v) κ) (kk : ∀ M', κ M' → GW k nL M' (pc + 1) lv st) : GW k nL M pc lv (.int v :: .int i :: va_rf r :: st) := fun H locs ls cells slots a1 a2 a3 a4 a5 a6 a7 => by
  obtain ⟨a, t, x, rfl, hm, rfl, hin, hk⟩ := gArr_e hw
  obtain ⟨ws, q0, hP, hD, hq, hset⟩ := gRel_get a1 hm
  obtain ⟨n, f⟩ := x
  rcases f with f | f
  · exact va_bast hC.ex hC.by hC.K hP hD a2 q0 4 hq rfl hin d (fun H1 locs1 hP1 hD1 hS1 => kk _ hk H1 locs1 ls cells slots (hset (.inl (4, n, .inl (upd f i.toNatClampNeg (vp_nar .byte v)))) H1 hP1 hD1) hS1 a3 a4 a5 a6 a7)
  · exact hk.elim
theorem G_cast {r : Option Nat} {i v : Int32} {κ : hM → Prop} (hC : CX k nL cc own ret fr lc) (d : decode cc pc = .ok (.castore, 1)) (hw : sI M r 5 i (vp_nar .char v) κ) (kk : ∀ M', κ M' → GW k nL M' (pc + 1) lv st) : GW k nL M pc lv (.int v :: .int i :: va_rf r :: st) := fun H locs ls cells slots a1 a2 a3 a4 a5 a6 a7 => by
  obtain ⟨a, t, x, rfl, hm, rfl, hin, hk⟩ := gArr_e hw
  obtain ⟨ws, q0, hP, hD, hq, hset⟩ := gRel_get a1 hm
  obtain ⟨n, f⟩ := x
  rcases f with f | f
  · exact va_cast hC.ex hC.by hC.K hP hD a2 q0 5 hq rfl hin d (fun H1 locs1 hP1 hD1 hS1 => kk _ hk H1 locs1 ls cells slots (hset (.inl (5, n, .inl (upd f i.toNatClampNeg (vp_nar .char v)))) H1 hP1 hD1) hS1 a3 a4 a5 a6 a7)
  · exact hk.elim
theorem G_last {r : Option Nat} {i : Int32} {v : Int64} {κ : hM → Prop} (hC : CX k nL cc own ret fr lc) (d : decode cc pc = .ok (.lastore, 1)) (hw : sJ M r i v κ) (kk : ∀ M', κ M' → GW k nL M' (pc + 1) lv st) : GW k nL M pc lv (.long v :: .int i :: va_rf r :: st) := fun H locs ls cells slots a1 a2 a3 a4 a5 a6 a7 => by
  obtain ⟨a, t, x, rfl, hm, rfl, hin, hk⟩ := gArr_e hw
  obtain ⟨ws, q0, hP, hD, hq, hset⟩ := gRel_get a1 hm
  obtain ⟨n, f⟩ := x
  rcases f with f | f | f
  · exact hk.elim
  · exact va_last hC.ex hC.by hC.K hP hD a2 q0 1 hq rfl hin d (fun H1 locs1 hP1 hD1 hS1 => kk _ hk H1 locs1 ls cells slots (hset (.inl (1, n, .inr (.inl (vp_updL f i.toNatClampNeg v)))) H1 hP1 hD1) hS1 a3 a4 a5 a6 a7)
  · exact hk.elim
theorem G_dast {r : Option Nat} {i : Int32} {v : UInt64} {κ : hM → Prop} (hC : CX k nL cc own ret fr lc) (d : decode cc pc = .ok (.dastore, 1)) (hw : sD M r i v κ) (kk : ∀ M', κ M' → GW k nL M' (pc + 1) lv st) : GW k nL M pc lv (.double v :: .int i :: va_rf r :: st) := fun H locs ls cells slots a1 a2 a3 a4 a5 a6 a7 => by
  obtain ⟨a, t, x, rfl, hm, rfl, hin, hk⟩ := gArr_e hw
  obtain ⟨ws, q0, hP, hD, hq, hset⟩ := gRel_get a1 hm
  obtain ⟨n, f⟩ := x
  rcases f with f | f | f | f | f
  · exact hk.elim
  · exact hk.elim
  · exact hk.elim
  · exact va_dast hC.ex hC.by hC.K hP hD a2 q0 2 hq rfl hin d (fun H1 locs1 hP1 hD1 hS1 => kk _ hk H1 locs1 ls cells slots (hset (.inl (2, n, .inr (.inr (.inr (.inl (vf_upd f i.toNatClampNeg v)))))) H1 hP1 hD1) hS1 a3 a4 a5 a6 a7)
  · exact hk.elim
theorem G_newI {n : Int32} {κ : Nat → hM → Prop} (hC : CX k nL cc own ret fr lc) (harr : Cond.arrayClass .int ∈ lw_all) (d : decode cc pc = .ok (.newarray .int, 2)) (hw : nA M 0 n (.inl (fun _ => 0)) κ) (kk : ∀ q M', κ q M' → GW k nL M' (pc + 2) lv (va_rf (some q) :: st)) : GW k nL M pc lv (.int n :: st) := fun H locs ls cells slots a1 a2 a3 a4 a5 a6 a7 => by
  obtain ⟨w0, w1, w2, w3⟩ := hw
  obtain ⟨ws, hP, hD, hnew⟩ := gRel_new a1
  have hrc := hC.rc
  have hrs := hC.rs
  have hcap : capZ = 5493754 := rfl
  refine va_newa (atype := .int) (ty := .int) (a0 := (n.toNatClampNeg, .inl (fun _ => 0))) hC.ex hC.by (hC.ts _ harr) rfl hC.K hP hD a2 hC.new (fun _ => rfl) w0 rfl (by rw [show componentBytes .int = 4 from rfl]; omega) (by omega) (by omega) d (fun q cA H1 hK1 hP1 hD1 hS1 => ?_)
  have e1 : cA = gC (kg k) 0 := by
    have h1 := (hK1.2 8 (cA, .int) rfl).2
    have h2 := (hC.K.2 0 (gC (kg k) 0, .int) rfl).2
    exact Option.some.inj (h1.symm.trans h2)
  subst e1
  obtain ⟨hq, hR⟩ := hnew q (.inl (0, n.toNatClampNeg, .inl (fun _ => 0))) H1 hP1 hD1
  exact kk q _ (w3 q hq) H1 locs ls _ _ hR hS1 a3 (by show _ = M.2.1 + 1; omega) (by show _ = M.2.2 + n.toNatClampNeg; omega) w1 w2
theorem G_newJ {n : Int32} {κ : Nat → hM → Prop} (hC : CX k nL cc own ret fr lc) (harr : Cond.arrayClass .long ∈ lw_all) (d : decode cc pc = .ok (.newarray .long, 2)) (hw : nA M 1 n (.inr (.inl (fun _ => 0))) κ) (kk : ∀ q M', κ q M' → GW k nL M' (pc + 2) lv (va_rf (some q) :: st)) : GW k nL M pc lv (.int n :: st) := fun H locs ls cells slots a1 a2 a3 a4 a5 a6 a7 => by
  obtain ⟨w0, w1, w2, w3⟩ := hw
  obtain ⟨ws, hP, hD, hnew⟩ := gRel_new a1
  have hrc := hC.rc
  have hrs := hC.rs
  have hcap : capZ = 5493754 := rfl
  refine va_newa (atype := .long) (ty := .long) (a0 := (n.toNatClampNeg, .inr (.inl (fun _ => 0)))) hC.ex hC.by (hC.ts _ harr) rfl hC.K hP hD a2 hC.new (fun _ => rfl) w0 rfl (by rw [show componentBytes .long = 8 from rfl]; omega) (by omega) (by omega) d (fun q cA H1 hK1 hP1 hD1 hS1 => ?_)
  have e1 : cA = gC (kg k) 1 := by
    have h1 := (hK1.2 8 (cA, .long) rfl).2
    have h2 := (hC.K.2 1 (gC (kg k) 1, .long) rfl).2
    exact Option.some.inj (h1.symm.trans h2)
  subst e1
  obtain ⟨hq, hR⟩ := hnew q (.inl (1, n.toNatClampNeg, .inr (.inl (fun _ => 0)))) H1 hP1 hD1
  exact kk q _ (w3 q hq) H1 locs ls _ _ hR hS1 a3 (by show _ = M.2.1 + 1; omega) (by show _ = M.2.2 + n.toNatClampNeg; omega) w1 w2
theorem G_newD {n : Int32} {κ : Nat → hM → Prop} (hC : CX k nL cc own ret fr lc) (harr : Cond.arrayClass .double ∈ lw_all) (d : decode cc pc = .ok (.newarray .double, 2)) (hw : nA M 2 n (.inr (.inr (.inr (.inl (fun _ => 0))))) κ) (kk : ∀ q M', κ q M' → GW k nL M' (pc + 2) lv (va_rf (some q) :: st)) : GW k nL M pc lv (.int n :: st) := fun H locs ls cells slots a1 a2 a3 a4 a5 a6 a7 => by
  obtain ⟨w0, w1, w2, w3⟩ := hw
  obtain ⟨ws, hP, hD, hnew⟩ := gRel_new a1
  have hrc := hC.rc
  have hrs := hC.rs
  have hcap : capZ = 5493754 := rfl
  refine va_newa (atype := .double) (ty := .double) (a0 := (n.toNatClampNeg, .inr (.inr (.inr (.inl (fun _ => 0)))))) hC.ex hC.by (hC.ts _ harr) rfl hC.K hP hD a2 hC.new (fun _ => rfl) w0 rfl (by rw [show componentBytes .double = 8 from rfl]; omega) (by omega) (by omega) d (fun q cA H1 hK1 hP1 hD1 hS1 => ?_)
  have e1 : cA = gC (kg k) 2 := by
    have h1 := (hK1.2 8 (cA, .double) rfl).2
    have h2 := (hC.K.2 2 (gC (kg k) 2, .double) rfl).2
    exact Option.some.inj (h1.symm.trans h2)
  subst e1
  obtain ⟨hq, hR⟩ := hnew q (.inl (2, n.toNatClampNeg, .inr (.inr (.inr (.inl (fun _ => 0)))))) H1 hP1 hD1
  exact kk q _ (w3 q hq) H1 locs ls _ _ hR hS1 a3 (by show _ = M.2.1 + 1; omega) (by show _ = M.2.2 + n.toNatClampNeg; omega) w1 w2
theorem G_newZ {n : Int32} {κ : Nat → hM → Prop} (hC : CX k nL cc own ret fr lc) (harr : Cond.arrayClass .boolean ∈ lw_all) (d : decode cc pc = .ok (.newarray .boolean, 2)) (hw : nA M 3 n (.inl (fun _ => 0)) κ) (kk : ∀ q M', κ q M' → GW k nL M' (pc + 2) lv (va_rf (some q) :: st)) : GW k nL M pc lv (.int n :: st) := fun H locs ls cells slots a1 a2 a3 a4 a5 a6 a7 => by
  obtain ⟨w0, w1, w2, w3⟩ := hw
  obtain ⟨ws, hP, hD, hnew⟩ := gRel_new a1
  have hrc := hC.rc
  have hrs := hC.rs
  have hcap : capZ = 5493754 := rfl
  refine va_newa (atype := .boolean) (ty := .boolean) (a0 := (n.toNatClampNeg, .inl (fun _ => 0))) hC.ex hC.by (hC.ts _ harr) rfl hC.K hP hD a2 hC.new (fun _ => rfl) w0 rfl (by rw [show componentBytes .boolean = 1 from rfl]; omega) (by omega) (by omega) d (fun q cA H1 hK1 hP1 hD1 hS1 => ?_)
  have e1 : cA = gC (kg k) 3 := by
    have h1 := (hK1.2 8 (cA, .boolean) rfl).2
    have h2 := (hC.K.2 3 (gC (kg k) 3, .boolean) rfl).2
    exact Option.some.inj (h1.symm.trans h2)
  subst e1
  obtain ⟨hq, hR⟩ := hnew q (.inl (3, n.toNatClampNeg, .inl (fun _ => 0))) H1 hP1 hD1
  exact kk q _ (w3 q hq) H1 locs ls _ _ hR hS1 a3 (by show _ = M.2.1 + 1; omega) (by show _ = M.2.2 + n.toNatClampNeg; omega) w1 w2
theorem G_newB {n : Int32} {κ : Nat → hM → Prop} (hC : CX k nL cc own ret fr lc) (harr : Cond.arrayClass .byte ∈ lw_all) (d : decode cc pc = .ok (.newarray .byte, 2)) (hw : nA M 4 n (.inl (fun _ => 0)) κ) (kk : ∀ q M', κ q M' → GW k nL M' (pc + 2) lv (va_rf (some q) :: st)) : GW k nL M pc lv (.int n :: st) := fun H locs ls cells slots a1 a2 a3 a4 a5 a6 a7 => by
  obtain ⟨w0, w1, w2, w3⟩ := hw
  obtain ⟨ws, hP, hD, hnew⟩ := gRel_new a1
  have hrc := hC.rc
  have hrs := hC.rs
  have hcap : capZ = 5493754 := rfl
  refine va_newa (atype := .byte) (ty := .byte) (a0 := (n.toNatClampNeg, .inl (fun _ => 0))) hC.ex hC.by (hC.ts _ harr) rfl hC.K hP hD a2 hC.new (fun _ => rfl) w0 rfl (by rw [show componentBytes .byte = 1 from rfl]; omega) (by omega) (by omega) d (fun q cA H1 hK1 hP1 hD1 hS1 => ?_)
  have e1 : cA = gC (kg k) 4 := by
    have h1 := (hK1.2 8 (cA, .byte) rfl).2
    have h2 := (hC.K.2 4 (gC (kg k) 4, .byte) rfl).2
    exact Option.some.inj (h1.symm.trans h2)
  subst e1
  obtain ⟨hq, hR⟩ := hnew q (.inl (4, n.toNatClampNeg, .inl (fun _ => 0))) H1 hP1 hD1
  exact kk q _ (w3 q hq) H1 locs ls _ _ hR hS1 a3 (by show _ = M.2.1 + 1; omega) (by show _ = M.2.2 + n.toNatClampNeg; omega) w1 w2
theorem G_newC {n : Int32} {κ : Nat → hM → Prop} (hC : CX k nL cc own ret fr lc) (harr : Cond.arrayClass .char ∈ lw_all) (d : decode cc pc = .ok (.newarray .char, 2)) (hw : nA M 5 n (.inl (fun _ => 0)) κ) (kk : ∀ q M', κ q M' → GW k nL M' (pc + 2) lv (va_rf (some q) :: st)) : GW k nL M pc lv (.int n :: st) := fun H locs ls cells slots a1 a2 a3 a4 a5 a6 a7 => by
  obtain ⟨w0, w1, w2, w3⟩ := hw
  obtain ⟨ws, hP, hD, hnew⟩ := gRel_new a1
  have hrc := hC.rc
  have hrs := hC.rs
  have hcap : capZ = 5493754 := rfl
  refine va_newa (atype := .char) (ty := .char) (a0 := (n.toNatClampNeg, .inl (fun _ => 0))) hC.ex hC.by (hC.ts _ harr) rfl hC.K hP hD a2 hC.new (fun _ => rfl) w0 rfl (by rw [show componentBytes .char = 2 from rfl]; omega) (by omega) (by omega) d (fun q cA H1 hK1 hP1 hD1 hS1 => ?_)
  have e1 : cA = gC (kg k) 5 := by
    have h1 := (hK1.2 8 (cA, .char) rfl).2
    have h2 := (hC.K.2 5 (gC (kg k) 5, .char) rfl).2
    exact Option.some.inj (h1.symm.trans h2)
  subst e1
  obtain ⟨hq, hR⟩ := hnew q (.inl (5, n.toNatClampNeg, .inl (fun _ => 0))) H1 hP1 hD1
  exact kk q _ (w3 q hq) H1 locs ls _ _ hR hS1 a3 (by show _ = M.2.1 + 1; omega) (by show _ = M.2.2 + n.toNatClampNeg; omega) w1 w2
end GH
