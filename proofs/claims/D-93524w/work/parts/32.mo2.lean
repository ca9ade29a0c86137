/-! STAGE 1, printed by wip/D-93524w/genall.py: model, part 2 -/
set_option maxRecDepth 100000
theorem hd_X3_regionComes : yX3_regionComes.cls = "MergeWorkbenchModel" ∧ yX3_regionComes.cls ≠ "java/lang/invoke/MethodHandle" ∧ yX3_regionComes.cls ≠ "java/lang/invoke/VarHandle" ∧ (parseMethodDescriptor yX3_regionComes.desc).map (fun d => d.parameters.length) = some 6 := by decide +kernel
def w_X3_merge_21 (g : gT) (F : Nat) (a0 : Nat) (p1 : Int32) (p2 : Int32) (p3 : Int32) (Q : Int32 → hM → Prop) (M : hM) : Prop :=
  (isC M a0 2 ∧ w_X3_fails g F a0 (1 : Int32) M (fun x2 M1 => Q x2 M1))
def w_X3_merge_385 (g : gT) (F : Nat) (a0 : Nat) (p1 : Int32) (p2 : Int32) (p3 : Int32) (Q : Int32 → hM → Prop) (K144 : Int32 → Int32 → Int32 → Int32 → Int32 → hM → Prop) (v4 : Int32) (v5 : Int32) (v6 : Int32) (v7 : Int32) (v8 : Int32) (M : hM) : Prop :=
  K144 v4 v5 v6 v7 (v8 + (1 : Int32)) M
def w_X3_merge_367 (g : gT) (F : Nat) (a0 : Nat) (p1 : Int32) (p2 : Int32) (p3 : Int32) (Q : Int32 → hM → Prop) (K144 : Int32 → Int32 → Int32 → Int32 → Int32 → hM → Prop) (v7 : Int32) (v8 : Int32) (v10 : Int32) (v11 : Int32) (M : hM) : Prop :=
  w_X3_merge_385 g F a0 p1 p2 p3 Q K144 (v8 + (1 : Int32)) (v10 + (1 : Int32)) (v11 + (1 : Int32)) v7 v8 M
def w_X3_merge_364 (g : gT) (F : Nat) (a0 : Nat) (p1 : Int32) (p2 : Int32) (p3 : Int32) (Q : Int32 → hM → Prop) (K144 : Int32 → Int32 → Int32 → Int32 → Int32 → hM → Prop) (v8 : Int32) (v10 : Int32) (v11 : Int32) (M : hM) : Prop :=
  w_X3_merge_367 g F a0 p1 p2 p3 Q K144 (1 : Int32) v8 v10 v11 M
def w_X3_merge_276 (g : gT) (F : Nat) (a0 : Nat) (p1 : Int32) (p2 : Int32) (p3 : Int32) (Q : Int32 → hM → Prop) (K144 : Int32 → Int32 → Int32 → Int32 → Int32 → hM → Prop) (v7 : Int32) (v8 : Int32) (v9 : Int32) (v10 : Int32) (v11 : Int32) (M : hM) : Prop :=
  ((¬ v9 = 0 → w_X3_merge_367 g F a0 p1 p2 p3 Q K144 v7 v8 v10 v11 M) ∧ (v9 = 0 → ((v7 = 0 → (isC M a0 2 ∧ w_X3_chunkComes g F a0 (0 : Int32) v8 (v8 + (1 : Int32)) v10 (v10 + (1 : Int32)) v11 (v11 + (1 : Int32)) M (fun M1 => w_X3_merge_364 g F a0 p1 p2 p3 Q K144 v8 v10 v11 M1))) ∧ (¬ (v7 = 0) → gI M (some a0) 2 48 fun x2 => gF M (some a0) 2 47 fun x3 => aI M x3 0 ((((7 : Int32) * x2) - (7 : Int32)) + (2 : Int32)) fun x4 => sI M x3 0 ((((7 : Int32) * x2) - (7 : Int32)) + (2 : Int32)) (x4 + (1 : Int32)) fun M5 => gF M5 (some a0) 2 47 fun x6 => aI M5 x6 0 ((((7 : Int32) * x2) - (7 : Int32)) + (4 : Int32)) fun x7 => sI M5 x6 0 ((((7 : Int32) * x2) - (7 : Int32)) + (4 : Int32)) (x7 + (1 : Int32)) fun M8 => gF M8 (some a0) 2 47 fun x9 => aI M8 x9 0 ((((7 : Int32) * x2) - (7 : Int32)) + (6 : Int32)) fun x10 => sI M8 x9 0 ((((7 : Int32) * x2) - (7 : Int32)) + (6 : Int32)) (x10 + (1 : Int32)) fun M11 => w_X3_merge_364 g F a0 p1 p2 p3 Q K144 v8 v10 v11 M11))))
def w_X3_merge_257 (g : gT) (F : Nat) (a0 : Nat) (p1 : Int32) (p2 : Int32) (p3 : Int32) (Q : Int32 → hM → Prop) (K144 : Int32 → Int32 → Int32 → Int32 → Int32 → hM → Prop) (v4 : Int32) (v5 : Int32) (v6 : Int32) (v8 : Int32) (v9 : Int32) (v10 : Int32) (v11 : Int32) (M : hM) : Prop :=
  (isC M a0 2 ∧ w_X3_regionComes g F a0 v4 v8 v5 v10 v6 v11 M (fun M1 => w_X3_merge_276 g F a0 p1 p2 p3 Q K144 (0 : Int32) v8 v9 v10 v11 M1))
def w_X3_merge_234 (g : gT) (F : Nat) (a0 : Nat) (p1 : Int32) (p2 : Int32) (p3 : Int32) (Q : Int32 → hM → Prop) (K144 : Int32 → Int32 → Int32 → Int32 → Int32 → hM → Prop) (v4 : Int32) (v5 : Int32) (v6 : Int32) (v7 : Int32) (v8 : Int32) (v9 : Int32) (v10 : Int32) (s0 : Int32) (M : hM) : Prop :=
  ((v4 < v8 → w_X3_merge_257 g F a0 p1 p2 p3 Q K144 v4 v5 v6 v8 v9 v10 s0 M) ∧ (¬ (v4 < v8) → ((v5 < v10 → w_X3_merge_257 g F a0 p1 p2 p3 Q K144 v4 v5 v6 v8 v9 v10 s0 M) ∧ (¬ (v5 < v10) → ((s0 ≤ v6 → w_X3_merge_276 g F a0 p1 p2 p3 Q K144 v7 v8 v9 v10 s0 M) ∧ (¬ (s0 ≤ v6) → w_X3_merge_257 g F a0 p1 p2 p3 Q K144 v4 v5 v6 v8 v9 v10 s0 M))))))
def w_X3_merge_213 (g : gT) (F : Nat) (a0 : Nat) (p1 : Int32) (p2 : Int32) (p3 : Int32) (Q : Int32 → hM → Prop) (K144 : Int32 → Int32 → Int32 → Int32 → Int32 → hM → Prop) (v4 : Int32) (v5 : Int32) (v6 : Int32) (v7 : Int32) (v8 : Int32) (v9 : Int32) (s0 : Int32) (M : hM) : Prop :=
  ((v9 = 0 → gF M (some a0) 2 46 fun x1 => aI M x1 0 v8 fun x2 => w_X3_merge_234 g F a0 p1 p2 p3 Q K144 v4 v5 v6 v7 v8 v9 s0 x2 M) ∧ (¬ (v9 = 0) → gI M (some a0) 2 44 fun x3 => w_X3_merge_234 g F a0 p1 p2 p3 Q K144 v4 v5 v6 v7 v8 v9 s0 x3 M))
def w_X3_merge_194 (g : gT) (F : Nat) (a0 : Nat) (p1 : Int32) (p2 : Int32) (p3 : Int32) (Q : Int32 → hM → Prop) (K144 : Int32 → Int32 → Int32 → Int32 → Int32 → hM → Prop) (v4 : Int32) (v5 : Int32) (v6 : Int32) (v7 : Int32) (v8 : Int32) (v9 : Int32) (M : hM) : Prop :=
  ((v9 = 0 → gF M (some a0) 2 45 fun x1 => aI M x1 0 v8 fun x2 => w_X3_merge_213 g F a0 p1 p2 p3 Q K144 v4 v5 v6 v7 v8 v9 x2 M) ∧ (¬ (v9 = 0) → gI M (some a0) 2 42 fun x3 => w_X3_merge_213 g F a0 p1 p2 p3 Q K144 v4 v5 v6 v7 v8 v9 x3 M))
def w_X3_merge_167 (g : gT) (F : Nat) (a0 : Nat) (p1 : Int32) (p2 : Int32) (p3 : Int32) (Q : Int32 → hM → Prop) (K144 : Int32 → Int32 → Int32 → Int32 → Int32 → hM → Prop) (v4 : Int32) (v5 : Int32) (v6 : Int32) (v7 : Int32) (v8 : Int32) (s0 : Int32) (M : hM) : Prop :=
  ((¬ s0 = 0 → w_X3_merge_194 g F a0 p1 p2 p3 Q K144 v4 v5 v6 v7 v8 s0 M) ∧ (s0 = 0 → gF M (some a0) 2 45 fun x1 => aI M x1 0 v8 fun x2 => ((x2 < 0 → w_X3_merge_385 g F a0 p1 p2 p3 Q K144 v4 v5 v6 v7 v8 M) ∧ (¬ (x2 < 0) → gF M (some a0) 2 46 fun x3 => aI M x3 0 v8 fun x4 => ((x4 < 0 → w_X3_merge_385 g F a0 p1 p2 p3 Q K144 v4 v5 v6 v7 v8 M) ∧ (¬ (x4 < 0) → w_X3_merge_194 g F a0 p1 p2 p3 Q K144 v4 v5 v6 v7 v8 s0 M))))))
def w_X3_merge_144 (g : gT) (F : Nat) (a0 : Nat) (p1 : Int32) (p2 : Int32) (p3 : Int32) (Q : Int32 → hM → Prop) : Nat → Int32 → Int32 → Int32 → Int32 → Int32 → hM → Prop
  | 0, _, _, _, _, _, _ => False
  | n + 1, v4, v5, v6, v7, v8, M => gI M (some a0) 2 40 fun x1 => ((x1 < v8 → gI M (some a0) 2 50 fun x2 => (isC M a0 2 ∧ w_X3_done g F a0 x2 M (fun x4 M3 => Q x4 M3))) ∧ (¬ (x1 < v8) → gI M (some a0) 2 40 fun x5 => ((¬ v8 = x5 → w_X3_merge_167 g F a0 p1 p2 p3 Q (fun v4 v5 v6 v7 v8 M => w_X3_merge_144 g F a0 p1 p2 p3 Q n v4 v5 v6 v7 v8 M) v4 v5 v6 v7 v8 (0 : Int32) M) ∧ (v8 = x5 → w_X3_merge_167 g F a0 p1 p2 p3 Q (fun v4 v5 v6 v7 v8 M => w_X3_merge_144 g F a0 p1 p2 p3 Q n v4 v5 v6 v7 v8 M) v4 v5 v6 v7 v8 (1 : Int32) M))))
def w_X3_merge (g : gT) (F : Nat) (a0 : Nat) (p1 : Int32) (p2 : Int32) (p3 : Int32) (M : hM) (Q : Int32 → hM → Prop) : Prop :=
  w_X3_isRegister g F p1 M (fun x2 M1 => ((x2 = 0 → w_X3_merge_21 g F a0 p1 p2 p3 Q M1) ∧ (¬ (x2 = 0) → w_X3_isRegister g F p2 M1 (fun x4 M3 => ((x4 = 0 → w_X3_merge_21 g F a0 p1 p2 p3 Q M3) ∧ (¬ (x4 = 0) → w_X3_isRegister g F p3 M3 (fun x6 M5 => ((¬ x6 = 0 → pV M5 (some a0) 2 38 (.int (1 : Int32)) fun M7 => gF M7 (some a0) 2 39 fun x8 => (isC M7 a0 2 ∧ w_X3_takes g F a0 p1 x8 M7 (fun x10 M9 => pV M9 (some a0) 2 40 (.int x10) fun M11 => gF M11 (some a0) 2 41 fun x12 => (isC M11 a0 2 ∧ w_X3_takes g F a0 p2 x12 M11 (fun x14 M13 => pV M13 (some a0) 2 42 (.int x14) fun M15 => gF M15 (some a0) 2 43 fun x16 => (isC M15 a0 2 ∧ w_X3_takes g F a0 p3 x16 M15 (fun x18 M17 => pV M17 (some a0) 2 44 (.int x18) fun M19 => gF M19 (some a0) 2 39 fun x20 => gI M19 (some a0) 2 40 fun x21 => gF M19 (some a0) 2 41 fun x22 => gI M19 (some a0) 2 42 fun x23 => gF M19 (some a0) 2 45 fun x24 => (isC M19 a0 2 ∧ w_X3_aligns g F a0 x20 x21 x22 x23 x24 M19 (fun M25 => gF M25 (some a0) 2 39 fun x26 => gI M25 (some a0) 2 40 fun x27 => gF M25 (some a0) 2 43 fun x28 => gI M25 (some a0) 2 44 fun x29 => gF M25 (some a0) 2 46 fun x30 => (isC M25 a0 2 ∧ w_X3_aligns g F a0 x26 x27 x28 x29 x30 M25 (fun M31 => pV M31 (some a0) 2 48 (.int (0 : Int32)) fun M32 => pV M32 (some a0) 2 50 (.int (0 : Int32)) fun M33 => w_X3_merge_144 g F a0 p1 p2 p3 Q F (0 : Int32) (0 : Int32) (0 : Int32) (0 : Int32) (0 : Int32) M33))))))))))) ∧ (x6 = 0 → w_X3_merge_21 g F a0 p1 p2 p3 Q M5)))))))))
theorem g_X3_merge_21 {k : kT} {F : Nat} {a0 : Nat} {p1 : Int32} {p2 : Int32} {p3 : Int32} {Q : Int32 → hM → Prop} (hJ : JOK (kl k) (kg k)) (hC : CX k 13 cX3_merge RX3 (some .int) 5 123) (hQ : isQ k (PI Q)) (hin : (kt k).name = "merge") : ∀  (M : hM), w_X3_merge_21 (kg k) F a0 p1 p2 p3 Q  M → GW k 13 M 21 [some (va_rf (some a0)), some (.int p1), some (.int p2), some (.int p3), none, none, none, none, none, none, none, none, none] [] := by
  intro  M hw
  refine G_aload_n (pc := 21) (i := 0) hC dX3_merge_21 rfl rfl ?_
  refine G_iconst (pc := 22) (v := 1) hC dX3_merge_22 (by decide) ?_
  obtain ⟨hb, hw⟩ := hw
  refine G_callV (pc := 23) (n := 1) (C := "MergeWorkbenchModel") (b := a0) (As := [.int (1 : Int32)]) (rest := []) hC (m_X3_fails hJ hw) (lw_V q3573 q3575 qs52 q108 q3576) hd_X3_fails (by decide) (rcv (C := RX3) (T := TX3) (N := 61) hC hb rfl) rfl rfl (st_c cat_e (Nat.le_of_ble_eq_true rfl)) dX3_merge_23 (kI fun x2 M1 hw => ?_)
  exact G_iret (pc := 26) hC rfl hQ dX3_merge_26 hw
theorem g_X3_merge_385 {k : kT} {F : Nat} {a0 : Nat} {p1 : Int32} {p2 : Int32} {p3 : Int32} {Q : Int32 → hM → Prop} {K144 : Int32 → Int32 → Int32 → Int32 → Int32 → hM → Prop} (hJ : JOK (kl k) (kg k)) (hC : CX k 13 cX3_merge RX3 (some .int) 5 123) (hQ : isQ k (PI Q)) (hin : (kt k).name = "merge") (hK144 : ∀ (v4 : Int32) (v5 : Int32) (v6 : Int32) (v7 : Int32) (v8 : Int32) (M : hM), K144 v4 v5 v6 v7 v8 M → GW k 13 M 144 [some (va_rf (some a0)), some (.int p1), some (.int p2), some (.int p3), some (.int v4), some (.int v5), some (.int v6), some (.int v7), some (.int v8), none, none, none, none] []) : ∀ (v4 : Int32) (v5 : Int32) (v6 : Int32) (v7 : Int32) (v8 : Int32) (M : hM), w_X3_merge_385 (kg k) F a0 p1 p2 p3 Q K144 v4 v5 v6 v7 v8 M → GW k 13 M 385 [some (va_rf (some a0)), some (.int p1), some (.int p2), some (.int p3), some (.int v4), some (.int v5), some (.int v6), some (.int v7), some (.int v8), none, none, none, none] [] := by
  intro v4 v5 v6 v7 v8 M hw
  refine G_iinc (pc := 385) (i := 8) (v := (v8 + (1 : Int32))) (lw := [some (va_rf (some a0)), some (.int p1), some (.int p2), some (.int p3), some (.int v4), some (.int v5), some (.int v6), some (.int v7), some (.int (v8 + (1 : Int32))), none, none, none, none]) hC dX3_merge_385 rfl (Nat.le_of_ble_eq_true rfl) rfl rfl ?_
  refine G_goto (pc := 388) (tgt := 144) hC dX3_merge_388 (by decide) ?_
  exact hK144 v4 v5 v6 v7 (v8 + (1 : Int32)) M hw
theorem g_X3_merge_367 {k : kT} {F : Nat} {a0 : Nat} {p1 : Int32} {p2 : Int32} {p3 : Int32} {Q : Int32 → hM → Prop} {K144 : Int32 → Int32 → Int32 → Int32 → Int32 → hM → Prop} (hJ : JOK (kl k) (kg k)) (hC : CX k 13 cX3_merge RX3 (some .int) 5 123) (hQ : isQ k (PI Q)) (hin : (kt k).name = "merge") (hK144 : ∀ (v4 : Int32) (v5 : Int32) (v6 : Int32) (v7 : Int32) (v8 : Int32) (M : hM), K144 v4 v5 v6 v7 v8 M → GW k 13 M 144 [some (va_rf (some a0)), some (.int p1), some (.int p2), some (.int p3), some (.int v4), some (.int v5), some (.int v6), some (.int v7), some (.int v8), none, none, none, none] []) : ∀ (v7 : Int32) (v8 : Int32) (v10 : Int32) (v11 : Int32) (M : hM), w_X3_merge_367 (kg k) F a0 p1 p2 p3 Q K144 v7 v8 v10 v11 M → GW k 13 M 367 [some (va_rf (some a0)), some (.int p1), some (.int p2), some (.int p3), none, none, none, some (.int v7), some (.int v8), none, some (.int v10), some (.int v11), none] [] := by
  intro v7 v8 v10 v11 M hw
  refine G_iload (pc := 367) (i := 8) hC dX3_merge_367 rfl ?_
  refine G_iconst (pc := 369) (v := 1) hC dX3_merge_369 (by decide) ?_
  refine G_iadd (pc := 370) hC dX3_merge_370 ?_
  refine G_istore (pc := 371) (i := 4) (lw := [some (va_rf (some a0)), some (.int p1), some (.int p2), some (.int p3), some (.int (v8 + (1 : Int32))), none, none, some (.int v7), some (.int v8), none, some (.int v10), some (.int v11), none]) hC dX3_merge_371 (Nat.le_of_ble_eq_true rfl) rfl ?_
  refine G_iload (pc := 373) (i := 10) hC dX3_merge_373 rfl ?_
  refine G_iconst (pc := 375) (v := 1) hC dX3_merge_375 (by decide) ?_
  refine G_iadd (pc := 376) hC dX3_merge_376 ?_
  refine G_istore (pc := 377) (i := 5) (lw := [some (va_rf (some a0)), some (.int p1), some (.int p2), some (.int p3), some (.int (v8 + (1 : Int32))), some (.int (v10 + (1 : Int32))), none, some (.int v7), some (.int v8), none, some (.int v10), some (.int v11), none]) hC dX3_merge_377 (Nat.le_of_ble_eq_true rfl) rfl ?_
  refine G_iload (pc := 379) (i := 11) hC dX3_merge_379 rfl ?_
  refine G_iconst (pc := 381) (v := 1) hC dX3_merge_381 (by decide) ?_
  refine G_iadd (pc := 382) hC dX3_merge_382 ?_
  refine G_istore (pc := 383) (i := 6) (lw := [some (va_rf (some a0)), some (.int p1), some (.int p2), some (.int p3), some (.int (v8 + (1 : Int32))), some (.int (v10 + (1 : Int32))), some (.int (v11 + (1 : Int32))), some (.int v7), some (.int v8), none, some (.int v10), some (.int v11), none]) hC dX3_merge_383 (Nat.le_of_ble_eq_true rfl) rfl ?_
  refine G_loc (lv' := [some (va_rf (some a0)), some (.int p1), some (.int p2), some (.int p3), some (.int (v8 + (1 : Int32))), some (.int (v10 + (1 : Int32))), some (.int (v11 + (1 : Int32))), some (.int v7), some (.int v8), none, none, none, none]) ⟨Or.inr rfl, Or.inr rfl, Or.inr rfl, Or.inr rfl, Or.inr rfl, Or.inr rfl, Or.inr rfl, Or.inr rfl, Or.inr rfl, Or.inr rfl, Or.inl rfl, Or.inl rfl, Or.inr rfl, trivial⟩ ?_
  exact g_X3_merge_385 hJ hC hQ hin hK144  (v8 + (1 : Int32)) (v10 + (1 : Int32)) (v11 + (1 : Int32)) v7 v8 M hw
theorem g_X3_merge_364 {k : kT} {F : Nat} {a0 : Nat} {p1 : Int32} {p2 : Int32} {p3 : Int32} {Q : Int32 → hM → Prop} {K144 : Int32 → Int32 → Int32 → Int32 → Int32 → hM → Prop} (hJ : JOK (kl k) (kg k)) (hC : CX k 13 cX3_merge RX3 (some .int) 5 123) (hQ : isQ k (PI Q)) (hin : (kt k).name = "merge") (hK144 : ∀ (v4 : Int32) (v5 : Int32) (v6 : Int32) (v7 : Int32) (v8 : Int32) (M : hM), K144 v4 v5 v6 v7 v8 M → GW k 13 M 144 [some (va_rf (some a0)), some (.int p1), some (.int p2), some (.int p3), some (.int v4), some (.int v5), some (.int v6), some (.int v7), some (.int v8), none, none, none, none] []) : ∀ (v8 : Int32) (v10 : Int32) (v11 : Int32) (M : hM), w_X3_merge_364 (kg k) F a0 p1 p2 p3 Q K144 v8 v10 v11 M → GW k 13 M 364 [some (va_rf (some a0)), some (.int p1), some (.int p2), some (.int p3), none, none, none, none, some (.int v8), none, some (.int v10), some (.int v11), none] [] := by
  intro v8 v10 v11 M hw
  refine G_iconst (pc := 364) (v := 1) hC dX3_merge_364 (by decide) ?_
  refine G_istore (pc := 365) (i := 7) (lw := [some (va_rf (some a0)), some (.int p1), some (.int p2), some (.int p3), none, none, none, some (.int (1 : Int32)), some (.int v8), none, some (.int v10), some (.int v11), none]) hC dX3_merge_365 (Nat.le_of_ble_eq_true rfl) rfl ?_
  exact g_X3_merge_367 hJ hC hQ hin hK144  (1 : Int32) v8 v10 v11 M hw
theorem g_X3_merge_276 {k : kT} {F : Nat} {a0 : Nat} {p1 : Int32} {p2 : Int32} {p3 : Int32} {Q : Int32 → hM → Prop} {K144 : Int32 → Int32 → Int32 → Int32 → Int32 → hM → Prop} (hJ : JOK (kl k) (kg k)) (hC : CX k 13 cX3_merge RX3 (some .int) 5 123) (hQ : isQ k (PI Q)) (hin : (kt k).name = "merge") (hK144 : ∀ (v4 : Int32) (v5 : Int32) (v6 : Int32) (v7 : Int32) (v8 : Int32) (M : hM), K144 v4 v5 v6 v7 v8 M → GW k 13 M 144 [some (va_rf (some a0)), some (.int p1), some (.int p2), some (.int p3), some (.int v4), some (.int v5), some (.int v6), some (.int v7), some (.int v8), none, none, none, none] []) : ∀ (v7 : Int32) (v8 : Int32) (v9 : Int32) (v10 : Int32) (v11 : Int32) (M : hM), w_X3_merge_276 (kg k) F a0 p1 p2 p3 Q K144 v7 v8 v9 v10 v11 M → GW k 13 M 276 [some (va_rf (some a0)), some (.int p1), some (.int p2), some (.int p3), none, none, none, some (.int v7), some (.int v8), some (.int v9), some (.int v10), some (.int v11), none] [] := by
  intro v7 v8 v9 v10 v11 M hw
  refine G_iload (pc := 276) (i := 9) hC dX3_merge_276 rfl ?_
  refine G_if_ne (pc := 278) (tgt := 367) hC dX3_merge_278 (by decide) (fun hc => ?_) (fun hc => ?_)
  · replace hw := hw.1 hc
    refine G_loc (lv' := [some (va_rf (some a0)), some (.int p1), some (.int p2), some (.int p3), none, none, none, some (.int v7), some (.int v8), none, some (.int v10), some (.int v11), none]) ⟨Or.inr rfl, Or.inr rfl, Or.inr rfl, Or.inr rfl, Or.inr rfl, Or.inr rfl, Or.inr rfl, Or.inr rfl, Or.inr rfl, Or.inl rfl, Or.inr rfl, Or.inr rfl, Or.inr rfl, trivial⟩ ?_
    exact g_X3_merge_367 hJ hC hQ hin hK144  v7 v8 v10 v11 M hw
  · replace hw := hw.2 hc
    refine G_iload (pc := 281) (i := 7) hC dX3_merge_281 rfl ?_
    refine G_if_eq (pc := 283) (tgt := 341) hC dX3_merge_283 (by decide) (fun hc => ?_) (fun hc => ?_)
    · replace hw := hw.1 hc
      refine G_aload_n (pc := 341) (i := 0) hC dX3_merge_341 rfl rfl ?_
      refine G_iconst (pc := 342) (v := 0) hC dX3_merge_342 (by decide) ?_
      refine G_iload (pc := 343) (i := 8) hC dX3_merge_343 rfl ?_
      refine G_iload (pc := 345) (i := 8) hC dX3_merge_345 rfl ?_
      refine G_iconst (pc := 347) (v := 1) hC dX3_merge_347 (by decide) ?_
      refine G_iadd (pc := 348) hC dX3_merge_348 ?_
      refine G_iload (pc := 349) (i := 10) hC dX3_merge_349 rfl ?_
      refine G_iload (pc := 351) (i := 10) hC dX3_merge_351 rfl ?_
      refine G_iconst (pc := 353) (v := 1) hC dX3_merge_353 (by decide) ?_
      refine G_iadd (pc := 354) hC dX3_merge_354 ?_
      refine G_iload (pc := 355) (i := 11) hC dX3_merge_355 rfl ?_
      refine G_iload (pc := 357) (i := 11) hC dX3_merge_357 rfl ?_
      refine G_iconst (pc := 359) (v := 1) hC dX3_merge_359 (by decide) ?_
      refine G_iadd (pc := 360) hC dX3_merge_360 ?_
      obtain ⟨hb, hw⟩ := hw
      refine G_callV (pc := 361) (n := 7) (C := "MergeWorkbenchModel") (b := a0) (As := [.int (0 : Int32), .int v8, .int (v8 + (1 : Int32)), .int v10, .int (v10 + (1 : Int32)), .int v11, .int (v11 + (1 : Int32))]) (rest := []) hC (m_X3_chunkComes hJ hw) (lw_V q3749 q3751 qs72 q108 q3752) hd_X3_chunkComes (by decide) (rcv (C := RX3) (T := TX3) (N := 61) hC hb rfl) rfl rfl (st_c cat_e (Nat.le_of_ble_eq_true rfl)) dX3_merge_361 (kU fun M1 hw => ?_)
      refine G_loc (lv' := [some (va_rf (some a0)), some (.int p1), some (.int p2), some (.int p3), none, none, none, none, some (.int v8), none, some (.int v10), some (.int v11), none]) ⟨Or.inr rfl, Or.inr rfl, Or.inr rfl, Or.inr rfl, Or.inr rfl, Or.inr rfl, Or.inr rfl, Or.inl rfl, Or.inr rfl, Or.inl rfl, Or.inr rfl, Or.inr rfl, Or.inr rfl, trivial⟩ ?_
      exact g_X3_merge_364 hJ hC hQ hin hK144  v8 v10 v11 M1 hw
    · replace hw := hw.2 hc
      refine G_bipush (pc := 286) (v := 7) hC dX3_merge_286 (by decide) ?_
      refine G_aload_n (pc := 288) (i := 0) hC dX3_merge_288 rfl rfl ?_
      refine G_getI (pc := 289) (ci := 2) (C := RX3) (T := TX3) (N := 61) (f := 48) hC rfl in_X3 (Nat.le_of_ble_eq_true rfl) q3422 (fun _ h => h) dX3_merge_289 hw (fun x2 hw => ?_)
      refine G_imul (pc := 292) hC dX3_merge_292 ?_
      refine G_bipush (pc := 293) (v := 7) hC dX3_merge_293 (by decide) ?_
      refine G_isub (pc := 295) hC dX3_merge_295 ?_
      refine G_istore (pc := 296) (i := 12) (lw := [some (va_rf (some a0)), some (.int p1), some (.int p2), some (.int p3), none, none, none, some (.int v7), some (.int v8), some (.int v9), some (.int v10), some (.int v11), some (.int (((7 : Int32) * x2) - (7 : Int32)))]) hC dX3_merge_296 (Nat.le_of_ble_eq_true rfl) rfl ?_
      refine G_aload_n (pc := 298) (i := 0) hC dX3_merge_298 rfl rfl ?_
      refine G_getF (pc := 299) (ci := 2) (C := RX3) (T := TX3) (N := 61) (f := 47) hC rfl in_X3 (Nat.le_of_ble_eq_true rfl) q3421 (fun _ h => h) dX3_merge_299 hw (fun x3 hw => ?_)
      refine G_iload (pc := 302) (i := 12) hC dX3_merge_302 rfl ?_
      refine G_iconst (pc := 304) (v := 2) hC dX3_merge_304 (by decide) ?_
      refine G_iadd (pc := 305) hC dX3_merge_305 ?_
      refine G_dup2 (pc := 306) hC dX3_merge_306 rfl (rf_cat _) ?_
      refine G_iald (pc := 307) hC dX3_merge_307 hw (fun x4 hw => ?_)
      refine G_iconst (pc := 308) (v := 1) hC dX3_merge_308 (by decide) ?_
      refine G_iadd (pc := 309) hC dX3_merge_309 ?_
      refine G_iast (pc := 310) hC dX3_merge_310 hw (fun M5 hw => ?_)
      refine G_aload_n (pc := 311) (i := 0) hC dX3_merge_311 rfl rfl ?_
      refine G_getF (pc := 312) (ci := 2) (C := RX3) (T := TX3) (N := 61) (f := 47) hC rfl in_X3 (Nat.le_of_ble_eq_true rfl) q3421 (fun _ h => h) dX3_merge_312 hw (fun x6 hw => ?_)
      refine G_iload (pc := 315) (i := 12) hC dX3_merge_315 rfl ?_
      refine G_iconst (pc := 317) (v := 4) hC dX3_merge_317 (by decide) ?_
      refine G_iadd (pc := 318) hC dX3_merge_318 ?_
      refine G_dup2 (pc := 319) hC dX3_merge_319 rfl (rf_cat _) ?_
      refine G_iald (pc := 320) hC dX3_merge_320 hw (fun x7 hw => ?_)
      refine G_iconst (pc := 321) (v := 1) hC dX3_merge_321 (by decide) ?_
      refine G_iadd (pc := 322) hC dX3_merge_322 ?_
      refine G_iast (pc := 323) hC dX3_merge_323 hw (fun M8 hw => ?_)
      refine G_aload_n (pc := 324) (i := 0) hC dX3_merge_324 rfl rfl ?_
      refine G_getF (pc := 325) (ci := 2) (C := RX3) (T := TX3) (N := 61) (f := 47) hC rfl in_X3 (Nat.le_of_ble_eq_true rfl) q3421 (fun _ h => h) dX3_merge_325 hw (fun x9 hw => ?_)
      refine G_iload (pc := 328) (i := 12) hC dX3_merge_328 rfl ?_
      refine G_bipush (pc := 330) (v := 6) hC dX3_merge_330 (by decide) ?_
      refine G_iadd (pc := 332) hC dX3_merge_332 ?_
      refine G_dup2 (pc := 333) hC dX3_merge_333 rfl (rf_cat _) ?_
      refine G_iald (pc := 334) hC dX3_merge_334 hw (fun x10 hw => ?_)
      refine G_iconst (pc := 335) (v := 1) hC dX3_merge_335 (by decide) ?_
      refine G_iadd (pc := 336) hC dX3_merge_336 ?_
      refine G_iast (pc := 337) hC dX3_merge_337 hw (fun M11 hw => ?_)
      refine G_goto (pc := 338) (tgt := 364) hC dX3_merge_338 (by decide) ?_
      refine G_loc (lv' := [some (va_rf (some a0)), some (.int p1), some (.int p2), some (.int p3), none, none, none, none, some (.int v8), none, some (.int v10), some (.int v11), none]) ⟨Or.inr rfl, Or.inr rfl, Or.inr rfl, Or.inr rfl, Or.inr rfl, Or.inr rfl, Or.inr rfl, Or.inl rfl, Or.inr rfl, Or.inl rfl, Or.inr rfl, Or.inr rfl, Or.inl rfl, trivial⟩ ?_
      exact g_X3_merge_364 hJ hC hQ hin hK144  v8 v10 v11 M11 hw
theorem g_X3_merge_257 {k : kT} {F : Nat} {a0 : Nat} {p1 : Int32} {p2 : Int32} {p3 : Int32} {Q : Int32 → hM → Prop} {K144 : Int32 → Int32 → Int32 → Int32 → Int32 → hM → Prop} (hJ : JOK (kl k) (kg k)) (hC : CX k 13 cX3_merge RX3 (some .int) 5 123) (hQ : isQ k (PI Q)) (hin : (kt k).name = "merge") (hK144 : ∀ (v4 : Int32) (v5 : Int32) (v6 : Int32) (v7 : Int32) (v8 : Int32) (M : hM), K144 v4 v5 v6 v7 v8 M → GW k 13 M 144 [some (va_rf (some a0)), some (.int p1), some (.int p2), some (.int p3), some (.int v4), some (.int v5), some (.int v6), some (.int v7), some (.int v8), none, none, none, none] []) : ∀ (v4 : Int32) (v5 : Int32) (v6 : Int32) (v8 : Int32) (v9 : Int32) (v10 : Int32) (v11 : Int32) (M : hM), w_X3_merge_257 (kg k) F a0 p1 p2 p3 Q K144 v4 v5 v6 v8 v9 v10 v11 M → GW k 13 M 257 [some (va_rf (some a0)), some (.int p1), some (.int p2), some (.int p3), some (.int v4), some (.int v5), some (.int v6), none, some (.int v8), some (.int v9), some (.int v10), some (.int v11), none] [] := by
  intro v4 v5 v6 v8 v9 v10 v11 M hw
  refine G_aload_n (pc := 257) (i := 0) hC dX3_merge_257 rfl rfl ?_
  refine G_iload (pc := 258) (i := 4) hC dX3_merge_258 rfl ?_
  refine G_iload (pc := 260) (i := 8) hC dX3_merge_260 rfl ?_
  refine G_iload (pc := 262) (i := 5) hC dX3_merge_262 rfl ?_
  refine G_iload (pc := 264) (i := 10) hC dX3_merge_264 rfl ?_
  refine G_iload (pc := 266) (i := 6) hC dX3_merge_266 rfl ?_
  refine G_iload (pc := 268) (i := 11) hC dX3_merge_268 rfl ?_
  obtain ⟨hb, hw⟩ := hw
  refine G_callV (pc := 270) (n := 6) (C := "MergeWorkbenchModel") (b := a0) (As := [.int v4, .int v8, .int v5, .int v10, .int v6, .int v11]) (rest := []) hC (m_X3_regionComes hJ hw) (lw_V q3742 q3744 qs71 q108 q3745) hd_X3_regionComes (by decide) (rcv (C := RX3) (T := TX3) (N := 61) hC hb rfl) rfl rfl (st_c cat_e (Nat.le_of_ble_eq_true rfl)) dX3_merge_270 (kU fun M1 hw => ?_)
  refine G_iconst (pc := 273) (v := 0) hC dX3_merge_273 (by decide) ?_
  refine G_istore (pc := 274) (i := 7) (lw := [some (va_rf (some a0)), some (.int p1), some (.int p2), some (.int p3), some (.int v4), some (.int v5), some (.int v6), some (.int (0 : Int32)), some (.int v8), some (.int v9), some (.int v10), some (.int v11), none]) hC dX3_merge_274 (Nat.le_of_ble_eq_true rfl) rfl ?_
  refine G_loc (lv' := [some (va_rf (some a0)), some (.int p1), some (.int p2), some (.int p3), none, none, none, some (.int (0 : Int32)), some (.int v8), some (.int v9), some (.int v10), some (.int v11), none]) ⟨Or.inr rfl, Or.inr rfl, Or.inr rfl, Or.inr rfl, Or.inl rfl, Or.inl rfl, Or.inl rfl, Or.inr rfl, Or.inr rfl, Or.inr rfl, Or.inr rfl, Or.inr rfl, Or.inr rfl, trivial⟩ ?_
  exact g_X3_merge_276 hJ hC hQ hin hK144  (0 : Int32) v8 v9 v10 v11 M1 hw
theorem g_X3_merge_234 {k : kT} {F : Nat} {a0 : Nat} {p1 : Int32} {p2 : Int32} {p3 : Int32} {Q : Int32 → hM → Prop} {K144 : Int32 → Int32 → Int32 → Int32 → Int32 → hM → Prop} (hJ : JOK (kl k) (kg k)) (hC : CX k 13 cX3_merge RX3 (some .int) 5 123) (hQ : isQ k (PI Q)) (hin : (kt k).name = "merge") (hK144 : ∀ (v4 : Int32) (v5 : Int32) (v6 : Int32) (v7 : Int32) (v8 : Int32) (M : hM), K144 v4 v5 v6 v7 v8 M → GW k 13 M 144 [some (va_rf (some a0)), some (.int p1), some (.int p2), some (.int p3), some (.int v4), some (.int v5), some (.int v6), some (.int v7), some (.int v8), none, none, none, none] []) : ∀ (v4 : Int32) (v5 : Int32) (v6 : Int32) (v7 : Int32) (v8 : Int32) (v9 : Int32) (v10 : Int32) (s0 : Int32) (M : hM), w_X3_merge_234 (kg k) F a0 p1 p2 p3 Q K144 v4 v5 v6 v7 v8 v9 v10 s0 M → GW k 13 M 234 [some (va_rf (some a0)), some (.int p1), some (.int p2), some (.int p3), some (.int v4), some (.int v5), some (.int v6), some (.int v7), some (.int v8), some (.int v9), some (.int v10), none, none] [.int s0] := by
  intro v4 v5 v6 v7 v8 v9 v10 s0 M hw
  refine G_istore (pc := 234) (i := 11) (lw := [some (va_rf (some a0)), some (.int p1), some (.int p2), some (.int p3), some (.int v4), some (.int v5), some (.int v6), some (.int v7), some (.int v8), some (.int v9), some (.int v10), some (.int s0), none]) hC dX3_merge_234 (Nat.le_of_ble_eq_true rfl) rfl ?_
  refine G_iload (pc := 236) (i := 8) hC dX3_merge_236 rfl ?_
  refine G_iload (pc := 238) (i := 4) hC dX3_merge_238 rfl ?_
  refine G_icmp_gt (pc := 240) (tgt := 257) hC dX3_merge_240 (by decide) (fun hc => ?_) (fun hc => ?_)
  · replace hw := hw.1 hc
    refine G_loc (lv' := [some (va_rf (some a0)), some (.int p1), some (.int p2), some (.int p3), some (.int v4), some (.int v5), some (.int v6), none, some (.int v8), some (.int v9), some (.int v10), some (.int s0), none]) ⟨Or.inr rfl, Or.inr rfl, Or.inr rfl, Or.inr rfl, Or.inr rfl, Or.inr rfl, Or.inr rfl, Or.inl rfl, Or.inr rfl, Or.inr rfl, Or.inr rfl, Or.inr rfl, Or.inr rfl, trivial⟩ ?_
    exact g_X3_merge_257 hJ hC hQ hin hK144  v4 v5 v6 v8 v9 v10 s0 M hw
  · replace hw := hw.2 hc
    refine G_iload (pc := 243) (i := 10) hC dX3_merge_243 rfl ?_
    refine G_iload (pc := 245) (i := 5) hC dX3_merge_245 rfl ?_
    refine G_icmp_gt (pc := 247) (tgt := 257) hC dX3_merge_247 (by decide) (fun hc => ?_) (fun hc => ?_)
    · replace hw := hw.1 hc
      refine G_loc (lv' := [some (va_rf (some a0)), some (.int p1), some (.int p2), some (.int p3), some (.int v4), some (.int v5), some (.int v6), none, some (.int v8), some (.int v9), some (.int v10), some (.int s0), none]) ⟨Or.inr rfl, Or.inr rfl, Or.inr rfl, Or.inr rfl, Or.inr rfl, Or.inr rfl, Or.inr rfl, Or.inl rfl, Or.inr rfl, Or.inr rfl, Or.inr rfl, Or.inr rfl, Or.inr rfl, trivial⟩ ?_
      exact g_X3_merge_257 hJ hC hQ hin hK144  v4 v5 v6 v8 v9 v10 s0 M hw
    · replace hw := hw.2 hc
      refine G_iload (pc := 250) (i := 11) hC dX3_merge_250 rfl ?_
      refine G_iload (pc := 252) (i := 6) hC dX3_merge_252 rfl ?_
      refine G_icmp_le (pc := 254) (tgt := 276) hC dX3_merge_254 (by decide) (fun hc => ?_) (fun hc => ?_)
      · replace hw := hw.1 hc
        refine G_loc (lv' := [some (va_rf (some a0)), some (.int p1), some (.int p2), some (.int p3), none, none, none, some (.int v7), some (.int v8), some (.int v9), some (.int v10), some (.int s0), none]) ⟨Or.inr rfl, Or.inr rfl, Or.inr rfl, Or.inr rfl, Or.inl rfl, Or.inl rfl, Or.inl rfl, Or.inr rfl, Or.inr rfl, Or.inr rfl, Or.inr rfl, Or.inr rfl, Or.inr rfl, trivial⟩ ?_
        exact g_X3_merge_276 hJ hC hQ hin hK144  v7 v8 v9 v10 s0 M hw
      · replace hw := hw.2 hc
        refine G_loc (lv' := [some (va_rf (some a0)), some (.int p1), some (.int p2), some (.int p3), some (.int v4), some (.int v5), some (.int v6), none, some (.int v8), some (.int v9), some (.int v10), some (.int s0), none]) ⟨Or.inr rfl, Or.inr rfl, Or.inr rfl, Or.inr rfl, Or.inr rfl, Or.inr rfl, Or.inr rfl, Or.inl rfl, Or.inr rfl, Or.inr rfl, Or.inr rfl, Or.inr rfl, Or.inr rfl, trivial⟩ ?_
        exact g_X3_merge_257 hJ hC hQ hin hK144  v4 v5 v6 v8 v9 v10 s0 M hw
theorem g_X3_merge_213 {k : kT} {F : Nat} {a0 : Nat} {p1 : Int32} {p2 : Int32} {p3 : Int32} {Q : Int32 → hM → Prop} {K144 : Int32 → Int32 → Int32 → Int32 → Int32 → hM → Prop} (hJ : JOK (kl k) (kg k)) (hC : CX k 13 cX3_merge RX3 (some .int) 5 123) (hQ : isQ k (PI Q)) (hin : (kt k).name = "merge") (hK144 : ∀ (v4 : Int32) (v5 : Int32) (v6 : Int32) (v7 : Int32) (v8 : Int32) (M : hM), K144 v4 v5 v6 v7 v8 M → GW k 13 M 144 [some (va_rf (some a0)), some (.int p1), some (.int p2), some (.int p3), some (.int v4), some (.int v5), some (.int v6), some (.int v7), some (.int v8), none, none, none, none] []) : ∀ (v4 : Int32) (v5 : Int32) (v6 : Int32) (v7 : Int32) (v8 : Int32) (v9 : Int32) (s0 : Int32) (M : hM), w_X3_merge_213 (kg k) F a0 p1 p2 p3 Q K144 v4 v5 v6 v7 v8 v9 s0 M → GW k 13 M 213 [some (va_rf (some a0)), some (.int p1), some (.int p2), some (.int p3), some (.int v4), some (.int v5), some (.int v6), some (.int v7), some (.int v8), some (.int v9), none, none, none] [.int s0] := by
  intro v4 v5 v6 v7 v8 v9 s0 M hw
  refine G_istore (pc := 213) (i := 10) (lw := [some (va_rf (some a0)), some (.int p1), some (.int p2), some (.int p3), some (.int v4), some (.int v5), some (.int v6), some (.int v7), some (.int v8), some (.int v9), some (.int s0), none, none]) hC dX3_merge_213 (Nat.le_of_ble_eq_true rfl) rfl ?_
  refine G_iload (pc := 215) (i := 9) hC dX3_merge_215 rfl ?_
  refine G_if_eq (pc := 217) (tgt := 227) hC dX3_merge_217 (by decide) (fun hc => ?_) (fun hc => ?_)
  · replace hw := hw.1 hc
    refine G_aload_n (pc := 227) (i := 0) hC dX3_merge_227 rfl rfl ?_
    refine G_getF (pc := 228) (ci := 2) (C := RX3) (T := TX3) (N := 61) (f := 46) hC rfl in_X3 (Nat.le_of_ble_eq_true rfl) q3420 (fun _ h => h) dX3_merge_228 hw (fun x1 hw => ?_)
    refine G_iload (pc := 231) (i := 8) hC dX3_merge_231 rfl ?_
    refine G_iald (pc := 233) hC dX3_merge_233 hw (fun x2 hw => ?_)
    exact g_X3_merge_234 hJ hC hQ hin hK144  v4 v5 v6 v7 v8 v9 s0 x2 M hw
  · replace hw := hw.2 hc
    refine G_aload_n (pc := 220) (i := 0) hC dX3_merge_220 rfl rfl ?_
    refine G_getI (pc := 221) (ci := 2) (C := RX3) (T := TX3) (N := 61) (f := 44) hC rfl in_X3 (Nat.le_of_ble_eq_true rfl) q3418 (fun _ h => h) dX3_merge_221 hw (fun x3 hw => ?_)
    refine G_goto (pc := 224) (tgt := 234) hC dX3_merge_224 (by decide) ?_
    exact g_X3_merge_234 hJ hC hQ hin hK144  v4 v5 v6 v7 v8 v9 s0 x3 M hw
theorem g_X3_merge_194 {k : kT} {F : Nat} {a0 : Nat} {p1 : Int32} {p2 : Int32} {p3 : Int32} {Q : Int32 → hM → Prop} {K144 : Int32 → Int32 → Int32 → Int32 → Int32 → hM → Prop} (hJ : JOK (kl k) (kg k)) (hC : CX k 13 cX3_merge RX3 (some .int) 5 123) (hQ : isQ k (PI Q)) (hin : (kt k).name = "merge") (hK144 : ∀ (v4 : Int32) (v5 : Int32) (v6 : Int32) (v7 : Int32) (v8 : Int32) (M : hM), K144 v4 v5 v6 v7 v8 M → GW k 13 M 144 [some (va_rf (some a0)), some (.int p1), some (.int p2), some (.int p3), some (.int v4), some (.int v5), some (.int v6), some (.int v7), some (.int v8), none, none, none, none] []) : ∀ (v4 : Int32) (v5 : Int32) (v6 : Int32) (v7 : Int32) (v8 : Int32) (v9 : Int32) (M : hM), w_X3_merge_194 (kg k) F a0 p1 p2 p3 Q K144 v4 v5 v6 v7 v8 v9 M → GW k 13 M 194 [some (va_rf (some a0)), some (.int p1), some (.int p2), some (.int p3), some (.int v4), some (.int v5), some (.int v6), some (.int v7), some (.int v8), some (.int v9), none, none, none] [] := by
  intro v4 v5 v6 v7 v8 v9 M hw
  refine G_iload (pc := 194) (i := 9) hC dX3_merge_194 rfl ?_
  refine G_if_eq (pc := 196) (tgt := 206) hC dX3_merge_196 (by decide) (fun hc => ?_) (fun hc => ?_)
  · replace hw := hw.1 hc
    refine G_aload_n (pc := 206) (i := 0) hC dX3_merge_206 rfl rfl ?_
    refine G_getF (pc := 207) (ci := 2) (C := RX3) (T := TX3) (N := 61) (f := 45) hC rfl in_X3 (Nat.le_of_ble_eq_true rfl) q3419 (fun _ h => h) dX3_merge_207 hw (fun x1 hw => ?_)
    refine G_iload (pc := 210) (i := 8) hC dX3_merge_210 rfl ?_
    refine G_iald (pc := 212) hC dX3_merge_212 hw (fun x2 hw => ?_)
    exact g_X3_merge_213 hJ hC hQ hin hK144  v4 v5 v6 v7 v8 v9 x2 M hw
  · replace hw := hw.2 hc
    refine G_aload_n (pc := 199) (i := 0) hC dX3_merge_199 rfl rfl ?_
    refine G_getI (pc := 200) (ci := 2) (C := RX3) (T := TX3) (N := 61) (f := 42) hC rfl in_X3 (Nat.le_of_ble_eq_true rfl) q3416 (fun _ h => h) dX3_merge_200 hw (fun x3 hw => ?_)
    refine G_goto (pc := 203) (tgt := 213) hC dX3_merge_203 (by decide) ?_
    exact g_X3_merge_213 hJ hC hQ hin hK144  v4 v5 v6 v7 v8 v9 x3 M hw
theorem g_X3_merge_167 {k : kT} {F : Nat} {a0 : Nat} {p1 : Int32} {p2 : Int32} {p3 : Int32} {Q : Int32 → hM → Prop} {K144 : Int32 → Int32 → Int32 → Int32 → Int32 → hM → Prop} (hJ : JOK (kl k) (kg k)) (hC : CX k 13 cX3_merge RX3 (some .int) 5 123) (hQ : isQ k (PI Q)) (hin : (kt k).name = "merge") (hK144 : ∀ (v4 : Int32) (v5 : Int32) (v6 : Int32) (v7 : Int32) (v8 : Int32) (M : hM), K144 v4 v5 v6 v7 v8 M → GW k 13 M 144 [some (va_rf (some a0)), some (.int p1), some (.int p2), some (.int p3), some (.int v4), some (.int v5), some (.int v6), some (.int v7), some (.int v8), none, none, none, none] []) : ∀ (v4 : Int32) (v5 : Int32) (v6 : Int32) (v7 : Int32) (v8 : Int32) (s0 : Int32) (M : hM), w_X3_merge_167 (kg k) F a0 p1 p2 p3 Q K144 v4 v5 v6 v7 v8 s0 M → GW k 13 M 167 [some (va_rf (some a0)), some (.int p1), some (.int p2), some (.int p3), some (.int v4), some (.int v5), some (.int v6), some (.int v7), some (.int v8), none, none, none, none] [.int s0] := by
  intro v4 v5 v6 v7 v8 s0 M hw
  refine G_istore (pc := 167) (i := 9) (lw := [some (va_rf (some a0)), some (.int p1), some (.int p2), some (.int p3), some (.int v4), some (.int v5), some (.int v6), some (.int v7), some (.int v8), some (.int s0), none, none, none]) hC dX3_merge_167 (Nat.le_of_ble_eq_true rfl) rfl ?_
  refine G_iload (pc := 169) (i := 9) hC dX3_merge_169 rfl ?_
  refine G_if_ne (pc := 171) (tgt := 194) hC dX3_merge_171 (by decide) (fun hc => ?_) (fun hc => ?_)
  · replace hw := hw.1 hc
    exact g_X3_merge_194 hJ hC hQ hin hK144  v4 v5 v6 v7 v8 s0 M hw
  · replace hw := hw.2 hc
    refine G_aload_n (pc := 174) (i := 0) hC dX3_merge_174 rfl rfl ?_
    refine G_getF (pc := 175) (ci := 2) (C := RX3) (T := TX3) (N := 61) (f := 45) hC rfl in_X3 (Nat.le_of_ble_eq_true rfl) q3419 (fun _ h => h) dX3_merge_175 hw (fun x1 hw => ?_)
    refine G_iload (pc := 178) (i := 8) hC dX3_merge_178 rfl ?_
    refine G_iald (pc := 180) hC dX3_merge_180 hw (fun x2 hw => ?_)
    refine G_if_lt (pc := 181) (tgt := 385) hC dX3_merge_181 (by decide) (fun hc => ?_) (fun hc => ?_)
    · replace hw := hw.1 hc
      refine G_loc (lv' := [some (va_rf (some a0)), some (.int p1), some (.int p2), some (.int p3), some (.int v4), some (.int v5), some (.int v6), some (.int v7), some (.int v8), none, none, none, none]) ⟨Or.inr rfl, Or.inr rfl, Or.inr rfl, Or.inr rfl, Or.inr rfl, Or.inr rfl, Or.inr rfl, Or.inr rfl, Or.inr rfl, Or.inl rfl, Or.inr rfl, Or.inr rfl, Or.inr rfl, trivial⟩ ?_
      exact g_X3_merge_385 hJ hC hQ hin hK144  v4 v5 v6 v7 v8 M hw
    · replace hw := hw.2 hc
      refine G_aload_n (pc := 184) (i := 0) hC dX3_merge_184 rfl rfl ?_
      refine G_getF (pc := 185) (ci := 2) (C := RX3) (T := TX3) (N := 61) (f := 46) hC rfl in_X3 (Nat.le_of_ble_eq_true rfl) q3420 (fun _ h => h) dX3_merge_185 hw (fun x3 hw => ?_)
      refine G_iload (pc := 188) (i := 8) hC dX3_merge_188 rfl ?_
      refine G_iald (pc := 190) hC dX3_merge_190 hw (fun x4 hw => ?_)
      refine G_if_lt (pc := 191) (tgt := 385) hC dX3_merge_191 (by decide) (fun hc => ?_) (fun hc => ?_)
      · replace hw := hw.1 hc
        refine G_loc (lv' := [some (va_rf (some a0)), some (.int p1), some (.int p2), some (.int p3), some (.int v4), some (.int v5), some (.int v6), some (.int v7), some (.int v8), none, none, none, none]) ⟨Or.inr rfl, Or.inr rfl, Or.inr rfl, Or.inr rfl, Or.inr rfl, Or.inr rfl, Or.inr rfl, Or.inr rfl, Or.inr rfl, Or.inl rfl, Or.inr rfl, Or.inr rfl, Or.inr rfl, trivial⟩ ?_
        exact g_X3_merge_385 hJ hC hQ hin hK144  v4 v5 v6 v7 v8 M hw
      · replace hw := hw.2 hc
        exact g_X3_merge_194 hJ hC hQ hin hK144  v4 v5 v6 v7 v8 s0 M hw
theorem g_X3_merge_144 {k : kT} {F : Nat} {a0 : Nat} {p1 : Int32} {p2 : Int32} {p3 : Int32} {Q : Int32 → hM → Prop} (hJ : JOK (kl k) (kg k)) (hC : CX k 13 cX3_merge RX3 (some .int) 5 123) (hQ : isQ k (PI Q)) (hin : (kt k).name = "merge") : ∀ (n : Nat) (v4 : Int32) (v5 : Int32) (v6 : Int32) (v7 : Int32) (v8 : Int32) (M : hM), w_X3_merge_144 (kg k) F a0 p1 p2 p3 Q n v4 v5 v6 v7 v8 M → GW k 13 M 144 [some (va_rf (some a0)), some (.int p1), some (.int p2), some (.int p3), some (.int v4), some (.int v5), some (.int v6), some (.int v7), some (.int v8), none, none, none, none] [] := by
  intro n
  induction n with
  | zero =>
    intro v4 v5 v6 v7 v8 M hw
    exact hw.elim
  | succ n ih =>
    intro v4 v5 v6 v7 v8 M hw
    refine G_iload (pc := 144) (i := 8) hC dX3_merge_144 rfl ?_
    refine G_aload_n (pc := 146) (i := 0) hC dX3_merge_146 rfl rfl ?_
    refine G_getI (pc := 147) (ci := 2) (C := RX3) (T := TX3) (N := 61) (f := 40) hC rfl in_X3 (Nat.le_of_ble_eq_true rfl) q3414 (fun _ h => h) dX3_merge_147 hw (fun x1 hw => ?_)
    refine G_icmp_gt (pc := 150) (tgt := 391) hC dX3_merge_150 (by decide) (fun hc => ?_) (fun hc => ?_)
    · replace hw := hw.1 hc
      refine G_aload_n (pc := 391) (i := 0) hC dX3_merge_391 rfl rfl ?_
      refine G_aload_n (pc := 392) (i := 0) hC dX3_merge_392 rfl rfl ?_
      refine G_getI (pc := 393) (ci := 2) (C := RX3) (T := TX3) (N := 61) (f := 50) hC rfl in_X3 (Nat.le_of_ble_eq_true rfl) q3424 (fun _ h => h) dX3_merge_393 hw (fun x2 hw => ?_)
      obtain ⟨hb, hw⟩ := hw
      refine G_callV (pc := 396) (n := 1) (C := "MergeWorkbenchModel") (b := a0) (As := [.int x2]) (rest := []) hC (m_X3_done hJ hw) (lw_V q3581 q3583 qs54 q108 q3584) hd_X3_done (by decide) (rcv (C := RX3) (T := TX3) (N := 61) hC hb rfl) rfl rfl (st_c cat_e (Nat.le_of_ble_eq_true rfl)) dX3_merge_396 (kI fun x4 M3 hw => ?_)
      exact G_iret (pc := 399) hC rfl hQ dX3_merge_399 hw
    · replace hw := hw.2 hc
      refine G_iload (pc := 153) (i := 8) hC dX3_merge_153 rfl ?_
      refine G_aload_n (pc := 155) (i := 0) hC dX3_merge_155 rfl rfl ?_
      refine G_getI (pc := 156) (ci := 2) (C := RX3) (T := TX3) (N := 61) (f := 40) hC rfl in_X3 (Nat.le_of_ble_eq_true rfl) q3414 (fun _ h => h) dX3_merge_156 hw (fun x5 hw => ?_)
      refine G_icmp_ne (pc := 159) (tgt := 166) hC dX3_merge_159 (by decide) (fun hc => ?_) (fun hc => ?_)
      · replace hw := hw.1 hc
        refine G_iconst (pc := 166) (v := 0) hC dX3_merge_166 (by decide) ?_
        exact g_X3_merge_167 hJ hC hQ hin ih  v4 v5 v6 v7 v8 (0 : Int32) M hw
      · replace hw := hw.2 hc
        refine G_iconst (pc := 162) (v := 1) hC dX3_merge_162 (by decide) ?_
        refine G_goto (pc := 163) (tgt := 167) hC dX3_merge_163 (by decide) ?_
        exact g_X3_merge_167 hJ hC hQ hin ih  v4 v5 v6 v7 v8 (1 : Int32) M hw
theorem m_X3_merge {l : Launch} {g : gT} {F : Nat} {a0 : Nat} {p1 : Int32} {p2 : Int32} {p3 : Int32} {M : hM} {Q : Int32 → hM → Prop} (hJ : JOK l g) (hw : w_X3_merge g F a0 p1 p2 p3 M Q) : MG l g yX3_merge (ws_ yX3_merge cX3_merge 13 (some .int)) 5 123 [va_rf (some a0), .int p1, .int p2, .int p3] M (PI Q) := by
  refine MG_of hJ.2.1 (by decide) (cat_r (cat_i (cat_i (cat_i cat_e)))) (Nat.le_of_ble_eq_true rfl) (fun k hl hg hin hQ hC => ?_)
  subst hl hg
  show GW k 13 M 0 [some (va_rf (some a0)), some (.int p1), some (.int p2), some (.int p3), none, none, none, none, none, none, none, none, none] []
  refine G_iload_n (pc := 0) (i := 1) hC dX3_merge_0 rfl rfl ?_
  refine G_callS (pc := 1) (n := 1) (As := [.int p1]) (rest := []) hC (m_X3_isRegister hJ hw) (lw_S q3567 q3568 q108 q3569) hd_X3_isRegister.2 (by decide) rfl rfl (st_c cat_e (Nat.le_of_ble_eq_true rfl)) dX3_merge_1 (kI fun x2 M1 hw => ?_)
  refine G_if_eq (pc := 4) (tgt := 21) hC dX3_merge_4 (by decide) (fun hc => ?_) (fun hc => ?_)
  · replace hw := hw.1 hc
    exact g_X3_merge_21 hJ hC hQ hin   M1 hw
  · replace hw := hw.2 hc
    refine G_iload_n (pc := 7) (i := 2) hC dX3_merge_7 rfl rfl ?_
    refine G_callS (pc := 8) (n := 1) (As := [.int p2]) (rest := []) hC (m_X3_isRegister hJ hw) (lw_S q3567 q3568 q108 q3569) hd_X3_isRegister.2 (by decide) rfl rfl (st_c cat_e (Nat.le_of_ble_eq_true rfl)) dX3_merge_8 (kI fun x4 M3 hw => ?_)
    refine G_if_eq (pc := 11) (tgt := 21) hC dX3_merge_11 (by decide) (fun hc => ?_) (fun hc => ?_)
    · replace hw := hw.1 hc
      exact g_X3_merge_21 hJ hC hQ hin   M3 hw
    · replace hw := hw.2 hc
      refine G_iload_n (pc := 14) (i := 3) hC dX3_merge_14 rfl rfl ?_
      refine G_callS (pc := 15) (n := 1) (As := [.int p3]) (rest := []) hC (m_X3_isRegister hJ hw) (lw_S q3567 q3568 q108 q3569) hd_X3_isRegister.2 (by decide) rfl rfl (st_c cat_e (Nat.le_of_ble_eq_true rfl)) dX3_merge_15 (kI fun x6 M5 hw => ?_)
      refine G_if_ne (pc := 18) (tgt := 27) hC dX3_merge_18 (by decide) (fun hc => ?_) (fun hc => ?_)
      · replace hw := hw.1 hc
        refine G_aload_n (pc := 27) (i := 0) hC dX3_merge_27 rfl rfl ?_
        refine G_iconst (pc := 28) (v := 1) hC dX3_merge_28 (by decide) ?_
        refine G_put (pc := 29) (ci := 2) (C := RX3) (T := TX3) (N := 61) (f := 38) tyX3 hC rfl in_X3 tyX3_ok nmX3 (Nat.le_of_ble_eq_true rfl) q3412 (fun _ h => h) rfl rfl rfl dX3_merge_29 hw (fun M7 hw => ?_)
        refine G_aload_n (pc := 32) (i := 0) hC dX3_merge_32 rfl rfl ?_
        refine G_aload_n (pc := 33) (i := 0) hC dX3_merge_33 rfl rfl ?_
        refine G_iload_n (pc := 34) (i := 1) hC dX3_merge_34 rfl rfl ?_
        refine G_aload_n (pc := 35) (i := 0) hC dX3_merge_35 rfl rfl ?_
        refine G_getF (pc := 36) (ci := 2) (C := RX3) (T := TX3) (N := 61) (f := 39) hC rfl in_X3 (Nat.le_of_ble_eq_true rfl) q3413 (fun _ h => h) dX3_merge_36 hw (fun x8 hw => ?_)
        obtain ⟨hb, hw⟩ := hw
        refine G_callV (pc := 39) (n := 2) (C := "MergeWorkbenchModel") (b := a0) (As := [.int p1, va_rf x8]) (rest := [va_rf (some a0)]) hC (m_X3_takes hJ hw) (lw_V q3648 q3650 qs61 q108 q3651) hd_X3_takes (by decide) (rcv (C := RX3) (T := TX3) (N := 61) hC hb rfl) rfl rfl (st_c (cat_r cat_e) (Nat.le_of_ble_eq_true rfl)) dX3_merge_39 (kI fun x10 M9 hw => ?_)
        refine G_put (pc := 42) (ci := 2) (C := RX3) (T := TX3) (N := 61) (f := 40) tyX3 hC rfl in_X3 tyX3_ok nmX3 (Nat.le_of_ble_eq_true rfl) q3414 (fun _ h => h) rfl rfl rfl dX3_merge_42 hw (fun M11 hw => ?_)
        refine G_aload_n (pc := 45) (i := 0) hC dX3_merge_45 rfl rfl ?_
        refine G_aload_n (pc := 46) (i := 0) hC dX3_merge_46 rfl rfl ?_
        refine G_iload_n (pc := 47) (i := 2) hC dX3_merge_47 rfl rfl ?_
        refine G_aload_n (pc := 48) (i := 0) hC dX3_merge_48 rfl rfl ?_
        refine G_getF (pc := 49) (ci := 2) (C := RX3) (T := TX3) (N := 61) (f := 41) hC rfl in_X3 (Nat.le_of_ble_eq_true rfl) q3415 (fun _ h => h) dX3_merge_49 hw (fun x12 hw => ?_)
        obtain ⟨hb, hw⟩ := hw
        refine G_callV (pc := 52) (n := 2) (C := "MergeWorkbenchModel") (b := a0) (As := [.int p2, va_rf x12]) (rest := [va_rf (some a0)]) hC (m_X3_takes hJ hw) (lw_V q3648 q3650 qs61 q108 q3651) hd_X3_takes (by decide) (rcv (C := RX3) (T := TX3) (N := 61) hC hb rfl) rfl rfl (st_c (cat_r cat_e) (Nat.le_of_ble_eq_true rfl)) dX3_merge_52 (kI fun x14 M13 hw => ?_)
        refine G_put (pc := 55) (ci := 2) (C := RX3) (T := TX3) (N := 61) (f := 42) tyX3 hC rfl in_X3 tyX3_ok nmX3 (Nat.le_of_ble_eq_true rfl) q3416 (fun _ h => h) rfl rfl rfl dX3_merge_55 hw (fun M15 hw => ?_)
        refine G_aload_n (pc := 58) (i := 0) hC dX3_merge_58 rfl rfl ?_
        refine G_aload_n (pc := 59) (i := 0) hC dX3_merge_59 rfl rfl ?_
        refine G_iload_n (pc := 60) (i := 3) hC dX3_merge_60 rfl rfl ?_
        refine G_aload_n (pc := 61) (i := 0) hC dX3_merge_61 rfl rfl ?_
        refine G_getF (pc := 62) (ci := 2) (C := RX3) (T := TX3) (N := 61) (f := 43) hC rfl in_X3 (Nat.le_of_ble_eq_true rfl) q3417 (fun _ h => h) dX3_merge_62 hw (fun x16 hw => ?_)
        obtain ⟨hb, hw⟩ := hw
        refine G_callV (pc := 65) (n := 2) (C := "MergeWorkbenchModel") (b := a0) (As := [.int p3, va_rf x16]) (rest := [va_rf (some a0)]) hC (m_X3_takes hJ hw) (lw_V q3648 q3650 qs61 q108 q3651) hd_X3_takes (by decide) (rcv (C := RX3) (T := TX3) (N := 61) hC hb rfl) rfl rfl (st_c (cat_r cat_e) (Nat.le_of_ble_eq_true rfl)) dX3_merge_65 (kI fun x18 M17 hw => ?_)
        refine G_put (pc := 68) (ci := 2) (C := RX3) (T := TX3) (N := 61) (f := 44) tyX3 hC rfl in_X3 tyX3_ok nmX3 (Nat.le_of_ble_eq_true rfl) q3418 (fun _ h => h) rfl rfl rfl dX3_merge_68 hw (fun M19 hw => ?_)
        refine G_aload_n (pc := 71) (i := 0) hC dX3_merge_71 rfl rfl ?_
        refine G_aload_n (pc := 72) (i := 0) hC dX3_merge_72 rfl rfl ?_
        refine G_getF (pc := 73) (ci := 2) (C := RX3) (T := TX3) (N := 61) (f := 39) hC rfl in_X3 (Nat.le_of_ble_eq_true rfl) q3413 (fun _ h => h) dX3_merge_73 hw (fun x20 hw => ?_)
        refine G_aload_n (pc := 76) (i := 0) hC dX3_merge_76 rfl rfl ?_
        refine G_getI (pc := 77) (ci := 2) (C := RX3) (T := TX3) (N := 61) (f := 40) hC rfl in_X3 (Nat.le_of_ble_eq_true rfl) q3414 (fun _ h => h) dX3_merge_77 hw (fun x21 hw => ?_)
        refine G_aload_n (pc := 80) (i := 0) hC dX3_merge_80 rfl rfl ?_
        refine G_getF (pc := 81) (ci := 2) (C := RX3) (T := TX3) (N := 61) (f := 41) hC rfl in_X3 (Nat.le_of_ble_eq_true rfl) q3415 (fun _ h => h) dX3_merge_81 hw (fun x22 hw => ?_)
        refine G_aload_n (pc := 84) (i := 0) hC dX3_merge_84 rfl rfl ?_
        refine G_getI (pc := 85) (ci := 2) (C := RX3) (T := TX3) (N := 61) (f := 42) hC rfl in_X3 (Nat.le_of_ble_eq_true rfl) q3416 (fun _ h => h) dX3_merge_85 hw (fun x23 hw => ?_)
        refine G_aload_n (pc := 88) (i := 0) hC dX3_merge_88 rfl rfl ?_
        refine G_getF (pc := 89) (ci := 2) (C := RX3) (T := TX3) (N := 61) (f := 45) hC rfl in_X3 (Nat.le_of_ble_eq_true rfl) q3419 (fun _ h => h) dX3_merge_89 hw (fun x24 hw => ?_)
        obtain ⟨hb, hw⟩ := hw
        refine G_callV (pc := 92) (n := 5) (C := "MergeWorkbenchModel") (b := a0) (As := [va_rf x20, .int x21, va_rf x22, .int x23, va_rf x24]) (rest := []) hC (m_X3_aligns hJ hw) (lw_V q3671 q3673 qs64 q108 q3674) hd_X3_aligns (by decide) (rcv (C := RX3) (T := TX3) (N := 61) hC hb rfl) rfl rfl (st_c cat_e (Nat.le_of_ble_eq_true rfl)) dX3_merge_92 (kU fun M25 hw => ?_)
        refine G_aload_n (pc := 95) (i := 0) hC dX3_merge_95 rfl rfl ?_
        refine G_aload_n (pc := 96) (i := 0) hC dX3_merge_96 rfl rfl ?_
        refine G_getF (pc := 97) (ci := 2) (C := RX3) (T := TX3) (N := 61) (f := 39) hC rfl in_X3 (Nat.le_of_ble_eq_true rfl) q3413 (fun _ h => h) dX3_merge_97 hw (fun x26 hw => ?_)
        refine G_aload_n (pc := 100) (i := 0) hC dX3_merge_100 rfl rfl ?_
        refine G_getI (pc := 101) (ci := 2) (C := RX3) (T := TX3) (N := 61) (f := 40) hC rfl in_X3 (Nat.le_of_ble_eq_true rfl) q3414 (fun _ h => h) dX3_merge_101 hw (fun x27 hw => ?_)
        refine G_aload_n (pc := 104) (i := 0) hC dX3_merge_104 rfl rfl ?_
        refine G_getF (pc := 105) (ci := 2) (C := RX3) (T := TX3) (N := 61) (f := 43) hC rfl in_X3 (Nat.le_of_ble_eq_true rfl) q3417 (fun _ h => h) dX3_merge_105 hw (fun x28 hw => ?_)
        refine G_aload_n (pc := 108) (i := 0) hC dX3_merge_108 rfl rfl ?_
        refine G_getI (pc := 109) (ci := 2) (C := RX3) (T := TX3) (N := 61) (f := 44) hC rfl in_X3 (Nat.le_of_ble_eq_true rfl) q3418 (fun _ h => h) dX3_merge_109 hw (fun x29 hw => ?_)
        refine G_aload_n (pc := 112) (i := 0) hC dX3_merge_112 rfl rfl ?_
        refine G_getF (pc := 113) (ci := 2) (C := RX3) (T := TX3) (N := 61) (f := 46) hC rfl in_X3 (Nat.le_of_ble_eq_true rfl) q3420 (fun _ h => h) dX3_merge_113 hw (fun x30 hw => ?_)
        obtain ⟨hb, hw⟩ := hw
        refine G_callV (pc := 116) (n := 5) (C := "MergeWorkbenchModel") (b := a0) (As := [va_rf x26, .int x27, va_rf x28, .int x29, va_rf x30]) (rest := []) hC (m_X3_aligns hJ hw) (lw_V q3671 q3673 qs64 q108 q3674) hd_X3_aligns (by decide) (rcv (C := RX3) (T := TX3) (N := 61) hC hb rfl) rfl rfl (st_c cat_e (Nat.le_of_ble_eq_true rfl)) dX3_merge_116 (kU fun M31 hw => ?_)
        refine G_aload_n (pc := 119) (i := 0) hC dX3_merge_119 rfl rfl ?_
        refine G_iconst (pc := 120) (v := 0) hC dX3_merge_120 (by decide) ?_
        refine G_put (pc := 121) (ci := 2) (C := RX3) (T := TX3) (N := 61) (f := 48) tyX3 hC rfl in_X3 tyX3_ok nmX3 (Nat.le_of_ble_eq_true rfl) q3422 (fun _ h => h) rfl rfl rfl dX3_merge_121 hw (fun M32 hw => ?_)
        refine G_aload_n (pc := 124) (i := 0) hC dX3_merge_124 rfl rfl ?_
        refine G_iconst (pc := 125) (v := 0) hC dX3_merge_125 (by decide) ?_
        refine G_put (pc := 126) (ci := 2) (C := RX3) (T := TX3) (N := 61) (f := 50) tyX3 hC rfl in_X3 tyX3_ok nmX3 (Nat.le_of_ble_eq_true rfl) q3424 (fun _ h => h) rfl rfl rfl dX3_merge_126 hw (fun M33 hw => ?_)
        refine G_iconst (pc := 129) (v := 0) hC dX3_merge_129 (by decide) ?_
        refine G_istore (pc := 130) (i := 4) (lw := [some (va_rf (some a0)), some (.int p1), some (.int p2), some (.int p3), some (.int (0 : Int32)), none, none, none, none, none, none, none, none]) hC dX3_merge_130 (Nat.le_of_ble_eq_true rfl) rfl ?_
        refine G_iconst (pc := 132) (v := 0) hC dX3_merge_132 (by decide) ?_
        refine G_istore (pc := 133) (i := 5) (lw := [some (va_rf (some a0)), some (.int p1), some (.int p2), some (.int p3), some (.int (0 : Int32)), some (.int (0 : Int32)), none, none, none, none, none, none, none]) hC dX3_merge_133 (Nat.le_of_ble_eq_true rfl) rfl ?_
        refine G_iconst (pc := 135) (v := 0) hC dX3_merge_135 (by decide) ?_
        refine G_istore (pc := 136) (i := 6) (lw := [some (va_rf (some a0)), some (.int p1), some (.int p2), some (.int p3), some (.int (0 : Int32)), some (.int (0 : Int32)), some (.int (0 : Int32)), none, none, none, none, none, none]) hC dX3_merge_136 (Nat.le_of_ble_eq_true rfl) rfl ?_
        refine G_iconst (pc := 138) (v := 0) hC dX3_merge_138 (by decide) ?_
        refine G_istore (pc := 139) (i := 7) (lw := [some (va_rf (some a0)), some (.int p1), some (.int p2), some (.int p3), some (.int (0 : Int32)), some (.int (0 : Int32)), some (.int (0 : Int32)), some (.int (0 : Int32)), none, none, none, none, none]) hC dX3_merge_139 (Nat.le_of_ble_eq_true rfl) rfl ?_
        refine G_iconst (pc := 141) (v := 0) hC dX3_merge_141 (by decide) ?_
        refine G_istore (pc := 142) (i := 8) (lw := [some (va_rf (some a0)), some (.int p1), some (.int p2), some (.int p3), some (.int (0 : Int32)), some (.int (0 : Int32)), some (.int (0 : Int32)), some (.int (0 : Int32)), some (.int (0 : Int32)), none, none, none, none]) hC dX3_merge_142 (Nat.le_of_ble_eq_true rfl) rfl ?_
        exact g_X3_merge_144 hJ hC hQ hin _ (0 : Int32) (0 : Int32) (0 : Int32) (0 : Int32) (0 : Int32) M33 hw
      · replace hw := hw.2 hc
        exact g_X3_merge_21 hJ hC hQ hin   M5 hw
def w_X3_chunks_23 (g : gT) (F : Nat) (a0 : Nat) (Q : Int32 → hM → Prop) (s0 : Int32) (M : hM) : Prop :=
  Q s0 M
def w_X3_chunks (g : gT) (F : Nat) (a0 : Nat) (M : hM) (Q : Int32 → hM → Prop) : Prop :=
  gI M (some a0) 2 38 fun x1 => ((x1 = 0 → (isC M a0 2 ∧ w_X3_fails g F a0 (1 : Int32) M (fun x3 M2 => w_X3_chunks_23 g F a0 Q x3 M2))) ∧ (¬ (x1 = 0) → gI M (some a0) 2 48 fun x4 => (isC M a0 2 ∧ w_X3_done g F a0 x4 M (fun x6 M5 => w_X3_chunks_23 g F a0 Q x6 M5))))
theorem g_X3_chunks_23 {k : kT} {F : Nat} {a0 : Nat} {Q : Int32 → hM → Prop} (hJ : JOK (kl k) (kg k)) (hC : CX k 1 cX3_chunks RX3 (some .int) 2 33) (hQ : isQ k (PI Q)) (hin : (kt k).name = "chunks") : ∀ (s0 : Int32) (M : hM), w_X3_chunks_23 (kg k) F a0 Q s0 M → GW k 1 M 23 [some (va_rf (some a0))] [.int s0] := by
  intro s0 M hw
  exact G_iret (pc := 23) hC rfl hQ dX3_chunks_23 hw
theorem m_X3_chunks {l : Launch} {g : gT} {F : Nat} {a0 : Nat} {M : hM} {Q : Int32 → hM → Prop} (hJ : JOK l g) (hw : w_X3_chunks g F a0 M Q) : MG l g yX3_chunks (ws_ yX3_chunks cX3_chunks 1 (some .int)) 2 33 [va_rf (some a0)] M (PI Q) := by
  refine MG_of hJ.2.1 (by decide) (cat_r cat_e) (Nat.le_of_ble_eq_true rfl) (fun k hl hg hin hQ hC => ?_)
  subst hl hg
  show GW k 1 M 0 [some (va_rf (some a0))] []
  refine G_aload_n (pc := 0) (i := 0) hC dX3_chunks_0 rfl rfl ?_
  refine G_getI (pc := 1) (ci := 2) (C := RX3) (T := TX3) (N := 61) (f := 38) hC rfl in_X3 (Nat.le_of_ble_eq_true rfl) q3412 (fun _ h => h) dX3_chunks_1 hw (fun x1 hw => ?_)
  refine G_if_eq (pc := 4) (tgt := 18) hC dX3_chunks_4 (by decide) (fun hc => ?_) (fun hc => ?_)
  · replace hw := hw.1 hc
    refine G_aload_n (pc := 18) (i := 0) hC dX3_chunks_18 rfl rfl ?_
    refine G_iconst (pc := 19) (v := 1) hC dX3_chunks_19 (by decide) ?_
    obtain ⟨hb, hw⟩ := hw
    refine G_callV (pc := 20) (n := 1) (C := "MergeWorkbenchModel") (b := a0) (As := [.int (1 : Int32)]) (rest := []) hC (m_X3_fails hJ hw) (lw_V q3573 q3575 qs52 q108 q3576) hd_X3_fails (by decide) (rcv (C := RX3) (T := TX3) (N := 61) hC hb rfl) rfl rfl (st_c cat_e (Nat.le_of_ble_eq_true rfl)) dX3_chunks_20 (kI fun x3 M2 hw => ?_)
    exact g_X3_chunks_23 hJ hC hQ hin  x3 M2 hw
  · replace hw := hw.2 hc
    refine G_aload_n (pc := 7) (i := 0) hC dX3_chunks_7 rfl rfl ?_
    refine G_aload_n (pc := 8) (i := 0) hC dX3_chunks_8 rfl rfl ?_
    refine G_getI (pc := 9) (ci := 2) (C := RX3) (T := TX3) (N := 61) (f := 48) hC rfl in_X3 (Nat.le_of_ble_eq_true rfl) q3422 (fun _ h => h) dX3_chunks_9 hw (fun x4 hw => ?_)
    obtain ⟨hb, hw⟩ := hw
    refine G_callV (pc := 12) (n := 1) (C := "MergeWorkbenchModel") (b := a0) (As := [.int x4]) (rest := []) hC (m_X3_done hJ hw) (lw_V q3581 q3583 qs54 q108 q3584) hd_X3_done (by decide) (rcv (C := RX3) (T := TX3) (N := 61) hC hb rfl) rfl rfl (st_c cat_e (Nat.le_of_ble_eq_true rfl)) dX3_chunks_12 (kI fun x6 M5 hw => ?_)
    refine G_goto (pc := 15) (tgt := 23) hC dX3_chunks_15 (by decide) ?_
    exact g_X3_chunks_23 hJ hC hQ hin  x6 M5 hw
def w_X3_chunk_66 (g : gT) (F : Nat) (a0 : Nat) (p1 : Int32) (p2 : Int32) (Q : Int32 → hM → Prop) (s0 : Int32) (M : hM) : Prop :=
  Q s0 M
def w_X3_chunk (g : gT) (F : Nat) (a0 : Nat) (p1 : Int32) (p2 : Int32) (M : hM) (Q : Int32 → hM → Prop) : Prop :=
  gI M (some a0) 2 38 fun x1 => ((¬ x1 = 0 → gI M (some a0) 2 48 fun x2 => w_X3_in g F p1 (0 : Int32) (x2 - (1 : Int32)) M (fun x4 M3 => ((¬ x4 = 0 → w_X3_in g F p2 (0 : Int32) (6 : Int32) M3 (fun x6 M5 => ((x6 = 0 → (isC M5 a0 2 ∧ w_X3_fails g F a0 (3 : Int32) M5 (fun x8 M7 => w_X3_chunk_66 g F a0 p1 p2 Q x8 M7))) ∧ (¬ (x6 = 0) → gF M5 (some a0) 2 47 fun x9 => aI M5 x9 0 (((7 : Int32) * p1) + p2) fun x10 => (isC M5 a0 2 ∧ w_X3_done g F a0 x10 M5 (fun x12 M11 => w_X3_chunk_66 g F a0 p1 p2 Q x12 M11)))))) ∧ (x4 = 0 → (isC M3 a0 2 ∧ w_X3_fails g F a0 (2 : Int32) M3 (fun x14 M13 => Q x14 M13)))))) ∧ (x1 = 0 → (isC M a0 2 ∧ w_X3_fails g F a0 (1 : Int32) M (fun x16 M15 => Q x16 M15))))
theorem g_X3_chunk_66 {k : kT} {F : Nat} {a0 : Nat} {p1 : Int32} {p2 : Int32} {Q : Int32 → hM → Prop} (hJ : JOK (kl k) (kg k)) (hC : CX k 3 cX3_chunk RX3 (some .int) 2 34) (hQ : isQ k (PI Q)) (hin : (kt k).name = "chunk") : ∀ (s0 : Int32) (M : hM), w_X3_chunk_66 (kg k) F a0 p1 p2 Q s0 M → GW k 3 M 66 [some (va_rf (some a0)), some (.int p1), some (.int p2)] [.int s0] := by
  intro s0 M hw
  exact G_iret (pc := 66) hC rfl hQ dX3_chunk_66 hw
theorem m_X3_chunk {l : Launch} {g : gT} {F : Nat} {a0 : Nat} {p1 : Int32} {p2 : Int32} {M : hM} {Q : Int32 → hM → Prop} (hJ : JOK l g) (hw : w_X3_chunk g F a0 p1 p2 M Q) : MG l g yX3_chunk (ws_ yX3_chunk cX3_chunk 3 (some .int)) 2 34 [va_rf (some a0), .int p1, .int p2] M (PI Q) := by
  refine MG_of hJ.2.1 (by decide) (cat_r (cat_i (cat_i cat_e))) (Nat.le_of_ble_eq_true rfl) (fun k hl hg hin hQ hC => ?_)
  subst hl hg
  show GW k 3 M 0 [some (va_rf (some a0)), some (.int p1), some (.int p2)] []
  refine G_aload_n (pc := 0) (i := 0) hC dX3_chunk_0 rfl rfl ?_
  refine G_getI (pc := 1) (ci := 2) (C := RX3) (T := TX3) (N := 61) (f := 38) hC rfl in_X3 (Nat.le_of_ble_eq_true rfl) q3412 (fun _ h => h) dX3_chunk_1 hw (fun x1 hw => ?_)
  refine G_if_ne (pc := 4) (tgt := 13) hC dX3_chunk_4 (by decide) (fun hc => ?_) (fun hc => ?_)
  · replace hw := hw.1 hc
    refine G_iload_n (pc := 13) (i := 1) hC dX3_chunk_13 rfl rfl ?_
    refine G_iconst (pc := 14) (v := 0) hC dX3_chunk_14 (by decide) ?_
    refine G_aload_n (pc := 15) (i := 0) hC dX3_chunk_15 rfl rfl ?_
    refine G_getI (pc := 16) (ci := 2) (C := RX3) (T := TX3) (N := 61) (f := 48) hC rfl in_X3 (Nat.le_of_ble_eq_true rfl) q3422 (fun _ h => h) dX3_chunk_16 hw (fun x2 hw => ?_)
    refine G_iconst (pc := 19) (v := 1) hC dX3_chunk_19 (by decide) ?_
    refine G_isub (pc := 20) hC dX3_chunk_20 ?_
    refine G_callS (pc := 21) (n := 3) (As := [.int p1, .int (0 : Int32), .int (x2 - (1 : Int32))]) (rest := []) hC (m_X3_in hJ hw) (lw_S q3570 q3571 q108 q3572) hd_X3_in.2 (by decide) rfl rfl (st_c cat_e (Nat.le_of_ble_eq_true rfl)) dX3_chunk_21 (kI fun x4 M3 hw => ?_)
    refine G_if_ne (pc := 24) (tgt := 33) hC dX3_chunk_24 (by decide) (fun hc => ?_) (fun hc => ?_)
    · replace hw := hw.1 hc
      refine G_iload_n (pc := 33) (i := 2) hC dX3_chunk_33 rfl rfl ?_
      refine G_iconst (pc := 34) (v := 0) hC dX3_chunk_34 (by decide) ?_
      refine G_bipush (pc := 35) (v := 6) hC dX3_chunk_35 (by decide) ?_
      refine G_callS (pc := 37) (n := 3) (As := [.int p2, .int (0 : Int32), .int (6 : Int32)]) (rest := []) hC (m_X3_in hJ hw) (lw_S q3570 q3571 q108 q3572) hd_X3_in.2 (by decide) rfl rfl (st_c cat_e (Nat.le_of_ble_eq_true rfl)) dX3_chunk_37 (kI fun x6 M5 hw => ?_)
      refine G_if_eq (pc := 40) (tgt := 61) hC dX3_chunk_40 (by decide) (fun hc => ?_) (fun hc => ?_)
      · replace hw := hw.1 hc
        refine G_aload_n (pc := 61) (i := 0) hC dX3_chunk_61 rfl rfl ?_
        refine G_iconst (pc := 62) (v := 3) hC dX3_chunk_62 (by decide) ?_
        obtain ⟨hb, hw⟩ := hw
        refine G_callV (pc := 63) (n := 1) (C := "MergeWorkbenchModel") (b := a0) (As := [.int (3 : Int32)]) (rest := []) hC (m_X3_fails hJ hw) (lw_V q3573 q3575 qs52 q108 q3576) hd_X3_fails (by decide) (rcv (C := RX3) (T := TX3) (N := 61) hC hb rfl) rfl rfl (st_c cat_e (Nat.le_of_ble_eq_true rfl)) dX3_chunk_63 (kI fun x8 M7 hw => ?_)
        exact g_X3_chunk_66 hJ hC hQ hin  x8 M7 hw
      · replace hw := hw.2 hc
        refine G_aload_n (pc := 43) (i := 0) hC dX3_chunk_43 rfl rfl ?_
        refine G_aload_n (pc := 44) (i := 0) hC dX3_chunk_44 rfl rfl ?_
        refine G_getF (pc := 45) (ci := 2) (C := RX3) (T := TX3) (N := 61) (f := 47) hC rfl in_X3 (Nat.le_of_ble_eq_true rfl) q3421 (fun _ h => h) dX3_chunk_45 hw (fun x9 hw => ?_)
        refine G_bipush (pc := 48) (v := 7) hC dX3_chunk_48 (by decide) ?_
        refine G_iload_n (pc := 50) (i := 1) hC dX3_chunk_50 rfl rfl ?_
        refine G_imul (pc := 51) hC dX3_chunk_51 ?_
        refine G_iload_n (pc := 52) (i := 2) hC dX3_chunk_52 rfl rfl ?_
        refine G_iadd (pc := 53) hC dX3_chunk_53 ?_
        refine G_iald (pc := 54) hC dX3_chunk_54 hw (fun x10 hw => ?_)
        obtain ⟨hb, hw⟩ := hw
        refine G_callV (pc := 55) (n := 1) (C := "MergeWorkbenchModel") (b := a0) (As := [.int x10]) (rest := []) hC (m_X3_done hJ hw) (lw_V q3581 q3583 qs54 q108 q3584) hd_X3_done (by decide) (rcv (C := RX3) (T := TX3) (N := 61) hC hb rfl) rfl rfl (st_c cat_e (Nat.le_of_ble_eq_true rfl)) dX3_chunk_55 (kI fun x12 M11 hw => ?_)
        refine G_goto (pc := 58) (tgt := 66) hC dX3_chunk_58 (by decide) ?_
        exact g_X3_chunk_66 hJ hC hQ hin  x12 M11 hw
    · replace hw := hw.2 hc
      refine G_aload_n (pc := 27) (i := 0) hC dX3_chunk_27 rfl rfl ?_
      refine G_iconst (pc := 28) (v := 2) hC dX3_chunk_28 (by decide) ?_
      obtain ⟨hb, hw⟩ := hw
      refine G_callV (pc := 29) (n := 1) (C := "MergeWorkbenchModel") (b := a0) (As := [.int (2 : Int32)]) (rest := []) hC (m_X3_fails hJ hw) (lw_V q3573 q3575 qs52 q108 q3576) hd_X3_fails (by decide) (rcv (C := RX3) (T := TX3) (N := 61) hC hb rfl) rfl rfl (st_c cat_e (Nat.le_of_ble_eq_true rfl)) dX3_chunk_29 (kI fun x14 M13 hw => ?_)
      exact G_iret (pc := 32) hC rfl hQ dX3_chunk_32 hw
  · replace hw := hw.2 hc
    refine G_aload_n (pc := 7) (i := 0) hC dX3_chunk_7 rfl rfl ?_
    refine G_iconst (pc := 8) (v := 1) hC dX3_chunk_8 (by decide) ?_
    obtain ⟨hb, hw⟩ := hw
    refine G_callV (pc := 9) (n := 1) (C := "MergeWorkbenchModel") (b := a0) (As := [.int (1 : Int32)]) (rest := []) hC (m_X3_fails hJ hw) (lw_V q3573 q3575 qs52 q108 q3576) hd_X3_fails (by decide) (rcv (C := RX3) (T := TX3) (N := 61) hC hb rfl) rfl rfl (st_c cat_e (Nat.le_of_ble_eq_true rfl)) dX3_chunk_9 (kI fun x16 M15 hw => ?_)
    exact G_iret (pc := 12) hC rfl hQ dX3_chunk_12 hw
def w_X3_mark (g : gT) (F : Nat) (a0 : Nat) (p1 : Int32) (M : hM) (Q : hM → Prop) : Prop :=
  gF M (some a0) 2 15 fun x1 => gI M (some a0) 2 18 fun x2 => sI M x1 0 x2 p1 fun M3 => gI M3 (some a0) 2 18 fun x4 => pV M3 (some a0) 2 18 (.int (x4 + (1 : Int32))) fun M5 => Q M5
theorem m_X3_mark {l : Launch} {g : gT} {F : Nat} {a0 : Nat} {p1 : Int32} {M : hM} {Q : hM → Prop} (hJ : JOK l g) (hw : w_X3_mark g F a0 p1 M Q) : MG l g yX3_mark (ws_ yX3_mark cX3_mark 2 none) 1 12 [va_rf (some a0), .int p1] M (PU Q) := by
  refine MG_of hJ.2.1 (by decide) (cat_r (cat_i cat_e)) (Nat.le_of_ble_eq_true rfl) (fun k hl hg hin hQ hC => ?_)
  subst hl hg
  show GW k 2 M 0 [some (va_rf (some a0)), some (.int p1)] []
  refine G_aload_n (pc := 0) (i := 0) hC dX3_mark_0 rfl rfl ?_
  refine G_getF (pc := 1) (ci := 2) (C := RX3) (T := TX3) (N := 61) (f := 15) hC rfl in_X3 (Nat.le_of_ble_eq_true rfl) q3389 (fun _ h => h) dX3_mark_1 hw (fun x1 hw => ?_)
  refine G_aload_n (pc := 4) (i := 0) hC dX3_mark_4 rfl rfl ?_
  refine G_getI (pc := 5) (ci := 2) (C := RX3) (T := TX3) (N := 61) (f := 18) hC rfl in_X3 (Nat.le_of_ble_eq_true rfl) q3392 (fun _ h => h) dX3_mark_5 hw (fun x2 hw => ?_)
  refine G_iload_n (pc := 8) (i := 1) hC dX3_mark_8 rfl rfl ?_
  refine G_iast (pc := 9) hC dX3_mark_9 hw (fun M3 hw => ?_)
  refine G_aload_n (pc := 10) (i := 0) hC dX3_mark_10 rfl rfl ?_
  refine G_dup (pc := 11) hC dX3_mark_11 (rf_cat _) ?_
  refine G_getI (pc := 12) (ci := 2) (C := RX3) (T := TX3) (N := 61) (f := 18) hC rfl in_X3 (Nat.le_of_ble_eq_true rfl) q3392 (fun _ h => h) dX3_mark_12 hw (fun x4 hw => ?_)
  refine G_iconst (pc := 15) (v := 1) hC dX3_mark_15 (by decide) ?_
  refine G_iadd (pc := 16) hC dX3_mark_16 ?_
  refine G_put (pc := 17) (ci := 2) (C := RX3) (T := TX3) (N := 61) (f := 18) tyX3 hC rfl in_X3 tyX3_ok nmX3 (Nat.le_of_ble_eq_true rfl) q3392 (fun _ h => h) rfl rfl rfl dX3_mark_17 hw (fun M5 hw => ?_)
  exact G_ret (pc := 20) hC hQ dX3_mark_20 hw
def w_X3_goesOut_3 (g : gT) (F : Nat) (a0 : Nat) (p1 : Option Nat) (p2 : Int32) (p3 : Int32) (Q : hM → Prop) : Nat → Int32 → hM → Prop
  | 0, _, _ => False
  | n + 1, v4, M => ((p3 ≤ v4 → Q M) ∧ (¬ (p3 ≤ v4) → gF M (some a0) 2 15 fun x1 => gI M (some a0) 2 18 fun x2 => aI M p1 0 v4 fun x3 => sI M x1 0 x2 x3 fun M4 => gI M4 (some a0) 2 18 fun x5 => pV M4 (some a0) 2 18 (.int (x5 + (1 : Int32))) fun M6 => w_X3_goesOut_3 g F a0 p1 p2 p3 Q n (v4 + (1 : Int32)) M6))
def w_X3_goesOut (g : gT) (F : Nat) (a0 : Nat) (p1 : Option Nat) (p2 : Int32) (p3 : Int32) (M : hM) (Q : hM → Prop) : Prop :=
  w_X3_goesOut_3 g F a0 p1 p2 p3 Q F p2 M
theorem g_X3_goesOut_3 {k : kT} {F : Nat} {a0 : Nat} {p1 : Option Nat} {p2 : Int32} {p3 : Int32} {Q : hM → Prop} (hJ : JOK (kl k) (kg k)) (hC : CX k 5 cX3_goesOut RX3 none 1 12) (hQ : isQ k (PU Q)) (hin : (kt k).name = "goesOut") : ∀ (n : Nat) (v4 : Int32) (M : hM), w_X3_goesOut_3 (kg k) F a0 p1 p2 p3 Q n v4 M → GW k 5 M 3 [some (va_rf (some a0)), some (va_rf p1), some (.int p2), some (.int p3), some (.int v4)] [] := by
  intro n
  induction n with
  | zero =>
    intro v4 M hw
    exact hw.elim
  | succ n ih =>
    intro v4 M hw
    refine G_iload (pc := 3) (i := 4) hC dX3_goesOut_3 rfl ?_
    refine G_iload_n (pc := 5) (i := 3) hC dX3_goesOut_5 rfl rfl ?_
    refine G_icmp_ge (pc := 6) (tgt := 38) hC dX3_goesOut_6 (by decide) (fun hc => ?_) (fun hc => ?_)
    · replace hw := hw.1 hc
      exact G_ret (pc := 38) hC hQ dX3_goesOut_38 hw
    · replace hw := hw.2 hc
      refine G_aload_n (pc := 9) (i := 0) hC dX3_goesOut_9 rfl rfl ?_
      refine G_getF (pc := 10) (ci := 2) (C := RX3) (T := TX3) (N := 61) (f := 15) hC rfl in_X3 (Nat.le_of_ble_eq_true rfl) q3389 (fun _ h => h) dX3_goesOut_10 hw (fun x1 hw => ?_)
      refine G_aload_n (pc := 13) (i := 0) hC dX3_goesOut_13 rfl rfl ?_
      refine G_getI (pc := 14) (ci := 2) (C := RX3) (T := TX3) (N := 61) (f := 18) hC rfl in_X3 (Nat.le_of_ble_eq_true rfl) q3392 (fun _ h => h) dX3_goesOut_14 hw (fun x2 hw => ?_)
      refine G_aload_n (pc := 17) (i := 1) hC dX3_goesOut_17 rfl rfl ?_
      refine G_iload (pc := 18) (i := 4) hC dX3_goesOut_18 rfl ?_
      refine G_iald (pc := 20) hC dX3_goesOut_20 hw (fun x3 hw => ?_)
      refine G_iast (pc := 21) hC dX3_goesOut_21 hw (fun M4 hw => ?_)
      refine G_aload_n (pc := 22) (i := 0) hC dX3_goesOut_22 rfl rfl ?_
      refine G_dup (pc := 23) hC dX3_goesOut_23 (rf_cat _) ?_
      refine G_getI (pc := 24) (ci := 2) (C := RX3) (T := TX3) (N := 61) (f := 18) hC rfl in_X3 (Nat.le_of_ble_eq_true rfl) q3392 (fun _ h => h) dX3_goesOut_24 hw (fun x5 hw => ?_)
      refine G_iconst (pc := 27) (v := 1) hC dX3_goesOut_27 (by decide) ?_
      refine G_iadd (pc := 28) hC dX3_goesOut_28 ?_
      refine G_put (pc := 29) (ci := 2) (C := RX3) (T := TX3) (N := 61) (f := 18) tyX3 hC rfl in_X3 tyX3_ok nmX3 (Nat.le_of_ble_eq_true rfl) q3392 (fun _ h => h) rfl rfl rfl dX3_goesOut_29 hw (fun M6 hw => ?_)
      refine G_iinc (pc := 32) (i := 4) (v := (v4 + (1 : Int32))) (lw := [some (va_rf (some a0)), some (va_rf p1), some (.int p2), some (.int p3), some (.int (v4 + (1 : Int32)))]) hC dX3_goesOut_32 rfl (Nat.le_of_ble_eq_true rfl) rfl rfl ?_
      refine G_goto (pc := 35) (tgt := 3) hC dX3_goesOut_35 (by decide) ?_
      exact ih (v4 + (1 : Int32)) M6 hw
theorem m_X3_goesOut {l : Launch} {g : gT} {F : Nat} {a0 : Nat} {p1 : Option Nat} {p2 : Int32} {p3 : Int32} {M : hM} {Q : hM → Prop} (hJ : JOK l g) (hw : w_X3_goesOut g F a0 p1 p2 p3 M Q) : MG l g yX3_goesOut (ws_ yX3_goesOut cX3_goesOut 5 none) 1 12 [va_rf (some a0), va_rf p1, .int p2, .int p3] M (PU Q) := by
  refine MG_of hJ.2.1 (by decide) (cat_r (cat_r (cat_i (cat_i cat_e)))) (Nat.le_of_ble_eq_true rfl) (fun k hl hg hin hQ hC => ?_)
  subst hl hg
  show GW k 5 M 0 [some (va_rf (some a0)), some (va_rf p1), some (.int p2), some (.int p3), none] []
  refine G_iload_n (pc := 0) (i := 2) hC dX3_goesOut_0 rfl rfl ?_
  refine G_istore (pc := 1) (i := 4) (lw := [some (va_rf (some a0)), some (va_rf p1), some (.int p2), some (.int p3), some (.int p2)]) hC dX3_goesOut_1 (Nat.le_of_ble_eq_true rfl) rfl ?_
  exact g_X3_goesOut_3 hJ hC hQ hin _ p2 M hw
theorem hd_X3_goesOut : yX3_goesOut.cls = "MergeWorkbenchModel" ∧ yX3_goesOut.cls ≠ "java/lang/invoke/MethodHandle" ∧ yX3_goesOut.cls ≠ "java/lang/invoke/VarHandle" ∧ (parseMethodDescriptor yX3_goesOut.desc).map (fun d => d.parameters.length) = some 3 := by decide +kernel
theorem hd_X3_mark : yX3_mark.cls = "MergeWorkbenchModel" ∧ yX3_mark.cls ≠ "java/lang/invoke/MethodHandle" ∧ yX3_mark.cls ≠ "java/lang/invoke/VarHandle" ∧ (parseMethodDescriptor yX3_mark.desc).map (fun d => d.parameters.length) = some 1 := by decide +kernel
def w_X3_resolvedOut_173 (g : gT) (F : Nat) (a0 : Nat) (p1 : Int32) (p2 : Int32) (Q : hM → Prop) (M : hM) : Prop :=
  Q M
def w_X3_resolvedOut_162 (g : gT) (F : Nat) (a0 : Nat) (p1 : Int32) (p2 : Int32) (Q : hM → Prop) (M : hM) : Prop :=
  ((¬ p2 = (-1 : Int32) → w_X3_resolvedOut_173 g F a0 p1 p2 Q M) ∧ (p2 = (-1 : Int32) → (isC M a0 2 ∧ w_X3_mark g F a0 (-3 : Int32) M (fun M1 => w_X3_resolvedOut_173 g F a0 p1 p2 Q M1))))
def w_X3_resolvedOut_133 (g : gT) (F : Nat) (a0 : Nat) (p1 : Int32) (p2 : Int32) (Q : hM → Prop) (M : hM) : Prop :=
  ((¬ p2 = (4 : Int32) → w_X3_resolvedOut_162 g F a0 p1 p2 Q M) ∧ (p2 = (4 : Int32) → gF M (some a0) 2 39 fun x1 => gF M (some a0) 2 47 fun x2 => aI M x2 0 (p1 + (1 : Int32)) fun x3 => gF M (some a0) 2 47 fun x4 => aI M x4 0 (p1 + (2 : Int32)) fun x5 => (isC M a0 2 ∧ w_X3_goesOut g F a0 x1 x3 x5 M (fun M6 => w_X3_resolvedOut_162 g F a0 p1 p2 Q M6))))
def w_X3_resolvedOut_104 (g : gT) (F : Nat) (a0 : Nat) (p1 : Int32) (p2 : Int32) (Q : hM → Prop) (M : hM) : Prop :=
  ((¬ p2 = (3 : Int32) → w_X3_resolvedOut_133 g F a0 p1 p2 Q M) ∧ (p2 = (3 : Int32) → gF M (some a0) 2 41 fun x1 => gF M (some a0) 2 47 fun x2 => aI M x2 0 (p1 + (3 : Int32)) fun x3 => gF M (some a0) 2 47 fun x4 => aI M x4 0 (p1 + (4 : Int32)) fun x5 => (isC M a0 2 ∧ w_X3_goesOut g F a0 x1 x3 x5 M (fun M6 => w_X3_resolvedOut_133 g F a0 p1 p2 Q M6))))
def w_X3_resolvedOut_79 (g : gT) (F : Nat) (a0 : Nat) (p1 : Int32) (p2 : Int32) (Q : hM → Prop) (M : hM) : Prop :=
  gF M (some a0) 2 43 fun x1 => gF M (some a0) 2 47 fun x2 => aI M x2 0 (p1 + (5 : Int32)) fun x3 => gF M (some a0) 2 47 fun x4 => aI M x4 0 (p1 + (6 : Int32)) fun x5 => (isC M a0 2 ∧ w_X3_goesOut g F a0 x1 x3 x5 M (fun M6 => w_X3_resolvedOut_104 g F a0 p1 p2 Q M6))
def w_X3_resolvedOut_59 (g : gT) (F : Nat) (a0 : Nat) (p1 : Int32) (p2 : Int32) (Q : hM → Prop) (M : hM) : Prop :=
  ((p2 = (1 : Int32) → w_X3_resolvedOut_79 g F a0 p1 p2 Q M) ∧ (¬ (p2 = (1 : Int32)) → ((p2 = (2 : Int32) → w_X3_resolvedOut_79 g F a0 p1 p2 Q M) ∧ (¬ (p2 = (2 : Int32)) → ((p2 = (3 : Int32) → w_X3_resolvedOut_79 g F a0 p1 p2 Q M) ∧ (¬ (p2 = (3 : Int32)) → ((¬ p2 = (-1 : Int32) → w_X3_resolvedOut_104 g F a0 p1 p2 Q M) ∧ (p2 = (-1 : Int32) → w_X3_resolvedOut_79 g F a0 p1 p2 Q M))))))))
def w_X3_resolvedOut_48 (g : gT) (F : Nat) (a0 : Nat) (p1 : Int32) (p2 : Int32) (Q : hM → Prop) (M : hM) : Prop :=
  ((¬ p2 = (-1 : Int32) → w_X3_resolvedOut_59 g F a0 p1 p2 Q M) ∧ (p2 = (-1 : Int32) → (isC M a0 2 ∧ w_X3_mark g F a0 (-2 : Int32) M (fun M1 => w_X3_resolvedOut_59 g F a0 p1 p2 Q M1))))
def w_X3_resolvedOut_24 (g : gT) (F : Nat) (a0 : Nat) (p1 : Int32) (p2 : Int32) (Q : hM → Prop) (M : hM) : Prop :=
  gF M (some a0) 2 41 fun x1 => gF M (some a0) 2 47 fun x2 => aI M x2 0 (p1 + (3 : Int32)) fun x3 => gF M (some a0) 2 47 fun x4 => aI M x4 0 (p1 + (4 : Int32)) fun x5 => (isC M a0 2 ∧ w_X3_goesOut g F a0 x1 x3 x5 M (fun M6 => w_X3_resolvedOut_48 g F a0 p1 p2 Q M6))
def w_X3_resolvedOut_10 (g : gT) (F : Nat) (a0 : Nat) (p1 : Int32) (p2 : Int32) (Q : hM → Prop) (M : hM) : Prop :=
  ((p2 = 0 → w_X3_resolvedOut_24 g F a0 p1 p2 Q M) ∧ (¬ (p2 = 0) → ((p2 = (2 : Int32) → w_X3_resolvedOut_24 g F a0 p1 p2 Q M) ∧ (¬ (p2 = (2 : Int32)) → ((¬ p2 = (-1 : Int32) → w_X3_resolvedOut_48 g F a0 p1 p2 Q M) ∧ (p2 = (-1 : Int32) → w_X3_resolvedOut_24 g F a0 p1 p2 Q M))))))
def w_X3_resolvedOut (g : gT) (F : Nat) (a0 : Nat) (p1 : Int32) (p2 : Int32) (M : hM) (Q : hM → Prop) : Prop :=
  ((¬ p2 = (-1 : Int32) → w_X3_resolvedOut_10 g F a0 p1 p2 Q M) ∧ (p2 = (-1 : Int32) → (isC M a0 2 ∧ w_X3_mark g F a0 (-1 : Int32) M (fun M1 => w_X3_resolvedOut_10 g F a0 p1 p2 Q M1))))
theorem g_X3_resolvedOut_173 {k : kT} {F : Nat} {a0 : Nat} {p1 : Int32} {p2 : Int32} {Q : hM → Prop} (hJ : JOK (kl k) (kg k)) (hC : CX k 3 cX3_resolvedOut RX3 none 2 36) (hQ : isQ k (PU Q)) (hin : (kt k).name = "resolvedOut") : ∀  (M : hM), w_X3_resolvedOut_173 (kg k) F a0 p1 p2 Q  M → GW k 3 M 173 [some (va_rf (some a0)), some (.int p1), some (.int p2)] [] := by
  intro  M hw
  exact G_ret (pc := 173) hC hQ dX3_resolvedOut_173 hw
theorem g_X3_resolvedOut_162 {k : kT} {F : Nat} {a0 : Nat} {p1 : Int32} {p2 : Int32} {Q : hM → Prop} (hJ : JOK (kl k) (kg k)) (hC : CX k 3 cX3_resolvedOut RX3 none 2 36) (hQ : isQ k (PU Q)) (hin : (kt k).name = "resolvedOut") : ∀  (M : hM), w_X3_resolvedOut_162 (kg k) F a0 p1 p2 Q  M → GW k 3 M 162 [some (va_rf (some a0)), some (.int p1), some (.int p2)] [] := by
  intro  M hw
  refine G_iload_n (pc := 162) (i := 2) hC dX3_resolvedOut_162 rfl rfl ?_
  refine G_iconst (pc := 163) (v := -1) hC dX3_resolvedOut_163 (by decide) ?_
  refine G_icmp_ne (pc := 164) (tgt := 173) hC dX3_resolvedOut_164 (by decide) (fun hc => ?_) (fun hc => ?_)
  · replace hw := hw.1 hc
    exact g_X3_resolvedOut_173 hJ hC hQ hin   M hw
  · replace hw := hw.2 hc
    refine G_aload_n (pc := 167) (i := 0) hC dX3_resolvedOut_167 rfl rfl ?_
    refine G_bipush (pc := 168) (v := -3) hC dX3_resolvedOut_168 (by decide) ?_
    obtain ⟨hb, hw⟩ := hw
    refine G_callV (pc := 170) (n := 1) (C := "MergeWorkbenchModel") (b := a0) (As := [.int (-3 : Int32)]) (rest := []) hC (m_X3_mark hJ hw) (lw_V q3773 q3775 qs75 q108 q3776) hd_X3_mark (by decide) (rcv (C := RX3) (T := TX3) (N := 61) hC hb rfl) rfl rfl (st_c cat_e (Nat.le_of_ble_eq_true rfl)) dX3_resolvedOut_170 (kU fun M1 hw => ?_)
    exact g_X3_resolvedOut_173 hJ hC hQ hin   M1 hw
theorem g_X3_resolvedOut_133 {k : kT} {F : Nat} {a0 : Nat} {p1 : Int32} {p2 : Int32} {Q : hM → Prop} (hJ : JOK (kl k) (kg k)) (hC : CX k 3 cX3_resolvedOut RX3 none 2 36) (hQ : isQ k (PU Q)) (hin : (kt k).name = "resolvedOut") : ∀  (M : hM), w_X3_resolvedOut_133 (kg k) F a0 p1 p2 Q  M → GW k 3 M 133 [some (va_rf (some a0)), some (.int p1), some (.int p2)] [] := by
  intro  M hw
  refine G_iload_n (pc := 133) (i := 2) hC dX3_resolvedOut_133 rfl rfl ?_
  refine G_iconst (pc := 134) (v := 4) hC dX3_resolvedOut_134 (by decide) ?_
  refine G_icmp_ne (pc := 135) (tgt := 162) hC dX3_resolvedOut_135 (by decide) (fun hc => ?_) (fun hc => ?_)
  · replace hw := hw.1 hc
    exact g_X3_resolvedOut_162 hJ hC hQ hin   M hw
  · replace hw := hw.2 hc
    refine G_aload_n (pc := 138) (i := 0) hC dX3_resolvedOut_138 rfl rfl ?_
    refine G_aload_n (pc := 139) (i := 0) hC dX3_resolvedOut_139 rfl rfl ?_
    refine G_getF (pc := 140) (ci := 2) (C := RX3) (T := TX3) (N := 61) (f := 39) hC rfl in_X3 (Nat.le_of_ble_eq_true rfl) q3413 (fun _ h => h) dX3_resolvedOut_140 hw (fun x1 hw => ?_)
    refine G_aload_n (pc := 143) (i := 0) hC dX3_resolvedOut_143 rfl rfl ?_
    refine G_getF (pc := 144) (ci := 2) (C := RX3) (T := TX3) (N := 61) (f := 47) hC rfl in_X3 (Nat.le_of_ble_eq_true rfl) q3421 (fun _ h => h) dX3_resolvedOut_144 hw (fun x2 hw => ?_)
    refine G_iload_n (pc := 147) (i := 1) hC dX3_resolvedOut_147 rfl rfl ?_
    refine G_iconst (pc := 148) (v := 1) hC dX3_resolvedOut_148 (by decide) ?_
    refine G_iadd (pc := 149) hC dX3_resolvedOut_149 ?_
    refine G_iald (pc := 150) hC dX3_resolvedOut_150 hw (fun x3 hw => ?_)
    refine G_aload_n (pc := 151) (i := 0) hC dX3_resolvedOut_151 rfl rfl ?_
    refine G_getF (pc := 152) (ci := 2) (C := RX3) (T := TX3) (N := 61) (f := 47) hC rfl in_X3 (Nat.le_of_ble_eq_true rfl) q3421 (fun _ h => h) dX3_resolvedOut_152 hw (fun x4 hw => ?_)
    refine G_iload_n (pc := 155) (i := 1) hC dX3_resolvedOut_155 rfl rfl ?_
    refine G_iconst (pc := 156) (v := 2) hC dX3_resolvedOut_156 (by decide) ?_
    refine G_iadd (pc := 157) hC dX3_resolvedOut_157 ?_
    refine G_iald (pc := 158) hC dX3_resolvedOut_158 hw (fun x5 hw => ?_)
    obtain ⟨hb, hw⟩ := hw
    refine G_callV (pc := 159) (n := 3) (C := "MergeWorkbenchModel") (b := a0) (As := [va_rf x1, .int x3, .int x5]) (rest := []) hC (m_X3_goesOut hJ hw) (lw_V q3777 q3779 qs76 q108 q3780) hd_X3_goesOut (by decide) (rcv (C := RX3) (T := TX3) (N := 61) hC hb rfl) rfl rfl (st_c cat_e (Nat.le_of_ble_eq_true rfl)) dX3_resolvedOut_159 (kU fun M6 hw => ?_)
    exact g_X3_resolvedOut_162 hJ hC hQ hin   M6 hw
theorem g_X3_resolvedOut_104 {k : kT} {F : Nat} {a0 : Nat} {p1 : Int32} {p2 : Int32} {Q : hM → Prop} (hJ : JOK (kl k) (kg k)) (hC : CX k 3 cX3_resolvedOut RX3 none 2 36) (hQ : isQ k (PU Q)) (hin : (kt k).name = "resolvedOut") : ∀  (M : hM), w_X3_resolvedOut_104 (kg k) F a0 p1 p2 Q  M → GW k 3 M 104 [some (va_rf (some a0)), some (.int p1), some (.int p2)] [] := by
  intro  M hw
  refine G_iload_n (pc := 104) (i := 2) hC dX3_resolvedOut_104 rfl rfl ?_
  refine G_iconst (pc := 105) (v := 3) hC dX3_resolvedOut_105 (by decide) ?_
  refine G_icmp_ne (pc := 106) (tgt := 133) hC dX3_resolvedOut_106 (by decide) (fun hc => ?_) (fun hc => ?_)
  · replace hw := hw.1 hc
    exact g_X3_resolvedOut_133 hJ hC hQ hin   M hw
  · replace hw := hw.2 hc
    refine G_aload_n (pc := 109) (i := 0) hC dX3_resolvedOut_109 rfl rfl ?_
    refine G_aload_n (pc := 110) (i := 0) hC dX3_resolvedOut_110 rfl rfl ?_
    refine G_getF (pc := 111) (ci := 2) (C := RX3) (T := TX3) (N := 61) (f := 41) hC rfl in_X3 (Nat.le_of_ble_eq_true rfl) q3415 (fun _ h => h) dX3_resolvedOut_111 hw (fun x1 hw => ?_)
    refine G_aload_n (pc := 114) (i := 0) hC dX3_resolvedOut_114 rfl rfl ?_
    refine G_getF (pc := 115) (ci := 2) (C := RX3) (T := TX3) (N := 61) (f := 47) hC rfl in_X3 (Nat.le_of_ble_eq_true rfl) q3421 (fun _ h => h) dX3_resolvedOut_115 hw (fun x2 hw => ?_)
    refine G_iload_n (pc := 118) (i := 1) hC dX3_resolvedOut_118 rfl rfl ?_
    refine G_iconst (pc := 119) (v := 3) hC dX3_resolvedOut_119 (by decide) ?_
    refine G_iadd (pc := 120) hC dX3_resolvedOut_120 ?_
    refine G_iald (pc := 121) hC dX3_resolvedOut_121 hw (fun x3 hw => ?_)
    refine G_aload_n (pc := 122) (i := 0) hC dX3_resolvedOut_122 rfl rfl ?_
    refine G_getF (pc := 123) (ci := 2) (C := RX3) (T := TX3) (N := 61) (f := 47) hC rfl in_X3 (Nat.le_of_ble_eq_true rfl) q3421 (fun _ h => h) dX3_resolvedOut_123 hw (fun x4 hw => ?_)
    refine G_iload_n (pc := 126) (i := 1) hC dX3_resolvedOut_126 rfl rfl ?_
    refine G_iconst (pc := 127) (v := 4) hC dX3_resolvedOut_127 (by decide) ?_
    refine G_iadd (pc := 128) hC dX3_resolvedOut_128 ?_
    refine G_iald (pc := 129) hC dX3_resolvedOut_129 hw (fun x5 hw => ?_)
    obtain ⟨hb, hw⟩ := hw
    refine G_callV (pc := 130) (n := 3) (C := "MergeWorkbenchModel") (b := a0) (As := [va_rf x1, .int x3, .int x5]) (rest := []) hC (m_X3_goesOut hJ hw) (lw_V q3777 q3779 qs76 q108 q3780) hd_X3_goesOut (by decide) (rcv (C := RX3) (T := TX3) (N := 61) hC hb rfl) rfl rfl (st_c cat_e (Nat.le_of_ble_eq_true rfl)) dX3_resolvedOut_130 (kU fun M6 hw => ?_)
    exact g_X3_resolvedOut_133 hJ hC hQ hin   M6 hw
theorem g_X3_resolvedOut_79 {k : kT} {F : Nat} {a0 : Nat} {p1 : Int32} {p2 : Int32} {Q : hM → Prop} (hJ : JOK (kl k) (kg k)) (hC : CX k 3 cX3_resolvedOut RX3 none 2 36) (hQ : isQ k (PU Q)) (hin : (kt k).name = "resolvedOut") : ∀  (M : hM), w_X3_resolvedOut_79 (kg k) F a0 p1 p2 Q  M → GW k 3 M 79 [some (va_rf (some a0)), some (.int p1), some (.int p2)] [] := by
  intro  M hw
  refine G_aload_n (pc := 79) (i := 0) hC dX3_resolvedOut_79 rfl rfl ?_
  refine G_aload_n (pc := 80) (i := 0) hC dX3_resolvedOut_80 rfl rfl ?_
  refine G_getF (pc := 81) (ci := 2) (C := RX3) (T := TX3) (N := 61) (f := 43) hC rfl in_X3 (Nat.le_of_ble_eq_true rfl) q3417 (fun _ h => h) dX3_resolvedOut_81 hw (fun x1 hw => ?_)
  refine G_aload_n (pc := 84) (i := 0) hC dX3_resolvedOut_84 rfl rfl ?_
  refine G_getF (pc := 85) (ci := 2) (C := RX3) (T := TX3) (N := 61) (f := 47) hC rfl in_X3 (Nat.le_of_ble_eq_true rfl) q3421 (fun _ h => h) dX3_resolvedOut_85 hw (fun x2 hw => ?_)
  refine G_iload_n (pc := 88) (i := 1) hC dX3_resolvedOut_88 rfl rfl ?_
  refine G_iconst (pc := 89) (v := 5) hC dX3_resolvedOut_89 (by decide) ?_
  refine G_iadd (pc := 90) hC dX3_resolvedOut_90 ?_
  refine G_iald (pc := 91) hC dX3_resolvedOut_91 hw (fun x3 hw => ?_)
  refine G_aload_n (pc := 92) (i := 0) hC dX3_resolvedOut_92 rfl rfl ?_
  refine G_getF (pc := 93) (ci := 2) (C := RX3) (T := TX3) (N := 61) (f := 47) hC rfl in_X3 (Nat.le_of_ble_eq_true rfl) q3421 (fun _ h => h) dX3_resolvedOut_93 hw (fun x4 hw => ?_)
  refine G_iload_n (pc := 96) (i := 1) hC dX3_resolvedOut_96 rfl rfl ?_
  refine G_bipush (pc := 97) (v := 6) hC dX3_resolvedOut_97 (by decide) ?_
  refine G_iadd (pc := 99) hC dX3_resolvedOut_99 ?_
  refine G_iald (pc := 100) hC dX3_resolvedOut_100 hw (fun x5 hw => ?_)
  obtain ⟨hb, hw⟩ := hw
  refine G_callV (pc := 101) (n := 3) (C := "MergeWorkbenchModel") (b := a0) (As := [va_rf x1, .int x3, .int x5]) (rest := []) hC (m_X3_goesOut hJ hw) (lw_V q3777 q3779 qs76 q108 q3780) hd_X3_goesOut (by decide) (rcv (C := RX3) (T := TX3) (N := 61) hC hb rfl) rfl rfl (st_c cat_e (Nat.le_of_ble_eq_true rfl)) dX3_resolvedOut_101 (kU fun M6 hw => ?_)
  exact g_X3_resolvedOut_104 hJ hC hQ hin   M6 hw
theorem g_X3_resolvedOut_59 {k : kT} {F : Nat} {a0 : Nat} {p1 : Int32} {p2 : Int32} {Q : hM → Prop} (hJ : JOK (kl k) (kg k)) (hC : CX k 3 cX3_resolvedOut RX3 none 2 36) (hQ : isQ k (PU Q)) (hin : (kt k).name = "resolvedOut") : ∀  (M : hM), w_X3_resolvedOut_59 (kg k) F a0 p1 p2 Q  M → GW k 3 M 59 [some (va_rf (some a0)), some (.int p1), some (.int p2)] [] := by
  intro  M hw
  refine G_iload_n (pc := 59) (i := 2) hC dX3_resolvedOut_59 rfl rfl ?_
  refine G_iconst (pc := 60) (v := 1) hC dX3_resolvedOut_60 (by decide) ?_
  refine G_icmp_eq (pc := 61) (tgt := 79) hC dX3_resolvedOut_61 (by decide) (fun hc => ?_) (fun hc => ?_)
  · replace hw := hw.1 hc
    exact g_X3_resolvedOut_79 hJ hC hQ hin   M hw
  · replace hw := hw.2 hc
    refine G_iload_n (pc := 64) (i := 2) hC dX3_resolvedOut_64 rfl rfl ?_
    refine G_iconst (pc := 65) (v := 2) hC dX3_resolvedOut_65 (by decide) ?_
    refine G_icmp_eq (pc := 66) (tgt := 79) hC dX3_resolvedOut_66 (by decide) (fun hc => ?_) (fun hc => ?_)
    · replace hw := hw.1 hc
      exact g_X3_resolvedOut_79 hJ hC hQ hin   M hw
    · replace hw := hw.2 hc
      refine G_iload_n (pc := 69) (i := 2) hC dX3_resolvedOut_69 rfl rfl ?_
      refine G_iconst (pc := 70) (v := 3) hC dX3_resolvedOut_70 (by decide) ?_
      refine G_icmp_eq (pc := 71) (tgt := 79) hC dX3_resolvedOut_71 (by decide) (fun hc => ?_) (fun hc => ?_)
      · replace hw := hw.1 hc
        exact g_X3_resolvedOut_79 hJ hC hQ hin   M hw
      · replace hw := hw.2 hc
        refine G_iload_n (pc := 74) (i := 2) hC dX3_resolvedOut_74 rfl rfl ?_
        refine G_iconst (pc := 75) (v := -1) hC dX3_resolvedOut_75 (by decide) ?_
        refine G_icmp_ne (pc := 76) (tgt := 104) hC dX3_resolvedOut_76 (by decide) (fun hc => ?_) (fun hc => ?_)
        · replace hw := hw.1 hc
          exact g_X3_resolvedOut_104 hJ hC hQ hin   M hw
        · replace hw := hw.2 hc
          exact g_X3_resolvedOut_79 hJ hC hQ hin   M hw
theorem g_X3_resolvedOut_48 {k : kT} {F : Nat} {a0 : Nat} {p1 : Int32} {p2 : Int32} {Q : hM → Prop} (hJ : JOK (kl k) (kg k)) (hC : CX k 3 cX3_resolvedOut RX3 none 2 36) (hQ : isQ k (PU Q)) (hin : (kt k).name = "resolvedOut") : ∀  (M : hM), w_X3_resolvedOut_48 (kg k) F a0 p1 p2 Q  M → GW k 3 M 48 [some (va_rf (some a0)), some (.int p1), some (.int p2)] [] := by
  intro  M hw
  refine G_iload_n (pc := 48) (i := 2) hC dX3_resolvedOut_48 rfl rfl ?_
  refine G_iconst (pc := 49) (v := -1) hC dX3_resolvedOut_49 (by decide) ?_
  refine G_icmp_ne (pc := 50) (tgt := 59) hC dX3_resolvedOut_50 (by decide) (fun hc => ?_) (fun hc => ?_)
  · replace hw := hw.1 hc
    exact g_X3_resolvedOut_59 hJ hC hQ hin   M hw
  · replace hw := hw.2 hc
    refine G_aload_n (pc := 53) (i := 0) hC dX3_resolvedOut_53 rfl rfl ?_
    refine G_bipush (pc := 54) (v := -2) hC dX3_resolvedOut_54 (by decide) ?_
    obtain ⟨hb, hw⟩ := hw
    refine G_callV (pc := 56) (n := 1) (C := "MergeWorkbenchModel") (b := a0) (As := [.int (-2 : Int32)]) (rest := []) hC (m_X3_mark hJ hw) (lw_V q3773 q3775 qs75 q108 q3776) hd_X3_mark (by decide) (rcv (C := RX3) (T := TX3) (N := 61) hC hb rfl) rfl rfl (st_c cat_e (Nat.le_of_ble_eq_true rfl)) dX3_resolvedOut_56 (kU fun M1 hw => ?_)
    exact g_X3_resolvedOut_59 hJ hC hQ hin   M1 hw
theorem g_X3_resolvedOut_24 {k : kT} {F : Nat} {a0 : Nat} {p1 : Int32} {p2 : Int32} {Q : hM → Prop} (hJ : JOK (kl k) (kg k)) (hC : CX k 3 cX3_resolvedOut RX3 none 2 36) (hQ : isQ k (PU Q)) (hin : (kt k).name = "resolvedOut") : ∀  (M : hM), w_X3_resolvedOut_24 (kg k) F a0 p1 p2 Q  M → GW k 3 M 24 [some (va_rf (some a0)), some (.int p1), some (.int p2)] [] := by
  intro  M hw
  refine G_aload_n (pc := 24) (i := 0) hC dX3_resolvedOut_24 rfl rfl ?_
  refine G_aload_n (pc := 25) (i := 0) hC dX3_resolvedOut_25 rfl rfl ?_
  refine G_getF (pc := 26) (ci := 2) (C := RX3) (T := TX3) (N := 61) (f := 41) hC rfl in_X3 (Nat.le_of_ble_eq_true rfl) q3415 (fun _ h => h) dX3_resolvedOut_26 hw (fun x1 hw => ?_)
  refine G_aload_n (pc := 29) (i := 0) hC dX3_resolvedOut_29 rfl rfl ?_
  refine G_getF (pc := 30) (ci := 2) (C := RX3) (T := TX3) (N := 61) (f := 47) hC rfl in_X3 (Nat.le_of_ble_eq_true rfl) q3421 (fun _ h => h) dX3_resolvedOut_30 hw (fun x2 hw => ?_)
  refine G_iload_n (pc := 33) (i := 1) hC dX3_resolvedOut_33 rfl rfl ?_
  refine G_iconst (pc := 34) (v := 3) hC dX3_resolvedOut_34 (by decide) ?_
  refine G_iadd (pc := 35) hC dX3_resolvedOut_35 ?_
  refine G_iald (pc := 36) hC dX3_resolvedOut_36 hw (fun x3 hw => ?_)
  refine G_aload_n (pc := 37) (i := 0) hC dX3_resolvedOut_37 rfl rfl ?_
  refine G_getF (pc := 38) (ci := 2) (C := RX3) (T := TX3) (N := 61) (f := 47) hC rfl in_X3 (Nat.le_of_ble_eq_true rfl) q3421 (fun _ h => h) dX3_resolvedOut_38 hw (fun x4 hw => ?_)
  refine G_iload_n (pc := 41) (i := 1) hC dX3_resolvedOut_41 rfl rfl ?_
  refine G_iconst (pc := 42) (v := 4) hC dX3_resolvedOut_42 (by decide) ?_
  refine G_iadd (pc := 43) hC dX3_resolvedOut_43 ?_
  refine G_iald (pc := 44) hC dX3_resolvedOut_44 hw (fun x5 hw => ?_)
  obtain ⟨hb, hw⟩ := hw
  refine G_callV (pc := 45) (n := 3) (C := "MergeWorkbenchModel") (b := a0) (As := [va_rf x1, .int x3, .int x5]) (rest := []) hC (m_X3_goesOut hJ hw) (lw_V q3777 q3779 qs76 q108 q3780) hd_X3_goesOut (by decide) (rcv (C := RX3) (T := TX3) (N := 61) hC hb rfl) rfl rfl (st_c cat_e (Nat.le_of_ble_eq_true rfl)) dX3_resolvedOut_45 (kU fun M6 hw => ?_)
  exact g_X3_resolvedOut_48 hJ hC hQ hin   M6 hw
theorem g_X3_resolvedOut_10 {k : kT} {F : Nat} {a0 : Nat} {p1 : Int32} {p2 : Int32} {Q : hM → Prop} (hJ : JOK (kl k) (kg k)) (hC : CX k 3 cX3_resolvedOut RX3 none 2 36) (hQ : isQ k (PU Q)) (hin : (kt k).name = "resolvedOut") : ∀  (M : hM), w_X3_resolvedOut_10 (kg k) F a0 p1 p2 Q  M → GW k 3 M 10 [some (va_rf (some a0)), some (.int p1), some (.int p2)] [] := by
  intro  M hw
  refine G_iload_n (pc := 10) (i := 2) hC dX3_resolvedOut_10 rfl rfl ?_
  refine G_if_eq (pc := 11) (tgt := 24) hC dX3_resolvedOut_11 (by decide) (fun hc => ?_) (fun hc => ?_)
  · replace hw := hw.1 hc
    exact g_X3_resolvedOut_24 hJ hC hQ hin   M hw
  · replace hw := hw.2 hc
    refine G_iload_n (pc := 14) (i := 2) hC dX3_resolvedOut_14 rfl rfl ?_
    refine G_iconst (pc := 15) (v := 2) hC dX3_resolvedOut_15 (by decide) ?_
    refine G_icmp_eq (pc := 16) (tgt := 24) hC dX3_resolvedOut_16 (by decide) (fun hc => ?_) (fun hc => ?_)
    · replace hw := hw.1 hc
      exact g_X3_resolvedOut_24 hJ hC hQ hin   M hw
    · replace hw := hw.2 hc
      refine G_iload_n (pc := 19) (i := 2) hC dX3_resolvedOut_19 rfl rfl ?_
      refine G_iconst (pc := 20) (v := -1) hC dX3_resolvedOut_20 (by decide) ?_
      refine G_icmp_ne (pc := 21) (tgt := 48) hC dX3_resolvedOut_21 (by decide) (fun hc => ?_) (fun hc => ?_)
      · replace hw := hw.1 hc
        exact g_X3_resolvedOut_48 hJ hC hQ hin   M hw
      · replace hw := hw.2 hc
        exact g_X3_resolvedOut_24 hJ hC hQ hin   M hw
theorem m_X3_resolvedOut {l : Launch} {g : gT} {F : Nat} {a0 : Nat} {p1 : Int32} {p2 : Int32} {M : hM} {Q : hM → Prop} (hJ : JOK l g) (hw : w_X3_resolvedOut g F a0 p1 p2 M Q) : MG l g yX3_resolvedOut (ws_ yX3_resolvedOut cX3_resolvedOut 3 none) 2 36 [va_rf (some a0), .int p1, .int p2] M (PU Q) := by
  refine MG_of hJ.2.1 (by decide) (cat_r (cat_i (cat_i cat_e))) (Nat.le_of_ble_eq_true rfl) (fun k hl hg hin hQ hC => ?_)
  subst hl hg
  show GW k 3 M 0 [some (va_rf (some a0)), some (.int p1), some (.int p2)] []
  refine G_iload_n (pc := 0) (i := 2) hC dX3_resolvedOut_0 rfl rfl ?_
  refine G_iconst (pc := 1) (v := -1) hC dX3_resolvedOut_1 (by decide) ?_
  refine G_icmp_ne (pc := 2) (tgt := 10) hC dX3_resolvedOut_2 (by decide) (fun hc => ?_) (fun hc => ?_)
  · replace hw := hw.1 hc
    exact g_X3_resolvedOut_10 hJ hC hQ hin   M hw
  · replace hw := hw.2 hc
    refine G_aload_n (pc := 5) (i := 0) hC dX3_resolvedOut_5 rfl rfl ?_
    refine G_iconst (pc := 6) (v := -1) hC dX3_resolvedOut_6 (by decide) ?_
    obtain ⟨hb, hw⟩ := hw
    refine G_callV (pc := 7) (n := 1) (C := "MergeWorkbenchModel") (b := a0) (As := [.int (-1 : Int32)]) (rest := []) hC (m_X3_mark hJ hw) (lw_V q3773 q3775 qs75 q108 q3776) hd_X3_mark (by decide) (rcv (C := RX3) (T := TX3) (N := 61) hC hb rfl) rfl rfl (st_c cat_e (Nat.le_of_ble_eq_true rfl)) dX3_resolvedOut_7 (kU fun M1 hw => ?_)
    exact g_X3_resolvedOut_10 hJ hC hQ hin   M1 hw
theorem hd_X3_resolvedOut : yX3_resolvedOut.cls = "MergeWorkbenchModel" ∧ yX3_resolvedOut.cls ≠ "java/lang/invoke/MethodHandle" ∧ yX3_resolvedOut.cls ≠ "java/lang/invoke/VarHandle" ∧ (parseMethodDescriptor yX3_resolvedOut.desc).map (fun d => d.parameters.length) = some 2 := by decide +kernel
def w_X3_resolve_105 (g : gT) (F : Nat) (a0 : Nat) (p1 : Int32) (p2 : Int32) (Q : Int32 → hM → Prop) (K60 : Int32 → Int32 → hM → Prop) (v3 : Int32) (v4 : Int32) (M : hM) : Prop :=
  K60 v3 (v4 + (1 : Int32)) M
def w_X3_resolve_102 (g : gT) (F : Nat) (a0 : Nat) (p1 : Int32) (p2 : Int32) (Q : Int32 → hM → Prop) (K60 : Int32 → Int32 → hM → Prop) (v3 : Int32) (v4 : Int32) (M : hM) : Prop :=
  w_X3_resolve_105 g F a0 p1 p2 Q K60 (v3 + (-1 : Int32)) v4 M
def w_X3_resolve_60 (g : gT) (F : Nat) (a0 : Nat) (p1 : Int32) (p2 : Int32) (Q : Int32 → hM → Prop) : Nat → Int32 → Int32 → hM → Prop
  | 0, _, _, _ => False
  | n + 1, v3, v4, M => gI M (some a0) 2 48 fun x1 => ((x1 ≤ v4 → gI M (some a0) 2 18 fun x2 => (isC M a0 2 ∧ w_X3_done g F a0 x2 M (fun x4 M3 => Q x4 M3))) ∧ (¬ (x1 ≤ v4) → gF M (some a0) 2 47 fun x5 => aI M x5 0 ((7 : Int32) * v4) fun x6 => ((¬ x6 = (4 : Int32) → w_X3_resolve_105 g F a0 p1 p2 Q (fun v3 v4 M => w_X3_resolve_60 g F a0 p1 p2 Q n v3 v4 M) v3 v4 M) ∧ (x6 = (4 : Int32) → ((¬ v3 = 0 → w_X3_resolve_102 g F a0 p1 p2 Q (fun v3 v4 M => w_X3_resolve_60 g F a0 p1 p2 Q n v3 v4 M) v3 v4 M) ∧ (v3 = 0 → pV M (some a0) 2 18 (.int (0 : Int32)) fun M7 => (isC M7 a0 2 ∧ w_X3_resolvedOut g F a0 ((7 : Int32) * v4) p2 M7 (fun M8 => w_X3_resolve_102 g F a0 p1 p2 Q (fun v3 v4 M => w_X3_resolve_60 g F a0 p1 p2 Q n v3 v4 M) v3 v4 M8))))))))
def w_X3_resolve (g : gT) (F : Nat) (a0 : Nat) (p1 : Int32) (p2 : Int32) (M : hM) (Q : Int32 → hM → Prop) : Prop :=
  gI M (some a0) 2 38 fun x1 => ((¬ x1 = 0 → gI M (some a0) 2 50 fun x2 => w_X3_in g F p1 (0 : Int32) (x2 - (1 : Int32)) M (fun x4 M3 => ((¬ x4 = 0 → w_X3_in g F p2 (0 : Int32) (4 : Int32) M3 (fun x6 M5 => ((¬ x6 = 0 → gF M5 (some a0) 2 49 fun x7 => sI M5 x7 0 p1 p2 fun M8 => w_X3_resolve_60 g F a0 p1 p2 Q F p1 (0 : Int32) M8) ∧ (x6 = 0 → (isC M5 a0 2 ∧ w_X3_fails g F a0 (3 : Int32) M5 (fun x10 M9 => Q x10 M9)))))) ∧ (x4 = 0 → (isC M3 a0 2 ∧ w_X3_fails g F a0 (2 : Int32) M3 (fun x12 M11 => Q x12 M11)))))) ∧ (x1 = 0 → (isC M a0 2 ∧ w_X3_fails g F a0 (1 : Int32) M (fun x14 M13 => Q x14 M13))))
theorem g_X3_resolve_105 {k : kT} {F : Nat} {a0 : Nat} {p1 : Int32} {p2 : Int32} {Q : Int32 → hM → Prop} {K60 : Int32 → Int32 → hM → Prop} (hJ : JOK (kl k) (kg k)) (hC : CX k 5 cX3_resolve RX3 (some .int) 3 58) (hQ : isQ k (PI Q)) (hin : (kt k).name = "resolve") (hK60 : ∀ (v3 : Int32) (v4 : Int32) (M : hM), K60 v3 v4 M → GW k 5 M 60 [some (va_rf (some a0)), some (.int p1), some (.int p2), some (.int v3), some (.int v4)] []) : ∀ (v3 : Int32) (v4 : Int32) (M : hM), w_X3_resolve_105 (kg k) F a0 p1 p2 Q K60 v3 v4 M → GW k 5 M 105 [some (va_rf (some a0)), some (.int p1), some (.int p2), some (.int v3), some (.int v4)] [] := by
  intro v3 v4 M hw
  refine G_iinc (pc := 105) (i := 4) (v := (v4 + (1 : Int32))) (lw := [some (va_rf (some a0)), some (.int p1), some (.int p2), some (.int v3), some (.int (v4 + (1 : Int32)))]) hC dX3_resolve_105 rfl (Nat.le_of_ble_eq_true rfl) rfl rfl ?_
  refine G_goto (pc := 108) (tgt := 60) hC dX3_resolve_108 (by decide) ?_
  exact hK60 v3 (v4 + (1 : Int32)) M hw
theorem g_X3_resolve_102 {k : kT} {F : Nat} {a0 : Nat} {p1 : Int32} {p2 : Int32} {Q : Int32 → hM → Prop} {K60 : Int32 → Int32 → hM → Prop} (hJ : JOK (kl k) (kg k)) (hC : CX k 5 cX3_resolve RX3 (some .int) 3 58) (hQ : isQ k (PI Q)) (hin : (kt k).name = "resolve") (hK60 : ∀ (v3 : Int32) (v4 : Int32) (M : hM), K60 v3 v4 M → GW k 5 M 60 [some (va_rf (some a0)), some (.int p1), some (.int p2), some (.int v3), some (.int v4)] []) : ∀ (v3 : Int32) (v4 : Int32) (M : hM), w_X3_resolve_102 (kg k) F a0 p1 p2 Q K60 v3 v4 M → GW k 5 M 102 [some (va_rf (some a0)), some (.int p1), some (.int p2), some (.int v3), some (.int v4)] [] := by
  intro v3 v4 M hw
  refine G_iinc (pc := 102) (i := 3) (v := (v3 + (-1 : Int32))) (lw := [some (va_rf (some a0)), some (.int p1), some (.int p2), some (.int (v3 + (-1 : Int32))), some (.int v4)]) hC dX3_resolve_102 rfl (Nat.le_of_ble_eq_true rfl) rfl rfl ?_
  exact g_X3_resolve_105 hJ hC hQ hin hK60  (v3 + (-1 : Int32)) v4 M hw
theorem g_X3_resolve_60 {k : kT} {F : Nat} {a0 : Nat} {p1 : Int32} {p2 : Int32} {Q : Int32 → hM → Prop} (hJ : JOK (kl k) (kg k)) (hC : CX k 5 cX3_resolve RX3 (some .int) 3 58) (hQ : isQ k (PI Q)) (hin : (kt k).name = "resolve") : ∀ (n : Nat) (v3 : Int32) (v4 : Int32) (M : hM), w_X3_resolve_60 (kg k) F a0 p1 p2 Q n v3 v4 M → GW k 5 M 60 [some (va_rf (some a0)), some (.int p1), some (.int p2), some (.int v3), some (.int v4)] [] := by
  intro n
  induction n with
  | zero =>
    intro v3 v4 M hw
    exact hw.elim
  | succ n ih =>
    intro v3 v4 M hw
    refine G_iload (pc := 60) (i := 4) hC dX3_resolve_60 rfl ?_
    refine G_aload_n (pc := 62) (i := 0) hC dX3_resolve_62 rfl rfl ?_
    refine G_getI (pc := 63) (ci := 2) (C := RX3) (T := TX3) (N := 61) (f := 48) hC rfl in_X3 (Nat.le_of_ble_eq_true rfl) q3422 (fun _ h => h) dX3_resolve_63 hw (fun x1 hw => ?_)
    refine G_icmp_ge (pc := 66) (tgt := 111) hC dX3_resolve_66 (by decide) (fun hc => ?_) (fun hc => ?_)
    · replace hw := hw.1 hc
      refine G_aload_n (pc := 111) (i := 0) hC dX3_resolve_111 rfl rfl ?_
      refine G_aload_n (pc := 112) (i := 0) hC dX3_resolve_112 rfl rfl ?_
      refine G_getI (pc := 113) (ci := 2) (C := RX3) (T := TX3) (N := 61) (f := 18) hC rfl in_X3 (Nat.le_of_ble_eq_true rfl) q3392 (fun _ h => h) dX3_resolve_113 hw (fun x2 hw => ?_)
      obtain ⟨hb, hw⟩ := hw
      refine G_callV (pc := 116) (n := 1) (C := "MergeWorkbenchModel") (b := a0) (As := [.int x2]) (rest := []) hC (m_X3_done hJ hw) (lw_V q3581 q3583 qs54 q108 q3584) hd_X3_done (by decide) (rcv (C := RX3) (T := TX3) (N := 61) hC hb rfl) rfl rfl (st_c cat_e (Nat.le_of_ble_eq_true rfl)) dX3_resolve_116 (kI fun x4 M3 hw => ?_)
      exact G_iret (pc := 119) hC rfl hQ dX3_resolve_119 hw
    · replace hw := hw.2 hc
      refine G_aload_n (pc := 69) (i := 0) hC dX3_resolve_69 rfl rfl ?_
      refine G_getF (pc := 70) (ci := 2) (C := RX3) (T := TX3) (N := 61) (f := 47) hC rfl in_X3 (Nat.le_of_ble_eq_true rfl) q3421 (fun _ h => h) dX3_resolve_70 hw (fun x5 hw => ?_)
      refine G_bipush (pc := 73) (v := 7) hC dX3_resolve_73 (by decide) ?_
      refine G_iload (pc := 75) (i := 4) hC dX3_resolve_75 rfl ?_
      refine G_imul (pc := 77) hC dX3_resolve_77 ?_
      refine G_iald (pc := 78) hC dX3_resolve_78 hw (fun x6 hw => ?_)
      refine G_iconst (pc := 79) (v := 4) hC dX3_resolve_79 (by decide) ?_
      refine G_icmp_ne (pc := 80) (tgt := 105) hC dX3_resolve_80 (by decide) (fun hc => ?_) (fun hc => ?_)
      · replace hw := hw.1 hc
        exact g_X3_resolve_105 hJ hC hQ hin ih  v3 v4 M hw
      · replace hw := hw.2 hc
        refine G_iload_n (pc := 83) (i := 3) hC dX3_resolve_83 rfl rfl ?_
        refine G_if_ne (pc := 84) (tgt := 102) hC dX3_resolve_84 (by decide) (fun hc => ?_) (fun hc => ?_)
        · replace hw := hw.1 hc
          exact g_X3_resolve_102 hJ hC hQ hin ih  v3 v4 M hw
        · replace hw := hw.2 hc
          refine G_aload_n (pc := 87) (i := 0) hC dX3_resolve_87 rfl rfl ?_
          refine G_iconst (pc := 88) (v := 0) hC dX3_resolve_88 (by decide) ?_
          refine G_put (pc := 89) (ci := 2) (C := RX3) (T := TX3) (N := 61) (f := 18) tyX3 hC rfl in_X3 tyX3_ok nmX3 (Nat.le_of_ble_eq_true rfl) q3392 (fun _ h => h) rfl rfl rfl dX3_resolve_89 hw (fun M7 hw => ?_)
          refine G_aload_n (pc := 92) (i := 0) hC dX3_resolve_92 rfl rfl ?_
          refine G_bipush (pc := 93) (v := 7) hC dX3_resolve_93 (by decide) ?_
          refine G_iload (pc := 95) (i := 4) hC dX3_resolve_95 rfl ?_
          refine G_imul (pc := 97) hC dX3_resolve_97 ?_
          refine G_iload_n (pc := 98) (i := 2) hC dX3_resolve_98 rfl rfl ?_
          obtain ⟨hb, hw⟩ := hw
          refine G_callV (pc := 99) (n := 2) (C := "MergeWorkbenchModel") (b := a0) (As := [.int ((7 : Int32) * v4), .int p2]) (rest := []) hC (m_X3_resolvedOut hJ hw) (lw_V q3769 q3771 qs74 q108 q3772) hd_X3_resolvedOut (by decide) (rcv (C := RX3) (T := TX3) (N := 61) hC hb rfl) rfl rfl (st_c cat_e (Nat.le_of_ble_eq_true rfl)) dX3_resolve_99 (kU fun M8 hw => ?_)
          exact g_X3_resolve_102 hJ hC hQ hin ih  v3 v4 M8 hw
theorem m_X3_resolve {l : Launch} {g : gT} {F : Nat} {a0 : Nat} {p1 : Int32} {p2 : Int32} {M : hM} {Q : Int32 → hM → Prop} (hJ : JOK l g) (hw : w_X3_resolve g F a0 p1 p2 M Q) : MG l g yX3_resolve (ws_ yX3_resolve cX3_resolve 5 (some .int)) 3 58 [va_rf (some a0), .int p1, .int p2] M (PI Q) := by
  refine MG_of hJ.2.1 (by decide) (cat_r (cat_i (cat_i cat_e))) (Nat.le_of_ble_eq_true rfl) (fun k hl hg hin hQ hC => ?_)
  subst hl hg
  show GW k 5 M 0 [some (va_rf (some a0)), some (.int p1), some (.int p2), none, none] []
  refine G_aload_n (pc := 0) (i := 0) hC dX3_resolve_0 rfl rfl ?_
  refine G_getI (pc := 1) (ci := 2) (C := RX3) (T := TX3) (N := 61) (f := 38) hC rfl in_X3 (Nat.le_of_ble_eq_true rfl) q3412 (fun _ h => h) dX3_resolve_1 hw (fun x1 hw => ?_)
  refine G_if_ne (pc := 4) (tgt := 13) hC dX3_resolve_4 (by decide) (fun hc => ?_) (fun hc => ?_)
  · replace hw := hw.1 hc
    refine G_iload_n (pc := 13) (i := 1) hC dX3_resolve_13 rfl rfl ?_
    refine G_iconst (pc := 14) (v := 0) hC dX3_resolve_14 (by decide) ?_
    refine G_aload_n (pc := 15) (i := 0) hC dX3_resolve_15 rfl rfl ?_
    refine G_getI (pc := 16) (ci := 2) (C := RX3) (T := TX3) (N := 61) (f := 50) hC rfl in_X3 (Nat.le_of_ble_eq_true rfl) q3424 (fun _ h => h) dX3_resolve_16 hw (fun x2 hw => ?_)
    refine G_iconst (pc := 19) (v := 1) hC dX3_resolve_19 (by decide) ?_
    refine G_isub (pc := 20) hC dX3_resolve_20 ?_
    refine G_callS (pc := 21) (n := 3) (As := [.int p1, .int (0 : Int32), .int (x2 - (1 : Int32))]) (rest := []) hC (m_X3_in hJ hw) (lw_S q3570 q3571 q108 q3572) hd_X3_in.2 (by decide) rfl rfl (st_c cat_e (Nat.le_of_ble_eq_true rfl)) dX3_resolve_21 (kI fun x4 M3 hw => ?_)
    refine G_if_ne (pc := 24) (tgt := 33) hC dX3_resolve_24 (by decide) (fun hc => ?_) (fun hc => ?_)
    · replace hw := hw.1 hc
      refine G_iload_n (pc := 33) (i := 2) hC dX3_resolve_33 rfl rfl ?_
      refine G_iconst (pc := 34) (v := 0) hC dX3_resolve_34 (by decide) ?_
      refine G_iconst (pc := 35) (v := 4) hC dX3_resolve_35 (by decide) ?_
      refine G_callS (pc := 36) (n := 3) (As := [.int p2, .int (0 : Int32), .int (4 : Int32)]) (rest := []) hC (m_X3_in hJ hw) (lw_S q3570 q3571 q108 q3572) hd_X3_in.2 (by decide) rfl rfl (st_c cat_e (Nat.le_of_ble_eq_true rfl)) dX3_resolve_36 (kI fun x6 M5 hw => ?_)
      refine G_if_ne (pc := 39) (tgt := 48) hC dX3_resolve_39 (by decide) (fun hc => ?_) (fun hc => ?_)
      · replace hw := hw.1 hc
        refine G_aload_n (pc := 48) (i := 0) hC dX3_resolve_48 rfl rfl ?_
        refine G_getF (pc := 49) (ci := 2) (C := RX3) (T := TX3) (N := 61) (f := 49) hC rfl in_X3 (Nat.le_of_ble_eq_true rfl) q3423 (fun _ h => h) dX3_resolve_49 hw (fun x7 hw => ?_)
        refine G_iload_n (pc := 52) (i := 1) hC dX3_resolve_52 rfl rfl ?_
        refine G_iload_n (pc := 53) (i := 2) hC dX3_resolve_53 rfl rfl ?_
        refine G_iast (pc := 54) hC dX3_resolve_54 hw (fun M8 hw => ?_)
        refine G_iload_n (pc := 55) (i := 1) hC dX3_resolve_55 rfl rfl ?_
        refine G_istore_n (pc := 56) (i := 3) (lw := [some (va_rf (some a0)), some (.int p1), some (.int p2), some (.int p1), none]) hC dX3_resolve_56 rfl (Nat.le_of_ble_eq_true rfl) rfl ?_
        refine G_iconst (pc := 57) (v := 0) hC dX3_resolve_57 (by decide) ?_
        refine G_istore (pc := 58) (i := 4) (lw := [some (va_rf (some a0)), some (.int p1), some (.int p2), some (.int p1), some (.int (0 : Int32))]) hC dX3_resolve_58 (Nat.le_of_ble_eq_true rfl) rfl ?_
        exact g_X3_resolve_60 hJ hC hQ hin _ p1 (0 : Int32) M8 hw
      · replace hw := hw.2 hc
        refine G_aload_n (pc := 42) (i := 0) hC dX3_resolve_42 rfl rfl ?_
        refine G_iconst (pc := 43) (v := 3) hC dX3_resolve_43 (by decide) ?_
        obtain ⟨hb, hw⟩ := hw
        refine G_callV (pc := 44) (n := 1) (C := "MergeWorkbenchModel") (b := a0) (As := [.int (3 : Int32)]) (rest := []) hC (m_X3_fails hJ hw) (lw_V q3573 q3575 qs52 q108 q3576) hd_X3_fails (by decide) (rcv (C := RX3) (T := TX3) (N := 61) hC hb rfl) rfl rfl (st_c cat_e (Nat.le_of_ble_eq_true rfl)) dX3_resolve_44 (kI fun x10 M9 hw => ?_)
        exact G_iret (pc := 47) hC rfl hQ dX3_resolve_47 hw
    · replace hw := hw.2 hc
      refine G_aload_n (pc := 27) (i := 0) hC dX3_resolve_27 rfl rfl ?_
      refine G_iconst (pc := 28) (v := 2) hC dX3_resolve_28 (by decide) ?_
      obtain ⟨hb, hw⟩ := hw
      refine G_callV (pc := 29) (n := 1) (C := "MergeWorkbenchModel") (b := a0) (As := [.int (2 : Int32)]) (rest := []) hC (m_X3_fails hJ hw) (lw_V q3573 q3575 qs52 q108 q3576) hd_X3_fails (by decide) (rcv (C := RX3) (T := TX3) (N := 61) hC hb rfl) rfl rfl (st_c cat_e (Nat.le_of_ble_eq_true rfl)) dX3_resolve_29 (kI fun x12 M11 hw => ?_)
      exact G_iret (pc := 32) hC rfl hQ dX3_resolve_32 hw
  · replace hw := hw.2 hc
    refine G_aload_n (pc := 7) (i := 0) hC dX3_resolve_7 rfl rfl ?_
    refine G_iconst (pc := 8) (v := 1) hC dX3_resolve_8 (by decide) ?_
    obtain ⟨hb, hw⟩ := hw
    refine G_callV (pc := 9) (n := 1) (C := "MergeWorkbenchModel") (b := a0) (As := [.int (1 : Int32)]) (rest := []) hC (m_X3_fails hJ hw) (lw_V q3573 q3575 qs52 q108 q3576) hd_X3_fails (by decide) (rcv (C := RX3) (T := TX3) (N := 61) hC hb rfl) rfl rfl (st_c cat_e (Nat.le_of_ble_eq_true rfl)) dX3_resolve_9 (kI fun x14 M13 hw => ?_)
    exact G_iret (pc := 12) hC rfl hQ dX3_resolve_12 hw
def w_X3_openConflicts_28 (g : gT) (F : Nat) (a0 : Nat) (Q : Int32 → hM → Prop) (K4 : Int32 → Int32 → hM → Prop) (v2 : Int32) (s0 : Int32) (s1 : Int32) (M : hM) : Prop :=
  K4 (s0 + s1) (v2 + (1 : Int32)) M
def w_X3_openConflicts_4 (g : gT) (F : Nat) (a0 : Nat) (Q : Int32 → hM → Prop) : Nat → Int32 → Int32 → hM → Prop
  | 0, _, _, _ => False
  | n + 1, v1, v2, M => gI M (some a0) 2 50 fun x1 => ((x1 ≤ v2 → Q v1 M) ∧ (¬ (x1 ≤ v2) → gF M (some a0) 2 49 fun x2 => aI M x2 0 v2 fun x3 => ((¬ x3 = (-1 : Int32) → w_X3_openConflicts_28 g F a0 Q (fun v1 v2 M => w_X3_openConflicts_4 g F a0 Q n v1 v2 M) v2 v1 (0 : Int32) M) ∧ (x3 = (-1 : Int32) → w_X3_openConflicts_28 g F a0 Q (fun v1 v2 M => w_X3_openConflicts_4 g F a0 Q n v1 v2 M) v2 v1 (1 : Int32) M))))
def w_X3_openConflicts (g : gT) (F : Nat) (a0 : Nat) (M : hM) (Q : Int32 → hM → Prop) : Prop :=
  w_X3_openConflicts_4 g F a0 Q F (0 : Int32) (0 : Int32) M
theorem g_X3_openConflicts_28 {k : kT} {F : Nat} {a0 : Nat} {Q : Int32 → hM → Prop} {K4 : Int32 → Int32 → hM → Prop} (hJ : JOK (kl k) (kg k)) (hC : CX k 3 cX3_openConflicts RX3 (some .int) 1 12) (hQ : isQ k (PI Q)) (hin : (kt k).name = "openConflicts") (hK4 : ∀ (v1 : Int32) (v2 : Int32) (M : hM), K4 v1 v2 M → GW k 3 M 4 [some (va_rf (some a0)), some (.int v1), some (.int v2)] []) : ∀ (v2 : Int32) (s0 : Int32) (s1 : Int32) (M : hM), w_X3_openConflicts_28 (kg k) F a0 Q K4 v2 s0 s1 M → GW k 3 M 28 [some (va_rf (some a0)), none, some (.int v2)] [.int s1, .int s0] := by
  intro v2 s0 s1 M hw
  refine G_iadd (pc := 28) hC dX3_openConflicts_28 ?_
  refine G_istore_n (pc := 29) (i := 1) (lw := [some (va_rf (some a0)), some (.int (s0 + s1)), some (.int v2)]) hC dX3_openConflicts_29 rfl (Nat.le_of_ble_eq_true rfl) rfl ?_
  refine G_iinc (pc := 30) (i := 2) (v := (v2 + (1 : Int32))) (lw := [some (va_rf (some a0)), some (.int (s0 + s1)), some (.int (v2 + (1 : Int32)))]) hC dX3_openConflicts_30 rfl (Nat.le_of_ble_eq_true rfl) rfl rfl ?_
  refine G_goto (pc := 33) (tgt := 4) hC dX3_openConflicts_33 (by decide) ?_
  exact hK4 (s0 + s1) (v2 + (1 : Int32)) M hw
theorem g_X3_openConflicts_4 {k : kT} {F : Nat} {a0 : Nat} {Q : Int32 → hM → Prop} (hJ : JOK (kl k) (kg k)) (hC : CX k 3 cX3_openConflicts RX3 (some .int) 1 12) (hQ : isQ k (PI Q)) (hin : (kt k).name = "openConflicts") : ∀ (n : Nat) (v1 : Int32) (v2 : Int32) (M : hM), w_X3_openConflicts_4 (kg k) F a0 Q n v1 v2 M → GW k 3 M 4 [some (va_rf (some a0)), some (.int v1), some (.int v2)] [] := by
  intro n
  induction n with
  | zero =>
    intro v1 v2 M hw
    exact hw.elim
  | succ n ih =>
    intro v1 v2 M hw
    refine G_iload_n (pc := 4) (i := 2) hC dX3_openConflicts_4 rfl rfl ?_
    refine G_aload_n (pc := 5) (i := 0) hC dX3_openConflicts_5 rfl rfl ?_
    refine G_getI (pc := 6) (ci := 2) (C := RX3) (T := TX3) (N := 61) (f := 50) hC rfl in_X3 (Nat.le_of_ble_eq_true rfl) q3424 (fun _ h => h) dX3_openConflicts_6 hw (fun x1 hw => ?_)
    refine G_icmp_ge (pc := 9) (tgt := 36) hC dX3_openConflicts_9 (by decide) (fun hc => ?_) (fun hc => ?_)
    · replace hw := hw.1 hc
      refine G_iload_n (pc := 36) (i := 1) hC dX3_openConflicts_36 rfl rfl ?_
      exact G_iret (pc := 37) hC rfl hQ dX3_openConflicts_37 hw
    · replace hw := hw.2 hc
      refine G_iload_n (pc := 12) (i := 1) hC dX3_openConflicts_12 rfl rfl ?_
      refine G_aload_n (pc := 13) (i := 0) hC dX3_openConflicts_13 rfl rfl ?_
      refine G_getF (pc := 14) (ci := 2) (C := RX3) (T := TX3) (N := 61) (f := 49) hC rfl in_X3 (Nat.le_of_ble_eq_true rfl) q3423 (fun _ h => h) dX3_openConflicts_14 hw (fun x2 hw => ?_)
      refine G_iload_n (pc := 17) (i := 2) hC dX3_openConflicts_17 rfl rfl ?_
      refine G_iald (pc := 18) hC dX3_openConflicts_18 hw (fun x3 hw => ?_)
      refine G_iconst (pc := 19) (v := -1) hC dX3_openConflicts_19 (by decide) ?_
      refine G_icmp_ne (pc := 20) (tgt := 27) hC dX3_openConflicts_20 (by decide) (fun hc => ?_) (fun hc => ?_)
      · replace hw := hw.1 hc
        refine G_iconst (pc := 27) (v := 0) hC dX3_openConflicts_27 (by decide) ?_
        refine G_loc (lv' := [some (va_rf (some a0)), none, some (.int v2)]) ⟨Or.inr rfl, Or.inl rfl, Or.inr rfl, trivial⟩ ?_
        exact g_X3_openConflicts_28 hJ hC hQ hin ih  v2 v1 (0 : Int32) M hw
      · replace hw := hw.2 hc
        refine G_iconst (pc := 23) (v := 1) hC dX3_openConflicts_23 (by decide) ?_
        refine G_goto (pc := 24) (tgt := 28) hC dX3_openConflicts_24 (by decide) ?_
        refine G_loc (lv' := [some (va_rf (some a0)), none, some (.int v2)]) ⟨Or.inr rfl, Or.inl rfl, Or.inr rfl, trivial⟩ ?_
        exact g_X3_openConflicts_28 hJ hC hQ hin ih  v2 v1 (1 : Int32) M hw
theorem m_X3_openConflicts {l : Launch} {g : gT} {F : Nat} {a0 : Nat} {M : hM} {Q : Int32 → hM → Prop} (hJ : JOK l g) (hw : w_X3_openConflicts g F a0 M Q) : MG l g yX3_openConflicts (ws_ yX3_openConflicts cX3_openConflicts 3 (some .int)) 1 12 [va_rf (some a0)] M (PI Q) := by
  refine MG_of hJ.2.1 (by decide) (cat_r cat_e) (Nat.le_of_ble_eq_true rfl) (fun k hl hg hin hQ hC => ?_)
  subst hl hg
  show GW k 3 M 0 [some (va_rf (some a0)), none, none] []
  refine G_iconst (pc := 0) (v := 0) hC dX3_openConflicts_0 (by decide) ?_
  refine G_istore_n (pc := 1) (i := 1) (lw := [some (va_rf (some a0)), some (.int (0 : Int32)), none]) hC dX3_openConflicts_1 rfl (Nat.le_of_ble_eq_true rfl) rfl ?_
  refine G_iconst (pc := 2) (v := 0) hC dX3_openConflicts_2 (by decide) ?_
  refine G_istore_n (pc := 3) (i := 2) (lw := [some (va_rf (some a0)), some (.int (0 : Int32)), some (.int (0 : Int32))]) hC dX3_openConflicts_3 rfl (Nat.le_of_ble_eq_true rfl) rfl ?_
  exact g_X3_openConflicts_4 hJ hC hQ hin _ (0 : Int32) (0 : Int32) M hw
theorem hd_X3_openConflicts : yX3_openConflicts.cls = "MergeWorkbenchModel" ∧ yX3_openConflicts.cls ≠ "java/lang/invoke/MethodHandle" ∧ yX3_openConflicts.cls ≠ "java/lang/invoke/VarHandle" ∧ (parseMethodDescriptor yX3_openConflicts.desc).map (fun d => d.parameters.length) = some 0 := by decide +kernel
def w_X3_unresolved_23 (g : gT) (F : Nat) (a0 : Nat) (Q : Int32 → hM → Prop) (s0 : Int32) (M : hM) : Prop :=
  Q s0 M
def w_X3_unresolved (g : gT) (F : Nat) (a0 : Nat) (M : hM) (Q : Int32 → hM → Prop) : Prop :=
  gI M (some a0) 2 38 fun x1 => ((x1 = 0 → (isC M a0 2 ∧ w_X3_fails g F a0 (1 : Int32) M (fun x3 M2 => w_X3_unresolved_23 g F a0 Q x3 M2))) ∧ (¬ (x1 = 0) → (isC M a0 2 ∧ w_X3_openConflicts g F a0  M (fun x5 M4 => (isC M4 a0 2 ∧ w_X3_done g F a0 x5 M4 (fun x7 M6 => w_X3_unresolved_23 g F a0 Q x7 M6))))))
theorem g_X3_unresolved_23 {k : kT} {F : Nat} {a0 : Nat} {Q : Int32 → hM → Prop} (hJ : JOK (kl k) (kg k)) (hC : CX k 1 cX3_unresolved RX3 (some .int) 2 34) (hQ : isQ k (PI Q)) (hin : (kt k).name = "unresolved") : ∀ (s0 : Int32) (M : hM), w_X3_unresolved_23 (kg k) F a0 Q s0 M → GW k 1 M 23 [some (va_rf (some a0))] [.int s0] := by
  intro s0 M hw
  exact G_iret (pc := 23) hC rfl hQ dX3_unresolved_23 hw
theorem m_X3_unresolved {l : Launch} {g : gT} {F : Nat} {a0 : Nat} {M : hM} {Q : Int32 → hM → Prop} (hJ : JOK l g) (hw : w_X3_unresolved g F a0 M Q) : MG l g yX3_unresolved (ws_ yX3_unresolved cX3_unresolved 1 (some .int)) 2 34 [va_rf (some a0)] M (PI Q) := by
  refine MG_of hJ.2.1 (by decide) (cat_r cat_e) (Nat.le_of_ble_eq_true rfl) (fun k hl hg hin hQ hC => ?_)
  subst hl hg
  show GW k 1 M 0 [some (va_rf (some a0))] []
  refine G_aload_n (pc := 0) (i := 0) hC dX3_unresolved_0 rfl rfl ?_
  refine G_getI (pc := 1) (ci := 2) (C := RX3) (T := TX3) (N := 61) (f := 38) hC rfl in_X3 (Nat.le_of_ble_eq_true rfl) q3412 (fun _ h => h) dX3_unresolved_1 hw (fun x1 hw => ?_)
  refine G_if_eq (pc := 4) (tgt := 18) hC dX3_unresolved_4 (by decide) (fun hc => ?_) (fun hc => ?_)
  · replace hw := hw.1 hc
    refine G_aload_n (pc := 18) (i := 0) hC dX3_unresolved_18 rfl rfl ?_
    refine G_iconst (pc := 19) (v := 1) hC dX3_unresolved_19 (by decide) ?_
    obtain ⟨hb, hw⟩ := hw
    refine G_callV (pc := 20) (n := 1) (C := "MergeWorkbenchModel") (b := a0) (As := [.int (1 : Int32)]) (rest := []) hC (m_X3_fails hJ hw) (lw_V q3573 q3575 qs52 q108 q3576) hd_X3_fails (by decide) (rcv (C := RX3) (T := TX3) (N := 61) hC hb rfl) rfl rfl (st_c cat_e (Nat.le_of_ble_eq_true rfl)) dX3_unresolved_20 (kI fun x3 M2 hw => ?_)
    exact g_X3_unresolved_23 hJ hC hQ hin  x3 M2 hw
  · replace hw := hw.2 hc
    refine G_aload_n (pc := 7) (i := 0) hC dX3_unresolved_7 rfl rfl ?_
    refine G_aload_n (pc := 8) (i := 0) hC dX3_unresolved_8 rfl rfl ?_
    obtain ⟨hb, hw⟩ := hw
    refine G_callV (pc := 9) (n := 0) (C := "MergeWorkbenchModel") (b := a0) (As := []) (rest := [va_rf (some a0)]) hC (m_X3_openConflicts hJ hw) (lw_V q3785 q3787 qs77 q108 q3788) hd_X3_openConflicts (by decide) (rcv (C := RX3) (T := TX3) (N := 61) hC hb rfl) rfl rfl (st_c (cat_r cat_e) (Nat.le_of_ble_eq_true rfl)) dX3_unresolved_9 (kI fun x5 M4 hw => ?_)
    obtain ⟨hb, hw⟩ := hw
    refine G_callV (pc := 12) (n := 1) (C := "MergeWorkbenchModel") (b := a0) (As := [.int x5]) (rest := []) hC (m_X3_done hJ hw) (lw_V q3581 q3583 qs54 q108 q3584) hd_X3_done (by decide) (rcv (C := RX3) (T := TX3) (N := 61) hC hb rfl) rfl rfl (st_c cat_e (Nat.le_of_ble_eq_true rfl)) dX3_unresolved_12 (kI fun x7 M6 hw => ?_)
    refine G_goto (pc := 15) (tgt := 23) hC dX3_unresolved_15 (by decide) ?_
    exact g_X3_unresolved_23 hJ hC hQ hin  x7 M6 hw
def w_X3_tellMerged_111 (g : gT) (F : Nat) (a0 : Nat) (Q : hM → Prop) (K9 : Int32 → Int32 → hM → Prop) (v1 : Int32) (v2 : Int32) (M : hM) : Prop :=
  K9 v1 (v2 + (1 : Int32)) M
def w_X3_tellMerged_9 (g : gT) (F : Nat) (a0 : Nat) (Q : hM → Prop) : Nat → Int32 → Int32 → hM → Prop
  | 0, _, _, _ => False
  | n + 1, v1, v2, M => gI M (some a0) 2 48 fun x1 => ((x1 ≤ v2 → Q M) ∧ (¬ (x1 ≤ v2) → gF M (some a0) 2 47 fun x2 => aI M x2 0 ((7 : Int32) * v2) fun x3 => ((¬ x3 = (4 : Int32) → gF M (some a0) 2 47 fun x4 => aI M x4 0 ((7 : Int32) * v2) fun x5 => ((¬ x5 = (2 : Int32) → gF M (some a0) 2 41 fun x6 => gF M (some a0) 2 47 fun x7 => aI M x7 0 (((7 : Int32) * v2) + (3 : Int32)) fun x8 => gF M (some a0) 2 47 fun x9 => aI M x9 0 (((7 : Int32) * v2) + (4 : Int32)) fun x10 => (isC M a0 2 ∧ w_X3_goesOut g F a0 x6 x8 x10 M (fun M11 => w_X3_tellMerged_111 g F a0 Q (fun v1 v2 M => w_X3_tellMerged_9 g F a0 Q n v1 v2 M) v1 v2 M11))) ∧ (x5 = (2 : Int32) → gF M (some a0) 2 43 fun x12 => gF M (some a0) 2 47 fun x13 => aI M x13 0 (((7 : Int32) * v2) + (5 : Int32)) fun x14 => gF M (some a0) 2 47 fun x15 => aI M x15 0 (((7 : Int32) * v2) + (6 : Int32)) fun x16 => (isC M a0 2 ∧ w_X3_goesOut g F a0 x12 x14 x16 M (fun M17 => w_X3_tellMerged_111 g F a0 Q (fun v1 v2 M => w_X3_tellMerged_9 g F a0 Q n v1 v2 M) v1 v2 M17))))) ∧ (x3 = (4 : Int32) → gF M (some a0) 2 49 fun x18 => aI M x18 0 v1 fun x19 => (isC M a0 2 ∧ w_X3_resolvedOut g F a0 ((7 : Int32) * v2) x19 M (fun M20 => w_X3_tellMerged_111 g F a0 Q (fun v1 v2 M => w_X3_tellMerged_9 g F a0 Q n v1 v2 M) (v1 + (1 : Int32)) v2 M20))))))
def w_X3_tellMerged (g : gT) (F : Nat) (a0 : Nat) (M : hM) (Q : hM → Prop) : Prop :=
  pV M (some a0) 2 18 (.int (0 : Int32)) fun M1 => w_X3_tellMerged_9 g F a0 Q F (0 : Int32) (0 : Int32) M1
theorem g_X3_tellMerged_111 {k : kT} {F : Nat} {a0 : Nat} {Q : hM → Prop} {K9 : Int32 → Int32 → hM → Prop} (hJ : JOK (kl k) (kg k)) (hC : CX k 4 cX3_tellMerged RX3 none 3 58) (hQ : isQ k (PU Q)) (hin : (kt k).name = "tellMerged") (hK9 : ∀ (v1 : Int32) (v2 : Int32) (M : hM), K9 v1 v2 M → GW k 4 M 9 [some (va_rf (some a0)), some (.int v1), some (.int v2), none] []) : ∀ (v1 : Int32) (v2 : Int32) (M : hM), w_X3_tellMerged_111 (kg k) F a0 Q K9 v1 v2 M → GW k 4 M 111 [some (va_rf (some a0)), some (.int v1), some (.int v2), none] [] := by
  intro v1 v2 M hw
  refine G_iinc (pc := 111) (i := 2) (v := (v2 + (1 : Int32))) (lw := [some (va_rf (some a0)), some (.int v1), some (.int (v2 + (1 : Int32))), none]) hC dX3_tellMerged_111 rfl (Nat.le_of_ble_eq_true rfl) rfl rfl ?_
  refine G_goto (pc := 114) (tgt := 9) hC dX3_tellMerged_114 (by decide) ?_
  exact hK9 v1 (v2 + (1 : Int32)) M hw
theorem g_X3_tellMerged_9 {k : kT} {F : Nat} {a0 : Nat} {Q : hM → Prop} (hJ : JOK (kl k) (kg k)) (hC : CX k 4 cX3_tellMerged RX3 none 3 58) (hQ : isQ k (PU Q)) (hin : (kt k).name = "tellMerged") : ∀ (n : Nat) (v1 : Int32) (v2 : Int32) (M : hM), w_X3_tellMerged_9 (kg k) F a0 Q n v1 v2 M → GW k 4 M 9 [some (va_rf (some a0)), some (.int v1), some (.int v2), none] [] := by
  intro n
  induction n with
  | zero =>
    intro v1 v2 M hw
    exact hw.elim
  | succ n ih =>
    intro v1 v2 M hw
    refine G_iload_n (pc := 9) (i := 2) hC dX3_tellMerged_9 rfl rfl ?_
    refine G_aload_n (pc := 10) (i := 0) hC dX3_tellMerged_10 rfl rfl ?_
    refine G_getI (pc := 11) (ci := 2) (C := RX3) (T := TX3) (N := 61) (f := 48) hC rfl in_X3 (Nat.le_of_ble_eq_true rfl) q3422 (fun _ h => h) dX3_tellMerged_11 hw (fun x1 hw => ?_)
    refine G_icmp_ge (pc := 14) (tgt := 117) hC dX3_tellMerged_14 (by decide) (fun hc => ?_) (fun hc => ?_)
    · replace hw := hw.1 hc
      exact G_ret (pc := 117) hC hQ dX3_tellMerged_117 hw
    · replace hw := hw.2 hc
      refine G_bipush (pc := 17) (v := 7) hC dX3_tellMerged_17 (by decide) ?_
      refine G_iload_n (pc := 19) (i := 2) hC dX3_tellMerged_19 rfl rfl ?_
      refine G_imul (pc := 20) hC dX3_tellMerged_20 ?_
      refine G_istore_n (pc := 21) (i := 3) (lw := [some (va_rf (some a0)), some (.int v1), some (.int v2), some (.int ((7 : Int32) * v2))]) hC dX3_tellMerged_21 rfl (Nat.le_of_ble_eq_true rfl) rfl ?_
      refine G_aload_n (pc := 22) (i := 0) hC dX3_tellMerged_22 rfl rfl ?_
      refine G_getF (pc := 23) (ci := 2) (C := RX3) (T := TX3) (N := 61) (f := 47) hC rfl in_X3 (Nat.le_of_ble_eq_true rfl) q3421 (fun _ h => h) dX3_tellMerged_23 hw (fun x2 hw => ?_)
      refine G_iload_n (pc := 26) (i := 3) hC dX3_tellMerged_26 rfl rfl ?_
      refine G_iald (pc := 27) hC dX3_tellMerged_27 hw (fun x3 hw => ?_)
      refine G_iconst (pc := 28) (v := 4) hC dX3_tellMerged_28 (by decide) ?_
      refine G_icmp_ne (pc := 29) (tgt := 49) hC dX3_tellMerged_29 (by decide) (fun hc => ?_) (fun hc => ?_)
      · replace hw := hw.1 hc
        refine G_aload_n (pc := 49) (i := 0) hC dX3_tellMerged_49 rfl rfl ?_
        refine G_getF (pc := 50) (ci := 2) (C := RX3) (T := TX3) (N := 61) (f := 47) hC rfl in_X3 (Nat.le_of_ble_eq_true rfl) q3421 (fun _ h => h) dX3_tellMerged_50 hw (fun x4 hw => ?_)
        refine G_iload_n (pc := 53) (i := 3) hC dX3_tellMerged_53 rfl rfl ?_
        refine G_iald (pc := 54) hC dX3_tellMerged_54 hw (fun x5 hw => ?_)
        refine G_iconst (pc := 55) (v := 2) hC dX3_tellMerged_55 (by decide) ?_
        refine G_icmp_ne (pc := 56) (tgt := 87) hC dX3_tellMerged_56 (by decide) (fun hc => ?_) (fun hc => ?_)
        · replace hw := hw.1 hc
          refine G_aload_n (pc := 87) (i := 0) hC dX3_tellMerged_87 rfl rfl ?_
          refine G_aload_n (pc := 88) (i := 0) hC dX3_tellMerged_88 rfl rfl ?_
          refine G_getF (pc := 89) (ci := 2) (C := RX3) (T := TX3) (N := 61) (f := 41) hC rfl in_X3 (Nat.le_of_ble_eq_true rfl) q3415 (fun _ h => h) dX3_tellMerged_89 hw (fun x6 hw => ?_)
          refine G_aload_n (pc := 92) (i := 0) hC dX3_tellMerged_92 rfl rfl ?_
          refine G_getF (pc := 93) (ci := 2) (C := RX3) (T := TX3) (N := 61) (f := 47) hC rfl in_X3 (Nat.le_of_ble_eq_true rfl) q3421 (fun _ h => h) dX3_tellMerged_93 hw (fun x7 hw => ?_)
          refine G_iload_n (pc := 96) (i := 3) hC dX3_tellMerged_96 rfl rfl ?_
          refine G_iconst (pc := 97) (v := 3) hC dX3_tellMerged_97 (by decide) ?_
          refine G_iadd (pc := 98) hC dX3_tellMerged_98 ?_
          refine G_iald (pc := 99) hC dX3_tellMerged_99 hw (fun x8 hw => ?_)
          refine G_aload_n (pc := 100) (i := 0) hC dX3_tellMerged_100 rfl rfl ?_
          refine G_getF (pc := 101) (ci := 2) (C := RX3) (T := TX3) (N := 61) (f := 47) hC rfl in_X3 (Nat.le_of_ble_eq_true rfl) q3421 (fun _ h => h) dX3_tellMerged_101 hw (fun x9 hw => ?_)
          refine G_iload_n (pc := 104) (i := 3) hC dX3_tellMerged_104 rfl rfl ?_
          refine G_iconst (pc := 105) (v := 4) hC dX3_tellMerged_105 (by decide) ?_
          refine G_iadd (pc := 106) hC dX3_tellMerged_106 ?_
          refine G_iald (pc := 107) hC dX3_tellMerged_107 hw (fun x10 hw => ?_)
          obtain ⟨hb, hw⟩ := hw
          refine G_callV (pc := 108) (n := 3) (C := "MergeWorkbenchModel") (b := a0) (As := [va_rf x6, .int x8, .int x10]) (rest := []) hC (m_X3_goesOut hJ hw) (lw_V q3777 q3779 qs76 q108 q3780) hd_X3_goesOut (by decide) (rcv (C := RX3) (T := TX3) (N := 61) hC hb rfl) rfl rfl (st_c cat_e (Nat.le_of_ble_eq_true rfl)) dX3_tellMerged_108 (kU fun M11 hw => ?_)
          refine G_loc (lv' := [some (va_rf (some a0)), some (.int v1), some (.int v2), none]) ⟨Or.inr rfl, Or.inr rfl, Or.inr rfl, Or.inl rfl, trivial⟩ ?_
          exact g_X3_tellMerged_111 hJ hC hQ hin ih  v1 v2 M11 hw
        · replace hw := hw.2 hc
          refine G_aload_n (pc := 59) (i := 0) hC dX3_tellMerged_59 rfl rfl ?_
          refine G_aload_n (pc := 60) (i := 0) hC dX3_tellMerged_60 rfl rfl ?_
          refine G_getF (pc := 61) (ci := 2) (C := RX3) (T := TX3) (N := 61) (f := 43) hC rfl in_X3 (Nat.le_of_ble_eq_true rfl) q3417 (fun _ h => h) dX3_tellMerged_61 hw (fun x12 hw => ?_)
          refine G_aload_n (pc := 64) (i := 0) hC dX3_tellMerged_64 rfl rfl ?_
          refine G_getF (pc := 65) (ci := 2) (C := RX3) (T := TX3) (N := 61) (f := 47) hC rfl in_X3 (Nat.le_of_ble_eq_true rfl) q3421 (fun _ h => h) dX3_tellMerged_65 hw (fun x13 hw => ?_)
          refine G_iload_n (pc := 68) (i := 3) hC dX3_tellMerged_68 rfl rfl ?_
          refine G_iconst (pc := 69) (v := 5) hC dX3_tellMerged_69 (by decide) ?_
          refine G_iadd (pc := 70) hC dX3_tellMerged_70 ?_
          refine G_iald (pc := 71) hC dX3_tellMerged_71 hw (fun x14 hw => ?_)
          refine G_aload_n (pc := 72) (i := 0) hC dX3_tellMerged_72 rfl rfl ?_
          refine G_getF (pc := 73) (ci := 2) (C := RX3) (T := TX3) (N := 61) (f := 47) hC rfl in_X3 (Nat.le_of_ble_eq_true rfl) q3421 (fun _ h => h) dX3_tellMerged_73 hw (fun x15 hw => ?_)
          refine G_iload_n (pc := 76) (i := 3) hC dX3_tellMerged_76 rfl rfl ?_
          refine G_bipush (pc := 77) (v := 6) hC dX3_tellMerged_77 (by decide) ?_
          refine G_iadd (pc := 79) hC dX3_tellMerged_79 ?_
          refine G_iald (pc := 80) hC dX3_tellMerged_80 hw (fun x16 hw => ?_)
          obtain ⟨hb, hw⟩ := hw
          refine G_callV (pc := 81) (n := 3) (C := "MergeWorkbenchModel") (b := a0) (As := [va_rf x12, .int x14, .int x16]) (rest := []) hC (m_X3_goesOut hJ hw) (lw_V q3777 q3779 qs76 q108 q3780) hd_X3_goesOut (by decide) (rcv (C := RX3) (T := TX3) (N := 61) hC hb rfl) rfl rfl (st_c cat_e (Nat.le_of_ble_eq_true rfl)) dX3_tellMerged_81 (kU fun M17 hw => ?_)
          refine G_goto (pc := 84) (tgt := 111) hC dX3_tellMerged_84 (by decide) ?_
          refine G_loc (lv' := [some (va_rf (some a0)), some (.int v1), some (.int v2), none]) ⟨Or.inr rfl, Or.inr rfl, Or.inr rfl, Or.inl rfl, trivial⟩ ?_
          exact g_X3_tellMerged_111 hJ hC hQ hin ih  v1 v2 M17 hw
      · replace hw := hw.2 hc
        refine G_aload_n (pc := 32) (i := 0) hC dX3_tellMerged_32 rfl rfl ?_
        refine G_iload_n (pc := 33) (i := 3) hC dX3_tellMerged_33 rfl rfl ?_
        refine G_aload_n (pc := 34) (i := 0) hC dX3_tellMerged_34 rfl rfl ?_
        refine G_getF (pc := 35) (ci := 2) (C := RX3) (T := TX3) (N := 61) (f := 49) hC rfl in_X3 (Nat.le_of_ble_eq_true rfl) q3423 (fun _ h => h) dX3_tellMerged_35 hw (fun x18 hw => ?_)
        refine G_iload_n (pc := 38) (i := 1) hC dX3_tellMerged_38 rfl rfl ?_
        refine G_iald (pc := 39) hC dX3_tellMerged_39 hw (fun x19 hw => ?_)
        obtain ⟨hb, hw⟩ := hw
        refine G_callV (pc := 40) (n := 2) (C := "MergeWorkbenchModel") (b := a0) (As := [.int ((7 : Int32) * v2), .int x19]) (rest := []) hC (m_X3_resolvedOut hJ hw) (lw_V q3769 q3771 qs74 q108 q3772) hd_X3_resolvedOut (by decide) (rcv (C := RX3) (T := TX3) (N := 61) hC hb rfl) rfl rfl (st_c cat_e (Nat.le_of_ble_eq_true rfl)) dX3_tellMerged_40 (kU fun M20 hw => ?_)
        refine G_iinc (pc := 43) (i := 1) (v := (v1 + (1 : Int32))) (lw := [some (va_rf (some a0)), some (.int (v1 + (1 : Int32))), some (.int v2), some (.int ((7 : Int32) * v2))]) hC dX3_tellMerged_43 rfl (Nat.le_of_ble_eq_true rfl) rfl rfl ?_
        refine G_goto (pc := 46) (tgt := 111) hC dX3_tellMerged_46 (by decide) ?_
        refine G_loc (lv' := [some (va_rf (some a0)), some (.int (v1 + (1 : Int32))), some (.int v2), none]) ⟨Or.inr rfl, Or.inr rfl, Or.inr rfl, Or.inl rfl, trivial⟩ ?_
        exact g_X3_tellMerged_111 hJ hC hQ hin ih  (v1 + (1 : Int32)) v2 M20 hw
theorem m_X3_tellMerged {l : Launch} {g : gT} {F : Nat} {a0 : Nat} {M : hM} {Q : hM → Prop} (hJ : JOK l g) (hw : w_X3_tellMerged g F a0 M Q) : MG l g yX3_tellMerged (ws_ yX3_tellMerged cX3_tellMerged 4 none) 3 58 [va_rf (some a0)] M (PU Q) := by
  refine MG_of hJ.2.1 (by decide) (cat_r cat_e) (Nat.le_of_ble_eq_true rfl) (fun k hl hg hin hQ hC => ?_)
  subst hl hg
  show GW k 4 M 0 [some (va_rf (some a0)), none, none, none] []
  refine G_aload_n (pc := 0) (i := 0) hC dX3_tellMerged_0 rfl rfl ?_
  refine G_iconst (pc := 1) (v := 0) hC dX3_tellMerged_1 (by decide) ?_
  refine G_put (pc := 2) (ci := 2) (C := RX3) (T := TX3) (N := 61) (f := 18) tyX3 hC rfl in_X3 tyX3_ok nmX3 (Nat.le_of_ble_eq_true rfl) q3392 (fun _ h => h) rfl rfl rfl dX3_tellMerged_2 hw (fun M1 hw => ?_)
  refine G_iconst (pc := 5) (v := 0) hC dX3_tellMerged_5 (by decide) ?_
  refine G_istore_n (pc := 6) (i := 1) (lw := [some (va_rf (some a0)), some (.int (0 : Int32)), none, none]) hC dX3_tellMerged_6 rfl (Nat.le_of_ble_eq_true rfl) rfl ?_
  refine G_iconst (pc := 7) (v := 0) hC dX3_tellMerged_7 (by decide) ?_
  refine G_istore_n (pc := 8) (i := 2) (lw := [some (va_rf (some a0)), some (.int (0 : Int32)), some (.int (0 : Int32)), none]) hC dX3_tellMerged_8 rfl (Nat.le_of_ble_eq_true rfl) rfl ?_
  exact g_X3_tellMerged_9 hJ hC hQ hin _ (0 : Int32) (0 : Int32) M1 hw
theorem hd_X3_tellMerged : yX3_tellMerged.cls = "MergeWorkbenchModel" ∧ yX3_tellMerged.cls ≠ "java/lang/invoke/MethodHandle" ∧ yX3_tellMerged.cls ≠ "java/lang/invoke/VarHandle" ∧ (parseMethodDescriptor yX3_tellMerged.desc).map (fun d => d.parameters.length) = some 0 := by decide +kernel
def w_X3_mergedLength (g : gT) (F : Nat) (a0 : Nat) (M : hM) (Q : Int32 → hM → Prop) : Prop :=
  gI M (some a0) 2 38 fun x1 => ((¬ x1 = 0 → (isC M a0 2 ∧ w_X3_tellMerged g F a0  M (fun M2 => gI M2 (some a0) 2 18 fun x3 => (isC M2 a0 2 ∧ w_X3_done g F a0 x3 M2 (fun x5 M4 => Q x5 M4))))) ∧ (x1 = 0 → (isC M a0 2 ∧ w_X3_fails g F a0 (1 : Int32) M (fun x7 M6 => Q x7 M6))))
theorem m_X3_mergedLength {l : Launch} {g : gT} {F : Nat} {a0 : Nat} {M : hM} {Q : Int32 → hM → Prop} (hJ : JOK l g) (hw : w_X3_mergedLength g F a0 M Q) : MG l g yX3_mergedLength (ws_ yX3_mergedLength cX3_mergedLength 1 (some .int)) 4 81 [va_rf (some a0)] M (PI Q) := by
  refine MG_of hJ.2.1 (by decide) (cat_r cat_e) (Nat.le_of_ble_eq_true rfl) (fun k hl hg hin hQ hC => ?_)
  subst hl hg
  show GW k 1 M 0 [some (va_rf (some a0))] []
  refine G_aload_n (pc := 0) (i := 0) hC dX3_mergedLength_0 rfl rfl ?_
  refine G_getI (pc := 1) (ci := 2) (C := RX3) (T := TX3) (N := 61) (f := 38) hC rfl in_X3 (Nat.le_of_ble_eq_true rfl) q3412 (fun _ h => h) dX3_mergedLength_1 hw (fun x1 hw => ?_)
  refine G_if_ne (pc := 4) (tgt := 13) hC dX3_mergedLength_4 (by decide) (fun hc => ?_) (fun hc => ?_)
  · replace hw := hw.1 hc
    refine G_aload_n (pc := 13) (i := 0) hC dX3_mergedLength_13 rfl rfl ?_
    obtain ⟨hb, hw⟩ := hw
    refine G_callV (pc := 14) (n := 0) (C := "MergeWorkbenchModel") (b := a0) (As := []) (rest := []) hC (m_X3_tellMerged hJ hw) (lw_V q3793 q3795 qs78 q108 q3796) hd_X3_tellMerged (by decide) (rcv (C := RX3) (T := TX3) (N := 61) hC hb rfl) rfl rfl (st_c cat_e (Nat.le_of_ble_eq_true rfl)) dX3_mergedLength_14 (kU fun M2 hw => ?_)
    refine G_aload_n (pc := 17) (i := 0) hC dX3_mergedLength_17 rfl rfl ?_
    refine G_aload_n (pc := 18) (i := 0) hC dX3_mergedLength_18 rfl rfl ?_
    refine G_getI (pc := 19) (ci := 2) (C := RX3) (T := TX3) (N := 61) (f := 18) hC rfl in_X3 (Nat.le_of_ble_eq_true rfl) q3392 (fun _ h => h) dX3_mergedLength_19 hw (fun x3 hw => ?_)
    obtain ⟨hb, hw⟩ := hw
    refine G_callV (pc := 22) (n := 1) (C := "MergeWorkbenchModel") (b := a0) (As := [.int x3]) (rest := []) hC (m_X3_done hJ hw) (lw_V q3581 q3583 qs54 q108 q3584) hd_X3_done (by decide) (rcv (C := RX3) (T := TX3) (N := 61) hC hb rfl) rfl rfl (st_c cat_e (Nat.le_of_ble_eq_true rfl)) dX3_mergedLength_22 (kI fun x5 M4 hw => ?_)
    exact G_iret (pc := 25) hC rfl hQ dX3_mergedLength_25 hw
  · replace hw := hw.2 hc
    refine G_aload_n (pc := 7) (i := 0) hC dX3_mergedLength_7 rfl rfl ?_
    refine G_iconst (pc := 8) (v := 1) hC dX3_mergedLength_8 (by decide) ?_
    obtain ⟨hb, hw⟩ := hw
    refine G_callV (pc := 9) (n := 1) (C := "MergeWorkbenchModel") (b := a0) (As := [.int (1 : Int32)]) (rest := []) hC (m_X3_fails hJ hw) (lw_V q3573 q3575 qs52 q108 q3576) hd_X3_fails (by decide) (rcv (C := RX3) (T := TX3) (N := 61) hC hb rfl) rfl rfl (st_c cat_e (Nat.le_of_ble_eq_true rfl)) dX3_mergedLength_9 (kI fun x7 M6 hw => ?_)
    exact G_iret (pc := 12) hC rfl hQ dX3_mergedLength_12 hw
def w_X3_merged_49 (g : gT) (F : Nat) (a0 : Nat) (p1 : Int32) (Q : Int32 → hM → Prop) (s0 : Int32) (M : hM) : Prop :=
  Q s0 M
def w_X3_merged (g : gT) (F : Nat) (a0 : Nat) (p1 : Int32) (M : hM) (Q : Int32 → hM → Prop) : Prop :=
  gI M (some a0) 2 38 fun x1 => ((¬ x1 = 0 → (isC M a0 2 ∧ w_X3_tellMerged g F a0  M (fun M2 => gI M2 (some a0) 2 18 fun x3 => w_X3_in g F p1 (0 : Int32) (x3 - (1 : Int32)) M2 (fun x5 M4 => ((x5 = 0 → (isC M4 a0 2 ∧ w_X3_fails g F a0 (2 : Int32) M4 (fun x7 M6 => w_X3_merged_49 g F a0 p1 Q x7 M6))) ∧ (¬ (x5 = 0) → gF M4 (some a0) 2 15 fun x8 => aI M4 x8 0 p1 fun x9 => (isC M4 a0 2 ∧ w_X3_done g F a0 x9 M4 (fun x11 M10 => w_X3_merged_49 g F a0 p1 Q x11 M10)))))))) ∧ (x1 = 0 → (isC M a0 2 ∧ w_X3_fails g F a0 (1 : Int32) M (fun x13 M12 => Q x13 M12))))
theorem g_X3_merged_49 {k : kT} {F : Nat} {a0 : Nat} {p1 : Int32} {Q : Int32 → hM → Prop} (hJ : JOK (kl k) (kg k)) (hC : CX k 2 cX3_merged RX3 (some .int) 4 81) (hQ : isQ k (PI Q)) (hin : (kt k).name = "merged") : ∀ (s0 : Int32) (M : hM), w_X3_merged_49 (kg k) F a0 p1 Q s0 M → GW k 2 M 49 [some (va_rf (some a0)), some (.int p1)] [.int s0] := by
  intro s0 M hw
  exact G_iret (pc := 49) hC rfl hQ dX3_merged_49 hw
theorem m_X3_merged {l : Launch} {g : gT} {F : Nat} {a0 : Nat} {p1 : Int32} {M : hM} {Q : Int32 → hM → Prop} (hJ : JOK l g) (hw : w_X3_merged g F a0 p1 M Q) : MG l g yX3_merged (ws_ yX3_merged cX3_merged 2 (some .int)) 4 81 [va_rf (some a0), .int p1] M (PI Q) := by
  refine MG_of hJ.2.1 (by decide) (cat_r (cat_i cat_e)) (Nat.le_of_ble_eq_true rfl) (fun k hl hg hin hQ hC => ?_)
  subst hl hg
  show GW k 2 M 0 [some (va_rf (some a0)), some (.int p1)] []
  refine G_aload_n (pc := 0) (i := 0) hC dX3_merged_0 rfl rfl ?_
  refine G_getI (pc := 1) (ci := 2) (C := RX3) (T := TX3) (N := 61) (f := 38) hC rfl in_X3 (Nat.le_of_ble_eq_true rfl) q3412 (fun _ h => h) dX3_merged_1 hw (fun x1 hw => ?_)
  refine G_if_ne (pc := 4) (tgt := 13) hC dX3_merged_4 (by decide) (fun hc => ?_) (fun hc => ?_)
  · replace hw := hw.1 hc
    refine G_aload_n (pc := 13) (i := 0) hC dX3_merged_13 rfl rfl ?_
    obtain ⟨hb, hw⟩ := hw
    refine G_callV (pc := 14) (n := 0) (C := "MergeWorkbenchModel") (b := a0) (As := []) (rest := []) hC (m_X3_tellMerged hJ hw) (lw_V q3793 q3795 qs78 q108 q3796) hd_X3_tellMerged (by decide) (rcv (C := RX3) (T := TX3) (N := 61) hC hb rfl) rfl rfl (st_c cat_e (Nat.le_of_ble_eq_true rfl)) dX3_merged_14 (kU fun M2 hw => ?_)
    refine G_iload_n (pc := 17) (i := 1) hC dX3_merged_17 rfl rfl ?_
    refine G_iconst (pc := 18) (v := 0) hC dX3_merged_18 (by decide) ?_
    refine G_aload_n (pc := 19) (i := 0) hC dX3_merged_19 rfl rfl ?_
    refine G_getI (pc := 20) (ci := 2) (C := RX3) (T := TX3) (N := 61) (f := 18) hC rfl in_X3 (Nat.le_of_ble_eq_true rfl) q3392 (fun _ h => h) dX3_merged_20 hw (fun x3 hw => ?_)
    refine G_iconst (pc := 23) (v := 1) hC dX3_merged_23 (by decide) ?_
    refine G_isub (pc := 24) hC dX3_merged_24 ?_
    refine G_callS (pc := 25) (n := 3) (As := [.int p1, .int (0 : Int32), .int (x3 - (1 : Int32))]) (rest := []) hC (m_X3_in hJ hw) (lw_S q3570 q3571 q108 q3572) hd_X3_in.2 (by decide) rfl rfl (st_c cat_e (Nat.le_of_ble_eq_true rfl)) dX3_merged_25 (kI fun x5 M4 hw => ?_)
    refine G_if_eq (pc := 28) (tgt := 44) hC dX3_merged_28 (by decide) (fun hc => ?_) (fun hc => ?_)
    · replace hw := hw.1 hc
      refine G_aload_n (pc := 44) (i := 0) hC dX3_merged_44 rfl rfl ?_
      refine G_iconst (pc := 45) (v := 2) hC dX3_merged_45 (by decide) ?_
      obtain ⟨hb, hw⟩ := hw
      refine G_callV (pc := 46) (n := 1) (C := "MergeWorkbenchModel") (b := a0) (As := [.int (2 : Int32)]) (rest := []) hC (m_X3_fails hJ hw) (lw_V q3573 q3575 qs52 q108 q3576) hd_X3_fails (by decide) (rcv (C := RX3) (T := TX3) (N := 61) hC hb rfl) rfl rfl (st_c cat_e (Nat.le_of_ble_eq_true rfl)) dX3_merged_46 (kI fun x7 M6 hw => ?_)
      exact g_X3_merged_49 hJ hC hQ hin  x7 M6 hw
    · replace hw := hw.2 hc
      refine G_aload_n (pc := 31) (i := 0) hC dX3_merged_31 rfl rfl ?_
      refine G_aload_n (pc := 32) (i := 0) hC dX3_merged_32 rfl rfl ?_
      refine G_getF (pc := 33) (ci := 2) (C := RX3) (T := TX3) (N := 61) (f := 15) hC rfl in_X3 (Nat.le_of_ble_eq_true rfl) q3389 (fun _ h => h) dX3_merged_33 hw (fun x8 hw => ?_)
      refine G_iload_n (pc := 36) (i := 1) hC dX3_merged_36 rfl rfl ?_
      refine G_iald (pc := 37) hC dX3_merged_37 hw (fun x9 hw => ?_)
      obtain ⟨hb, hw⟩ := hw
      refine G_callV (pc := 38) (n := 1) (C := "MergeWorkbenchModel") (b := a0) (As := [.int x9]) (rest := []) hC (m_X3_done hJ hw) (lw_V q3581 q3583 qs54 q108 q3584) hd_X3_done (by decide) (rcv (C := RX3) (T := TX3) (N := 61) hC hb rfl) rfl rfl (st_c cat_e (Nat.le_of_ble_eq_true rfl)) dX3_merged_38 (kI fun x11 M10 hw => ?_)
      refine G_goto (pc := 41) (tgt := 49) hC dX3_merged_41 (by decide) ?_
      exact g_X3_merged_49 hJ hC hQ hin  x11 M10 hw
  · replace hw := hw.2 hc
    refine G_aload_n (pc := 7) (i := 0) hC dX3_merged_7 rfl rfl ?_
    refine G_iconst (pc := 8) (v := 1) hC dX3_merged_8 (by decide) ?_
    obtain ⟨hb, hw⟩ := hw
    refine G_callV (pc := 9) (n := 1) (C := "MergeWorkbenchModel") (b := a0) (As := [.int (1 : Int32)]) (rest := []) hC (m_X3_fails hJ hw) (lw_V q3573 q3575 qs52 q108 q3576) hd_X3_fails (by decide) (rcv (C := RX3) (T := TX3) (N := 61) hC hb rfl) rfl rfl (st_c cat_e (Nat.le_of_ble_eq_true rfl)) dX3_merged_9 (kI fun x13 M12 hw => ?_)
    exact G_iret (pc := 12) hC rfl hQ dX3_merged_12 hw
def w_X3_accept_27 (g : gT) (F : Nat) (a0 : Nat) (p1 : Int32) (Q : Int32 → hM → Prop) (M : hM) : Prop :=
  (isC M a0 2 ∧ w_X3_fails g F a0 (2 : Int32) M (fun x2 M1 => Q x2 M1))
def w_X3_accept (g : gT) (F : Nat) (a0 : Nat) (p1 : Int32) (M : hM) (Q : Int32 → hM → Prop) : Prop :=
  w_X3_isRegister g F p1 M (fun x2 M1 => ((¬ x2 = 0 → gI M1 (some a0) 2 38 fun x3 => ((x3 = 0 → w_X3_accept_27 g F a0 p1 Q M1) ∧ (¬ (x3 = 0) → (isC M1 a0 2 ∧ w_X3_openConflicts g F a0  M1 (fun x5 M4 => ((x5 ≤ 0 → (isC M4 a0 2 ∧ w_X3_tellMerged g F a0  M4 (fun M6 => gI M6 (some a0) 2 18 fun x7 => ((x7 ≤ (24 : Int32) → (isC M6 a0 2 ∧ w_X3_remembers g F a0 p1 M6 (fun M8 => gF M8 (some a0) 2 15 fun x9 => gI M8 (some a0) 2 18 fun x10 => (isC M8 a0 2 ∧ w_X3_holds g F a0 p1 x9 x10 M8 (fun M11 => gI M11 (some a0) 2 18 fun x12 => (isC M11 a0 2 ∧ w_X3_done g F a0 x12 M11 (fun x14 M13 => Q x14 M13))))))) ∧ (¬ (x7 ≤ (24 : Int32)) → (isC M6 a0 2 ∧ w_X3_fails g F a0 (3 : Int32) M6 (fun x16 M15 => Q x16 M15))))))) ∧ (¬ (x5 ≤ 0) → w_X3_accept_27 g F a0 p1 Q M4))))))) ∧ (x2 = 0 → (isC M1 a0 2 ∧ w_X3_fails g F a0 (1 : Int32) M1 (fun x18 M17 => Q x18 M17)))))
theorem g_X3_accept_27 {k : kT} {F : Nat} {a0 : Nat} {p1 : Int32} {Q : Int32 → hM → Prop} (hJ : JOK (kl k) (kg k)) (hC : CX k 2 cX3_accept RX3 (some .int) 4 81) (hQ : isQ k (PI Q)) (hin : (kt k).name = "accept") : ∀  (M : hM), w_X3_accept_27 (kg k) F a0 p1 Q  M → GW k 2 M 27 [some (va_rf (some a0)), some (.int p1)] [] := by
  intro  M hw
  refine G_aload_n (pc := 27) (i := 0) hC dX3_accept_27 rfl rfl ?_
  refine G_iconst (pc := 28) (v := 2) hC dX3_accept_28 (by decide) ?_
  obtain ⟨hb, hw⟩ := hw
  refine G_callV (pc := 29) (n := 1) (C := "MergeWorkbenchModel") (b := a0) (As := [.int (2 : Int32)]) (rest := []) hC (m_X3_fails hJ hw) (lw_V q3573 q3575 qs52 q108 q3576) hd_X3_fails (by decide) (rcv (C := RX3) (T := TX3) (N := 61) hC hb rfl) rfl rfl (st_c cat_e (Nat.le_of_ble_eq_true rfl)) dX3_accept_29 (kI fun x2 M1 hw => ?_)
  exact G_iret (pc := 32) hC rfl hQ dX3_accept_32 hw
theorem m_X3_accept {l : Launch} {g : gT} {F : Nat} {a0 : Nat} {p1 : Int32} {M : hM} {Q : Int32 → hM → Prop} (hJ : JOK l g) (hw : w_X3_accept g F a0 p1 M Q) : MG l g yX3_accept (ws_ yX3_accept cX3_accept 2 (some .int)) 4 81 [va_rf (some a0), .int p1] M (PI Q) := by
  refine MG_of hJ.2.1 (by decide) (cat_r (cat_i cat_e)) (Nat.le_of_ble_eq_true rfl) (fun k hl hg hin hQ hC => ?_)
  subst hl hg
  show GW k 2 M 0 [some (va_rf (some a0)), some (.int p1)] []
  refine G_iload_n (pc := 0) (i := 1) hC dX3_accept_0 rfl rfl ?_
  refine G_callS (pc := 1) (n := 1) (As := [.int p1]) (rest := []) hC (m_X3_isRegister hJ hw) (lw_S q3567 q3568 q108 q3569) hd_X3_isRegister.2 (by decide) rfl rfl (st_c cat_e (Nat.le_of_ble_eq_true rfl)) dX3_accept_1 (kI fun x2 M1 hw => ?_)
  refine G_if_ne (pc := 4) (tgt := 13) hC dX3_accept_4 (by decide) (fun hc => ?_) (fun hc => ?_)
  · replace hw := hw.1 hc
    refine G_aload_n (pc := 13) (i := 0) hC dX3_accept_13 rfl rfl ?_
    refine G_getI (pc := 14) (ci := 2) (C := RX3) (T := TX3) (N := 61) (f := 38) hC rfl in_X3 (Nat.le_of_ble_eq_true rfl) q3412 (fun _ h => h) dX3_accept_14 hw (fun x3 hw => ?_)
    refine G_if_eq (pc := 17) (tgt := 27) hC dX3_accept_17 (by decide) (fun hc => ?_) (fun hc => ?_)
    · replace hw := hw.1 hc
      exact g_X3_accept_27 hJ hC hQ hin   M1 hw
    · replace hw := hw.2 hc
      refine G_aload_n (pc := 20) (i := 0) hC dX3_accept_20 rfl rfl ?_
      obtain ⟨hb, hw⟩ := hw
      refine G_callV (pc := 21) (n := 0) (C := "MergeWorkbenchModel") (b := a0) (As := []) (rest := []) hC (m_X3_openConflicts hJ hw) (lw_V q3785 q3787 qs77 q108 q3788) hd_X3_openConflicts (by decide) (rcv (C := RX3) (T := TX3) (N := 61) hC hb rfl) rfl rfl (st_c cat_e (Nat.le_of_ble_eq_true rfl)) dX3_accept_21 (kI fun x5 M4 hw => ?_)
      refine G_if_le (pc := 24) (tgt := 33) hC dX3_accept_24 (by decide) (fun hc => ?_) (fun hc => ?_)
      · replace hw := hw.1 hc
        refine G_aload_n (pc := 33) (i := 0) hC dX3_accept_33 rfl rfl ?_
        obtain ⟨hb, hw⟩ := hw
        refine G_callV (pc := 34) (n := 0) (C := "MergeWorkbenchModel") (b := a0) (As := []) (rest := []) hC (m_X3_tellMerged hJ hw) (lw_V q3793 q3795 qs78 q108 q3796) hd_X3_tellMerged (by decide) (rcv (C := RX3) (T := TX3) (N := 61) hC hb rfl) rfl rfl (st_c cat_e (Nat.le_of_ble_eq_true rfl)) dX3_accept_34 (kU fun M6 hw => ?_)
        refine G_aload_n (pc := 37) (i := 0) hC dX3_accept_37 rfl rfl ?_
        refine G_getI (pc := 38) (ci := 2) (C := RX3) (T := TX3) (N := 61) (f := 18) hC rfl in_X3 (Nat.le_of_ble_eq_true rfl) q3392 (fun _ h => h) dX3_accept_38 hw (fun x7 hw => ?_)
        refine G_bipush (pc := 41) (v := 24) hC dX3_accept_41 (by decide) ?_
        refine G_icmp_le (pc := 43) (tgt := 52) hC dX3_accept_43 (by decide) (fun hc => ?_) (fun hc => ?_)
        · replace hw := hw.1 hc
          refine G_aload_n (pc := 52) (i := 0) hC dX3_accept_52 rfl rfl ?_
          refine G_iload_n (pc := 53) (i := 1) hC dX3_accept_53 rfl rfl ?_
          obtain ⟨hb, hw⟩ := hw
          refine G_callV (pc := 54) (n := 1) (C := "MergeWorkbenchModel") (b := a0) (As := [.int p1]) (rest := []) hC (m_X3_remembers hJ hw) (lw_V q3577 q3579 qs53 q108 q3580) hd_X3_remembers (by decide) (rcv (C := RX3) (T := TX3) (N := 61) hC hb rfl) rfl rfl (st_c cat_e (Nat.le_of_ble_eq_true rfl)) dX3_accept_54 (kU fun M8 hw => ?_)
          refine G_aload_n (pc := 57) (i := 0) hC dX3_accept_57 rfl rfl ?_
          refine G_iload_n (pc := 58) (i := 1) hC dX3_accept_58 rfl rfl ?_
          refine G_aload_n (pc := 59) (i := 0) hC dX3_accept_59 rfl rfl ?_
          refine G_getF (pc := 60) (ci := 2) (C := RX3) (T := TX3) (N := 61) (f := 15) hC rfl in_X3 (Nat.le_of_ble_eq_true rfl) q3389 (fun _ h => h) dX3_accept_60 hw (fun x9 hw => ?_)
          refine G_aload_n (pc := 63) (i := 0) hC dX3_accept_63 rfl rfl ?_
          refine G_getI (pc := 64) (ci := 2) (C := RX3) (T := TX3) (N := 61) (f := 18) hC rfl in_X3 (Nat.le_of_ble_eq_true rfl) q3392 (fun _ h => h) dX3_accept_64 hw (fun x10 hw => ?_)
          obtain ⟨hb, hw⟩ := hw
          refine G_callV (pc := 67) (n := 3) (C := "MergeWorkbenchModel") (b := a0) (As := [.int p1, va_rf x9, .int x10]) (rest := []) hC (m_X3_holds hJ hw) (lw_V q3605 q3607 qs55 q108 q3608) hd_X3_holds (by decide) (rcv (C := RX3) (T := TX3) (N := 61) hC hb rfl) rfl rfl (st_c cat_e (Nat.le_of_ble_eq_true rfl)) dX3_accept_67 (kU fun M11 hw => ?_)
          refine G_aload_n (pc := 70) (i := 0) hC dX3_accept_70 rfl rfl ?_
          refine G_aload_n (pc := 71) (i := 0) hC dX3_accept_71 rfl rfl ?_
          refine G_getI (pc := 72) (ci := 2) (C := RX3) (T := TX3) (N := 61) (f := 18) hC rfl in_X3 (Nat.le_of_ble_eq_true rfl) q3392 (fun _ h => h) dX3_accept_72 hw (fun x12 hw => ?_)
          obtain ⟨hb, hw⟩ := hw
          refine G_callV (pc := 75) (n := 1) (C := "MergeWorkbenchModel") (b := a0) (As := [.int x12]) (rest := []) hC (m_X3_done hJ hw) (lw_V q3581 q3583 qs54 q108 q3584) hd_X3_done (by decide) (rcv (C := RX3) (T := TX3) (N := 61) hC hb rfl) rfl rfl (st_c cat_e (Nat.le_of_ble_eq_true rfl)) dX3_accept_75 (kI fun x14 M13 hw => ?_)
          exact G_iret (pc := 78) hC rfl hQ dX3_accept_78 hw
        · replace hw := hw.2 hc
          refine G_aload_n (pc := 46) (i := 0) hC dX3_accept_46 rfl rfl ?_
          refine G_iconst (pc := 47) (v := 3) hC dX3_accept_47 (by decide) ?_
          obtain ⟨hb, hw⟩ := hw
          refine G_callV (pc := 48) (n := 1) (C := "MergeWorkbenchModel") (b := a0) (As := [.int (3 : Int32)]) (rest := []) hC (m_X3_fails hJ hw) (lw_V q3573 q3575 qs52 q108 q3576) hd_X3_fails (by decide) (rcv (C := RX3) (T := TX3) (N := 61) hC hb rfl) rfl rfl (st_c cat_e (Nat.le_of_ble_eq_true rfl)) dX3_accept_48 (kI fun x16 M15 hw => ?_)
          exact G_iret (pc := 51) hC rfl hQ dX3_accept_51 hw
      · replace hw := hw.2 hc
        exact g_X3_accept_27 hJ hC hQ hin   M4 hw
  · replace hw := hw.2 hc
    refine G_aload_n (pc := 7) (i := 0) hC dX3_accept_7 rfl rfl ?_
    refine G_iconst (pc := 8) (v := 1) hC dX3_accept_8 (by decide) ?_
    obtain ⟨hb, hw⟩ := hw
    refine G_callV (pc := 9) (n := 1) (C := "MergeWorkbenchModel") (b := a0) (As := [.int (1 : Int32)]) (rest := []) hC (m_X3_fails hJ hw) (lw_V q3573 q3575 qs52 q108 q3576) hd_X3_fails (by decide) (rcv (C := RX3) (T := TX3) (N := 61) hC hb rfl) rfl rfl (st_c cat_e (Nat.le_of_ble_eq_true rfl)) dX3_accept_9 (kI fun x18 M17 hw => ?_)
    exact G_iret (pc := 12) hC rfl hQ dX3_accept_12 hw
def w_X3_least_10 (g : gT) (F : Nat) (p0 : Int32) (p1 : Int32) (Q : Int32 → hM → Prop) (s0 : Int32) (M : hM) : Prop :=
  Q s0 M
def w_X3_least (g : gT) (F : Nat) (p0 : Int32) (p1 : Int32) (M : hM) (Q : Int32 → hM → Prop) : Prop :=
  ((p1 ≤ p0 → w_X3_least_10 g F p0 p1 Q p1 M) ∧ (¬ (p1 ≤ p0) → w_X3_least_10 g F p0 p1 Q p0 M))
theorem g_X3_least_10 {k : kT} {F : Nat} {p0 : Int32} {p1 : Int32} {Q : Int32 → hM → Prop} (hJ : JOK (kl k) (kg k)) (hC : CX k 2 cX3_least RX3 (some .int) 1 12) (hQ : isQ k (PI Q)) (hin : (kt k).name = "least") : ∀ (s0 : Int32) (M : hM), w_X3_least_10 (kg k) F p0 p1 Q s0 M → GW k 2 M 10 [some (.int p0), some (.int p1)] [.int s0] := by
  intro s0 M hw
  exact G_iret (pc := 10) hC rfl hQ dX3_least_10 hw
theorem m_X3_least {l : Launch} {g : gT} {F : Nat} {p0 : Int32} {p1 : Int32} {M : hM} {Q : Int32 → hM → Prop} (hJ : JOK l g) (hw : w_X3_least g F p0 p1 M Q) : MG l g yX3_least (ws_ yX3_least cX3_least 2 (some .int)) 1 12 [.int p0, .int p1] M (PI Q) := by
  refine MG_of hJ.2.1 (by decide) (cat_i (cat_i cat_e)) (Nat.le_of_ble_eq_true rfl) (fun k hl hg hin hQ hC => ?_)
  subst hl hg
  show GW k 2 M 0 [some (.int p0), some (.int p1)] []
  refine G_iload_n (pc := 0) (i := 0) hC dX3_least_0 rfl rfl ?_
  refine G_iload_n (pc := 1) (i := 1) hC dX3_least_1 rfl rfl ?_
  refine G_icmp_ge (pc := 2) (tgt := 9) hC dX3_least_2 (by decide) (fun hc => ?_) (fun hc => ?_)
  · replace hw := hw.1 hc
    refine G_iload_n (pc := 9) (i := 1) hC dX3_least_9 rfl rfl ?_
    exact g_X3_least_10 hJ hC hQ hin  p1 M hw
  · replace hw := hw.2 hc
    refine G_iload_n (pc := 5) (i := 0) hC dX3_least_5 rfl rfl ?_
    refine G_goto (pc := 6) (tgt := 10) hC dX3_least_6 (by decide) ?_
    exact g_X3_least_10 hJ hC hQ hin  p0 M hw
theorem hd_X3_least : yX3_least.cls = "MergeWorkbenchModel" ∧ yX3_least.cls ≠ "java/lang/invoke/MethodHandle" ∧ yX3_least.cls ≠ "java/lang/invoke/VarHandle" ∧ (parseMethodDescriptor yX3_least.desc).map (fun d => d.parameters.length) = some 2 := by decide +kernel
def w_X3_makePatch_136 (g : gT) (F : Nat) (a0 : Nat) (p1 : Int32) (Q : Int32 → hM → Prop) (K83 : Int32 → hM → Prop) (v2 : Int32) (v3 : Int32) (M : hM) : Prop :=
  gF M (some a0) 2 34 fun x1 => aI M x1 0 ((4 : Int32) * v2) fun x2 => w_X3_least g F p1 x2 M (fun x4 M3 => gI M3 (some a0) 2 27 fun x5 => gF M3 (some a0) 2 34 fun x6 => aI M3 x6 0 (((4 : Int32) * v3) + (1 : Int32)) fun x7 => w_X3_least g F p1 (x5 - x7) M3 (fun x9 M8 => gI M8 (some a0) 2 53 fun x10 => gF M8 (some a0) 2 52 fun x11 => gF M8 (some a0) 2 34 fun x12 => aI M8 x12 0 ((4 : Int32) * v2) fun x13 => sI M8 x11 0 ((6 : Int32) * x10) (x13 - x4) fun M14 => gF M14 (some a0) 2 52 fun x15 => gF M14 (some a0) 2 34 fun x16 => aI M14 x16 0 (((4 : Int32) * v3) + (1 : Int32)) fun x17 => gF M14 (some a0) 2 52 fun x18 => aI M14 x18 0 ((6 : Int32) * x10) fun x19 => sI M14 x15 0 (((6 : Int32) * x10) + (1 : Int32)) ((x17 + x9) - x19) fun M20 => gF M20 (some a0) 2 52 fun x21 => gF M20 (some a0) 2 34 fun x22 => aI M20 x22 0 (((4 : Int32) * v2) + (2 : Int32)) fun x23 => sI M20 x21 0 (((6 : Int32) * x10) + (2 : Int32)) (x23 - x4) fun M24 => gF M24 (some a0) 2 52 fun x25 => gF M24 (some a0) 2 34 fun x26 => aI M24 x26 0 (((4 : Int32) * v3) + (3 : Int32)) fun x27 => gF M24 (some a0) 2 52 fun x28 => aI M24 x28 0 (((6 : Int32) * x10) + (2 : Int32)) fun x29 => sI M24 x25 0 (((6 : Int32) * x10) + (3 : Int32)) ((x27 + x9) - x29) fun M30 => gF M30 (some a0) 2 52 fun x31 => sI M30 x31 0 (((6 : Int32) * x10) + (4 : Int32)) x4 fun M32 => gF M32 (some a0) 2 52 fun x33 => sI M32 x33 0 (((6 : Int32) * x10) + (5 : Int32)) x9 fun M34 => gI M34 (some a0) 2 53 fun x35 => pV M34 (some a0) 2 53 (.int (x35 + (1 : Int32))) fun M36 => K83 (v3 + (1 : Int32)) M36))
def w_X3_makePatch_93 (g : gT) (F : Nat) (a0 : Nat) (p1 : Int32) (Q : Int32 → hM → Prop) (K83 : Int32 → hM → Prop) : Nat → Int32 → Int32 → hM → Prop
  | 0, _, _, _ => False
  | n + 1, v2, v3, M => gI M (some a0) 2 35 fun x1 => ((x1 ≤ (v3 + (1 : Int32)) → w_X3_makePatch_136 g F a0 p1 Q K83 v2 v3 M) ∧ (¬ (x1 ≤ (v3 + (1 : Int32))) → gF M (some a0) 2 34 fun x2 => aI M x2 0 (((4 : Int32) * v3) + (4 : Int32)) fun x3 => gF M (some a0) 2 34 fun x4 => aI M x4 0 (((4 : Int32) * v3) + (1 : Int32)) fun x5 => ((((2 : Int32) * p1) < (x3 - x5) → w_X3_makePatch_136 g F a0 p1 Q K83 v2 v3 M) ∧ (¬ (((2 : Int32) * p1) < (x3 - x5)) → w_X3_makePatch_93 g F a0 p1 Q K83 n v2 (v3 + (1 : Int32)) M))))
def w_X3_makePatch_83 (g : gT) (F : Nat) (a0 : Nat) (p1 : Int32) (Q : Int32 → hM → Prop) : Nat → Int32 → hM → Prop
  | 0, _, _ => False
  | n + 1, v2, M => gI M (some a0) 2 35 fun x1 => ((x1 ≤ v2 → gI M (some a0) 2 53 fun x2 => (isC M a0 2 ∧ w_X3_done g F a0 x2 M (fun x4 M3 => Q x4 M3))) ∧ (¬ (x1 ≤ v2) → w_X3_makePatch_93 g F a0 p1 Q (fun v2 M => w_X3_makePatch_83 g F a0 p1 Q n v2 M) F v2 v2 M))
def w_X3_makePatch_45 (g : gT) (F : Nat) (a0 : Nat) (p1 : Int32) (Q : Int32 → hM → Prop) : Nat → Int32 → hM → Prop
  | 0, _, _ => False
  | n + 1, v2, M => (((24 : Int32) ≤ v2 → w_X3_makePatch_83 g F a0 p1 Q F (0 : Int32) M) ∧ (¬ ((24 : Int32) ≤ v2) → gF M (some a0) 2 54 fun x1 => gF M (some a0) 2 26 fun x2 => aI M x2 0 v2 fun x3 => sI M x1 0 v2 x3 fun M4 => gF M4 (some a0) 2 55 fun x5 => gF M4 (some a0) 2 28 fun x6 => aI M4 x6 0 v2 fun x7 => sI M4 x5 0 v2 x7 fun M8 => w_X3_makePatch_45 g F a0 p1 Q n (v2 + (1 : Int32)) M8))
def w_X3_makePatch (g : gT) (F : Nat) (a0 : Nat) (p1 : Int32) (M : hM) (Q : Int32 → hM → Prop) : Prop :=
  w_X3_in g F p1 (0 : Int32) (3 : Int32) M (fun x2 M1 => ((¬ x2 = 0 → gI M1 (some a0) 2 25 fun x3 => ((¬ x3 = 0 → pV M1 (some a0) 2 51 (.int (1 : Int32)) fun M4 => pV M4 (some a0) 2 56 (.int (0 : Int32)) fun M5 => pV M5 (some a0) 2 53 (.int (0 : Int32)) fun M6 => w_X3_makePatch_45 g F a0 p1 Q F (0 : Int32) M6) ∧ (x3 = 0 → (isC M1 a0 2 ∧ w_X3_fails g F a0 (2 : Int32) M1 (fun x8 M7 => Q x8 M7))))) ∧ (x2 = 0 → (isC M1 a0 2 ∧ w_X3_fails g F a0 (1 : Int32) M1 (fun x10 M9 => Q x10 M9)))))
theorem g_X3_makePatch_136 {k : kT} {F : Nat} {a0 : Nat} {p1 : Int32} {Q : Int32 → hM → Prop} {K83 : Int32 → hM → Prop} (hJ : JOK (kl k) (kg k)) (hC : CX k 7 cX3_makePatch RX3 (some .int) 2 34) (hQ : isQ k (PI Q)) (hin : (kt k).name = "makePatch") (hK83 : ∀ (v2 : Int32) (M : hM), K83 v2 M → GW k 7 M 83 [some (va_rf (some a0)), some (.int p1), some (.int v2), none, none, none, none] []) : ∀ (v2 : Int32) (v3 : Int32) (M : hM), w_X3_makePatch_136 (kg k) F a0 p1 Q K83 v2 v3 M → GW k 7 M 136 [some (va_rf (some a0)), some (.int p1), some (.int v2), some (.int v3), none, none, none] [] := by
  intro v2 v3 M hw
  refine G_iload_n (pc := 136) (i := 1) hC dX3_makePatch_136 rfl rfl ?_
  refine G_aload_n (pc := 137) (i := 0) hC dX3_makePatch_137 rfl rfl ?_
  refine G_getF (pc := 138) (ci := 2) (C := RX3) (T := TX3) (N := 61) (f := 34) hC rfl in_X3 (Nat.le_of_ble_eq_true rfl) q3408 (fun _ h => h) dX3_makePatch_138 hw (fun x1 hw => ?_)
  refine G_iconst (pc := 141) (v := 4) hC dX3_makePatch_141 (by decide) ?_
  refine G_iload_n (pc := 142) (i := 2) hC dX3_makePatch_142 rfl rfl ?_
  refine G_imul (pc := 143) hC dX3_makePatch_143 ?_
  refine G_iald (pc := 144) hC dX3_makePatch_144 hw (fun x2 hw => ?_)
  refine G_callS (pc := 145) (n := 2) (As := [.int p1, .int x2]) (rest := []) hC (m_X3_least hJ hw) (lw_S q3809 q3810 q108 q3811) hd_X3_least.2 (by decide) rfl rfl (st_c cat_e (Nat.le_of_ble_eq_true rfl)) dX3_makePatch_145 (kI fun x4 M3 hw => ?_)
  refine G_istore (pc := 148) (i := 4) (lw := [some (va_rf (some a0)), some (.int p1), some (.int v2), some (.int v3), some (.int x4), none, none]) hC dX3_makePatch_148 (Nat.le_of_ble_eq_true rfl) rfl ?_
  refine G_iload_n (pc := 150) (i := 1) hC dX3_makePatch_150 rfl rfl ?_
  refine G_aload_n (pc := 151) (i := 0) hC dX3_makePatch_151 rfl rfl ?_
  refine G_getI (pc := 152) (ci := 2) (C := RX3) (T := TX3) (N := 61) (f := 27) hC rfl in_X3 (Nat.le_of_ble_eq_true rfl) q3401 (fun _ h => h) dX3_makePatch_152 hw (fun x5 hw => ?_)
  refine G_aload_n (pc := 155) (i := 0) hC dX3_makePatch_155 rfl rfl ?_
  refine G_getF (pc := 156) (ci := 2) (C := RX3) (T := TX3) (N := 61) (f := 34) hC rfl in_X3 (Nat.le_of_ble_eq_true rfl) q3408 (fun _ h => h) dX3_makePatch_156 hw (fun x6 hw => ?_)
  refine G_iconst (pc := 159) (v := 4) hC dX3_makePatch_159 (by decide) ?_
  refine G_iload_n (pc := 160) (i := 3) hC dX3_makePatch_160 rfl rfl ?_
  refine G_imul (pc := 161) hC dX3_makePatch_161 ?_
  refine G_iconst (pc := 162) (v := 1) hC dX3_makePatch_162 (by decide) ?_
  refine G_iadd (pc := 163) hC dX3_makePatch_163 ?_
  refine G_iald (pc := 164) hC dX3_makePatch_164 hw (fun x7 hw => ?_)
  refine G_isub (pc := 165) hC dX3_makePatch_165 ?_
  refine G_callS (pc := 166) (n := 2) (As := [.int p1, .int (x5 - x7)]) (rest := []) hC (m_X3_least hJ hw) (lw_S q3809 q3810 q108 q3811) hd_X3_least.2 (by decide) rfl rfl (st_c cat_e (Nat.le_of_ble_eq_true rfl)) dX3_makePatch_166 (kI fun x9 M8 hw => ?_)
  refine G_istore (pc := 169) (i := 5) (lw := [some (va_rf (some a0)), some (.int p1), some (.int v2), some (.int v3), some (.int x4), some (.int x9), none]) hC dX3_makePatch_169 (Nat.le_of_ble_eq_true rfl) rfl ?_
  refine G_bipush (pc := 171) (v := 6) hC dX3_makePatch_171 (by decide) ?_
  refine G_aload_n (pc := 173) (i := 0) hC dX3_makePatch_173 rfl rfl ?_
  refine G_getI (pc := 174) (ci := 2) (C := RX3) (T := TX3) (N := 61) (f := 53) hC rfl in_X3 (Nat.le_of_ble_eq_true rfl) q3427 (fun _ h => h) dX3_makePatch_174 hw (fun x10 hw => ?_)
  refine G_imul (pc := 177) hC dX3_makePatch_177 ?_
  refine G_istore (pc := 178) (i := 6) (lw := [some (va_rf (some a0)), some (.int p1), some (.int v2), some (.int v3), some (.int x4), some (.int x9), some (.int ((6 : Int32) * x10))]) hC dX3_makePatch_178 (Nat.le_of_ble_eq_true rfl) rfl ?_
  refine G_aload_n (pc := 180) (i := 0) hC dX3_makePatch_180 rfl rfl ?_
  refine G_getF (pc := 181) (ci := 2) (C := RX3) (T := TX3) (N := 61) (f := 52) hC rfl in_X3 (Nat.le_of_ble_eq_true rfl) q3426 (fun _ h => h) dX3_makePatch_181 hw (fun x11 hw => ?_)
  refine G_iload (pc := 184) (i := 6) hC dX3_makePatch_184 rfl ?_
  refine G_aload_n (pc := 186) (i := 0) hC dX3_makePatch_186 rfl rfl ?_
  refine G_getF (pc := 187) (ci := 2) (C := RX3) (T := TX3) (N := 61) (f := 34) hC rfl in_X3 (Nat.le_of_ble_eq_true rfl) q3408 (fun _ h => h) dX3_makePatch_187 hw (fun x12 hw => ?_)
  refine G_iconst (pc := 190) (v := 4) hC dX3_makePatch_190 (by decide) ?_
  refine G_iload_n (pc := 191) (i := 2) hC dX3_makePatch_191 rfl rfl ?_
  refine G_imul (pc := 192) hC dX3_makePatch_192 ?_
  refine G_iald (pc := 193) hC dX3_makePatch_193 hw (fun x13 hw => ?_)
  refine G_iload (pc := 194) (i := 4) hC dX3_makePatch_194 rfl ?_
  refine G_isub (pc := 196) hC dX3_makePatch_196 ?_
  refine G_iast (pc := 197) hC dX3_makePatch_197 hw (fun M14 hw => ?_)
  refine G_aload_n (pc := 198) (i := 0) hC dX3_makePatch_198 rfl rfl ?_
  refine G_getF (pc := 199) (ci := 2) (C := RX3) (T := TX3) (N := 61) (f := 52) hC rfl in_X3 (Nat.le_of_ble_eq_true rfl) q3426 (fun _ h => h) dX3_makePatch_199 hw (fun x15 hw => ?_)
  refine G_iload (pc := 202) (i := 6) hC dX3_makePatch_202 rfl ?_
  refine G_iconst (pc := 204) (v := 1) hC dX3_makePatch_204 (by decide) ?_
  refine G_iadd (pc := 205) hC dX3_makePatch_205 ?_
  refine G_aload_n (pc := 206) (i := 0) hC dX3_makePatch_206 rfl rfl ?_
  refine G_getF (pc := 207) (ci := 2) (C := RX3) (T := TX3) (N := 61) (f := 34) hC rfl in_X3 (Nat.le_of_ble_eq_true rfl) q3408 (fun _ h => h) dX3_makePatch_207 hw (fun x16 hw => ?_)
  refine G_iconst (pc := 210) (v := 4) hC dX3_makePatch_210 (by decide) ?_
  refine G_iload_n (pc := 211) (i := 3) hC dX3_makePatch_211 rfl rfl ?_
  refine G_imul (pc := 212) hC dX3_makePatch_212 ?_
  refine G_iconst (pc := 213) (v := 1) hC dX3_makePatch_213 (by decide) ?_
  refine G_iadd (pc := 214) hC dX3_makePatch_214 ?_
  refine G_iald (pc := 215) hC dX3_makePatch_215 hw (fun x17 hw => ?_)
  refine G_iload (pc := 216) (i := 5) hC dX3_makePatch_216 rfl ?_
  refine G_iadd (pc := 218) hC dX3_makePatch_218 ?_
  refine G_aload_n (pc := 219) (i := 0) hC dX3_makePatch_219 rfl rfl ?_
  refine G_getF (pc := 220) (ci := 2) (C := RX3) (T := TX3) (N := 61) (f := 52) hC rfl in_X3 (Nat.le_of_ble_eq_true rfl) q3426 (fun _ h => h) dX3_makePatch_220 hw (fun x18 hw => ?_)
  refine G_iload (pc := 223) (i := 6) hC dX3_makePatch_223 rfl ?_
  refine G_iald (pc := 225) hC dX3_makePatch_225 hw (fun x19 hw => ?_)
  refine G_isub (pc := 226) hC dX3_makePatch_226 ?_
  refine G_iast (pc := 227) hC dX3_makePatch_227 hw (fun M20 hw => ?_)
  refine G_aload_n (pc := 228) (i := 0) hC dX3_makePatch_228 rfl rfl ?_
  refine G_getF (pc := 229) (ci := 2) (C := RX3) (T := TX3) (N := 61) (f := 52) hC rfl in_X3 (Nat.le_of_ble_eq_true rfl) q3426 (fun _ h => h) dX3_makePatch_229 hw (fun x21 hw => ?_)
  refine G_iload (pc := 232) (i := 6) hC dX3_makePatch_232 rfl ?_
  refine G_iconst (pc := 234) (v := 2) hC dX3_makePatch_234 (by decide) ?_
  refine G_iadd (pc := 235) hC dX3_makePatch_235 ?_
  refine G_aload_n (pc := 236) (i := 0) hC dX3_makePatch_236 rfl rfl ?_
  refine G_getF (pc := 237) (ci := 2) (C := RX3) (T := TX3) (N := 61) (f := 34) hC rfl in_X3 (Nat.le_of_ble_eq_true rfl) q3408 (fun _ h => h) dX3_makePatch_237 hw (fun x22 hw => ?_)
  refine G_iconst (pc := 240) (v := 4) hC dX3_makePatch_240 (by decide) ?_
  refine G_iload_n (pc := 241) (i := 2) hC dX3_makePatch_241 rfl rfl ?_
  refine G_imul (pc := 242) hC dX3_makePatch_242 ?_
  refine G_iconst (pc := 243) (v := 2) hC dX3_makePatch_243 (by decide) ?_
  refine G_iadd (pc := 244) hC dX3_makePatch_244 ?_
  refine G_iald (pc := 245) hC dX3_makePatch_245 hw (fun x23 hw => ?_)
  refine G_iload (pc := 246) (i := 4) hC dX3_makePatch_246 rfl ?_
  refine G_isub (pc := 248) hC dX3_makePatch_248 ?_
  refine G_iast (pc := 249) hC dX3_makePatch_249 hw (fun M24 hw => ?_)
  refine G_aload_n (pc := 250) (i := 0) hC dX3_makePatch_250 rfl rfl ?_
  refine G_getF (pc := 251) (ci := 2) (C := RX3) (T := TX3) (N := 61) (f := 52) hC rfl in_X3 (Nat.le_of_ble_eq_true rfl) q3426 (fun _ h => h) dX3_makePatch_251 hw (fun x25 hw => ?_)
  refine G_iload (pc := 254) (i := 6) hC dX3_makePatch_254 rfl ?_
  refine G_iconst (pc := 256) (v := 3) hC dX3_makePatch_256 (by decide) ?_
  refine G_iadd (pc := 257) hC dX3_makePatch_257 ?_
  refine G_aload_n (pc := 258) (i := 0) hC dX3_makePatch_258 rfl rfl ?_
  refine G_getF (pc := 259) (ci := 2) (C := RX3) (T := TX3) (N := 61) (f := 34) hC rfl in_X3 (Nat.le_of_ble_eq_true rfl) q3408 (fun _ h => h) dX3_makePatch_259 hw (fun x26 hw => ?_)
  refine G_iconst (pc := 262) (v := 4) hC dX3_makePatch_262 (by decide) ?_
  refine G_iload_n (pc := 263) (i := 3) hC dX3_makePatch_263 rfl rfl ?_
  refine G_imul (pc := 264) hC dX3_makePatch_264 ?_
  refine G_iconst (pc := 265) (v := 3) hC dX3_makePatch_265 (by decide) ?_
  refine G_iadd (pc := 266) hC dX3_makePatch_266 ?_
  refine G_iald (pc := 267) hC dX3_makePatch_267 hw (fun x27 hw => ?_)
  refine G_iload (pc := 268) (i := 5) hC dX3_makePatch_268 rfl ?_
  refine G_iadd (pc := 270) hC dX3_makePatch_270 ?_
  refine G_aload_n (pc := 271) (i := 0) hC dX3_makePatch_271 rfl rfl ?_
  refine G_getF (pc := 272) (ci := 2) (C := RX3) (T := TX3) (N := 61) (f := 52) hC rfl in_X3 (Nat.le_of_ble_eq_true rfl) q3426 (fun _ h => h) dX3_makePatch_272 hw (fun x28 hw => ?_)
  refine G_iload (pc := 275) (i := 6) hC dX3_makePatch_275 rfl ?_
  refine G_iconst (pc := 277) (v := 2) hC dX3_makePatch_277 (by decide) ?_
  refine G_iadd (pc := 278) hC dX3_makePatch_278 ?_
  refine G_iald (pc := 279) hC dX3_makePatch_279 hw (fun x29 hw => ?_)
  refine G_isub (pc := 280) hC dX3_makePatch_280 ?_
  refine G_iast (pc := 281) hC dX3_makePatch_281 hw (fun M30 hw => ?_)
  refine G_aload_n (pc := 282) (i := 0) hC dX3_makePatch_282 rfl rfl ?_
  refine G_getF (pc := 283) (ci := 2) (C := RX3) (T := TX3) (N := 61) (f := 52) hC rfl in_X3 (Nat.le_of_ble_eq_true rfl) q3426 (fun _ h => h) dX3_makePatch_283 hw (fun x31 hw => ?_)
  refine G_iload (pc := 286) (i := 6) hC dX3_makePatch_286 rfl ?_
  refine G_iconst (pc := 288) (v := 4) hC dX3_makePatch_288 (by decide) ?_
  refine G_iadd (pc := 289) hC dX3_makePatch_289 ?_
  refine G_iload (pc := 290) (i := 4) hC dX3_makePatch_290 rfl ?_
  refine G_iast (pc := 292) hC dX3_makePatch_292 hw (fun M32 hw => ?_)
  refine G_aload_n (pc := 293) (i := 0) hC dX3_makePatch_293 rfl rfl ?_
  refine G_getF (pc := 294) (ci := 2) (C := RX3) (T := TX3) (N := 61) (f := 52) hC rfl in_X3 (Nat.le_of_ble_eq_true rfl) q3426 (fun _ h => h) dX3_makePatch_294 hw (fun x33 hw => ?_)
  refine G_iload (pc := 297) (i := 6) hC dX3_makePatch_297 rfl ?_
  refine G_iconst (pc := 299) (v := 5) hC dX3_makePatch_299 (by decide) ?_
  refine G_iadd (pc := 300) hC dX3_makePatch_300 ?_
  refine G_iload (pc := 301) (i := 5) hC dX3_makePatch_301 rfl ?_
  refine G_iast (pc := 303) hC dX3_makePatch_303 hw (fun M34 hw => ?_)
  refine G_aload_n (pc := 304) (i := 0) hC dX3_makePatch_304 rfl rfl ?_
  refine G_dup (pc := 305) hC dX3_makePatch_305 (rf_cat _) ?_
  refine G_getI (pc := 306) (ci := 2) (C := RX3) (T := TX3) (N := 61) (f := 53) hC rfl in_X3 (Nat.le_of_ble_eq_true rfl) q3427 (fun _ h => h) dX3_makePatch_306 hw (fun x35 hw => ?_)
  refine G_iconst (pc := 309) (v := 1) hC dX3_makePatch_309 (by decide) ?_
  refine G_iadd (pc := 310) hC dX3_makePatch_310 ?_
  refine G_put (pc := 311) (ci := 2) (C := RX3) (T := TX3) (N := 61) (f := 53) tyX3 hC rfl in_X3 tyX3_ok nmX3 (Nat.le_of_ble_eq_true rfl) q3427 (fun _ h => h) rfl rfl rfl dX3_makePatch_311 hw (fun M36 hw => ?_)
  refine G_iload_n (pc := 314) (i := 3) hC dX3_makePatch_314 rfl rfl ?_
  refine G_iconst (pc := 315) (v := 1) hC dX3_makePatch_315 (by decide) ?_
  refine G_iadd (pc := 316) hC dX3_makePatch_316 ?_
  refine G_istore_n (pc := 317) (i := 2) (lw := [some (va_rf (some a0)), some (.int p1), some (.int (v3 + (1 : Int32))), some (.int v3), some (.int x4), some (.int x9), some (.int ((6 : Int32) * x10))]) hC dX3_makePatch_317 rfl (Nat.le_of_ble_eq_true rfl) rfl ?_
  refine G_goto (pc := 318) (tgt := 83) hC dX3_makePatch_318 (by decide) ?_
  refine G_loc (lv' := [some (va_rf (some a0)), some (.int p1), some (.int (v3 + (1 : Int32))), none, none, none, none]) ⟨Or.inr rfl, Or.inr rfl, Or.inr rfl, Or.inl rfl, Or.inl rfl, Or.inl rfl, Or.inl rfl, trivial⟩ ?_
  exact hK83 (v3 + (1 : Int32)) M36 hw
theorem g_X3_makePatch_93 {k : kT} {F : Nat} {a0 : Nat} {p1 : Int32} {Q : Int32 → hM → Prop} {K83 : Int32 → hM → Prop} (hJ : JOK (kl k) (kg k)) (hC : CX k 7 cX3_makePatch RX3 (some .int) 2 34) (hQ : isQ k (PI Q)) (hin : (kt k).name = "makePatch") (hK83 : ∀ (v2 : Int32) (M : hM), K83 v2 M → GW k 7 M 83 [some (va_rf (some a0)), some (.int p1), some (.int v2), none, none, none, none] []) : ∀ (n : Nat) (v2 : Int32) (v3 : Int32) (M : hM), w_X3_makePatch_93 (kg k) F a0 p1 Q K83 n v2 v3 M → GW k 7 M 93 [some (va_rf (some a0)), some (.int p1), some (.int v2), some (.int v3), none, none, none] [] := by
  intro n
  induction n with
  | zero =>
    intro v2 v3 M hw
    exact hw.elim
  | succ n ih =>
    intro v2 v3 M hw
    refine G_iload_n (pc := 93) (i := 3) hC dX3_makePatch_93 rfl rfl ?_
    refine G_iconst (pc := 94) (v := 1) hC dX3_makePatch_94 (by decide) ?_
    refine G_iadd (pc := 95) hC dX3_makePatch_95 ?_
    refine G_aload_n (pc := 96) (i := 0) hC dX3_makePatch_96 rfl rfl ?_
    refine G_getI (pc := 97) (ci := 2) (C := RX3) (T := TX3) (N := 61) (f := 35) hC rfl in_X3 (Nat.le_of_ble_eq_true rfl) q3409 (fun _ h => h) dX3_makePatch_97 hw (fun x1 hw => ?_)
    refine G_icmp_ge (pc := 100) (tgt := 136) hC dX3_makePatch_100 (by decide) (fun hc => ?_) (fun hc => ?_)
    · replace hw := hw.1 hc
      exact g_X3_makePatch_136 hJ hC hQ hin hK83  v2 v3 M hw
    · replace hw := hw.2 hc
      refine G_aload_n (pc := 103) (i := 0) hC dX3_makePatch_103 rfl rfl ?_
      refine G_getF (pc := 104) (ci := 2) (C := RX3) (T := TX3) (N := 61) (f := 34) hC rfl in_X3 (Nat.le_of_ble_eq_true rfl) q3408 (fun _ h => h) dX3_makePatch_104 hw (fun x2 hw => ?_)
      refine G_iconst (pc := 107) (v := 4) hC dX3_makePatch_107 (by decide) ?_
      refine G_iload_n (pc := 108) (i := 3) hC dX3_makePatch_108 rfl rfl ?_
      refine G_imul (pc := 109) hC dX3_makePatch_109 ?_
      refine G_iconst (pc := 110) (v := 4) hC dX3_makePatch_110 (by decide) ?_
      refine G_iadd (pc := 111) hC dX3_makePatch_111 ?_
      refine G_iald (pc := 112) hC dX3_makePatch_112 hw (fun x3 hw => ?_)
      refine G_aload_n (pc := 113) (i := 0) hC dX3_makePatch_113 rfl rfl ?_
      refine G_getF (pc := 114) (ci := 2) (C := RX3) (T := TX3) (N := 61) (f := 34) hC rfl in_X3 (Nat.le_of_ble_eq_true rfl) q3408 (fun _ h => h) dX3_makePatch_114 hw (fun x4 hw => ?_)
      refine G_iconst (pc := 117) (v := 4) hC dX3_makePatch_117 (by decide) ?_
      refine G_iload_n (pc := 118) (i := 3) hC dX3_makePatch_118 rfl rfl ?_
      refine G_imul (pc := 119) hC dX3_makePatch_119 ?_
      refine G_iconst (pc := 120) (v := 1) hC dX3_makePatch_120 (by decide) ?_
      refine G_iadd (pc := 121) hC dX3_makePatch_121 ?_
      refine G_iald (pc := 122) hC dX3_makePatch_122 hw (fun x5 hw => ?_)
      refine G_isub (pc := 123) hC dX3_makePatch_123 ?_
      refine G_iconst (pc := 124) (v := 2) hC dX3_makePatch_124 (by decide) ?_
      refine G_iload_n (pc := 125) (i := 1) hC dX3_makePatch_125 rfl rfl ?_
      refine G_imul (pc := 126) hC dX3_makePatch_126 ?_
      refine G_icmp_gt (pc := 127) (tgt := 136) hC dX3_makePatch_127 (by decide) (fun hc => ?_) (fun hc => ?_)
      · replace hw := hw.1 hc
        exact g_X3_makePatch_136 hJ hC hQ hin hK83  v2 v3 M hw
      · replace hw := hw.2 hc
        refine G_iinc (pc := 130) (i := 3) (v := (v3 + (1 : Int32))) (lw := [some (va_rf (some a0)), some (.int p1), some (.int v2), some (.int (v3 + (1 : Int32))), none, none, none]) hC dX3_makePatch_130 rfl (Nat.le_of_ble_eq_true rfl) rfl rfl ?_
        refine G_goto (pc := 133) (tgt := 93) hC dX3_makePatch_133 (by decide) ?_
        exact ih v2 (v3 + (1 : Int32)) M hw
theorem g_X3_makePatch_83 {k : kT} {F : Nat} {a0 : Nat} {p1 : Int32} {Q : Int32 → hM → Prop} (hJ : JOK (kl k) (kg k)) (hC : CX k 7 cX3_makePatch RX3 (some .int) 2 34) (hQ : isQ k (PI Q)) (hin : (kt k).name = "makePatch") : ∀ (n : Nat) (v2 : Int32) (M : hM), w_X3_makePatch_83 (kg k) F a0 p1 Q n v2 M → GW k 7 M 83 [some (va_rf (some a0)), some (.int p1), some (.int v2), none, none, none, none] [] := by
  intro n
  induction n with
  | zero =>
    intro v2 M hw
    exact hw.elim
  | succ n ih =>
    intro v2 M hw
    refine G_iload_n (pc := 83) (i := 2) hC dX3_makePatch_83 rfl rfl ?_
    refine G_aload_n (pc := 84) (i := 0) hC dX3_makePatch_84 rfl rfl ?_
    refine G_getI (pc := 85) (ci := 2) (C := RX3) (T := TX3) (N := 61) (f := 35) hC rfl in_X3 (Nat.le_of_ble_eq_true rfl) q3409 (fun _ h => h) dX3_makePatch_85 hw (fun x1 hw => ?_)
    refine G_icmp_ge (pc := 88) (tgt := 321) hC dX3_makePatch_88 (by decide) (fun hc => ?_) (fun hc => ?_)
    · replace hw := hw.1 hc
      refine G_aload_n (pc := 321) (i := 0) hC dX3_makePatch_321 rfl rfl ?_
      refine G_aload_n (pc := 322) (i := 0) hC dX3_makePatch_322 rfl rfl ?_
      refine G_getI (pc := 323) (ci := 2) (C := RX3) (T := TX3) (N := 61) (f := 53) hC rfl in_X3 (Nat.le_of_ble_eq_true rfl) q3427 (fun _ h => h) dX3_makePatch_323 hw (fun x2 hw => ?_)
      obtain ⟨hb, hw⟩ := hw
      refine G_callV (pc := 326) (n := 1) (C := "MergeWorkbenchModel") (b := a0) (As := [.int x2]) (rest := []) hC (m_X3_done hJ hw) (lw_V q3581 q3583 qs54 q108 q3584) hd_X3_done (by decide) (rcv (C := RX3) (T := TX3) (N := 61) hC hb rfl) rfl rfl (st_c cat_e (Nat.le_of_ble_eq_true rfl)) dX3_makePatch_326 (kI fun x4 M3 hw => ?_)
      exact G_iret (pc := 329) hC rfl hQ dX3_makePatch_329 hw
    · replace hw := hw.2 hc
      refine G_iload_n (pc := 91) (i := 2) hC dX3_makePatch_91 rfl rfl ?_
      refine G_istore_n (pc := 92) (i := 3) (lw := [some (va_rf (some a0)), some (.int p1), some (.int v2), some (.int v2), none, none, none]) hC dX3_makePatch_92 rfl (Nat.le_of_ble_eq_true rfl) rfl ?_
      exact g_X3_makePatch_93 hJ hC hQ hin ih _ v2 v2 M hw
theorem g_X3_makePatch_45 {k : kT} {F : Nat} {a0 : Nat} {p1 : Int32} {Q : Int32 → hM → Prop} (hJ : JOK (kl k) (kg k)) (hC : CX k 7 cX3_makePatch RX3 (some .int) 2 34) (hQ : isQ k (PI Q)) (hin : (kt k).name = "makePatch") : ∀ (n : Nat) (v2 : Int32) (M : hM), w_X3_makePatch_45 (kg k) F a0 p1 Q n v2 M → GW k 7 M 45 [some (va_rf (some a0)), some (.int p1), some (.int v2), none, none, none, none] [] := by
  intro n
  induction n with
  | zero =>
    intro v2 M hw
    exact hw.elim
  | succ n ih =>
    intro v2 M hw
    refine G_iload_n (pc := 45) (i := 2) hC dX3_makePatch_45 rfl rfl ?_
    refine G_bipush (pc := 46) (v := 24) hC dX3_makePatch_46 (by decide) ?_
    refine G_icmp_ge (pc := 48) (tgt := 81) hC dX3_makePatch_48 (by decide) (fun hc => ?_) (fun hc => ?_)
    · replace hw := hw.1 hc
      refine G_iconst (pc := 81) (v := 0) hC dX3_makePatch_81 (by decide) ?_
      refine G_istore_n (pc := 82) (i := 2) (lw := [some (va_rf (some a0)), some (.int p1), some (.int (0 : Int32)), none, none, none, none]) hC dX3_makePatch_82 rfl (Nat.le_of_ble_eq_true rfl) rfl ?_
      exact g_X3_makePatch_83 hJ hC hQ hin _ (0 : Int32) M hw
    · replace hw := hw.2 hc
      refine G_aload_n (pc := 51) (i := 0) hC dX3_makePatch_51 rfl rfl ?_
      refine G_getF (pc := 52) (ci := 2) (C := RX3) (T := TX3) (N := 61) (f := 54) hC rfl in_X3 (Nat.le_of_ble_eq_true rfl) q3428 (fun _ h => h) dX3_makePatch_52 hw (fun x1 hw => ?_)
      refine G_iload_n (pc := 55) (i := 2) hC dX3_makePatch_55 rfl rfl ?_
      refine G_aload_n (pc := 56) (i := 0) hC dX3_makePatch_56 rfl rfl ?_
      refine G_getF (pc := 57) (ci := 2) (C := RX3) (T := TX3) (N := 61) (f := 26) hC rfl in_X3 (Nat.le_of_ble_eq_true rfl) q3400 (fun _ h => h) dX3_makePatch_57 hw (fun x2 hw => ?_)
      refine G_iload_n (pc := 60) (i := 2) hC dX3_makePatch_60 rfl rfl ?_
      refine G_iald (pc := 61) hC dX3_makePatch_61 hw (fun x3 hw => ?_)
      refine G_iast (pc := 62) hC dX3_makePatch_62 hw (fun M4 hw => ?_)
      refine G_aload_n (pc := 63) (i := 0) hC dX3_makePatch_63 rfl rfl ?_
      refine G_getF (pc := 64) (ci := 2) (C := RX3) (T := TX3) (N := 61) (f := 55) hC rfl in_X3 (Nat.le_of_ble_eq_true rfl) q3429 (fun _ h => h) dX3_makePatch_64 hw (fun x5 hw => ?_)
      refine G_iload_n (pc := 67) (i := 2) hC dX3_makePatch_67 rfl rfl ?_
      refine G_aload_n (pc := 68) (i := 0) hC dX3_makePatch_68 rfl rfl ?_
      refine G_getF (pc := 69) (ci := 2) (C := RX3) (T := TX3) (N := 61) (f := 28) hC rfl in_X3 (Nat.le_of_ble_eq_true rfl) q3402 (fun _ h => h) dX3_makePatch_69 hw (fun x6 hw => ?_)
      refine G_iload_n (pc := 72) (i := 2) hC dX3_makePatch_72 rfl rfl ?_
      refine G_iald (pc := 73) hC dX3_makePatch_73 hw (fun x7 hw => ?_)
      refine G_iast (pc := 74) hC dX3_makePatch_74 hw (fun M8 hw => ?_)
      refine G_iinc (pc := 75) (i := 2) (v := (v2 + (1 : Int32))) (lw := [some (va_rf (some a0)), some (.int p1), some (.int (v2 + (1 : Int32))), none, none, none, none]) hC dX3_makePatch_75 rfl (Nat.le_of_ble_eq_true rfl) rfl rfl ?_
      refine G_goto (pc := 78) (tgt := 45) hC dX3_makePatch_78 (by decide) ?_
      exact ih (v2 + (1 : Int32)) M8 hw
theorem m_X3_makePatch {l : Launch} {g : gT} {F : Nat} {a0 : Nat} {p1 : Int32} {M : hM} {Q : Int32 → hM → Prop} (hJ : JOK l g) (hw : w_X3_makePatch g F a0 p1 M Q) : MG l g yX3_makePatch (ws_ yX3_makePatch cX3_makePatch 7 (some .int)) 2 34 [va_rf (some a0), .int p1] M (PI Q) := by
  refine MG_of hJ.2.1 (by decide) (cat_r (cat_i cat_e)) (Nat.le_of_ble_eq_true rfl) (fun k hl hg hin hQ hC => ?_)
  subst hl hg
  show GW k 7 M 0 [some (va_rf (some a0)), some (.int p1), none, none, none, none, none] []
  refine G_iload_n (pc := 0) (i := 1) hC dX3_makePatch_0 rfl rfl ?_
  refine G_iconst (pc := 1) (v := 0) hC dX3_makePatch_1 (by decide) ?_
  refine G_iconst (pc := 2) (v := 3) hC dX3_makePatch_2 (by decide) ?_
  refine G_callS (pc := 3) (n := 3) (As := [.int p1, .int (0 : Int32), .int (3 : Int32)]) (rest := []) hC (m_X3_in hJ hw) (lw_S q3570 q3571 q108 q3572) hd_X3_in.2 (by decide) rfl rfl (st_c cat_e (Nat.le_of_ble_eq_true rfl)) dX3_makePatch_3 (kI fun x2 M1 hw => ?_)
  refine G_if_ne (pc := 6) (tgt := 15) hC dX3_makePatch_6 (by decide) (fun hc => ?_) (fun hc => ?_)
  · replace hw := hw.1 hc
    refine G_aload_n (pc := 15) (i := 0) hC dX3_makePatch_15 rfl rfl ?_
    refine G_getI (pc := 16) (ci := 2) (C := RX3) (T := TX3) (N := 61) (f := 25) hC rfl in_X3 (Nat.le_of_ble_eq_true rfl) q3399 (fun _ h => h) dX3_makePatch_16 hw (fun x3 hw => ?_)
    refine G_if_ne (pc := 19) (tgt := 28) hC dX3_makePatch_19 (by decide) (fun hc => ?_) (fun hc => ?_)
    · replace hw := hw.1 hc
      refine G_aload_n (pc := 28) (i := 0) hC dX3_makePatch_28 rfl rfl ?_
      refine G_iconst (pc := 29) (v := 1) hC dX3_makePatch_29 (by decide) ?_
      refine G_put (pc := 30) (ci := 2) (C := RX3) (T := TX3) (N := 61) (f := 51) tyX3 hC rfl in_X3 tyX3_ok nmX3 (Nat.le_of_ble_eq_true rfl) q3425 (fun _ h => h) rfl rfl rfl dX3_makePatch_30 hw (fun M4 hw => ?_)
      refine G_aload_n (pc := 33) (i := 0) hC dX3_makePatch_33 rfl rfl ?_
      refine G_iconst (pc := 34) (v := 0) hC dX3_makePatch_34 (by decide) ?_
      refine G_put (pc := 35) (ci := 2) (C := RX3) (T := TX3) (N := 61) (f := 56) tyX3 hC rfl in_X3 tyX3_ok nmX3 (Nat.le_of_ble_eq_true rfl) q3430 (fun _ h => h) rfl rfl rfl dX3_makePatch_35 hw (fun M5 hw => ?_)
      refine G_aload_n (pc := 38) (i := 0) hC dX3_makePatch_38 rfl rfl ?_
      refine G_iconst (pc := 39) (v := 0) hC dX3_makePatch_39 (by decide) ?_
      refine G_put (pc := 40) (ci := 2) (C := RX3) (T := TX3) (N := 61) (f := 53) tyX3 hC rfl in_X3 tyX3_ok nmX3 (Nat.le_of_ble_eq_true rfl) q3427 (fun _ h => h) rfl rfl rfl dX3_makePatch_40 hw (fun M6 hw => ?_)
      refine G_iconst (pc := 43) (v := 0) hC dX3_makePatch_43 (by decide) ?_
      refine G_istore_n (pc := 44) (i := 2) (lw := [some (va_rf (some a0)), some (.int p1), some (.int (0 : Int32)), none, none, none, none]) hC dX3_makePatch_44 rfl (Nat.le_of_ble_eq_true rfl) rfl ?_
      exact g_X3_makePatch_45 hJ hC hQ hin _ (0 : Int32) M6 hw
    · replace hw := hw.2 hc
      refine G_aload_n (pc := 22) (i := 0) hC dX3_makePatch_22 rfl rfl ?_
      refine G_iconst (pc := 23) (v := 2) hC dX3_makePatch_23 (by decide) ?_
      obtain ⟨hb, hw⟩ := hw
      refine G_callV (pc := 24) (n := 1) (C := "MergeWorkbenchModel") (b := a0) (As := [.int (2 : Int32)]) (rest := []) hC (m_X3_fails hJ hw) (lw_V q3573 q3575 qs52 q108 q3576) hd_X3_fails (by decide) (rcv (C := RX3) (T := TX3) (N := 61) hC hb rfl) rfl rfl (st_c cat_e (Nat.le_of_ble_eq_true rfl)) dX3_makePatch_24 (kI fun x8 M7 hw => ?_)
      exact G_iret (pc := 27) hC rfl hQ dX3_makePatch_27 hw
  · replace hw := hw.2 hc
    refine G_aload_n (pc := 9) (i := 0) hC dX3_makePatch_9 rfl rfl ?_
    refine G_iconst (pc := 10) (v := 1) hC dX3_makePatch_10 (by decide) ?_
    obtain ⟨hb, hw⟩ := hw
    refine G_callV (pc := 11) (n := 1) (C := "MergeWorkbenchModel") (b := a0) (As := [.int (1 : Int32)]) (rest := []) hC (m_X3_fails hJ hw) (lw_V q3573 q3575 qs52 q108 q3576) hd_X3_fails (by decide) (rcv (C := RX3) (T := TX3) (N := 61) hC hb rfl) rfl rfl (st_c cat_e (Nat.le_of_ble_eq_true rfl)) dX3_makePatch_11 (kI fun x10 M9 hw => ?_)
    exact G_iret (pc := 14) hC rfl hQ dX3_makePatch_14 hw
def w_X3_hunk_65 (g : gT) (F : Nat) (a0 : Nat) (p1 : Int32) (p2 : Int32) (Q : Int32 → hM → Prop) (s0 : Int32) (M : hM) : Prop :=
  Q s0 M
def w_X3_hunk (g : gT) (F : Nat) (a0 : Nat) (p1 : Int32) (p2 : Int32) (M : hM) (Q : Int32 → hM → Prop) : Prop :=
  gI M (some a0) 2 51 fun x1 => ((¬ x1 = 0 → gI M (some a0) 2 53 fun x2 => w_X3_in g F p1 (0 : Int32) (x2 - (1 : Int32)) M (fun x4 M3 => ((¬ x4 = 0 → w_X3_in g F p2 (0 : Int32) (5 : Int32) M3 (fun x6 M5 => ((x6 = 0 → (isC M5 a0 2 ∧ w_X3_fails g F a0 (3 : Int32) M5 (fun x8 M7 => w_X3_hunk_65 g F a0 p1 p2 Q x8 M7))) ∧ (¬ (x6 = 0) → gF M5 (some a0) 2 52 fun x9 => aI M5 x9 0 (((6 : Int32) * p1) + p2) fun x10 => (isC M5 a0 2 ∧ w_X3_done g F a0 x10 M5 (fun x12 M11 => w_X3_hunk_65 g F a0 p1 p2 Q x12 M11)))))) ∧ (x4 = 0 → (isC M3 a0 2 ∧ w_X3_fails g F a0 (2 : Int32) M3 (fun x14 M13 => Q x14 M13)))))) ∧ (x1 = 0 → (isC M a0 2 ∧ w_X3_fails g F a0 (1 : Int32) M (fun x16 M15 => Q x16 M15))))
theorem g_X3_hunk_65 {k : kT} {F : Nat} {a0 : Nat} {p1 : Int32} {p2 : Int32} {Q : Int32 → hM → Prop} (hJ : JOK (kl k) (kg k)) (hC : CX k 3 cX3_hunk RX3 (some .int) 2 34) (hQ : isQ k (PI Q)) (hin : (kt k).name = "hunk") : ∀ (s0 : Int32) (M : hM), w_X3_hunk_65 (kg k) F a0 p1 p2 Q s0 M → GW k 3 M 65 [some (va_rf (some a0)), some (.int p1), some (.int p2)] [.int s0] := by
  intro s0 M hw
  exact G_iret (pc := 65) hC rfl hQ dX3_hunk_65 hw
theorem m_X3_hunk {l : Launch} {g : gT} {F : Nat} {a0 : Nat} {p1 : Int32} {p2 : Int32} {M : hM} {Q : Int32 → hM → Prop} (hJ : JOK l g) (hw : w_X3_hunk g F a0 p1 p2 M Q) : MG l g yX3_hunk (ws_ yX3_hunk cX3_hunk 3 (some .int)) 2 34 [va_rf (some a0), .int p1, .int p2] M (PI Q) := by
  refine MG_of hJ.2.1 (by decide) (cat_r (cat_i (cat_i cat_e))) (Nat.le_of_ble_eq_true rfl) (fun k hl hg hin hQ hC => ?_)
  subst hl hg
  show GW k 3 M 0 [some (va_rf (some a0)), some (.int p1), some (.int p2)] []
  refine G_aload_n (pc := 0) (i := 0) hC dX3_hunk_0 rfl rfl ?_
  refine G_getI (pc := 1) (ci := 2) (C := RX3) (T := TX3) (N := 61) (f := 51) hC rfl in_X3 (Nat.le_of_ble_eq_true rfl) q3425 (fun _ h => h) dX3_hunk_1 hw (fun x1 hw => ?_)
  refine G_if_ne (pc := 4) (tgt := 13) hC dX3_hunk_4 (by decide) (fun hc => ?_) (fun hc => ?_)
  · replace hw := hw.1 hc
    refine G_iload_n (pc := 13) (i := 1) hC dX3_hunk_13 rfl rfl ?_
    refine G_iconst (pc := 14) (v := 0) hC dX3_hunk_14 (by decide) ?_
    refine G_aload_n (pc := 15) (i := 0) hC dX3_hunk_15 rfl rfl ?_
    refine G_getI (pc := 16) (ci := 2) (C := RX3) (T := TX3) (N := 61) (f := 53) hC rfl in_X3 (Nat.le_of_ble_eq_true rfl) q3427 (fun _ h => h) dX3_hunk_16 hw (fun x2 hw => ?_)
    refine G_iconst (pc := 19) (v := 1) hC dX3_hunk_19 (by decide) ?_
    refine G_isub (pc := 20) hC dX3_hunk_20 ?_
    refine G_callS (pc := 21) (n := 3) (As := [.int p1, .int (0 : Int32), .int (x2 - (1 : Int32))]) (rest := []) hC (m_X3_in hJ hw) (lw_S q3570 q3571 q108 q3572) hd_X3_in.2 (by decide) rfl rfl (st_c cat_e (Nat.le_of_ble_eq_true rfl)) dX3_hunk_21 (kI fun x4 M3 hw => ?_)
    refine G_if_ne (pc := 24) (tgt := 33) hC dX3_hunk_24 (by decide) (fun hc => ?_) (fun hc => ?_)
    · replace hw := hw.1 hc
      refine G_iload_n (pc := 33) (i := 2) hC dX3_hunk_33 rfl rfl ?_
      refine G_iconst (pc := 34) (v := 0) hC dX3_hunk_34 (by decide) ?_
      refine G_iconst (pc := 35) (v := 5) hC dX3_hunk_35 (by decide) ?_
      refine G_callS (pc := 36) (n := 3) (As := [.int p2, .int (0 : Int32), .int (5 : Int32)]) (rest := []) hC (m_X3_in hJ hw) (lw_S q3570 q3571 q108 q3572) hd_X3_in.2 (by decide) rfl rfl (st_c cat_e (Nat.le_of_ble_eq_true rfl)) dX3_hunk_36 (kI fun x6 M5 hw => ?_)
      refine G_if_eq (pc := 39) (tgt := 60) hC dX3_hunk_39 (by decide) (fun hc => ?_) (fun hc => ?_)
      · replace hw := hw.1 hc
        refine G_aload_n (pc := 60) (i := 0) hC dX3_hunk_60 rfl rfl ?_
        refine G_iconst (pc := 61) (v := 3) hC dX3_hunk_61 (by decide) ?_
        obtain ⟨hb, hw⟩ := hw
        refine G_callV (pc := 62) (n := 1) (C := "MergeWorkbenchModel") (b := a0) (As := [.int (3 : Int32)]) (rest := []) hC (m_X3_fails hJ hw) (lw_V q3573 q3575 qs52 q108 q3576) hd_X3_fails (by decide) (rcv (C := RX3) (T := TX3) (N := 61) hC hb rfl) rfl rfl (st_c cat_e (Nat.le_of_ble_eq_true rfl)) dX3_hunk_62 (kI fun x8 M7 hw => ?_)
        exact g_X3_hunk_65 hJ hC hQ hin  x8 M7 hw
      · replace hw := hw.2 hc
        refine G_aload_n (pc := 42) (i := 0) hC dX3_hunk_42 rfl rfl ?_
        refine G_aload_n (pc := 43) (i := 0) hC dX3_hunk_43 rfl rfl ?_
        refine G_getF (pc := 44) (ci := 2) (C := RX3) (T := TX3) (N := 61) (f := 52) hC rfl in_X3 (Nat.le_of_ble_eq_true rfl) q3426 (fun _ h => h) dX3_hunk_44 hw (fun x9 hw => ?_)
        refine G_bipush (pc := 47) (v := 6) hC dX3_hunk_47 (by decide) ?_
        refine G_iload_n (pc := 49) (i := 1) hC dX3_hunk_49 rfl rfl ?_
        refine G_imul (pc := 50) hC dX3_hunk_50 ?_
        refine G_iload_n (pc := 51) (i := 2) hC dX3_hunk_51 rfl rfl ?_
        refine G_iadd (pc := 52) hC dX3_hunk_52 ?_
        refine G_iald (pc := 53) hC dX3_hunk_53 hw (fun x10 hw => ?_)
        obtain ⟨hb, hw⟩ := hw
        refine G_callV (pc := 54) (n := 1) (C := "MergeWorkbenchModel") (b := a0) (As := [.int x10]) (rest := []) hC (m_X3_done hJ hw) (lw_V q3581 q3583 qs54 q108 q3584) hd_X3_done (by decide) (rcv (C := RX3) (T := TX3) (N := 61) hC hb rfl) rfl rfl (st_c cat_e (Nat.le_of_ble_eq_true rfl)) dX3_hunk_54 (kI fun x12 M11 hw => ?_)
        refine G_goto (pc := 57) (tgt := 65) hC dX3_hunk_57 (by decide) ?_
        exact g_X3_hunk_65 hJ hC hQ hin  x12 M11 hw
    · replace hw := hw.2 hc
      refine G_aload_n (pc := 27) (i := 0) hC dX3_hunk_27 rfl rfl ?_
      refine G_iconst (pc := 28) (v := 2) hC dX3_hunk_28 (by decide) ?_
      obtain ⟨hb, hw⟩ := hw
      refine G_callV (pc := 29) (n := 1) (C := "MergeWorkbenchModel") (b := a0) (As := [.int (2 : Int32)]) (rest := []) hC (m_X3_fails hJ hw) (lw_V q3573 q3575 qs52 q108 q3576) hd_X3_fails (by decide) (rcv (C := RX3) (T := TX3) (N := 61) hC hb rfl) rfl rfl (st_c cat_e (Nat.le_of_ble_eq_true rfl)) dX3_hunk_29 (kI fun x14 M13 hw => ?_)
      exact G_iret (pc := 32) hC rfl hQ dX3_hunk_32 hw
  · replace hw := hw.2 hc
    refine G_aload_n (pc := 7) (i := 0) hC dX3_hunk_7 rfl rfl ?_
    refine G_iconst (pc := 8) (v := 1) hC dX3_hunk_8 (by decide) ?_
    obtain ⟨hb, hw⟩ := hw
    refine G_callV (pc := 9) (n := 1) (C := "MergeWorkbenchModel") (b := a0) (As := [.int (1 : Int32)]) (rest := []) hC (m_X3_fails hJ hw) (lw_V q3573 q3575 qs52 q108 q3576) hd_X3_fails (by decide) (rcv (C := RX3) (T := TX3) (N := 61) hC hb rfl) rfl rfl (st_c cat_e (Nat.le_of_ble_eq_true rfl)) dX3_hunk_9 (kI fun x16 M15 hw => ?_)
    exact G_iret (pc := 12) hC rfl hQ dX3_hunk_12 hw
def w_X3_fits_80 (g : gT) (F : Nat) (a0 : Nat) (p1 : Int32) (p2 : Int32) (p3 : Option Nat) (p4 : Int32) (p5 : Int32) (Q : Int32 → hM → Prop) (v6 : Int32) (M : hM) : Prop :=
  ((v6 = 0 ∨ v6 = 1) ∧ Q v6 M)
def w_X3_fits_72 (g : gT) (F : Nat) (a0 : Nat) (p1 : Int32) (p2 : Int32) (p3 : Option Nat) (p4 : Int32) (p5 : Int32) (Q : Int32 → hM → Prop) (K31 : Int32 → Int32 → hM → Prop) (v7 : Int32) (s0 : Int32) (M : hM) : Prop :=
  K31 s0 (v7 + (1 : Int32)) M
def w_X3_fits_31 (g : gT) (F : Nat) (a0 : Nat) (p1 : Int32) (p2 : Int32) (p3 : Option Nat) (p4 : Int32) (p5 : Int32) (Q : Int32 → hM → Prop) : Nat → Int32 → Int32 → hM → Prop
  | 0, _, _, _ => False
  | n + 1, v6, v7, M => ((p5 ≤ v7 → w_X3_fits_80 g F a0 p1 p2 p3 p4 p5 Q v6 M) ∧ (¬ (p5 ≤ v7) → ((v6 = 0 → w_X3_fits_80 g F a0 p1 p2 p3 p4 p5 Q v6 M) ∧ (¬ (v6 = 0) → gF M (some a0) 2 1 fun x1 => aI M x1 0 ((((24 : Int32) * p1) + p2) + v7) fun x2 => aI M p3 0 (p4 + v7) fun x3 => ((¬ x2 = x3 → w_X3_fits_72 g F a0 p1 p2 p3 p4 p5 Q (fun v6 v7 M => w_X3_fits_31 g F a0 p1 p2 p3 p4 p5 Q n v6 v7 M) v7 (0 : Int32) M) ∧ (x2 = x3 → w_X3_fits_72 g F a0 p1 p2 p3 p4 p5 Q (fun v6 v7 M => w_X3_fits_31 g F a0 p1 p2 p3 p4 p5 Q n v6 v7 M) v7 (1 : Int32) M))))))
def w_X3_fits_26 (g : gT) (F : Nat) (a0 : Nat) (p1 : Int32) (p2 : Int32) (p3 : Option Nat) (p4 : Int32) (p5 : Int32) (Q : Int32 → hM → Prop) (s0 : Int32) (M : hM) : Prop :=
  w_X3_fits_31 g F a0 p1 p2 p3 p4 p5 Q F s0 (0 : Int32) M
def w_X3_fits_25 (g : gT) (F : Nat) (a0 : Nat) (p1 : Int32) (p2 : Int32) (p3 : Option Nat) (p4 : Int32) (p5 : Int32) (Q : Int32 → hM → Prop) (M : hM) : Prop :=
  w_X3_fits_26 g F a0 p1 p2 p3 p4 p5 Q (0 : Int32) M
def w_X3_fits (g : gT) (F : Nat) (a0 : Nat) (p1 : Int32) (p2 : Int32) (p3 : Option Nat) (p4 : Int32) (p5 : Int32) (M : hM) (Q : Int32 → hM → Prop) : Prop :=
  gI M (some a0) 2 58 fun x1 => ((p2 < x1 → w_X3_fits_25 g F a0 p1 p2 p3 p4 p5 Q M) ∧ (¬ (p2 < x1) → gF M (some a0) 2 2 fun x2 => aI M x2 0 p1 fun x3 => ((x3 < (p2 + p5) → w_X3_fits_25 g F a0 p1 p2 p3 p4 p5 Q M) ∧ (¬ (x3 < (p2 + p5)) → w_X3_fits_26 g F a0 p1 p2 p3 p4 p5 Q (1 : Int32) M))))
theorem g_X3_fits_80 {k : kT} {F : Nat} {a0 : Nat} {p1 : Int32} {p2 : Int32} {p3 : Option Nat} {p4 : Int32} {p5 : Int32} {Q : Int32 → hM → Prop} (hJ : JOK (kl k) (kg k)) (hC : CX k 8 cX3_fits RX3 (some .boolean) 1 12) (hQ : isQ k (PI Q)) (hin : (kt k).name = "fits") : ∀ (v6 : Int32) (M : hM), w_X3_fits_80 (kg k) F a0 p1 p2 p3 p4 p5 Q v6 M → GW k 8 M 80 [some (va_rf (some a0)), some (.int p1), some (.int p2), some (va_rf p3), some (.int p4), some (.int p5), some (.int v6), none] [] := by
  intro v6 M hw
  refine G_iload (pc := 80) (i := 6) hC dX3_fits_80 rfl ?_
  obtain ⟨hz, hw⟩ := hw
  exact G_iret (pc := 82) hC (nz_n hz) hQ dX3_fits_82 hw
theorem g_X3_fits_72 {k : kT} {F : Nat} {a0 : Nat} {p1 : Int32} {p2 : Int32} {p3 : Option Nat} {p4 : Int32} {p5 : Int32} {Q : Int32 → hM → Prop} {K31 : Int32 → Int32 → hM → Prop} (hJ : JOK (kl k) (kg k)) (hC : CX k 8 cX3_fits RX3 (some .boolean) 1 12) (hQ : isQ k (PI Q)) (hin : (kt k).name = "fits") (hK31 : ∀ (v6 : Int32) (v7 : Int32) (M : hM), K31 v6 v7 M → GW k 8 M 31 [some (va_rf (some a0)), some (.int p1), some (.int p2), some (va_rf p3), some (.int p4), some (.int p5), some (.int v6), some (.int v7)] []) : ∀ (v7 : Int32) (s0 : Int32) (M : hM), w_X3_fits_72 (kg k) F a0 p1 p2 p3 p4 p5 Q K31 v7 s0 M → GW k 8 M 72 [some (va_rf (some a0)), some (.int p1), some (.int p2), some (va_rf p3), some (.int p4), some (.int p5), none, some (.int v7)] [.int s0] := by
  intro v7 s0 M hw
  refine G_istore (pc := 72) (i := 6) (lw := [some (va_rf (some a0)), some (.int p1), some (.int p2), some (va_rf p3), some (.int p4), some (.int p5), some (.int s0), some (.int v7)]) hC dX3_fits_72 (Nat.le_of_ble_eq_true rfl) rfl ?_
  refine G_iinc (pc := 74) (i := 7) (v := (v7 + (1 : Int32))) (lw := [some (va_rf (some a0)), some (.int p1), some (.int p2), some (va_rf p3), some (.int p4), some (.int p5), some (.int s0), some (.int (v7 + (1 : Int32)))]) hC dX3_fits_74 rfl (Nat.le_of_ble_eq_true rfl) rfl rfl ?_
  refine G_goto (pc := 77) (tgt := 31) hC dX3_fits_77 (by decide) ?_
  exact hK31 s0 (v7 + (1 : Int32)) M hw
theorem g_X3_fits_31 {k : kT} {F : Nat} {a0 : Nat} {p1 : Int32} {p2 : Int32} {p3 : Option Nat} {p4 : Int32} {p5 : Int32} {Q : Int32 → hM → Prop} (hJ : JOK (kl k) (kg k)) (hC : CX k 8 cX3_fits RX3 (some .boolean) 1 12) (hQ : isQ k (PI Q)) (hin : (kt k).name = "fits") : ∀ (n : Nat) (v6 : Int32) (v7 : Int32) (M : hM), w_X3_fits_31 (kg k) F a0 p1 p2 p3 p4 p5 Q n v6 v7 M → GW k 8 M 31 [some (va_rf (some a0)), some (.int p1), some (.int p2), some (va_rf p3), some (.int p4), some (.int p5), some (.int v6), some (.int v7)] [] := by
  intro n
  induction n with
  | zero =>
    intro v6 v7 M hw
    exact hw.elim
  | succ n ih =>
    intro v6 v7 M hw
    refine G_iload (pc := 31) (i := 7) hC dX3_fits_31 rfl ?_
    refine G_iload (pc := 33) (i := 5) hC dX3_fits_33 rfl ?_
    refine G_icmp_ge (pc := 35) (tgt := 80) hC dX3_fits_35 (by decide) (fun hc => ?_) (fun hc => ?_)
    · replace hw := hw.1 hc
      refine G_loc (lv' := [some (va_rf (some a0)), some (.int p1), some (.int p2), some (va_rf p3), some (.int p4), some (.int p5), some (.int v6), none]) ⟨Or.inr rfl, Or.inr rfl, Or.inr rfl, Or.inr rfl, Or.inr rfl, Or.inr rfl, Or.inr rfl, Or.inl rfl, trivial⟩ ?_
      exact g_X3_fits_80 hJ hC hQ hin  v6 M hw
    · replace hw := hw.2 hc
      refine G_iload (pc := 38) (i := 6) hC dX3_fits_38 rfl ?_
      refine G_if_eq (pc := 40) (tgt := 80) hC dX3_fits_40 (by decide) (fun hc => ?_) (fun hc => ?_)
      · replace hw := hw.1 hc
        refine G_loc (lv' := [some (va_rf (some a0)), some (.int p1), some (.int p2), some (va_rf p3), some (.int p4), some (.int p5), some (.int v6), none]) ⟨Or.inr rfl, Or.inr rfl, Or.inr rfl, Or.inr rfl, Or.inr rfl, Or.inr rfl, Or.inr rfl, Or.inl rfl, trivial⟩ ?_
        exact g_X3_fits_80 hJ hC hQ hin  v6 M hw
      · replace hw := hw.2 hc
        refine G_aload_n (pc := 43) (i := 0) hC dX3_fits_43 rfl rfl ?_
        refine G_getF (pc := 44) (ci := 2) (C := RX3) (T := TX3) (N := 61) (f := 1) hC rfl in_X3 (Nat.le_of_ble_eq_true rfl) q3375 (fun _ h => h) dX3_fits_44 hw (fun x1 hw => ?_)
        refine G_bipush (pc := 47) (v := 24) hC dX3_fits_47 (by decide) ?_
        refine G_iload_n (pc := 49) (i := 1) hC dX3_fits_49 rfl rfl ?_
        refine G_imul (pc := 50) hC dX3_fits_50 ?_
        refine G_iload_n (pc := 51) (i := 2) hC dX3_fits_51 rfl rfl ?_
        refine G_iadd (pc := 52) hC dX3_fits_52 ?_
        refine G_iload (pc := 53) (i := 7) hC dX3_fits_53 rfl ?_
        refine G_iadd (pc := 55) hC dX3_fits_55 ?_
        refine G_iald (pc := 56) hC dX3_fits_56 hw (fun x2 hw => ?_)
        refine G_aload_n (pc := 57) (i := 3) hC dX3_fits_57 rfl rfl ?_
        refine G_iload (pc := 58) (i := 4) hC dX3_fits_58 rfl ?_
        refine G_iload (pc := 60) (i := 7) hC dX3_fits_60 rfl ?_
        refine G_iadd (pc := 62) hC dX3_fits_62 ?_
        refine G_iald (pc := 63) hC dX3_fits_63 hw (fun x3 hw => ?_)
        refine G_icmp_ne (pc := 64) (tgt := 71) hC dX3_fits_64 (by decide) (fun hc => ?_) (fun hc => ?_)
        · replace hw := hw.1 hc
          refine G_iconst (pc := 71) (v := 0) hC dX3_fits_71 (by decide) ?_
          refine G_loc (lv' := [some (va_rf (some a0)), some (.int p1), some (.int p2), some (va_rf p3), some (.int p4), some (.int p5), none, some (.int v7)]) ⟨Or.inr rfl, Or.inr rfl, Or.inr rfl, Or.inr rfl, Or.inr rfl, Or.inr rfl, Or.inl rfl, Or.inr rfl, trivial⟩ ?_
          exact g_X3_fits_72 hJ hC hQ hin ih  v7 (0 : Int32) M hw
        · replace hw := hw.2 hc
          refine G_iconst (pc := 67) (v := 1) hC dX3_fits_67 (by decide) ?_
          refine G_goto (pc := 68) (tgt := 72) hC dX3_fits_68 (by decide) ?_
          refine G_loc (lv' := [some (va_rf (some a0)), some (.int p1), some (.int p2), some (va_rf p3), some (.int p4), some (.int p5), none, some (.int v7)]) ⟨Or.inr rfl, Or.inr rfl, Or.inr rfl, Or.inr rfl, Or.inr rfl, Or.inr rfl, Or.inl rfl, Or.inr rfl, trivial⟩ ?_
          exact g_X3_fits_72 hJ hC hQ hin ih  v7 (1 : Int32) M hw
theorem g_X3_fits_26 {k : kT} {F : Nat} {a0 : Nat} {p1 : Int32} {p2 : Int32} {p3 : Option Nat} {p4 : Int32} {p5 : Int32} {Q : Int32 → hM → Prop} (hJ : JOK (kl k) (kg k)) (hC : CX k 8 cX3_fits RX3 (some .boolean) 1 12) (hQ : isQ k (PI Q)) (hin : (kt k).name = "fits") : ∀ (s0 : Int32) (M : hM), w_X3_fits_26 (kg k) F a0 p1 p2 p3 p4 p5 Q s0 M → GW k 8 M 26 [some (va_rf (some a0)), some (.int p1), some (.int p2), some (va_rf p3), some (.int p4), some (.int p5), none, none] [.int s0] := by
  intro s0 M hw
  refine G_istore (pc := 26) (i := 6) (lw := [some (va_rf (some a0)), some (.int p1), some (.int p2), some (va_rf p3), some (.int p4), some (.int p5), some (.int s0), none]) hC dX3_fits_26 (Nat.le_of_ble_eq_true rfl) rfl ?_
  refine G_iconst (pc := 28) (v := 0) hC dX3_fits_28 (by decide) ?_
  refine G_istore (pc := 29) (i := 7) (lw := [some (va_rf (some a0)), some (.int p1), some (.int p2), some (va_rf p3), some (.int p4), some (.int p5), some (.int s0), some (.int (0 : Int32))]) hC dX3_fits_29 (Nat.le_of_ble_eq_true rfl) rfl ?_
  exact g_X3_fits_31 hJ hC hQ hin _ s0 (0 : Int32) M hw
theorem g_X3_fits_25 {k : kT} {F : Nat} {a0 : Nat} {p1 : Int32} {p2 : Int32} {p3 : Option Nat} {p4 : Int32} {p5 : Int32} {Q : Int32 → hM → Prop} (hJ : JOK (kl k) (kg k)) (hC : CX k 8 cX3_fits RX3 (some .boolean) 1 12) (hQ : isQ k (PI Q)) (hin : (kt k).name = "fits") : ∀  (M : hM), w_X3_fits_25 (kg k) F a0 p1 p2 p3 p4 p5 Q  M → GW k 8 M 25 [some (va_rf (some a0)), some (.int p1), some (.int p2), some (va_rf p3), some (.int p4), some (.int p5), none, none] [] := by
  intro  M hw
  refine G_iconst (pc := 25) (v := 0) hC dX3_fits_25 (by decide) ?_
  exact g_X3_fits_26 hJ hC hQ hin  (0 : Int32) M hw
theorem m_X3_fits {l : Launch} {g : gT} {F : Nat} {a0 : Nat} {p1 : Int32} {p2 : Int32} {p3 : Option Nat} {p4 : Int32} {p5 : Int32} {M : hM} {Q : Int32 → hM → Prop} (hJ : JOK l g) (hw : w_X3_fits g F a0 p1 p2 p3 p4 p5 M Q) : MG l g yX3_fits (ws_ yX3_fits cX3_fits 8 (some .boolean)) 1 12 [va_rf (some a0), .int p1, .int p2, va_rf p3, .int p4, .int p5] M (PI Q) := by
  refine MG_of hJ.2.1 (by decide) (cat_r (cat_i (cat_i (cat_r (cat_i (cat_i cat_e)))))) (Nat.le_of_ble_eq_true rfl) (fun k hl hg hin hQ hC => ?_)
  subst hl hg
  show GW k 8 M 0 [some (va_rf (some a0)), some (.int p1), some (.int p2), some (va_rf p3), some (.int p4), some (.int p5), none, none] []
  refine G_iload_n (pc := 0) (i := 2) hC dX3_fits_0 rfl rfl ?_
  refine G_aload_n (pc := 1) (i := 0) hC dX3_fits_1 rfl rfl ?_
  refine G_getI (pc := 2) (ci := 2) (C := RX3) (T := TX3) (N := 61) (f := 58) hC rfl in_X3 (Nat.le_of_ble_eq_true rfl) q3432 (fun _ h => h) dX3_fits_2 hw (fun x1 hw => ?_)
  refine G_icmp_lt (pc := 5) (tgt := 25) hC dX3_fits_5 (by decide) (fun hc => ?_) (fun hc => ?_)
  · replace hw := hw.1 hc
    exact g_X3_fits_25 hJ hC hQ hin   M hw
  · replace hw := hw.2 hc
    refine G_iload_n (pc := 8) (i := 2) hC dX3_fits_8 rfl rfl ?_
    refine G_iload (pc := 9) (i := 5) hC dX3_fits_9 rfl ?_
    refine G_iadd (pc := 11) hC dX3_fits_11 ?_
    refine G_aload_n (pc := 12) (i := 0) hC dX3_fits_12 rfl rfl ?_
    refine G_getF (pc := 13) (ci := 2) (C := RX3) (T := TX3) (N := 61) (f := 2) hC rfl in_X3 (Nat.le_of_ble_eq_true rfl) q3376 (fun _ h => h) dX3_fits_13 hw (fun x2 hw => ?_)
    refine G_iload_n (pc := 16) (i := 1) hC dX3_fits_16 rfl rfl ?_
    refine G_iald (pc := 17) hC dX3_fits_17 hw (fun x3 hw => ?_)
    refine G_icmp_gt (pc := 18) (tgt := 25) hC dX3_fits_18 (by decide) (fun hc => ?_) (fun hc => ?_)
    · replace hw := hw.1 hc
      exact g_X3_fits_25 hJ hC hQ hin   M hw
    · replace hw := hw.2 hc
      refine G_iconst (pc := 21) (v := 1) hC dX3_fits_21 (by decide) ?_
      refine G_goto (pc := 22) (tgt := 26) hC dX3_fits_22 (by decide) ?_
      exact g_X3_fits_26 hJ hC hQ hin  (1 : Int32) M hw
def w_X3_goesOutDocument_3 (g : gT) (F : Nat) (a0 : Nat) (p1 : Int32) (p2 : Int32) (p3 : Int32) (Q : hM → Prop) : Nat → Int32 → hM → Prop
  | 0, _, _ => False
  | n + 1, v4, M => ((p3 ≤ v4 → Q M) ∧ (¬ (p3 ≤ v4) → gF M (some a0) 2 15 fun x1 => gI M (some a0) 2 18 fun x2 => gF M (some a0) 2 1 fun x3 => aI M x3 0 (((24 : Int32) * p1) + v4) fun x4 => sI M x1 0 x2 x4 fun M5 => gI M5 (some a0) 2 18 fun x6 => pV M5 (some a0) 2 18 (.int (x6 + (1 : Int32))) fun M7 => w_X3_goesOutDocument_3 g F a0 p1 p2 p3 Q n (v4 + (1 : Int32)) M7))
def w_X3_goesOutDocument (g : gT) (F : Nat) (a0 : Nat) (p1 : Int32) (p2 : Int32) (p3 : Int32) (M : hM) (Q : hM → Prop) : Prop :=
  w_X3_goesOutDocument_3 g F a0 p1 p2 p3 Q F p2 M
theorem g_X3_goesOutDocument_3 {k : kT} {F : Nat} {a0 : Nat} {p1 : Int32} {p2 : Int32} {p3 : Int32} {Q : hM → Prop} (hJ : JOK (kl k) (kg k)) (hC : CX k 5 cX3_goesOutDocument RX3 none 1 12) (hQ : isQ k (PU Q)) (hin : (kt k).name = "goesOutDocument") : ∀ (n : Nat) (v4 : Int32) (M : hM), w_X3_goesOutDocument_3 (kg k) F a0 p1 p2 p3 Q n v4 M → GW k 5 M 3 [some (va_rf (some a0)), some (.int p1), some (.int p2), some (.int p3), some (.int v4)] [] := by
  intro n
  induction n with
  | zero =>
    intro v4 M hw
    exact hw.elim
  | succ n ih =>
    intro v4 M hw
    refine G_iload (pc := 3) (i := 4) hC dX3_goesOutDocument_3 rfl ?_
    refine G_iload_n (pc := 5) (i := 3) hC dX3_goesOutDocument_5 rfl rfl ?_
    refine G_icmp_ge (pc := 6) (tgt := 46) hC dX3_goesOutDocument_6 (by decide) (fun hc => ?_) (fun hc => ?_)
    · replace hw := hw.1 hc
      exact G_ret (pc := 46) hC hQ dX3_goesOutDocument_46 hw
    · replace hw := hw.2 hc
      refine G_aload_n (pc := 9) (i := 0) hC dX3_goesOutDocument_9 rfl rfl ?_
      refine G_getF (pc := 10) (ci := 2) (C := RX3) (T := TX3) (N := 61) (f := 15) hC rfl in_X3 (Nat.le_of_ble_eq_true rfl) q3389 (fun _ h => h) dX3_goesOutDocument_10 hw (fun x1 hw => ?_)
      refine G_aload_n (pc := 13) (i := 0) hC dX3_goesOutDocument_13 rfl rfl ?_
      refine G_getI (pc := 14) (ci := 2) (C := RX3) (T := TX3) (N := 61) (f := 18) hC rfl in_X3 (Nat.le_of_ble_eq_true rfl) q3392 (fun _ h => h) dX3_goesOutDocument_14 hw (fun x2 hw => ?_)
      refine G_aload_n (pc := 17) (i := 0) hC dX3_goesOutDocument_17 rfl rfl ?_
      refine G_getF (pc := 18) (ci := 2) (C := RX3) (T := TX3) (N := 61) (f := 1) hC rfl in_X3 (Nat.le_of_ble_eq_true rfl) q3375 (fun _ h => h) dX3_goesOutDocument_18 hw (fun x3 hw => ?_)
      refine G_bipush (pc := 21) (v := 24) hC dX3_goesOutDocument_21 (by decide) ?_
      refine G_iload_n (pc := 23) (i := 1) hC dX3_goesOutDocument_23 rfl rfl ?_
      refine G_imul (pc := 24) hC dX3_goesOutDocument_24 ?_
      refine G_iload (pc := 25) (i := 4) hC dX3_goesOutDocument_25 rfl ?_
      refine G_iadd (pc := 27) hC dX3_goesOutDocument_27 ?_
      refine G_iald (pc := 28) hC dX3_goesOutDocument_28 hw (fun x4 hw => ?_)
      refine G_iast (pc := 29) hC dX3_goesOutDocument_29 hw (fun M5 hw => ?_)
      refine G_aload_n (pc := 30) (i := 0) hC dX3_goesOutDocument_30 rfl rfl ?_
      refine G_dup (pc := 31) hC dX3_goesOutDocument_31 (rf_cat _) ?_
      refine G_getI (pc := 32) (ci := 2) (C := RX3) (T := TX3) (N := 61) (f := 18) hC rfl in_X3 (Nat.le_of_ble_eq_true rfl) q3392 (fun _ h => h) dX3_goesOutDocument_32 hw (fun x6 hw => ?_)
      refine G_iconst (pc := 35) (v := 1) hC dX3_goesOutDocument_35 (by decide) ?_
      refine G_iadd (pc := 36) hC dX3_goesOutDocument_36 ?_
      refine G_put (pc := 37) (ci := 2) (C := RX3) (T := TX3) (N := 61) (f := 18) tyX3 hC rfl in_X3 tyX3_ok nmX3 (Nat.le_of_ble_eq_true rfl) q3392 (fun _ h => h) rfl rfl rfl dX3_goesOutDocument_37 hw (fun M7 hw => ?_)
      refine G_iinc (pc := 40) (i := 4) (v := (v4 + (1 : Int32))) (lw := [some (va_rf (some a0)), some (.int p1), some (.int p2), some (.int p3), some (.int (v4 + (1 : Int32)))]) hC dX3_goesOutDocument_40 rfl (Nat.le_of_ble_eq_true rfl) rfl rfl ?_
      refine G_goto (pc := 43) (tgt := 3) hC dX3_goesOutDocument_43 (by decide) ?_
      exact ih (v4 + (1 : Int32)) M7 hw
theorem m_X3_goesOutDocument {l : Launch} {g : gT} {F : Nat} {a0 : Nat} {p1 : Int32} {p2 : Int32} {p3 : Int32} {M : hM} {Q : hM → Prop} (hJ : JOK l g) (hw : w_X3_goesOutDocument g F a0 p1 p2 p3 M Q) : MG l g yX3_goesOutDocument (ws_ yX3_goesOutDocument cX3_goesOutDocument 5 none) 1 12 [va_rf (some a0), .int p1, .int p2, .int p3] M (PU Q) := by
  refine MG_of hJ.2.1 (by decide) (cat_r (cat_i (cat_i (cat_i cat_e)))) (Nat.le_of_ble_eq_true rfl) (fun k hl hg hin hQ hC => ?_)
  subst hl hg
  show GW k 5 M 0 [some (va_rf (some a0)), some (.int p1), some (.int p2), some (.int p3), none] []
  refine G_iload_n (pc := 0) (i := 2) hC dX3_goesOutDocument_0 rfl rfl ?_
  refine G_istore (pc := 1) (i := 4) (lw := [some (va_rf (some a0)), some (.int p1), some (.int p2), some (.int p3), some (.int p2)]) hC dX3_goesOutDocument_1 (Nat.le_of_ble_eq_true rfl) rfl ?_
  exact g_X3_goesOutDocument_3 hJ hC hQ hin _ p2 M hw
theorem hd_X3_fits : yX3_fits.cls = "MergeWorkbenchModel" ∧ yX3_fits.cls ≠ "java/lang/invoke/MethodHandle" ∧ yX3_fits.cls ≠ "java/lang/invoke/VarHandle" ∧ (parseMethodDescriptor yX3_fits.desc).map (fun d => d.parameters.length) = some 5 := by decide +kernel
theorem hd_X3_goesOutDocument : yX3_goesOutDocument.cls = "MergeWorkbenchModel" ∧ yX3_goesOutDocument.cls ≠ "java/lang/invoke/MethodHandle" ∧ yX3_goesOutDocument.cls ≠ "java/lang/invoke/VarHandle" ∧ (parseMethodDescriptor yX3_goesOutDocument.desc).map (fun d => d.parameters.length) = some 3 := by decide +kernel
def w_X3_applies_217 (g : gT) (F : Nat) (a0 : Nat) (p1 : Int32) (p2 : Int32) (p3 : Int32) (p4 : Int32) (Q : Int32 → hM → Prop) (K181 : (Option Nat) → (Option Nat) → Int32 → Int32 → Int32 → Int32 → Int32 → hM → Prop) (v8 : Option Nat) (v9 : Option Nat) (v10 : Int32) (v11 : Int32) (v12 : Int32) (v13 : Int32) (v14 : Int32) (s0 : Int32) (s1 : Int32) (M : hM) : Prop :=
  (isC M a0 2 ∧ w_X3_fits g F a0 p1 (s0 + s1) v8 v10 v11 M (fun x2 M1 => ((x2 = 0 → K181 v8 v9 v10 v11 v12 v13 (v14 + (1 : Int32)) M1) ∧ (¬ (x2 = 0) → gI M1 (some a0) 2 58 fun x3 => (isC M1 a0 2 ∧ w_X3_goesOutDocument g F a0 p1 x3 (s0 + s1) M1 (fun M4 => (isC M4 a0 2 ∧ w_X3_goesOut g F a0 v9 v12 (v12 + v13) M4 (fun M5 => pV M5 (some a0) 2 58 (.int ((s0 + s1) + v11)) fun M6 => pV M6 (some a0) 2 59 (.int ((s0 + s1) - v10)) fun M7 => gF M7 (some a0) 2 60 fun x8 => sI M7 x8 0 ((2 : Int32) * p2) (s0 + s1) fun M9 => gF M9 (some a0) 2 60 fun x10 => sI M9 x10 0 (((2 : Int32) * p2) + (1 : Int32)) p3 fun M11 => Q (1 : Int32) M11))))))))
def w_X3_applies_181 (g : gT) (F : Nat) (a0 : Nat) (p1 : Int32) (p2 : Int32) (p3 : Int32) (p4 : Int32) (Q : Int32 → hM → Prop) : Nat → (Option Nat) → (Option Nat) → Int32 → Int32 → Int32 → Int32 → Int32 → hM → Prop
  | 0, _, _, _, _, _, _, _, _ => False
  | n + 1, v8, v9, v10, v11, v12, v13, v14, M => (((20 : Int32) < v14 → Q (0 : Int32) M) ∧ (¬ ((20 : Int32) < v14) → gI M (some a0) 2 59 fun x1 => ((¬ (v14 - v14 / (2 : Int32) * (2 : Int32)) = (1 : Int32) → w_X3_applies_217 g F a0 p1 p2 p3 p4 Q (fun v8 v9 v10 v11 v12 v13 v14 M => w_X3_applies_181 g F a0 p1 p2 p3 p4 Q n v8 v9 v10 v11 v12 v13 v14 M) v8 v9 v10 v11 v12 v13 v14 (v10 + x1) ((-v14) / (2 : Int32)) M) ∧ ((v14 - v14 / (2 : Int32) * (2 : Int32)) = (1 : Int32) → w_X3_applies_217 g F a0 p1 p2 p3 p4 Q (fun v8 v9 v10 v11 v12 v13 v14 M => w_X3_applies_181 g F a0 p1 p2 p3 p4 Q n v8 v9 v10 v11 v12 v13 v14 M) v8 v9 v10 v11 v12 v13 v14 (v10 + x1) ((v14 + (1 : Int32)) / (2 : Int32)) M))))
def w_X3_applies_169 (g : gT) (F : Nat) (a0 : Nat) (p1 : Int32) (p2 : Int32) (p3 : Int32) (p4 : Int32) (Q : Int32 → hM → Prop) (v6 : Int32) (v7 : Int32) (v8 : Option Nat) (v9 : Option Nat) (v10 : Int32) (v11 : Int32) (v12 : Int32) (s0 : Option Nat) (s1 : Int32) (M : hM) : Prop :=
  aI M s0 0 s1 fun x1 => w_X3_applies_181 g F a0 p1 p2 p3 p4 Q F v8 v9 v10 v11 v12 ((x1 - v6) - v7) (0 : Int32) M
def w_X3_applies_143 (g : gT) (F : Nat) (a0 : Nat) (p1 : Int32) (p2 : Int32) (p3 : Int32) (p4 : Int32) (Q : Int32 → hM → Prop) (v5 : Int32) (v6 : Int32) (v7 : Int32) (v8 : Option Nat) (v9 : Option Nat) (v10 : Int32) (v11 : Int32) (s0 : Option Nat) (s1 : Int32) (M : hM) : Prop :=
  aI M s0 0 s1 fun x1 => gF M (some a0) 2 52 fun x2 => ((p4 = 0 → w_X3_applies_169 g F a0 p1 p2 p3 p4 Q v6 v7 v8 v9 v10 v11 (x1 + v6) x2 (v5 + (3 : Int32)) M) ∧ (¬ (p4 = 0) → w_X3_applies_169 g F a0 p1 p2 p3 p4 Q v6 v7 v8 v9 v10 v11 (x1 + v6) x2 (v5 + (1 : Int32)) M))
def w_X3_applies_116 (g : gT) (F : Nat) (a0 : Nat) (p1 : Int32) (p2 : Int32) (p3 : Int32) (p4 : Int32) (Q : Int32 → hM → Prop) (v5 : Int32) (v6 : Int32) (v7 : Int32) (v8 : Option Nat) (v9 : Option Nat) (v10 : Int32) (s0 : Option Nat) (s1 : Int32) (M : hM) : Prop :=
  aI M s0 0 s1 fun x1 => gF M (some a0) 2 52 fun x2 => ((p4 = 0 → w_X3_applies_143 g F a0 p1 p2 p3 p4 Q v5 v6 v7 v8 v9 v10 ((x1 - v6) - v7) x2 (v5 + (2 : Int32)) M) ∧ (¬ (p4 = 0) → w_X3_applies_143 g F a0 p1 p2 p3 p4 Q v5 v6 v7 v8 v9 v10 ((x1 - v6) - v7) x2 v5 M))
def w_X3_applies_90 (g : gT) (F : Nat) (a0 : Nat) (p1 : Int32) (p2 : Int32) (p3 : Int32) (p4 : Int32) (Q : Int32 → hM → Prop) (v5 : Int32) (v6 : Int32) (v7 : Int32) (v8 : Option Nat) (v9 : Option Nat) (s0 : Option Nat) (s1 : Int32) (M : hM) : Prop :=
  aI M s0 0 s1 fun x1 => gF M (some a0) 2 52 fun x2 => ((p4 = 0 → w_X3_applies_116 g F a0 p1 p2 p3 p4 Q v5 v6 v7 v8 v9 (x1 + v6) x2 (v5 + (1 : Int32)) M) ∧ (¬ (p4 = 0) → w_X3_applies_116 g F a0 p1 p2 p3 p4 Q v5 v6 v7 v8 v9 (x1 + v6) x2 (v5 + (3 : Int32)) M))
def w_X3_applies_70 (g : gT) (F : Nat) (a0 : Nat) (p1 : Int32) (p2 : Int32) (p3 : Int32) (p4 : Int32) (Q : Int32 → hM → Prop) (v5 : Int32) (v6 : Int32) (v7 : Int32) (v8 : Option Nat) (s0 : Option Nat) (M : hM) : Prop :=
  gF M (some a0) 2 52 fun x1 => ((p4 = 0 → w_X3_applies_90 g F a0 p1 p2 p3 p4 Q v5 v6 v7 v8 s0 x1 v5 M) ∧ (¬ (p4 = 0) → w_X3_applies_90 g F a0 p1 p2 p3 p4 Q v5 v6 v7 v8 s0 x1 (v5 + (2 : Int32)) M))
def w_X3_applies_52 (g : gT) (F : Nat) (a0 : Nat) (p1 : Int32) (p2 : Int32) (p3 : Int32) (p4 : Int32) (Q : Int32 → hM → Prop) (v5 : Int32) (v6 : Int32) (v7 : Int32) (s0 : Option Nat) (M : hM) : Prop :=
  ((p4 = 0 → gF M (some a0) 2 55 fun x1 => w_X3_applies_70 g F a0 p1 p2 p3 p4 Q v5 v6 v7 s0 x1 M) ∧ (¬ (p4 = 0) → gF M (some a0) 2 54 fun x2 => w_X3_applies_70 g F a0 p1 p2 p3 p4 Q v5 v6 v7 s0 x2 M))
def w_X3_applies (g : gT) (F : Nat) (a0 : Nat) (p1 : Int32) (p2 : Int32) (p3 : Int32) (p4 : Int32) (M : hM) (Q : Int32 → hM → Prop) : Prop :=
  gF M (some a0) 2 52 fun x1 => aI M x1 0 (((6 : Int32) * p2) + (4 : Int32)) fun x2 => w_X3_least g F p3 x2 M (fun x4 M3 => gF M3 (some a0) 2 52 fun x5 => aI M3 x5 0 (((6 : Int32) * p2) + (5 : Int32)) fun x6 => w_X3_least g F p3 x6 M3 (fun x8 M7 => ((p4 = 0 → gF M7 (some a0) 2 54 fun x9 => w_X3_applies_52 g F a0 p1 p2 p3 p4 Q ((6 : Int32) * p2) x4 x8 x9 M7) ∧ (¬ (p4 = 0) → gF M7 (some a0) 2 55 fun x10 => w_X3_applies_52 g F a0 p1 p2 p3 p4 Q ((6 : Int32) * p2) x4 x8 x10 M7))))
theorem g_X3_applies_217 {k : kT} {F : Nat} {a0 : Nat} {p1 : Int32} {p2 : Int32} {p3 : Int32} {p4 : Int32} {Q : Int32 → hM → Prop} {K181 : (Option Nat) → (Option Nat) → Int32 → Int32 → Int32 → Int32 → Int32 → hM → Prop} (hJ : JOK (kl k) (kg k)) (hC : CX k 16 cX3_applies RX3 (some .boolean) 2 39) (hQ : isQ k (PI Q)) (hin : (kt k).name = "applies") (hK181 : ∀ (v8 : Option Nat) (v9 : Option Nat) (v10 : Int32) (v11 : Int32) (v12 : Int32) (v13 : Int32) (v14 : Int32) (M : hM), K181 v8 v9 v10 v11 v12 v13 v14 M → GW k 16 M 181 [some (va_rf (some a0)), some (.int p1), some (.int p2), some (.int p3), some (.int p4), none, none, none, some (va_rf v8), some (va_rf v9), some (.int v10), some (.int v11), some (.int v12), some (.int v13), some (.int v14), none] []) : ∀ (v8 : Option Nat) (v9 : Option Nat) (v10 : Int32) (v11 : Int32) (v12 : Int32) (v13 : Int32) (v14 : Int32) (s0 : Int32) (s1 : Int32) (M : hM), w_X3_applies_217 (kg k) F a0 p1 p2 p3 p4 Q K181 v8 v9 v10 v11 v12 v13 v14 s0 s1 M → GW k 16 M 217 [some (va_rf (some a0)), some (.int p1), some (.int p2), some (.int p3), some (.int p4), none, none, none, some (va_rf v8), some (va_rf v9), some (.int v10), some (.int v11), some (.int v12), some (.int v13), some (.int v14), none] [.int s1, .int s0] := by
  intro v8 v9 v10 v11 v12 v13 v14 s0 s1 M hw
  refine G_iadd (pc := 217) hC dX3_applies_217 ?_
  refine G_istore (pc := 218) (i := 15) (lw := [some (va_rf (some a0)), some (.int p1), some (.int p2), some (.int p3), some (.int p4), none, none, none, some (va_rf v8), some (va_rf v9), some (.int v10), some (.int v11), some (.int v12), some (.int v13), some (.int v14), some (.int (s0 + s1))]) hC dX3_applies_218 (Nat.le_of_ble_eq_true rfl) rfl ?_
  refine G_aload_n (pc := 220) (i := 0) hC dX3_applies_220 rfl rfl ?_
  refine G_iload_n (pc := 221) (i := 1) hC dX3_applies_221 rfl rfl ?_
  refine G_iload (pc := 222) (i := 15) hC dX3_applies_222 rfl ?_
  refine G_aload (pc := 224) (i := 8) hC dX3_applies_224 rfl ?_
  refine G_iload (pc := 226) (i := 10) hC dX3_applies_226 rfl ?_
  refine G_iload (pc := 228) (i := 11) hC dX3_applies_228 rfl ?_
  obtain ⟨hb, hw⟩ := hw
  refine G_callV (pc := 230) (n := 5) (C := "MergeWorkbenchModel") (b := a0) (As := [.int p1, .int (s0 + s1), va_rf v8, .int v10, .int v11]) (rest := []) hC (m_X3_fits hJ hw) (lw_V q3824 q3826 qs80 q108 q3827) hd_X3_fits (by decide) (rcv (C := RX3) (T := TX3) (N := 61) hC hb rfl) rfl rfl (st_c cat_e (Nat.le_of_ble_eq_true rfl)) dX3_applies_230 (kI fun x2 M1 hw => ?_)
  refine G_if_eq (pc := 233) (tgt := 301) hC dX3_applies_233 (by decide) (fun hc => ?_) (fun hc => ?_)
  · replace hw := hw.1 hc
    refine G_iinc (pc := 301) (i := 14) (v := (v14 + (1 : Int32))) (lw := [some (va_rf (some a0)), some (.int p1), some (.int p2), some (.int p3), some (.int p4), none, none, none, some (va_rf v8), some (va_rf v9), some (.int v10), some (.int v11), some (.int v12), some (.int v13), some (.int (v14 + (1 : Int32))), some (.int (s0 + s1))]) hC dX3_applies_301 rfl (Nat.le_of_ble_eq_true rfl) rfl rfl ?_
    refine G_goto (pc := 304) (tgt := 181) hC dX3_applies_304 (by decide) ?_
    refine G_loc (lv' := [some (va_rf (some a0)), some (.int p1), some (.int p2), some (.int p3), some (.int p4), none, none, none, some (va_rf v8), some (va_rf v9), some (.int v10), some (.int v11), some (.int v12), some (.int v13), some (.int (v14 + (1 : Int32))), none]) ⟨Or.inr rfl, Or.inr rfl, Or.inr rfl, Or.inr rfl, Or.inr rfl, Or.inr rfl, Or.inr rfl, Or.inr rfl, Or.inr rfl, Or.inr rfl, Or.inr rfl, Or.inr rfl, Or.inr rfl, Or.inr rfl, Or.inr rfl, Or.inl rfl, trivial⟩ ?_
    exact hK181 v8 v9 v10 v11 v12 v13 (v14 + (1 : Int32)) M1 hw
  · replace hw := hw.2 hc
    refine G_aload_n (pc := 236) (i := 0) hC dX3_applies_236 rfl rfl ?_
    refine G_iload_n (pc := 237) (i := 1) hC dX3_applies_237 rfl rfl ?_
    refine G_aload_n (pc := 238) (i := 0) hC dX3_applies_238 rfl rfl ?_
    refine G_getI (pc := 239) (ci := 2) (C := RX3) (T := TX3) (N := 61) (f := 58) hC rfl in_X3 (Nat.le_of_ble_eq_true rfl) q3432 (fun _ h => h) dX3_applies_239 hw (fun x3 hw => ?_)
    refine G_iload (pc := 242) (i := 15) hC dX3_applies_242 rfl ?_
    obtain ⟨hb, hw⟩ := hw
    refine G_callV (pc := 244) (n := 3) (C := "MergeWorkbenchModel") (b := a0) (As := [.int p1, .int x3, .int (s0 + s1)]) (rest := []) hC (m_X3_goesOutDocument hJ hw) (lw_V q3828 q3830 qs81 q108 q3831) hd_X3_goesOutDocument (by decide) (rcv (C := RX3) (T := TX3) (N := 61) hC hb rfl) rfl rfl (st_c cat_e (Nat.le_of_ble_eq_true rfl)) dX3_applies_244 (kU fun M4 hw => ?_)
    refine G_aload_n (pc := 247) (i := 0) hC dX3_applies_247 rfl rfl ?_
    refine G_aload (pc := 248) (i := 9) hC dX3_applies_248 rfl ?_
    refine G_iload (pc := 250) (i := 12) hC dX3_applies_250 rfl ?_
    refine G_iload (pc := 252) (i := 12) hC dX3_applies_252 rfl ?_
    refine G_iload (pc := 254) (i := 13) hC dX3_applies_254 rfl ?_
    refine G_iadd (pc := 256) hC dX3_applies_256 ?_
    obtain ⟨hb, hw⟩ := hw
    refine G_callV (pc := 257) (n := 3) (C := "MergeWorkbenchModel") (b := a0) (As := [va_rf v9, .int v12, .int (v12 + v13)]) (rest := []) hC (m_X3_goesOut hJ hw) (lw_V q3777 q3779 qs76 q108 q3780) hd_X3_goesOut (by decide) (rcv (C := RX3) (T := TX3) (N := 61) hC hb rfl) rfl rfl (st_c cat_e (Nat.le_of_ble_eq_true rfl)) dX3_applies_257 (kU fun M5 hw => ?_)
    refine G_aload_n (pc := 260) (i := 0) hC dX3_applies_260 rfl rfl ?_
    refine G_iload (pc := 261) (i := 15) hC dX3_applies_261 rfl ?_
    refine G_iload (pc := 263) (i := 11) hC dX3_applies_263 rfl ?_
    refine G_iadd (pc := 265) hC dX3_applies_265 ?_
    refine G_put (pc := 266) (ci := 2) (C := RX3) (T := TX3) (N := 61) (f := 58) tyX3 hC rfl in_X3 tyX3_ok nmX3 (Nat.le_of_ble_eq_true rfl) q3432 (fun _ h => h) rfl rfl rfl dX3_applies_266 hw (fun M6 hw => ?_)
    refine G_aload_n (pc := 269) (i := 0) hC dX3_applies_269 rfl rfl ?_
    refine G_iload (pc := 270) (i := 15) hC dX3_applies_270 rfl ?_
    refine G_iload (pc := 272) (i := 10) hC dX3_applies_272 rfl ?_
    refine G_isub (pc := 274) hC dX3_applies_274 ?_
    refine G_put (pc := 275) (ci := 2) (C := RX3) (T := TX3) (N := 61) (f := 59) tyX3 hC rfl in_X3 tyX3_ok nmX3 (Nat.le_of_ble_eq_true rfl) q3433 (fun _ h => h) rfl rfl rfl dX3_applies_275 hw (fun M7 hw => ?_)
    refine G_aload_n (pc := 278) (i := 0) hC dX3_applies_278 rfl rfl ?_
    refine G_getF (pc := 279) (ci := 2) (C := RX3) (T := TX3) (N := 61) (f := 60) hC rfl in_X3 (Nat.le_of_ble_eq_true rfl) q3434 (fun _ h => h) dX3_applies_279 hw (fun x8 hw => ?_)
    refine G_iconst (pc := 282) (v := 2) hC dX3_applies_282 (by decide) ?_
    refine G_iload_n (pc := 283) (i := 2) hC dX3_applies_283 rfl rfl ?_
    refine G_imul (pc := 284) hC dX3_applies_284 ?_
    refine G_iload (pc := 285) (i := 15) hC dX3_applies_285 rfl ?_
    refine G_iast (pc := 287) hC dX3_applies_287 hw (fun M9 hw => ?_)
    refine G_aload_n (pc := 288) (i := 0) hC dX3_applies_288 rfl rfl ?_
    refine G_getF (pc := 289) (ci := 2) (C := RX3) (T := TX3) (N := 61) (f := 60) hC rfl in_X3 (Nat.le_of_ble_eq_true rfl) q3434 (fun _ h => h) dX3_applies_289 hw (fun x10 hw => ?_)
    refine G_iconst (pc := 292) (v := 2) hC dX3_applies_292 (by decide) ?_
    refine G_iload_n (pc := 293) (i := 2) hC dX3_applies_293 rfl rfl ?_
    refine G_imul (pc := 294) hC dX3_applies_294 ?_
    refine G_iconst (pc := 295) (v := 1) hC dX3_applies_295 (by decide) ?_
    refine G_iadd (pc := 296) hC dX3_applies_296 ?_
    refine G_iload_n (pc := 297) (i := 3) hC dX3_applies_297 rfl rfl ?_
    refine G_iast (pc := 298) hC dX3_applies_298 hw (fun M11 hw => ?_)
    refine G_iconst (pc := 299) (v := 1) hC dX3_applies_299 (by decide) ?_
    exact G_iret (pc := 300) hC rfl hQ dX3_applies_300 hw
theorem g_X3_applies_181 {k : kT} {F : Nat} {a0 : Nat} {p1 : Int32} {p2 : Int32} {p3 : Int32} {p4 : Int32} {Q : Int32 → hM → Prop} (hJ : JOK (kl k) (kg k)) (hC : CX k 16 cX3_applies RX3 (some .boolean) 2 39) (hQ : isQ k (PI Q)) (hin : (kt k).name = "applies") : ∀ (n : Nat) (v8 : Option Nat) (v9 : Option Nat) (v10 : Int32) (v11 : Int32) (v12 : Int32) (v13 : Int32) (v14 : Int32) (M : hM), w_X3_applies_181 (kg k) F a0 p1 p2 p3 p4 Q n v8 v9 v10 v11 v12 v13 v14 M → GW k 16 M 181 [some (va_rf (some a0)), some (.int p1), some (.int p2), some (.int p3), some (.int p4), none, none, none, some (va_rf v8), some (va_rf v9), some (.int v10), some (.int v11), some (.int v12), some (.int v13), some (.int v14), none] [] := by
  intro n
  induction n with
  | zero =>
    intro v8 v9 v10 v11 v12 v13 v14 M hw
    exact hw.elim
  | succ n ih =>
    intro v8 v9 v10 v11 v12 v13 v14 M hw
    refine G_iload (pc := 181) (i := 14) hC dX3_applies_181 rfl ?_
    refine G_bipush (pc := 183) (v := 20) hC dX3_applies_183 (by decide) ?_
    refine G_icmp_gt (pc := 185) (tgt := 307) hC dX3_applies_185 (by decide) (fun hc => ?_) (fun hc => ?_)
    · replace hw := hw.1 hc
      refine G_iconst (pc := 307) (v := 0) hC dX3_applies_307 (by decide) ?_
      exact G_iret (pc := 308) hC rfl hQ dX3_applies_308 hw
    · replace hw := hw.2 hc
      refine G_iload (pc := 188) (i := 10) hC dX3_applies_188 rfl ?_
      refine G_aload_n (pc := 190) (i := 0) hC dX3_applies_190 rfl rfl ?_
      refine G_getI (pc := 191) (ci := 2) (C := RX3) (T := TX3) (N := 61) (f := 59) hC rfl in_X3 (Nat.le_of_ble_eq_true rfl) q3433 (fun _ h => h) dX3_applies_191 hw (fun x1 hw => ?_)
      refine G_iadd (pc := 194) hC dX3_applies_194 ?_
      refine G_iload (pc := 195) (i := 14) hC dX3_applies_195 rfl ?_
      refine G_iconst (pc := 197) (v := 2) hC dX3_applies_197 (by decide) ?_
      refine G_irem (pc := 198) hC dX3_applies_198 (by decide) ?_
      refine G_iconst (pc := 199) (v := 1) hC dX3_applies_199 (by decide) ?_
      refine G_icmp_ne (pc := 200) (tgt := 212) hC dX3_applies_200 (by decide) (fun hc => ?_) (fun hc => ?_)
      · replace hw := hw.1 hc
        refine G_iload (pc := 212) (i := 14) hC dX3_applies_212 rfl ?_
        refine G_ineg (pc := 214) hC dX3_applies_214 ?_
        refine G_iconst (pc := 215) (v := 2) hC dX3_applies_215 (by decide) ?_
        refine G_idiv (pc := 216) hC dX3_applies_216 (by decide) ?_
        exact g_X3_applies_217 hJ hC hQ hin ih  v8 v9 v10 v11 v12 v13 v14 (v10 + x1) ((-v14) / (2 : Int32)) M hw
      · replace hw := hw.2 hc
        refine G_iload (pc := 203) (i := 14) hC dX3_applies_203 rfl ?_
        refine G_iconst (pc := 205) (v := 1) hC dX3_applies_205 (by decide) ?_
        refine G_iadd (pc := 206) hC dX3_applies_206 ?_
        refine G_iconst (pc := 207) (v := 2) hC dX3_applies_207 (by decide) ?_
        refine G_idiv (pc := 208) hC dX3_applies_208 (by decide) ?_
        refine G_goto (pc := 209) (tgt := 217) hC dX3_applies_209 (by decide) ?_
        exact g_X3_applies_217 hJ hC hQ hin ih  v8 v9 v10 v11 v12 v13 v14 (v10 + x1) ((v14 + (1 : Int32)) / (2 : Int32)) M hw
theorem g_X3_applies_169 {k : kT} {F : Nat} {a0 : Nat} {p1 : Int32} {p2 : Int32} {p3 : Int32} {p4 : Int32} {Q : Int32 → hM → Prop} (hJ : JOK (kl k) (kg k)) (hC : CX k 16 cX3_applies RX3 (some .boolean) 2 39) (hQ : isQ k (PI Q)) (hin : (kt k).name = "applies") : ∀ (v6 : Int32) (v7 : Int32) (v8 : Option Nat) (v9 : Option Nat) (v10 : Int32) (v11 : Int32) (v12 : Int32) (s0 : Option Nat) (s1 : Int32) (M : hM), w_X3_applies_169 (kg k) F a0 p1 p2 p3 p4 Q v6 v7 v8 v9 v10 v11 v12 s0 s1 M → GW k 16 M 169 [some (va_rf (some a0)), some (.int p1), some (.int p2), some (.int p3), some (.int p4), none, some (.int v6), some (.int v7), some (va_rf v8), some (va_rf v9), some (.int v10), some (.int v11), some (.int v12), none, none, none] [.int s1, va_rf s0] := by
  intro v6 v7 v8 v9 v10 v11 v12 s0 s1 M hw
  refine G_iald (pc := 169) hC dX3_applies_169 hw (fun x1 hw => ?_)
  refine G_iload (pc := 170) (i := 6) hC dX3_applies_170 rfl ?_
  refine G_isub (pc := 172) hC dX3_applies_172 ?_
  refine G_iload (pc := 173) (i := 7) hC dX3_applies_173 rfl ?_
  refine G_isub (pc := 175) hC dX3_applies_175 ?_
  refine G_istore (pc := 176) (i := 13) (lw := [some (va_rf (some a0)), some (.int p1), some (.int p2), some (.int p3), some (.int p4), none, some (.int v6), some (.int v7), some (va_rf v8), some (va_rf v9), some (.int v10), some (.int v11), some (.int v12), some (.int ((x1 - v6) - v7)), none, none]) hC dX3_applies_176 (Nat.le_of_ble_eq_true rfl) rfl ?_
  refine G_iconst (pc := 178) (v := 0) hC dX3_applies_178 (by decide) ?_
  refine G_istore (pc := 179) (i := 14) (lw := [some (va_rf (some a0)), some (.int p1), some (.int p2), some (.int p3), some (.int p4), none, some (.int v6), some (.int v7), some (va_rf v8), some (va_rf v9), some (.int v10), some (.int v11), some (.int v12), some (.int ((x1 - v6) - v7)), some (.int (0 : Int32)), none]) hC dX3_applies_179 (Nat.le_of_ble_eq_true rfl) rfl ?_
  refine G_loc (lv' := [some (va_rf (some a0)), some (.int p1), some (.int p2), some (.int p3), some (.int p4), none, none, none, some (va_rf v8), some (va_rf v9), some (.int v10), some (.int v11), some (.int v12), some (.int ((x1 - v6) - v7)), some (.int (0 : Int32)), none]) ⟨Or.inr rfl, Or.inr rfl, Or.inr rfl, Or.inr rfl, Or.inr rfl, Or.inr rfl, Or.inl rfl, Or.inl rfl, Or.inr rfl, Or.inr rfl, Or.inr rfl, Or.inr rfl, Or.inr rfl, Or.inr rfl, Or.inr rfl, Or.inr rfl, trivial⟩ ?_
  exact g_X3_applies_181 hJ hC hQ hin _ v8 v9 v10 v11 v12 ((x1 - v6) - v7) (0 : Int32) M hw
theorem g_X3_applies_143 {k : kT} {F : Nat} {a0 : Nat} {p1 : Int32} {p2 : Int32} {p3 : Int32} {p4 : Int32} {Q : Int32 → hM → Prop} (hJ : JOK (kl k) (kg k)) (hC : CX k 16 cX3_applies RX3 (some .boolean) 2 39) (hQ : isQ k (PI Q)) (hin : (kt k).name = "applies") : ∀ (v5 : Int32) (v6 : Int32) (v7 : Int32) (v8 : Option Nat) (v9 : Option Nat) (v10 : Int32) (v11 : Int32) (s0 : Option Nat) (s1 : Int32) (M : hM), w_X3_applies_143 (kg k) F a0 p1 p2 p3 p4 Q v5 v6 v7 v8 v9 v10 v11 s0 s1 M → GW k 16 M 143 [some (va_rf (some a0)), some (.int p1), some (.int p2), some (.int p3), some (.int p4), some (.int v5), some (.int v6), some (.int v7), some (va_rf v8), some (va_rf v9), some (.int v10), some (.int v11), none, none, none, none] [.int s1, va_rf s0] := by
  intro v5 v6 v7 v8 v9 v10 v11 s0 s1 M hw
  refine G_iald (pc := 143) hC dX3_applies_143 hw (fun x1 hw => ?_)
  refine G_iload (pc := 144) (i := 6) hC dX3_applies_144 rfl ?_
  refine G_iadd (pc := 146) hC dX3_applies_146 ?_
  refine G_istore (pc := 147) (i := 12) (lw := [some (va_rf (some a0)), some (.int p1), some (.int p2), some (.int p3), some (.int p4), some (.int v5), some (.int v6), some (.int v7), some (va_rf v8), some (va_rf v9), some (.int v10), some (.int v11), some (.int (x1 + v6)), none, none, none]) hC dX3_applies_147 (Nat.le_of_ble_eq_true rfl) rfl ?_
  refine G_aload_n (pc := 149) (i := 0) hC dX3_applies_149 rfl rfl ?_
  refine G_getF (pc := 150) (ci := 2) (C := RX3) (T := TX3) (N := 61) (f := 52) hC rfl in_X3 (Nat.le_of_ble_eq_true rfl) q3426 (fun _ h => h) dX3_applies_150 hw (fun x2 hw => ?_)
  refine G_iload (pc := 153) (i := 4) hC dX3_applies_153 rfl ?_
  refine G_if_eq (pc := 155) (tgt := 165) hC dX3_applies_155 (by decide) (fun hc => ?_) (fun hc => ?_)
  · replace hw := hw.1 hc
    refine G_iload (pc := 165) (i := 5) hC dX3_applies_165 rfl ?_
    refine G_iconst (pc := 167) (v := 3) hC dX3_applies_167 (by decide) ?_
    refine G_iadd (pc := 168) hC dX3_applies_168 ?_
    refine G_loc (lv' := [some (va_rf (some a0)), some (.int p1), some (.int p2), some (.int p3), some (.int p4), none, some (.int v6), some (.int v7), some (va_rf v8), some (va_rf v9), some (.int v10), some (.int v11), some (.int (x1 + v6)), none, none, none]) ⟨Or.inr rfl, Or.inr rfl, Or.inr rfl, Or.inr rfl, Or.inr rfl, Or.inl rfl, Or.inr rfl, Or.inr rfl, Or.inr rfl, Or.inr rfl, Or.inr rfl, Or.inr rfl, Or.inr rfl, Or.inr rfl, Or.inr rfl, Or.inr rfl, trivial⟩ ?_
    exact g_X3_applies_169 hJ hC hQ hin  v6 v7 v8 v9 v10 v11 (x1 + v6) x2 (v5 + (3 : Int32)) M hw
  · replace hw := hw.2 hc
    refine G_iload (pc := 158) (i := 5) hC dX3_applies_158 rfl ?_
    refine G_iconst (pc := 160) (v := 1) hC dX3_applies_160 (by decide) ?_
    refine G_iadd (pc := 161) hC dX3_applies_161 ?_
    refine G_goto (pc := 162) (tgt := 169) hC dX3_applies_162 (by decide) ?_
    refine G_loc (lv' := [some (va_rf (some a0)), some (.int p1), some (.int p2), some (.int p3), some (.int p4), none, some (.int v6), some (.int v7), some (va_rf v8), some (va_rf v9), some (.int v10), some (.int v11), some (.int (x1 + v6)), none, none, none]) ⟨Or.inr rfl, Or.inr rfl, Or.inr rfl, Or.inr rfl, Or.inr rfl, Or.inl rfl, Or.inr rfl, Or.inr rfl, Or.inr rfl, Or.inr rfl, Or.inr rfl, Or.inr rfl, Or.inr rfl, Or.inr rfl, Or.inr rfl, Or.inr rfl, trivial⟩ ?_
    exact g_X3_applies_169 hJ hC hQ hin  v6 v7 v8 v9 v10 v11 (x1 + v6) x2 (v5 + (1 : Int32)) M hw
theorem g_X3_applies_116 {k : kT} {F : Nat} {a0 : Nat} {p1 : Int32} {p2 : Int32} {p3 : Int32} {p4 : Int32} {Q : Int32 → hM → Prop} (hJ : JOK (kl k) (kg k)) (hC : CX k 16 cX3_applies RX3 (some .boolean) 2 39) (hQ : isQ k (PI Q)) (hin : (kt k).name = "applies") : ∀ (v5 : Int32) (v6 : Int32) (v7 : Int32) (v8 : Option Nat) (v9 : Option Nat) (v10 : Int32) (s0 : Option Nat) (s1 : Int32) (M : hM), w_X3_applies_116 (kg k) F a0 p1 p2 p3 p4 Q v5 v6 v7 v8 v9 v10 s0 s1 M → GW k 16 M 116 [some (va_rf (some a0)), some (.int p1), some (.int p2), some (.int p3), some (.int p4), some (.int v5), some (.int v6), some (.int v7), some (va_rf v8), some (va_rf v9), some (.int v10), none, none, none, none, none] [.int s1, va_rf s0] := by
  intro v5 v6 v7 v8 v9 v10 s0 s1 M hw
  refine G_iald (pc := 116) hC dX3_applies_116 hw (fun x1 hw => ?_)
  refine G_iload (pc := 117) (i := 6) hC dX3_applies_117 rfl ?_
  refine G_isub (pc := 119) hC dX3_applies_119 ?_
  refine G_iload (pc := 120) (i := 7) hC dX3_applies_120 rfl ?_
  refine G_isub (pc := 122) hC dX3_applies_122 ?_
  refine G_istore (pc := 123) (i := 11) (lw := [some (va_rf (some a0)), some (.int p1), some (.int p2), some (.int p3), some (.int p4), some (.int v5), some (.int v6), some (.int v7), some (va_rf v8), some (va_rf v9), some (.int v10), some (.int ((x1 - v6) - v7)), none, none, none, none]) hC dX3_applies_123 (Nat.le_of_ble_eq_true rfl) rfl ?_
  refine G_aload_n (pc := 125) (i := 0) hC dX3_applies_125 rfl rfl ?_
  refine G_getF (pc := 126) (ci := 2) (C := RX3) (T := TX3) (N := 61) (f := 52) hC rfl in_X3 (Nat.le_of_ble_eq_true rfl) q3426 (fun _ h => h) dX3_applies_126 hw (fun x2 hw => ?_)
  refine G_iload (pc := 129) (i := 4) hC dX3_applies_129 rfl ?_
  refine G_if_eq (pc := 131) (tgt := 139) hC dX3_applies_131 (by decide) (fun hc => ?_) (fun hc => ?_)
  · replace hw := hw.1 hc
    refine G_iload (pc := 139) (i := 5) hC dX3_applies_139 rfl ?_
    refine G_iconst (pc := 141) (v := 2) hC dX3_applies_141 (by decide) ?_
    refine G_iadd (pc := 142) hC dX3_applies_142 ?_
    exact g_X3_applies_143 hJ hC hQ hin  v5 v6 v7 v8 v9 v10 ((x1 - v6) - v7) x2 (v5 + (2 : Int32)) M hw
  · replace hw := hw.2 hc
    refine G_iload (pc := 134) (i := 5) hC dX3_applies_134 rfl ?_
    refine G_goto (pc := 136) (tgt := 143) hC dX3_applies_136 (by decide) ?_
    exact g_X3_applies_143 hJ hC hQ hin  v5 v6 v7 v8 v9 v10 ((x1 - v6) - v7) x2 v5 M hw
theorem g_X3_applies_90 {k : kT} {F : Nat} {a0 : Nat} {p1 : Int32} {p2 : Int32} {p3 : Int32} {p4 : Int32} {Q : Int32 → hM → Prop} (hJ : JOK (kl k) (kg k)) (hC : CX k 16 cX3_applies RX3 (some .boolean) 2 39) (hQ : isQ k (PI Q)) (hin : (kt k).name = "applies") : ∀ (v5 : Int32) (v6 : Int32) (v7 : Int32) (v8 : Option Nat) (v9 : Option Nat) (s0 : Option Nat) (s1 : Int32) (M : hM), w_X3_applies_90 (kg k) F a0 p1 p2 p3 p4 Q v5 v6 v7 v8 v9 s0 s1 M → GW k 16 M 90 [some (va_rf (some a0)), some (.int p1), some (.int p2), some (.int p3), some (.int p4), some (.int v5), some (.int v6), some (.int v7), some (va_rf v8), some (va_rf v9), none, none, none, none, none, none] [.int s1, va_rf s0] := by
  intro v5 v6 v7 v8 v9 s0 s1 M hw
  refine G_iald (pc := 90) hC dX3_applies_90 hw (fun x1 hw => ?_)
  refine G_iload (pc := 91) (i := 6) hC dX3_applies_91 rfl ?_
  refine G_iadd (pc := 93) hC dX3_applies_93 ?_
  refine G_istore (pc := 94) (i := 10) (lw := [some (va_rf (some a0)), some (.int p1), some (.int p2), some (.int p3), some (.int p4), some (.int v5), some (.int v6), some (.int v7), some (va_rf v8), some (va_rf v9), some (.int (x1 + v6)), none, none, none, none, none]) hC dX3_applies_94 (Nat.le_of_ble_eq_true rfl) rfl ?_
  refine G_aload_n (pc := 96) (i := 0) hC dX3_applies_96 rfl rfl ?_
  refine G_getF (pc := 97) (ci := 2) (C := RX3) (T := TX3) (N := 61) (f := 52) hC rfl in_X3 (Nat.le_of_ble_eq_true rfl) q3426 (fun _ h => h) dX3_applies_97 hw (fun x2 hw => ?_)
  refine G_iload (pc := 100) (i := 4) hC dX3_applies_100 rfl ?_
  refine G_if_eq (pc := 102) (tgt := 112) hC dX3_applies_102 (by decide) (fun hc => ?_) (fun hc => ?_)
  · replace hw := hw.1 hc
    refine G_iload (pc := 112) (i := 5) hC dX3_applies_112 rfl ?_
    refine G_iconst (pc := 114) (v := 1) hC dX3_applies_114 (by decide) ?_
    refine G_iadd (pc := 115) hC dX3_applies_115 ?_
    exact g_X3_applies_116 hJ hC hQ hin  v5 v6 v7 v8 v9 (x1 + v6) x2 (v5 + (1 : Int32)) M hw
  · replace hw := hw.2 hc
    refine G_iload (pc := 105) (i := 5) hC dX3_applies_105 rfl ?_
    refine G_iconst (pc := 107) (v := 3) hC dX3_applies_107 (by decide) ?_
    refine G_iadd (pc := 108) hC dX3_applies_108 ?_
    refine G_goto (pc := 109) (tgt := 116) hC dX3_applies_109 (by decide) ?_
    exact g_X3_applies_116 hJ hC hQ hin  v5 v6 v7 v8 v9 (x1 + v6) x2 (v5 + (3 : Int32)) M hw
theorem g_X3_applies_70 {k : kT} {F : Nat} {a0 : Nat} {p1 : Int32} {p2 : Int32} {p3 : Int32} {p4 : Int32} {Q : Int32 → hM → Prop} (hJ : JOK (kl k) (kg k)) (hC : CX k 16 cX3_applies RX3 (some .boolean) 2 39) (hQ : isQ k (PI Q)) (hin : (kt k).name = "applies") : ∀ (v5 : Int32) (v6 : Int32) (v7 : Int32) (v8 : Option Nat) (s0 : Option Nat) (M : hM), w_X3_applies_70 (kg k) F a0 p1 p2 p3 p4 Q v5 v6 v7 v8 s0 M → GW k 16 M 70 [some (va_rf (some a0)), some (.int p1), some (.int p2), some (.int p3), some (.int p4), some (.int v5), some (.int v6), some (.int v7), some (va_rf v8), none, none, none, none, none, none, none] [va_rf s0] := by
  intro v5 v6 v7 v8 s0 M hw
  refine G_astore (pc := 70) (i := 9) (lw := [some (va_rf (some a0)), some (.int p1), some (.int p2), some (.int p3), some (.int p4), some (.int v5), some (.int v6), some (.int v7), some (va_rf v8), some (va_rf s0), none, none, none, none, none, none]) hC dX3_applies_70 (Nat.le_of_ble_eq_true rfl) rfl ?_
  refine G_aload_n (pc := 72) (i := 0) hC dX3_applies_72 rfl rfl ?_
  refine G_getF (pc := 73) (ci := 2) (C := RX3) (T := TX3) (N := 61) (f := 52) hC rfl in_X3 (Nat.le_of_ble_eq_true rfl) q3426 (fun _ h => h) dX3_applies_73 hw (fun x1 hw => ?_)
  refine G_iload (pc := 76) (i := 4) hC dX3_applies_76 rfl ?_
  refine G_if_eq (pc := 78) (tgt := 88) hC dX3_applies_78 (by decide) (fun hc => ?_) (fun hc => ?_)
  · replace hw := hw.1 hc
    refine G_iload (pc := 88) (i := 5) hC dX3_applies_88 rfl ?_
    exact g_X3_applies_90 hJ hC hQ hin  v5 v6 v7 v8 s0 x1 v5 M hw
  · replace hw := hw.2 hc
    refine G_iload (pc := 81) (i := 5) hC dX3_applies_81 rfl ?_
    refine G_iconst (pc := 83) (v := 2) hC dX3_applies_83 (by decide) ?_
    refine G_iadd (pc := 84) hC dX3_applies_84 ?_
    refine G_goto (pc := 85) (tgt := 90) hC dX3_applies_85 (by decide) ?_
    exact g_X3_applies_90 hJ hC hQ hin  v5 v6 v7 v8 s0 x1 (v5 + (2 : Int32)) M hw
theorem g_X3_applies_52 {k : kT} {F : Nat} {a0 : Nat} {p1 : Int32} {p2 : Int32} {p3 : Int32} {p4 : Int32} {Q : Int32 → hM → Prop} (hJ : JOK (kl k) (kg k)) (hC : CX k 16 cX3_applies RX3 (some .boolean) 2 39) (hQ : isQ k (PI Q)) (hin : (kt k).name = "applies") : ∀ (v5 : Int32) (v6 : Int32) (v7 : Int32) (s0 : Option Nat) (M : hM), w_X3_applies_52 (kg k) F a0 p1 p2 p3 p4 Q v5 v6 v7 s0 M → GW k 16 M 52 [some (va_rf (some a0)), some (.int p1), some (.int p2), some (.int p3), some (.int p4), some (.int v5), some (.int v6), some (.int v7), none, none, none, none, none, none, none, none] [va_rf s0] := by
  intro v5 v6 v7 s0 M hw
  refine G_astore (pc := 52) (i := 8) (lw := [some (va_rf (some a0)), some (.int p1), some (.int p2), some (.int p3), some (.int p4), some (.int v5), some (.int v6), some (.int v7), some (va_rf s0), none, none, none, none, none, none, none]) hC dX3_applies_52 (Nat.le_of_ble_eq_true rfl) rfl ?_
  refine G_iload (pc := 54) (i := 4) hC dX3_applies_54 rfl ?_
  refine G_if_eq (pc := 56) (tgt := 66) hC dX3_applies_56 (by decide) (fun hc => ?_) (fun hc => ?_)
  · replace hw := hw.1 hc
    refine G_aload_n (pc := 66) (i := 0) hC dX3_applies_66 rfl rfl ?_
    refine G_getF (pc := 67) (ci := 2) (C := RX3) (T := TX3) (N := 61) (f := 55) hC rfl in_X3 (Nat.le_of_ble_eq_true rfl) q3429 (fun _ h => h) dX3_applies_67 hw (fun x1 hw => ?_)
    exact g_X3_applies_70 hJ hC hQ hin  v5 v6 v7 s0 x1 M hw
  · replace hw := hw.2 hc
    refine G_aload_n (pc := 59) (i := 0) hC dX3_applies_59 rfl rfl ?_
    refine G_getF (pc := 60) (ci := 2) (C := RX3) (T := TX3) (N := 61) (f := 54) hC rfl in_X3 (Nat.le_of_ble_eq_true rfl) q3428 (fun _ h => h) dX3_applies_60 hw (fun x2 hw => ?_)
    refine G_goto (pc := 63) (tgt := 70) hC dX3_applies_63 (by decide) ?_
    exact g_X3_applies_70 hJ hC hQ hin  v5 v6 v7 s0 x2 M hw
theorem m_X3_applies {l : Launch} {g : gT} {F : Nat} {a0 : Nat} {p1 : Int32} {p2 : Int32} {p3 : Int32} {p4 : Int32} {M : hM} {Q : Int32 → hM → Prop} (hJ : JOK l g) (hw : w_X3_applies g F a0 p1 p2 p3 p4 M Q) : MG l g yX3_applies (ws_ yX3_applies cX3_applies 16 (some .boolean)) 2 39 [va_rf (some a0), .int p1, .int p2, .int p3, .int p4] M (PI Q) := by
  refine MG_of hJ.2.1 (by decide) (cat_r (cat_i (cat_i (cat_i (cat_i cat_e))))) (Nat.le_of_ble_eq_true rfl) (fun k hl hg hin hQ hC => ?_)
  subst hl hg
  show GW k 16 M 0 [some (va_rf (some a0)), some (.int p1), some (.int p2), some (.int p3), some (.int p4), none, none, none, none, none, none, none, none, none, none, none] []
  refine G_bipush (pc := 0) (v := 6) hC dX3_applies_0 (by decide) ?_
  refine G_iload_n (pc := 2) (i := 2) hC dX3_applies_2 rfl rfl ?_
  refine G_imul (pc := 3) hC dX3_applies_3 ?_
  refine G_istore (pc := 4) (i := 5) (lw := [some (va_rf (some a0)), some (.int p1), some (.int p2), some (.int p3), some (.int p4), some (.int ((6 : Int32) * p2)), none, none, none, none, none, none, none, none, none, none]) hC dX3_applies_4 (Nat.le_of_ble_eq_true rfl) rfl ?_
  refine G_iload_n (pc := 6) (i := 3) hC dX3_applies_6 rfl rfl ?_
  refine G_aload_n (pc := 7) (i := 0) hC dX3_applies_7 rfl rfl ?_
  refine G_getF (pc := 8) (ci := 2) (C := RX3) (T := TX3) (N := 61) (f := 52) hC rfl in_X3 (Nat.le_of_ble_eq_true rfl) q3426 (fun _ h => h) dX3_applies_8 hw (fun x1 hw => ?_)
  refine G_iload (pc := 11) (i := 5) hC dX3_applies_11 rfl ?_
  refine G_iconst (pc := 13) (v := 4) hC dX3_applies_13 (by decide) ?_
  refine G_iadd (pc := 14) hC dX3_applies_14 ?_
  refine G_iald (pc := 15) hC dX3_applies_15 hw (fun x2 hw => ?_)
  refine G_callS (pc := 16) (n := 2) (As := [.int p3, .int x2]) (rest := []) hC (m_X3_least hJ hw) (lw_S q3809 q3810 q108 q3811) hd_X3_least.2 (by decide) rfl rfl (st_c cat_e (Nat.le_of_ble_eq_true rfl)) dX3_applies_16 (kI fun x4 M3 hw => ?_)
  refine G_istore (pc := 19) (i := 6) (lw := [some (va_rf (some a0)), some (.int p1), some (.int p2), some (.int p3), some (.int p4), some (.int ((6 : Int32) * p2)), some (.int x4), none, none, none, none, none, none, none, none, none]) hC dX3_applies_19 (Nat.le_of_ble_eq_true rfl) rfl ?_
  refine G_iload_n (pc := 21) (i := 3) hC dX3_applies_21 rfl rfl ?_
  refine G_aload_n (pc := 22) (i := 0) hC dX3_applies_22 rfl rfl ?_
  refine G_getF (pc := 23) (ci := 2) (C := RX3) (T := TX3) (N := 61) (f := 52) hC rfl in_X3 (Nat.le_of_ble_eq_true rfl) q3426 (fun _ h => h) dX3_applies_23 hw (fun x5 hw => ?_)
  refine G_iload (pc := 26) (i := 5) hC dX3_applies_26 rfl ?_
  refine G_iconst (pc := 28) (v := 5) hC dX3_applies_28 (by decide) ?_
  refine G_iadd (pc := 29) hC dX3_applies_29 ?_
  refine G_iald (pc := 30) hC dX3_applies_30 hw (fun x6 hw => ?_)
  refine G_callS (pc := 31) (n := 2) (As := [.int p3, .int x6]) (rest := []) hC (m_X3_least hJ hw) (lw_S q3809 q3810 q108 q3811) hd_X3_least.2 (by decide) rfl rfl (st_c cat_e (Nat.le_of_ble_eq_true rfl)) dX3_applies_31 (kI fun x8 M7 hw => ?_)
  refine G_istore (pc := 34) (i := 7) (lw := [some (va_rf (some a0)), some (.int p1), some (.int p2), some (.int p3), some (.int p4), some (.int ((6 : Int32) * p2)), some (.int x4), some (.int x8), none, none, none, none, none, none, none, none]) hC dX3_applies_34 (Nat.le_of_ble_eq_true rfl) rfl ?_
  refine G_iload (pc := 36) (i := 4) hC dX3_applies_36 rfl ?_
  refine G_if_eq (pc := 38) (tgt := 48) hC dX3_applies_38 (by decide) (fun hc => ?_) (fun hc => ?_)
  · replace hw := hw.1 hc
    refine G_aload_n (pc := 48) (i := 0) hC dX3_applies_48 rfl rfl ?_
    refine G_getF (pc := 49) (ci := 2) (C := RX3) (T := TX3) (N := 61) (f := 54) hC rfl in_X3 (Nat.le_of_ble_eq_true rfl) q3428 (fun _ h => h) dX3_applies_49 hw (fun x9 hw => ?_)
    exact g_X3_applies_52 hJ hC hQ hin  ((6 : Int32) * p2) x4 x8 x9 M7 hw
  · replace hw := hw.2 hc
    refine G_aload_n (pc := 41) (i := 0) hC dX3_applies_41 rfl rfl ?_
    refine G_getF (pc := 42) (ci := 2) (C := RX3) (T := TX3) (N := 61) (f := 55) hC rfl in_X3 (Nat.le_of_ble_eq_true rfl) q3429 (fun _ h => h) dX3_applies_42 hw (fun x10 hw => ?_)
    refine G_goto (pc := 45) (tgt := 52) hC dX3_applies_45 (by decide) ?_
    exact g_X3_applies_52 hJ hC hQ hin  ((6 : Int32) * p2) x4 x8 x10 M7 hw
theorem hd_X3_applies : yX3_applies.cls = "MergeWorkbenchModel" ∧ yX3_applies.cls ≠ "java/lang/invoke/MethodHandle" ∧ yX3_applies.cls ≠ "java/lang/invoke/VarHandle" ∧ (parseMethodDescriptor yX3_applies.desc).map (fun d => d.parameters.length) = some 4 := by decide +kernel
def w_X3_apply_16 (g : gT) (F : Nat) (a0 : Nat) (p1 : Int32) (p2 : Int32) (p3 : Int32) (Q : Int32 → hM → Prop) (M : hM) : Prop :=
  (isC M a0 2 ∧ w_X3_fails g F a0 (1 : Int32) M (fun x2 M1 => Q x2 M1))
def w_X3_apply_176 (g : gT) (F : Nat) (a0 : Nat) (p1 : Int32) (p2 : Int32) (p3 : Int32) (Q : Int32 → hM → Prop) : Nat → Int32 → Int32 → hM → Prop
  | 0, _, _, _ => False
  | n + 1, v4, v5, M => gI M (some a0) 2 53 fun x1 => ((((2 : Int32) * x1) ≤ v5 → pV M (some a0) 2 56 (.int (1 : Int32)) fun M2 => (isC M2 a0 2 ∧ w_X3_remembers g F a0 p1 M2 (fun M3 => gF M3 (some a0) 2 15 fun x4 => gI M3 (some a0) 2 18 fun x5 => (isC M3 a0 2 ∧ w_X3_holds g F a0 p1 x4 x5 M3 (fun M6 => (isC M6 a0 2 ∧ w_X3_done g F a0 v4 M6 (fun x8 M7 => Q x8 M7))))))) ∧ (¬ (((2 : Int32) * x1) ≤ v5) → gF M (some a0) 2 57 fun x9 => gF M (some a0) 2 60 fun x10 => aI M x10 0 v5 fun x11 => sI M x9 0 v5 x11 fun M12 => w_X3_apply_176 g F a0 p1 p2 p3 Q n v4 (v5 + (1 : Int32)) M12))
def w_X3_apply_134 (g : gT) (F : Nat) (a0 : Nat) (p1 : Int32) (p2 : Int32) (p3 : Int32) (Q : Int32 → hM → Prop) (K56 : Int32 → Int32 → hM → Prop) (v5 : Int32) (s0 : Int32) (s1 : Int32) (M : hM) : Prop :=
  K56 (s0 + s1) (v5 + (1 : Int32)) M
def w_X3_apply_122 (g : gT) (F : Nat) (a0 : Nat) (p1 : Int32) (p2 : Int32) (p3 : Int32) (Q : Int32 → hM → Prop) (K56 : Int32 → Int32 → hM → Prop) (v4 : Int32) (v5 : Int32) (v6 : Int32) (M : hM) : Prop :=
  ((v6 = 0 → w_X3_apply_134 g F a0 p1 p2 p3 Q K56 v5 v4 (0 : Int32) M) ∧ (¬ (v6 = 0) → w_X3_apply_134 g F a0 p1 p2 p3 Q K56 v5 v4 (1 : Int32) M))
def w_X3_apply_93 (g : gT) (F : Nat) (a0 : Nat) (p1 : Int32) (p2 : Int32) (p3 : Int32) (Q : Int32 → hM → Prop) (K56 : Int32 → Int32 → hM → Prop) : Nat → Int32 → Int32 → Int32 → Int32 → hM → Prop
  | 0, _, _, _, _, _ => False
  | n + 1, v4, v5, v6, v7, M => ((p2 < v7 → w_X3_apply_122 g F a0 p1 p2 p3 Q K56 v4 v5 v6 M) ∧ (¬ (p2 < v7) → ((¬ v6 = 0 → w_X3_apply_122 g F a0 p1 p2 p3 Q K56 v4 v5 v6 M) ∧ (v6 = 0 → (isC M a0 2 ∧ w_X3_applies g F a0 p1 v5 v7 p3 M (fun x2 M1 => w_X3_apply_93 g F a0 p1 p2 p3 Q K56 n v4 v5 x2 (v7 + (1 : Int32)) M1))))))
def w_X3_apply_56 (g : gT) (F : Nat) (a0 : Nat) (p1 : Int32) (p2 : Int32) (p3 : Int32) (Q : Int32 → hM → Prop) : Nat → Int32 → Int32 → hM → Prop
  | 0, _, _, _ => False
  | n + 1, v4, v5, M => gI M (some a0) 2 53 fun x1 => ((x1 ≤ v5 → gI M (some a0) 2 58 fun x2 => gF M (some a0) 2 2 fun x3 => aI M x3 0 p1 fun x4 => (isC M a0 2 ∧ w_X3_goesOutDocument g F a0 p1 x2 x4 M (fun M5 => gI M5 (some a0) 2 18 fun x6 => ((x6 ≤ (24 : Int32) → w_X3_apply_176 g F a0 p1 p2 p3 Q F v4 (0 : Int32) M5) ∧ (¬ (x6 ≤ (24 : Int32)) → (isC M5 a0 2 ∧ w_X3_fails g F a0 (3 : Int32) M5 (fun x8 M7 => Q x8 M7))))))) ∧ (¬ (x1 ≤ v5) → gF M (some a0) 2 60 fun x9 => sI M x9 0 ((2 : Int32) * v5) (-1 : Int32) fun M10 => gF M10 (some a0) 2 60 fun x11 => sI M10 x11 0 (((2 : Int32) * v5) + (1 : Int32)) (-1 : Int32) fun M12 => w_X3_apply_93 g F a0 p1 p2 p3 Q (fun v4 v5 M => w_X3_apply_56 g F a0 p1 p2 p3 Q n v4 v5 M) F v4 v5 (0 : Int32) (0 : Int32) M12))
def w_X3_apply (g : gT) (F : Nat) (a0 : Nat) (p1 : Int32) (p2 : Int32) (p3 : Int32) (M : hM) (Q : Int32 → hM → Prop) : Prop :=
  w_X3_isRegister g F p1 M (fun x2 M1 => ((x2 = 0 → w_X3_apply_16 g F a0 p1 p2 p3 Q M1) ∧ (¬ (x2 = 0) → w_X3_in g F p2 (0 : Int32) (2 : Int32) M1 (fun x4 M3 => ((¬ x4 = 0 → gI M3 (some a0) 2 51 fun x5 => ((¬ x5 = 0 → pV M3 (some a0) 2 58 (.int (0 : Int32)) fun M6 => pV M6 (some a0) 2 59 (.int (0 : Int32)) fun M7 => pV M7 (some a0) 2 18 (.int (0 : Int32)) fun M8 => w_X3_apply_56 g F a0 p1 p2 p3 Q F (0 : Int32) (0 : Int32) M8) ∧ (x5 = 0 → (isC M3 a0 2 ∧ w_X3_fails g F a0 (2 : Int32) M3 (fun x10 M9 => Q x10 M9))))) ∧ (x4 = 0 → w_X3_apply_16 g F a0 p1 p2 p3 Q M3))))))
theorem g_X3_apply_16 {k : kT} {F : Nat} {a0 : Nat} {p1 : Int32} {p2 : Int32} {p3 : Int32} {Q : Int32 → hM → Prop} (hJ : JOK (kl k) (kg k)) (hC : CX k 8 cX3_apply RX3 (some .int) 3 74) (hQ : isQ k (PI Q)) (hin : (kt k).name = "apply") : ∀  (M : hM), w_X3_apply_16 (kg k) F a0 p1 p2 p3 Q  M → GW k 8 M 16 [some (va_rf (some a0)), some (.int p1), some (.int p2), some (.int p3), none, none, none, none] [] := by
  intro  M hw
  refine G_aload_n (pc := 16) (i := 0) hC dX3_apply_16 rfl rfl ?_
  refine G_iconst (pc := 17) (v := 1) hC dX3_apply_17 (by decide) ?_
  obtain ⟨hb, hw⟩ := hw
  refine G_callV (pc := 18) (n := 1) (C := "MergeWorkbenchModel") (b := a0) (As := [.int (1 : Int32)]) (rest := []) hC (m_X3_fails hJ hw) (lw_V q3573 q3575 qs52 q108 q3576) hd_X3_fails (by decide) (rcv (C := RX3) (T := TX3) (N := 61) hC hb rfl) rfl rfl (st_c cat_e (Nat.le_of_ble_eq_true rfl)) dX3_apply_18 (kI fun x2 M1 hw => ?_)
  exact G_iret (pc := 21) hC rfl hQ dX3_apply_21 hw
theorem g_X3_apply_176 {k : kT} {F : Nat} {a0 : Nat} {p1 : Int32} {p2 : Int32} {p3 : Int32} {Q : Int32 → hM → Prop} (hJ : JOK (kl k) (kg k)) (hC : CX k 8 cX3_apply RX3 (some .int) 3 74) (hQ : isQ k (PI Q)) (hin : (kt k).name = "apply") : ∀ (n : Nat) (v4 : Int32) (v5 : Int32) (M : hM), w_X3_apply_176 (kg k) F a0 p1 p2 p3 Q n v4 v5 M → GW k 8 M 176 [some (va_rf (some a0)), some (.int p1), some (.int p2), some (.int p3), some (.int v4), some (.int v5), none, none] [] := by
  intro n
  induction n with
  | zero =>
    intro v4 v5 M hw
    exact hw.elim
  | succ n ih =>
    intro v4 v5 M hw
    refine G_iload (pc := 176) (i := 5) hC dX3_apply_176 rfl ?_
    refine G_iconst (pc := 178) (v := 2) hC dX3_apply_178 (by decide) ?_
    refine G_aload_n (pc := 179) (i := 0) hC dX3_apply_179 rfl rfl ?_
    refine G_getI (pc := 180) (ci := 2) (C := RX3) (T := TX3) (N := 61) (f := 53) hC rfl in_X3 (Nat.le_of_ble_eq_true rfl) q3427 (fun _ h => h) dX3_apply_180 hw (fun x1 hw => ?_)
    refine G_imul (pc := 183) hC dX3_apply_183 ?_
    refine G_icmp_ge (pc := 184) (tgt := 207) hC dX3_apply_184 (by decide) (fun hc => ?_) (fun hc => ?_)
    · replace hw := hw.1 hc
      refine G_aload_n (pc := 207) (i := 0) hC dX3_apply_207 rfl rfl ?_
      refine G_iconst (pc := 208) (v := 1) hC dX3_apply_208 (by decide) ?_
      refine G_put (pc := 209) (ci := 2) (C := RX3) (T := TX3) (N := 61) (f := 56) tyX3 hC rfl in_X3 tyX3_ok nmX3 (Nat.le_of_ble_eq_true rfl) q3430 (fun _ h => h) rfl rfl rfl dX3_apply_209 hw (fun M2 hw => ?_)
      refine G_aload_n (pc := 212) (i := 0) hC dX3_apply_212 rfl rfl ?_
      refine G_iload_n (pc := 213) (i := 1) hC dX3_apply_213 rfl rfl ?_
      obtain ⟨hb, hw⟩ := hw
      refine G_callV (pc := 214) (n := 1) (C := "MergeWorkbenchModel") (b := a0) (As := [.int p1]) (rest := []) hC (m_X3_remembers hJ hw) (lw_V q3577 q3579 qs53 q108 q3580) hd_X3_remembers (by decide) (rcv (C := RX3) (T := TX3) (N := 61) hC hb rfl) rfl rfl (st_c cat_e (Nat.le_of_ble_eq_true rfl)) dX3_apply_214 (kU fun M3 hw => ?_)
      refine G_aload_n (pc := 217) (i := 0) hC dX3_apply_217 rfl rfl ?_
      refine G_iload_n (pc := 218) (i := 1) hC dX3_apply_218 rfl rfl ?_
      refine G_aload_n (pc := 219) (i := 0) hC dX3_apply_219 rfl rfl ?_
      refine G_getF (pc := 220) (ci := 2) (C := RX3) (T := TX3) (N := 61) (f := 15) hC rfl in_X3 (Nat.le_of_ble_eq_true rfl) q3389 (fun _ h => h) dX3_apply_220 hw (fun x4 hw => ?_)
      refine G_aload_n (pc := 223) (i := 0) hC dX3_apply_223 rfl rfl ?_
      refine G_getI (pc := 224) (ci := 2) (C := RX3) (T := TX3) (N := 61) (f := 18) hC rfl in_X3 (Nat.le_of_ble_eq_true rfl) q3392 (fun _ h => h) dX3_apply_224 hw (fun x5 hw => ?_)
      obtain ⟨hb, hw⟩ := hw
      refine G_callV (pc := 227) (n := 3) (C := "MergeWorkbenchModel") (b := a0) (As := [.int p1, va_rf x4, .int x5]) (rest := []) hC (m_X3_holds hJ hw) (lw_V q3605 q3607 qs55 q108 q3608) hd_X3_holds (by decide) (rcv (C := RX3) (T := TX3) (N := 61) hC hb rfl) rfl rfl (st_c cat_e (Nat.le_of_ble_eq_true rfl)) dX3_apply_227 (kU fun M6 hw => ?_)
      refine G_aload_n (pc := 230) (i := 0) hC dX3_apply_230 rfl rfl ?_
      refine G_iload (pc := 231) (i := 4) hC dX3_apply_231 rfl ?_
      obtain ⟨hb, hw⟩ := hw
      refine G_callV (pc := 233) (n := 1) (C := "MergeWorkbenchModel") (b := a0) (As := [.int v4]) (rest := []) hC (m_X3_done hJ hw) (lw_V q3581 q3583 qs54 q108 q3584) hd_X3_done (by decide) (rcv (C := RX3) (T := TX3) (N := 61) hC hb rfl) rfl rfl (st_c cat_e (Nat.le_of_ble_eq_true rfl)) dX3_apply_233 (kI fun x8 M7 hw => ?_)
      exact G_iret (pc := 236) hC rfl hQ dX3_apply_236 hw
    · replace hw := hw.2 hc
      refine G_aload_n (pc := 187) (i := 0) hC dX3_apply_187 rfl rfl ?_
      refine G_getF (pc := 188) (ci := 2) (C := RX3) (T := TX3) (N := 61) (f := 57) hC rfl in_X3 (Nat.le_of_ble_eq_true rfl) q3431 (fun _ h => h) dX3_apply_188 hw (fun x9 hw => ?_)
      refine G_iload (pc := 191) (i := 5) hC dX3_apply_191 rfl ?_
      refine G_aload_n (pc := 193) (i := 0) hC dX3_apply_193 rfl rfl ?_
      refine G_getF (pc := 194) (ci := 2) (C := RX3) (T := TX3) (N := 61) (f := 60) hC rfl in_X3 (Nat.le_of_ble_eq_true rfl) q3434 (fun _ h => h) dX3_apply_194 hw (fun x10 hw => ?_)
      refine G_iload (pc := 197) (i := 5) hC dX3_apply_197 rfl ?_
      refine G_iald (pc := 199) hC dX3_apply_199 hw (fun x11 hw => ?_)
      refine G_iast (pc := 200) hC dX3_apply_200 hw (fun M12 hw => ?_)
      refine G_iinc (pc := 201) (i := 5) (v := (v5 + (1 : Int32))) (lw := [some (va_rf (some a0)), some (.int p1), some (.int p2), some (.int p3), some (.int v4), some (.int (v5 + (1 : Int32))), none, none]) hC dX3_apply_201 rfl (Nat.le_of_ble_eq_true rfl) rfl rfl ?_
      refine G_goto (pc := 204) (tgt := 176) hC dX3_apply_204 (by decide) ?_
      exact ih v4 (v5 + (1 : Int32)) M12 hw
theorem g_X3_apply_134 {k : kT} {F : Nat} {a0 : Nat} {p1 : Int32} {p2 : Int32} {p3 : Int32} {Q : Int32 → hM → Prop} {K56 : Int32 → Int32 → hM → Prop} (hJ : JOK (kl k) (kg k)) (hC : CX k 8 cX3_apply RX3 (some .int) 3 74) (hQ : isQ k (PI Q)) (hin : (kt k).name = "apply") (hK56 : ∀ (v4 : Int32) (v5 : Int32) (M : hM), K56 v4 v5 M → GW k 8 M 56 [some (va_rf (some a0)), some (.int p1), some (.int p2), some (.int p3), some (.int v4), some (.int v5), none, none] []) : ∀ (v5 : Int32) (s0 : Int32) (s1 : Int32) (M : hM), w_X3_apply_134 (kg k) F a0 p1 p2 p3 Q K56 v5 s0 s1 M → GW k 8 M 134 [some (va_rf (some a0)), some (.int p1), some (.int p2), some (.int p3), none, some (.int v5), none, none] [.int s1, .int s0] := by
  intro v5 s0 s1 M hw
  refine G_iadd (pc := 134) hC dX3_apply_134 ?_
  refine G_istore (pc := 135) (i := 4) (lw := [some (va_rf (some a0)), some (.int p1), some (.int p2), some (.int p3), some (.int (s0 + s1)), some (.int v5), none, none]) hC dX3_apply_135 (Nat.le_of_ble_eq_true rfl) rfl ?_
  refine G_iinc (pc := 137) (i := 5) (v := (v5 + (1 : Int32))) (lw := [some (va_rf (some a0)), some (.int p1), some (.int p2), some (.int p3), some (.int (s0 + s1)), some (.int (v5 + (1 : Int32))), none, none]) hC dX3_apply_137 rfl (Nat.le_of_ble_eq_true rfl) rfl rfl ?_
  refine G_goto (pc := 140) (tgt := 56) hC dX3_apply_140 (by decide) ?_
  exact hK56 (s0 + s1) (v5 + (1 : Int32)) M hw
theorem g_X3_apply_122 {k : kT} {F : Nat} {a0 : Nat} {p1 : Int32} {p2 : Int32} {p3 : Int32} {Q : Int32 → hM → Prop} {K56 : Int32 → Int32 → hM → Prop} (hJ : JOK (kl k) (kg k)) (hC : CX k 8 cX3_apply RX3 (some .int) 3 74) (hQ : isQ k (PI Q)) (hin : (kt k).name = "apply") (hK56 : ∀ (v4 : Int32) (v5 : Int32) (M : hM), K56 v4 v5 M → GW k 8 M 56 [some (va_rf (some a0)), some (.int p1), some (.int p2), some (.int p3), some (.int v4), some (.int v5), none, none] []) : ∀ (v4 : Int32) (v5 : Int32) (v6 : Int32) (M : hM), w_X3_apply_122 (kg k) F a0 p1 p2 p3 Q K56 v4 v5 v6 M → GW k 8 M 122 [some (va_rf (some a0)), some (.int p1), some (.int p2), some (.int p3), some (.int v4), some (.int v5), some (.int v6), none] [] := by
  intro v4 v5 v6 M hw
  refine G_iload (pc := 122) (i := 4) hC dX3_apply_122 rfl ?_
  refine G_iload (pc := 124) (i := 6) hC dX3_apply_124 rfl ?_
  refine G_if_eq (pc := 126) (tgt := 133) hC dX3_apply_126 (by decide) (fun hc => ?_) (fun hc => ?_)
  · replace hw := hw.1 hc
    refine G_iconst (pc := 133) (v := 0) hC dX3_apply_133 (by decide) ?_
    refine G_loc (lv' := [some (va_rf (some a0)), some (.int p1), some (.int p2), some (.int p3), none, some (.int v5), none, none]) ⟨Or.inr rfl, Or.inr rfl, Or.inr rfl, Or.inr rfl, Or.inl rfl, Or.inr rfl, Or.inl rfl, Or.inr rfl, trivial⟩ ?_
    exact g_X3_apply_134 hJ hC hQ hin hK56  v5 v4 (0 : Int32) M hw
  · replace hw := hw.2 hc
    refine G_iconst (pc := 129) (v := 1) hC dX3_apply_129 (by decide) ?_
    refine G_goto (pc := 130) (tgt := 134) hC dX3_apply_130 (by decide) ?_
    refine G_loc (lv' := [some (va_rf (some a0)), some (.int p1), some (.int p2), some (.int p3), none, some (.int v5), none, none]) ⟨Or.inr rfl, Or.inr rfl, Or.inr rfl, Or.inr rfl, Or.inl rfl, Or.inr rfl, Or.inl rfl, Or.inr rfl, trivial⟩ ?_
    exact g_X3_apply_134 hJ hC hQ hin hK56  v5 v4 (1 : Int32) M hw
theorem g_X3_apply_93 {k : kT} {F : Nat} {a0 : Nat} {p1 : Int32} {p2 : Int32} {p3 : Int32} {Q : Int32 → hM → Prop} {K56 : Int32 → Int32 → hM → Prop} (hJ : JOK (kl k) (kg k)) (hC : CX k 8 cX3_apply RX3 (some .int) 3 74) (hQ : isQ k (PI Q)) (hin : (kt k).name = "apply") (hK56 : ∀ (v4 : Int32) (v5 : Int32) (M : hM), K56 v4 v5 M → GW k 8 M 56 [some (va_rf (some a0)), some (.int p1), some (.int p2), some (.int p3), some (.int v4), some (.int v5), none, none] []) : ∀ (n : Nat) (v4 : Int32) (v5 : Int32) (v6 : Int32) (v7 : Int32) (M : hM), w_X3_apply_93 (kg k) F a0 p1 p2 p3 Q K56 n v4 v5 v6 v7 M → GW k 8 M 93 [some (va_rf (some a0)), some (.int p1), some (.int p2), some (.int p3), some (.int v4), some (.int v5), some (.int v6), some (.int v7)] [] := by
  intro n
  induction n with
  | zero =>
    intro v4 v5 v6 v7 M hw
    exact hw.elim
  | succ n ih =>
    intro v4 v5 v6 v7 M hw
    refine G_iload (pc := 93) (i := 7) hC dX3_apply_93 rfl ?_
    refine G_iload_n (pc := 95) (i := 2) hC dX3_apply_95 rfl rfl ?_
    refine G_icmp_gt (pc := 96) (tgt := 122) hC dX3_apply_96 (by decide) (fun hc => ?_) (fun hc => ?_)
    · replace hw := hw.1 hc
      refine G_loc (lv' := [some (va_rf (some a0)), some (.int p1), some (.int p2), some (.int p3), some (.int v4), some (.int v5), some (.int v6), none]) ⟨Or.inr rfl, Or.inr rfl, Or.inr rfl, Or.inr rfl, Or.inr rfl, Or.inr rfl, Or.inr rfl, Or.inl rfl, trivial⟩ ?_
      exact g_X3_apply_122 hJ hC hQ hin hK56  v4 v5 v6 M hw
    · replace hw := hw.2 hc
      refine G_iload (pc := 99) (i := 6) hC dX3_apply_99 rfl ?_
      refine G_if_ne (pc := 101) (tgt := 122) hC dX3_apply_101 (by decide) (fun hc => ?_) (fun hc => ?_)
      · replace hw := hw.1 hc
        refine G_loc (lv' := [some (va_rf (some a0)), some (.int p1), some (.int p2), some (.int p3), some (.int v4), some (.int v5), some (.int v6), none]) ⟨Or.inr rfl, Or.inr rfl, Or.inr rfl, Or.inr rfl, Or.inr rfl, Or.inr rfl, Or.inr rfl, Or.inl rfl, trivial⟩ ?_
        exact g_X3_apply_122 hJ hC hQ hin hK56  v4 v5 v6 M hw
      · replace hw := hw.2 hc
        refine G_aload_n (pc := 104) (i := 0) hC dX3_apply_104 rfl rfl ?_
        refine G_iload_n (pc := 105) (i := 1) hC dX3_apply_105 rfl rfl ?_
        refine G_iload (pc := 106) (i := 5) hC dX3_apply_106 rfl ?_
        refine G_iload (pc := 108) (i := 7) hC dX3_apply_108 rfl ?_
        refine G_iload_n (pc := 110) (i := 3) hC dX3_apply_110 rfl rfl ?_
        obtain ⟨hb, hw⟩ := hw
        refine G_callV (pc := 111) (n := 4) (C := "MergeWorkbenchModel") (b := a0) (As := [.int p1, .int v5, .int v7, .int p3]) (rest := []) hC (m_X3_applies hJ hw) (lw_V q3820 q3822 qs79 q108 q3823) hd_X3_applies (by decide) (rcv (C := RX3) (T := TX3) (N := 61) hC hb rfl) rfl rfl (st_c cat_e (Nat.le_of_ble_eq_true rfl)) dX3_apply_111 (kI fun x2 M1 hw => ?_)
        refine G_istore (pc := 114) (i := 6) (lw := [some (va_rf (some a0)), some (.int p1), some (.int p2), some (.int p3), some (.int v4), some (.int v5), some (.int x2), some (.int v7)]) hC dX3_apply_114 (Nat.le_of_ble_eq_true rfl) rfl ?_
        refine G_iinc (pc := 116) (i := 7) (v := (v7 + (1 : Int32))) (lw := [some (va_rf (some a0)), some (.int p1), some (.int p2), some (.int p3), some (.int v4), some (.int v5), some (.int x2), some (.int (v7 + (1 : Int32)))]) hC dX3_apply_116 rfl (Nat.le_of_ble_eq_true rfl) rfl rfl ?_
        refine G_goto (pc := 119) (tgt := 93) hC dX3_apply_119 (by decide) ?_
        exact ih v4 v5 x2 (v7 + (1 : Int32)) M1 hw
theorem g_X3_apply_56 {k : kT} {F : Nat} {a0 : Nat} {p1 : Int32} {p2 : Int32} {p3 : Int32} {Q : Int32 → hM → Prop} (hJ : JOK (kl k) (kg k)) (hC : CX k 8 cX3_apply RX3 (some .int) 3 74) (hQ : isQ k (PI Q)) (hin : (kt k).name = "apply") : ∀ (n : Nat) (v4 : Int32) (v5 : Int32) (M : hM), w_X3_apply_56 (kg k) F a0 p1 p2 p3 Q n v4 v5 M → GW k 8 M 56 [some (va_rf (some a0)), some (.int p1), some (.int p2), some (.int p3), some (.int v4), some (.int v5), none, none] [] := by
  intro n
  induction n with
  | zero =>
    intro v4 v5 M hw
    exact hw.elim
  | succ n ih =>
    intro v4 v5 M hw
    refine G_iload (pc := 56) (i := 5) hC dX3_apply_56 rfl ?_
    refine G_aload_n (pc := 58) (i := 0) hC dX3_apply_58 rfl rfl ?_
    refine G_getI (pc := 59) (ci := 2) (C := RX3) (T := TX3) (N := 61) (f := 53) hC rfl in_X3 (Nat.le_of_ble_eq_true rfl) q3427 (fun _ h => h) dX3_apply_59 hw (fun x1 hw => ?_)
    refine G_icmp_ge (pc := 62) (tgt := 143) hC dX3_apply_62 (by decide) (fun hc => ?_) (fun hc => ?_)
    · replace hw := hw.1 hc
      refine G_aload_n (pc := 143) (i := 0) hC dX3_apply_143 rfl rfl ?_
      refine G_iload_n (pc := 144) (i := 1) hC dX3_apply_144 rfl rfl ?_
      refine G_aload_n (pc := 145) (i := 0) hC dX3_apply_145 rfl rfl ?_
      refine G_getI (pc := 146) (ci := 2) (C := RX3) (T := TX3) (N := 61) (f := 58) hC rfl in_X3 (Nat.le_of_ble_eq_true rfl) q3432 (fun _ h => h) dX3_apply_146 hw (fun x2 hw => ?_)
      refine G_aload_n (pc := 149) (i := 0) hC dX3_apply_149 rfl rfl ?_
      refine G_getF (pc := 150) (ci := 2) (C := RX3) (T := TX3) (N := 61) (f := 2) hC rfl in_X3 (Nat.le_of_ble_eq_true rfl) q3376 (fun _ h => h) dX3_apply_150 hw (fun x3 hw => ?_)
      refine G_iload_n (pc := 153) (i := 1) hC dX3_apply_153 rfl rfl ?_
      refine G_iald (pc := 154) hC dX3_apply_154 hw (fun x4 hw => ?_)
      obtain ⟨hb, hw⟩ := hw
      refine G_callV (pc := 155) (n := 3) (C := "MergeWorkbenchModel") (b := a0) (As := [.int p1, .int x2, .int x4]) (rest := []) hC (m_X3_goesOutDocument hJ hw) (lw_V q3828 q3830 qs81 q108 q3831) hd_X3_goesOutDocument (by decide) (rcv (C := RX3) (T := TX3) (N := 61) hC hb rfl) rfl rfl (st_c cat_e (Nat.le_of_ble_eq_true rfl)) dX3_apply_155 (kU fun M5 hw => ?_)
      refine G_aload_n (pc := 158) (i := 0) hC dX3_apply_158 rfl rfl ?_
      refine G_getI (pc := 159) (ci := 2) (C := RX3) (T := TX3) (N := 61) (f := 18) hC rfl in_X3 (Nat.le_of_ble_eq_true rfl) q3392 (fun _ h => h) dX3_apply_159 hw (fun x6 hw => ?_)
      refine G_bipush (pc := 162) (v := 24) hC dX3_apply_162 (by decide) ?_
      refine G_icmp_le (pc := 164) (tgt := 173) hC dX3_apply_164 (by decide) (fun hc => ?_) (fun hc => ?_)
      · replace hw := hw.1 hc
        refine G_iconst (pc := 173) (v := 0) hC dX3_apply_173 (by decide) ?_
        refine G_istore (pc := 174) (i := 5) (lw := [some (va_rf (some a0)), some (.int p1), some (.int p2), some (.int p3), some (.int v4), some (.int (0 : Int32)), none, none]) hC dX3_apply_174 (Nat.le_of_ble_eq_true rfl) rfl ?_
        exact g_X3_apply_176 hJ hC hQ hin _ v4 (0 : Int32) M5 hw
      · replace hw := hw.2 hc
        refine G_aload_n (pc := 167) (i := 0) hC dX3_apply_167 rfl rfl ?_
        refine G_iconst (pc := 168) (v := 3) hC dX3_apply_168 (by decide) ?_
        obtain ⟨hb, hw⟩ := hw
        refine G_callV (pc := 169) (n := 1) (C := "MergeWorkbenchModel") (b := a0) (As := [.int (3 : Int32)]) (rest := []) hC (m_X3_fails hJ hw) (lw_V q3573 q3575 qs52 q108 q3576) hd_X3_fails (by decide) (rcv (C := RX3) (T := TX3) (N := 61) hC hb rfl) rfl rfl (st_c cat_e (Nat.le_of_ble_eq_true rfl)) dX3_apply_169 (kI fun x8 M7 hw => ?_)
        exact G_iret (pc := 172) hC rfl hQ dX3_apply_172 hw
    · replace hw := hw.2 hc
      refine G_aload_n (pc := 65) (i := 0) hC dX3_apply_65 rfl rfl ?_
      refine G_getF (pc := 66) (ci := 2) (C := RX3) (T := TX3) (N := 61) (f := 60) hC rfl in_X3 (Nat.le_of_ble_eq_true rfl) q3434 (fun _ h => h) dX3_apply_66 hw (fun x9 hw => ?_)
      refine G_iconst (pc := 69) (v := 2) hC dX3_apply_69 (by decide) ?_
      refine G_iload (pc := 70) (i := 5) hC dX3_apply_70 rfl ?_
      refine G_imul (pc := 72) hC dX3_apply_72 ?_
      refine G_iconst (pc := 73) (v := -1) hC dX3_apply_73 (by decide) ?_
      refine G_iast (pc := 74) hC dX3_apply_74 hw (fun M10 hw => ?_)
      refine G_aload_n (pc := 75) (i := 0) hC dX3_apply_75 rfl rfl ?_
      refine G_getF (pc := 76) (ci := 2) (C := RX3) (T := TX3) (N := 61) (f := 60) hC rfl in_X3 (Nat.le_of_ble_eq_true rfl) q3434 (fun _ h => h) dX3_apply_76 hw (fun x11 hw => ?_)
      refine G_iconst (pc := 79) (v := 2) hC dX3_apply_79 (by decide) ?_
      refine G_iload (pc := 80) (i := 5) hC dX3_apply_80 rfl ?_
      refine G_imul (pc := 82) hC dX3_apply_82 ?_
      refine G_iconst (pc := 83) (v := 1) hC dX3_apply_83 (by decide) ?_
      refine G_iadd (pc := 84) hC dX3_apply_84 ?_
      refine G_iconst (pc := 85) (v := -1) hC dX3_apply_85 (by decide) ?_
      refine G_iast (pc := 86) hC dX3_apply_86 hw (fun M12 hw => ?_)
      refine G_iconst (pc := 87) (v := 0) hC dX3_apply_87 (by decide) ?_
      refine G_istore (pc := 88) (i := 6) (lw := [some (va_rf (some a0)), some (.int p1), some (.int p2), some (.int p3), some (.int v4), some (.int v5), some (.int (0 : Int32)), none]) hC dX3_apply_88 (Nat.le_of_ble_eq_true rfl) rfl ?_
      refine G_iconst (pc := 90) (v := 0) hC dX3_apply_90 (by decide) ?_
      refine G_istore (pc := 91) (i := 7) (lw := [some (va_rf (some a0)), some (.int p1), some (.int p2), some (.int p3), some (.int v4), some (.int v5), some (.int (0 : Int32)), some (.int (0 : Int32))]) hC dX3_apply_91 (Nat.le_of_ble_eq_true rfl) rfl ?_
      exact g_X3_apply_93 hJ hC hQ hin ih _ v4 v5 (0 : Int32) (0 : Int32) M12 hw
theorem m_X3_apply {l : Launch} {g : gT} {F : Nat} {a0 : Nat} {p1 : Int32} {p2 : Int32} {p3 : Int32} {M : hM} {Q : Int32 → hM → Prop} (hJ : JOK l g) (hw : w_X3_apply g F a0 p1 p2 p3 M Q) : MG l g yX3_apply (ws_ yX3_apply cX3_apply 8 (some .int)) 3 74 [va_rf (some a0), .int p1, .int p2, .int p3] M (PI Q) := by
  refine MG_of hJ.2.1 (by decide) (cat_r (cat_i (cat_i (cat_i cat_e)))) (Nat.le_of_ble_eq_true rfl) (fun k hl hg hin hQ hC => ?_)
  subst hl hg
  show GW k 8 M 0 [some (va_rf (some a0)), some (.int p1), some (.int p2), some (.int p3), none, none, none, none] []
  refine G_iload_n (pc := 0) (i := 1) hC dX3_apply_0 rfl rfl ?_
  refine G_callS (pc := 1) (n := 1) (As := [.int p1]) (rest := []) hC (m_X3_isRegister hJ hw) (lw_S q3567 q3568 q108 q3569) hd_X3_isRegister.2 (by decide) rfl rfl (st_c cat_e (Nat.le_of_ble_eq_true rfl)) dX3_apply_1 (kI fun x2 M1 hw => ?_)
  refine G_if_eq (pc := 4) (tgt := 16) hC dX3_apply_4 (by decide) (fun hc => ?_) (fun hc => ?_)
  · replace hw := hw.1 hc
    exact g_X3_apply_16 hJ hC hQ hin   M1 hw
  · replace hw := hw.2 hc
    refine G_iload_n (pc := 7) (i := 2) hC dX3_apply_7 rfl rfl ?_
    refine G_iconst (pc := 8) (v := 0) hC dX3_apply_8 (by decide) ?_
    refine G_iconst (pc := 9) (v := 2) hC dX3_apply_9 (by decide) ?_
    refine G_callS (pc := 10) (n := 3) (As := [.int p2, .int (0 : Int32), .int (2 : Int32)]) (rest := []) hC (m_X3_in hJ hw) (lw_S q3570 q3571 q108 q3572) hd_X3_in.2 (by decide) rfl rfl (st_c cat_e (Nat.le_of_ble_eq_true rfl)) dX3_apply_10 (kI fun x4 M3 hw => ?_)
    refine G_if_ne (pc := 13) (tgt := 22) hC dX3_apply_13 (by decide) (fun hc => ?_) (fun hc => ?_)
    · replace hw := hw.1 hc
      refine G_aload_n (pc := 22) (i := 0) hC dX3_apply_22 rfl rfl ?_
      refine G_getI (pc := 23) (ci := 2) (C := RX3) (T := TX3) (N := 61) (f := 51) hC rfl in_X3 (Nat.le_of_ble_eq_true rfl) q3425 (fun _ h => h) dX3_apply_23 hw (fun x5 hw => ?_)
      refine G_if_ne (pc := 26) (tgt := 35) hC dX3_apply_26 (by decide) (fun hc => ?_) (fun hc => ?_)
      · replace hw := hw.1 hc
        refine G_aload_n (pc := 35) (i := 0) hC dX3_apply_35 rfl rfl ?_
        refine G_iconst (pc := 36) (v := 0) hC dX3_apply_36 (by decide) ?_
        refine G_put (pc := 37) (ci := 2) (C := RX3) (T := TX3) (N := 61) (f := 58) tyX3 hC rfl in_X3 tyX3_ok nmX3 (Nat.le_of_ble_eq_true rfl) q3432 (fun _ h => h) rfl rfl rfl dX3_apply_37 hw (fun M6 hw => ?_)
        refine G_aload_n (pc := 40) (i := 0) hC dX3_apply_40 rfl rfl ?_
        refine G_iconst (pc := 41) (v := 0) hC dX3_apply_41 (by decide) ?_
        refine G_put (pc := 42) (ci := 2) (C := RX3) (T := TX3) (N := 61) (f := 59) tyX3 hC rfl in_X3 tyX3_ok nmX3 (Nat.le_of_ble_eq_true rfl) q3433 (fun _ h => h) rfl rfl rfl dX3_apply_42 hw (fun M7 hw => ?_)
        refine G_aload_n (pc := 45) (i := 0) hC dX3_apply_45 rfl rfl ?_
        refine G_iconst (pc := 46) (v := 0) hC dX3_apply_46 (by decide) ?_
        refine G_put (pc := 47) (ci := 2) (C := RX3) (T := TX3) (N := 61) (f := 18) tyX3 hC rfl in_X3 tyX3_ok nmX3 (Nat.le_of_ble_eq_true rfl) q3392 (fun _ h => h) rfl rfl rfl dX3_apply_47 hw (fun M8 hw => ?_)
        refine G_iconst (pc := 50) (v := 0) hC dX3_apply_50 (by decide) ?_
        refine G_istore (pc := 51) (i := 4) (lw := [some (va_rf (some a0)), some (.int p1), some (.int p2), some (.int p3), some (.int (0 : Int32)), none, none, none]) hC dX3_apply_51 (Nat.le_of_ble_eq_true rfl) rfl ?_
        refine G_iconst (pc := 53) (v := 0) hC dX3_apply_53 (by decide) ?_
        refine G_istore (pc := 54) (i := 5) (lw := [some (va_rf (some a0)), some (.int p1), some (.int p2), some (.int p3), some (.int (0 : Int32)), some (.int (0 : Int32)), none, none]) hC dX3_apply_54 (Nat.le_of_ble_eq_true rfl) rfl ?_
        exact g_X3_apply_56 hJ hC hQ hin _ (0 : Int32) (0 : Int32) M8 hw
      · replace hw := hw.2 hc
        refine G_aload_n (pc := 29) (i := 0) hC dX3_apply_29 rfl rfl ?_
        refine G_iconst (pc := 30) (v := 2) hC dX3_apply_30 (by decide) ?_
        obtain ⟨hb, hw⟩ := hw
        refine G_callV (pc := 31) (n := 1) (C := "MergeWorkbenchModel") (b := a0) (As := [.int (2 : Int32)]) (rest := []) hC (m_X3_fails hJ hw) (lw_V q3573 q3575 qs52 q108 q3576) hd_X3_fails (by decide) (rcv (C := RX3) (T := TX3) (N := 61) hC hb rfl) rfl rfl (st_c cat_e (Nat.le_of_ble_eq_true rfl)) dX3_apply_31 (kI fun x10 M9 hw => ?_)
        exact G_iret (pc := 34) hC rfl hQ dX3_apply_34 hw
    · replace hw := hw.2 hc
      exact g_X3_apply_16 hJ hC hQ hin   M3 hw
