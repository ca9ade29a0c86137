/-! STAGE 1, printed by wip/D-93524w/genall.py: model, part 3 -/
set_option maxRecDepth 100000
def w_X3_outcome_21 (g : gT) (F : Nat) (a0 : Nat) (p1 : Int32) (p2 : Int32) (Q : Int32 → hM → Prop) (M : hM) : Prop :=
  (isC M a0 2 ∧ w_X3_fails g F a0 (1 : Int32) M (fun x2 M1 => Q x2 M1))
def w_X3_outcome_58 (g : gT) (F : Nat) (a0 : Nat) (p1 : Int32) (p2 : Int32) (Q : Int32 → hM → Prop) (s0 : Int32) (M : hM) : Prop :=
  Q s0 M
def w_X3_outcome (g : gT) (F : Nat) (a0 : Nat) (p1 : Int32) (p2 : Int32) (M : hM) (Q : Int32 → hM → Prop) : Prop :=
  gI M (some a0) 2 56 fun x1 => ((x1 = 0 → w_X3_outcome_21 g F a0 p1 p2 Q M) ∧ (¬ (x1 = 0) → gI M (some a0) 2 53 fun x2 => w_X3_in g F p1 (0 : Int32) (x2 - (1 : Int32)) M (fun x4 M3 => ((¬ x4 = 0 → w_X3_in g F p2 (0 : Int32) (1 : Int32) M3 (fun x6 M5 => ((x6 = 0 → (isC M5 a0 2 ∧ w_X3_fails g F a0 (2 : Int32) M5 (fun x8 M7 => w_X3_outcome_58 g F a0 p1 p2 Q x8 M7))) ∧ (¬ (x6 = 0) → gF M5 (some a0) 2 57 fun x9 => aI M5 x9 0 (((2 : Int32) * p1) + p2) fun x10 => (isC M5 a0 2 ∧ w_X3_done g F a0 x10 M5 (fun x12 M11 => w_X3_outcome_58 g F a0 p1 p2 Q x12 M11)))))) ∧ (x4 = 0 → w_X3_outcome_21 g F a0 p1 p2 Q M3)))))
theorem g_X3_outcome_21 {k : kT} {F : Nat} {a0 : Nat} {p1 : Int32} {p2 : Int32} {Q : Int32 → hM → Prop} (hJ : JOK (kl k) (kg k)) (hC : CX k 3 cX3_outcome RX3 (some .int) 2 34) (hQ : isQ k (PI Q)) (hin : (kt k).name = "outcome") : ∀  (M : hM), w_X3_outcome_21 (kg k) F a0 p1 p2 Q  M → GW k 3 M 21 [some (va_rf (some a0)), some (.int p1), some (.int p2)] [] := by
  intro  M hw
  refine G_aload_n (pc := 21) (i := 0) hC dX3_outcome_21 rfl rfl ?_
  refine G_iconst (pc := 22) (v := 1) hC dX3_outcome_22 (by decide) ?_
  obtain ⟨hb, hw⟩ := hw
  refine G_callV (pc := 23) (n := 1) (C := "MergeWorkbenchModel") (b := a0) (As := [.int (1 : Int32)]) (rest := []) hC (m_X3_fails hJ hw) (lw_V q3573 q3575 qs52 q108 q3576) hd_X3_fails (by decide) (rcv (C := RX3) (T := TX3) (N := 61) hC hb rfl) rfl rfl (st_c cat_e (Nat.le_of_ble_eq_true rfl)) dX3_outcome_23 (kI fun x2 M1 hw => ?_)
  exact G_iret (pc := 26) hC rfl hQ dX3_outcome_26 hw
theorem g_X3_outcome_58 {k : kT} {F : Nat} {a0 : Nat} {p1 : Int32} {p2 : Int32} {Q : Int32 → hM → Prop} (hJ : JOK (kl k) (kg k)) (hC : CX k 3 cX3_outcome RX3 (some .int) 2 34) (hQ : isQ k (PI Q)) (hin : (kt k).name = "outcome") : ∀ (s0 : Int32) (M : hM), w_X3_outcome_58 (kg k) F a0 p1 p2 Q s0 M → GW k 3 M 58 [some (va_rf (some a0)), some (.int p1), some (.int p2)] [.int s0] := by
  intro s0 M hw
  exact G_iret (pc := 58) hC rfl hQ dX3_outcome_58 hw
theorem m_X3_outcome {l : Launch} {g : gT} {F : Nat} {a0 : Nat} {p1 : Int32} {p2 : Int32} {M : hM} {Q : Int32 → hM → Prop} (hJ : JOK l g) (hw : w_X3_outcome g F a0 p1 p2 M Q) : MG l g yX3_outcome (ws_ yX3_outcome cX3_outcome 3 (some .int)) 2 34 [va_rf (some a0), .int p1, .int p2] M (PI Q) := by
  refine MG_of hJ.2.1 (by decide) (cat_r (cat_i (cat_i cat_e))) (Nat.le_of_ble_eq_true rfl) (fun k hl hg hin hQ hC => ?_)
  subst hl hg
  show GW k 3 M 0 [some (va_rf (some a0)), some (.int p1), some (.int p2)] []
  refine G_aload_n (pc := 0) (i := 0) hC dX3_outcome_0 rfl rfl ?_
  refine G_getI (pc := 1) (ci := 2) (C := RX3) (T := TX3) (N := 61) (f := 56) hC rfl in_X3 (Nat.le_of_ble_eq_true rfl) q3430 (fun _ h => h) dX3_outcome_1 hw (fun x1 hw => ?_)
  refine G_if_eq (pc := 4) (tgt := 21) hC dX3_outcome_4 (by decide) (fun hc => ?_) (fun hc => ?_)
  · replace hw := hw.1 hc
    exact g_X3_outcome_21 hJ hC hQ hin   M hw
  · replace hw := hw.2 hc
    refine G_iload_n (pc := 7) (i := 1) hC dX3_outcome_7 rfl rfl ?_
    refine G_iconst (pc := 8) (v := 0) hC dX3_outcome_8 (by decide) ?_
    refine G_aload_n (pc := 9) (i := 0) hC dX3_outcome_9 rfl rfl ?_
    refine G_getI (pc := 10) (ci := 2) (C := RX3) (T := TX3) (N := 61) (f := 53) hC rfl in_X3 (Nat.le_of_ble_eq_true rfl) q3427 (fun _ h => h) dX3_outcome_10 hw (fun x2 hw => ?_)
    refine G_iconst (pc := 13) (v := 1) hC dX3_outcome_13 (by decide) ?_
    refine G_isub (pc := 14) hC dX3_outcome_14 ?_
    refine G_callS (pc := 15) (n := 3) (As := [.int p1, .int (0 : Int32), .int (x2 - (1 : Int32))]) (rest := []) hC (m_X3_in hJ hw) (lw_S q3570 q3571 q108 q3572) hd_X3_in.2 (by decide) rfl rfl (st_c cat_e (Nat.le_of_ble_eq_true rfl)) dX3_outcome_15 (kI fun x4 M3 hw => ?_)
    refine G_if_ne (pc := 18) (tgt := 27) hC dX3_outcome_18 (by decide) (fun hc => ?_) (fun hc => ?_)
    · replace hw := hw.1 hc
      refine G_iload_n (pc := 27) (i := 2) hC dX3_outcome_27 rfl rfl ?_
      refine G_iconst (pc := 28) (v := 0) hC dX3_outcome_28 (by decide) ?_
      refine G_iconst (pc := 29) (v := 1) hC dX3_outcome_29 (by decide) ?_
      refine G_callS (pc := 30) (n := 3) (As := [.int p2, .int (0 : Int32), .int (1 : Int32)]) (rest := []) hC (m_X3_in hJ hw) (lw_S q3570 q3571 q108 q3572) hd_X3_in.2 (by decide) rfl rfl (st_c cat_e (Nat.le_of_ble_eq_true rfl)) dX3_outcome_30 (kI fun x6 M5 hw => ?_)
      refine G_if_eq (pc := 33) (tgt := 53) hC dX3_outcome_33 (by decide) (fun hc => ?_) (fun hc => ?_)
      · replace hw := hw.1 hc
        refine G_aload_n (pc := 53) (i := 0) hC dX3_outcome_53 rfl rfl ?_
        refine G_iconst (pc := 54) (v := 2) hC dX3_outcome_54 (by decide) ?_
        obtain ⟨hb, hw⟩ := hw
        refine G_callV (pc := 55) (n := 1) (C := "MergeWorkbenchModel") (b := a0) (As := [.int (2 : Int32)]) (rest := []) hC (m_X3_fails hJ hw) (lw_V q3573 q3575 qs52 q108 q3576) hd_X3_fails (by decide) (rcv (C := RX3) (T := TX3) (N := 61) hC hb rfl) rfl rfl (st_c cat_e (Nat.le_of_ble_eq_true rfl)) dX3_outcome_55 (kI fun x8 M7 hw => ?_)
        exact g_X3_outcome_58 hJ hC hQ hin  x8 M7 hw
      · replace hw := hw.2 hc
        refine G_aload_n (pc := 36) (i := 0) hC dX3_outcome_36 rfl rfl ?_
        refine G_aload_n (pc := 37) (i := 0) hC dX3_outcome_37 rfl rfl ?_
        refine G_getF (pc := 38) (ci := 2) (C := RX3) (T := TX3) (N := 61) (f := 57) hC rfl in_X3 (Nat.le_of_ble_eq_true rfl) q3431 (fun _ h => h) dX3_outcome_38 hw (fun x9 hw => ?_)
        refine G_iconst (pc := 41) (v := 2) hC dX3_outcome_41 (by decide) ?_
        refine G_iload_n (pc := 42) (i := 1) hC dX3_outcome_42 rfl rfl ?_
        refine G_imul (pc := 43) hC dX3_outcome_43 ?_
        refine G_iload_n (pc := 44) (i := 2) hC dX3_outcome_44 rfl rfl ?_
        refine G_iadd (pc := 45) hC dX3_outcome_45 ?_
        refine G_iald (pc := 46) hC dX3_outcome_46 hw (fun x10 hw => ?_)
        obtain ⟨hb, hw⟩ := hw
        refine G_callV (pc := 47) (n := 1) (C := "MergeWorkbenchModel") (b := a0) (As := [.int x10]) (rest := []) hC (m_X3_done hJ hw) (lw_V q3581 q3583 qs54 q108 q3584) hd_X3_done (by decide) (rcv (C := RX3) (T := TX3) (N := 61) hC hb rfl) rfl rfl (st_c cat_e (Nat.le_of_ble_eq_true rfl)) dX3_outcome_47 (kI fun x12 M11 hw => ?_)
        refine G_goto (pc := 50) (tgt := 58) hC dX3_outcome_50 (by decide) ?_
        exact g_X3_outcome_58 hJ hC hQ hin  x12 M11 hw
    · replace hw := hw.2 hc
      exact g_X3_outcome_21 hJ hC hQ hin   M3 hw
def w_X3_undo_50 (g : gT) (F : Nat) (a0 : Nat) (Q : Int32 → hM → Prop) : Nat → Int32 → Int32 → hM → Prop
  | 0, _, _, _ => False
  | n + 1, v1, v2, M => (((24 : Int32) ≤ v2 → (isC M a0 2 ∧ w_X3_done g F a0 v1 M (fun x2 M1 => Q x2 M1))) ∧ (¬ ((24 : Int32) ≤ v2) → gF M (some a0) 2 1 fun x3 => gF M (some a0) 2 9 fun x4 => gI M (some a0) 2 10 fun x5 => aI M x4 0 (((24 : Int32) * x5) + v2) fun x6 => sI M x3 0 (((24 : Int32) * v1) + v2) x6 fun M7 => w_X3_undo_50 g F a0 Q n v1 (v2 + (1 : Int32)) M7))
def w_X3_undo (g : gT) (F : Nat) (a0 : Nat) (M : hM) (Q : Int32 → hM → Prop) : Prop :=
  gI M (some a0) 2 10 fun x1 => ((¬ x1 = 0 → gI M (some a0) 2 10 fun x2 => pV M (some a0) 2 10 (.int (x2 - (1 : Int32))) fun M3 => gF M3 (some a0) 2 7 fun x4 => gI M3 (some a0) 2 10 fun x5 => aI M3 x4 0 x5 fun x6 => gF M3 (some a0) 2 2 fun x7 => gF M3 (some a0) 2 8 fun x8 => gI M3 (some a0) 2 10 fun x9 => aI M3 x8 0 x9 fun x10 => sI M3 x7 0 x6 x10 fun M11 => w_X3_undo_50 g F a0 Q F x6 (0 : Int32) M11) ∧ (x1 = 0 → (isC M a0 2 ∧ w_X3_fails g F a0 (1 : Int32) M (fun x13 M12 => Q x13 M12))))
theorem g_X3_undo_50 {k : kT} {F : Nat} {a0 : Nat} {Q : Int32 → hM → Prop} (hJ : JOK (kl k) (kg k)) (hC : CX k 3 cX3_undo RX3 (some .int) 2 33) (hQ : isQ k (PI Q)) (hin : (kt k).name = "undo") : ∀ (n : Nat) (v1 : Int32) (v2 : Int32) (M : hM), w_X3_undo_50 (kg k) F a0 Q n v1 v2 M → GW k 3 M 50 [some (va_rf (some a0)), some (.int v1), some (.int v2)] [] := by
  intro n
  induction n with
  | zero =>
    intro v1 v2 M hw
    exact hw.elim
  | succ n ih =>
    intro v1 v2 M hw
    refine G_iload_n (pc := 50) (i := 2) hC dX3_undo_50 rfl rfl ?_
    refine G_bipush (pc := 51) (v := 24) hC dX3_undo_51 (by decide) ?_
    refine G_icmp_ge (pc := 53) (tgt := 87) hC dX3_undo_53 (by decide) (fun hc => ?_) (fun hc => ?_)
    · replace hw := hw.1 hc
      refine G_aload_n (pc := 87) (i := 0) hC dX3_undo_87 rfl rfl ?_
      refine G_iload_n (pc := 88) (i := 1) hC dX3_undo_88 rfl rfl ?_
      obtain ⟨hb, hw⟩ := hw
      refine G_callV (pc := 89) (n := 1) (C := "MergeWorkbenchModel") (b := a0) (As := [.int v1]) (rest := []) hC (m_X3_done hJ hw) (lw_V q3581 q3583 qs54 q108 q3584) hd_X3_done (by decide) (rcv (C := RX3) (T := TX3) (N := 61) hC hb rfl) rfl rfl (st_c cat_e (Nat.le_of_ble_eq_true rfl)) dX3_undo_89 (kI fun x2 M1 hw => ?_)
      exact G_iret (pc := 92) hC rfl hQ dX3_undo_92 hw
    · replace hw := hw.2 hc
      refine G_aload_n (pc := 56) (i := 0) hC dX3_undo_56 rfl rfl ?_
      refine G_getF (pc := 57) (ci := 2) (C := RX3) (T := TX3) (N := 61) (f := 1) hC rfl in_X3 (Nat.le_of_ble_eq_true rfl) q3375 (fun _ h => h) dX3_undo_57 hw (fun x3 hw => ?_)
      refine G_bipush (pc := 60) (v := 24) hC dX3_undo_60 (by decide) ?_
      refine G_iload_n (pc := 62) (i := 1) hC dX3_undo_62 rfl rfl ?_
      refine G_imul (pc := 63) hC dX3_undo_63 ?_
      refine G_iload_n (pc := 64) (i := 2) hC dX3_undo_64 rfl rfl ?_
      refine G_iadd (pc := 65) hC dX3_undo_65 ?_
      refine G_aload_n (pc := 66) (i := 0) hC dX3_undo_66 rfl rfl ?_
      refine G_getF (pc := 67) (ci := 2) (C := RX3) (T := TX3) (N := 61) (f := 9) hC rfl in_X3 (Nat.le_of_ble_eq_true rfl) q3383 (fun _ h => h) dX3_undo_67 hw (fun x4 hw => ?_)
      refine G_bipush (pc := 70) (v := 24) hC dX3_undo_70 (by decide) ?_
      refine G_aload_n (pc := 72) (i := 0) hC dX3_undo_72 rfl rfl ?_
      refine G_getI (pc := 73) (ci := 2) (C := RX3) (T := TX3) (N := 61) (f := 10) hC rfl in_X3 (Nat.le_of_ble_eq_true rfl) q3384 (fun _ h => h) dX3_undo_73 hw (fun x5 hw => ?_)
      refine G_imul (pc := 76) hC dX3_undo_76 ?_
      refine G_iload_n (pc := 77) (i := 2) hC dX3_undo_77 rfl rfl ?_
      refine G_iadd (pc := 78) hC dX3_undo_78 ?_
      refine G_iald (pc := 79) hC dX3_undo_79 hw (fun x6 hw => ?_)
      refine G_iast (pc := 80) hC dX3_undo_80 hw (fun M7 hw => ?_)
      refine G_iinc (pc := 81) (i := 2) (v := (v2 + (1 : Int32))) (lw := [some (va_rf (some a0)), some (.int v1), some (.int (v2 + (1 : Int32)))]) hC dX3_undo_81 rfl (Nat.le_of_ble_eq_true rfl) rfl rfl ?_
      refine G_goto (pc := 84) (tgt := 50) hC dX3_undo_84 (by decide) ?_
      exact ih v1 (v2 + (1 : Int32)) M7 hw
theorem m_X3_undo {l : Launch} {g : gT} {F : Nat} {a0 : Nat} {M : hM} {Q : Int32 → hM → Prop} (hJ : JOK l g) (hw : w_X3_undo g F a0 M Q) : MG l g yX3_undo (ws_ yX3_undo cX3_undo 3 (some .int)) 2 33 [va_rf (some a0)] M (PI Q) := by
  refine MG_of hJ.2.1 (by decide) (cat_r cat_e) (Nat.le_of_ble_eq_true rfl) (fun k hl hg hin hQ hC => ?_)
  subst hl hg
  show GW k 3 M 0 [some (va_rf (some a0)), none, none] []
  refine G_aload_n (pc := 0) (i := 0) hC dX3_undo_0 rfl rfl ?_
  refine G_getI (pc := 1) (ci := 2) (C := RX3) (T := TX3) (N := 61) (f := 10) hC rfl in_X3 (Nat.le_of_ble_eq_true rfl) q3384 (fun _ h => h) dX3_undo_1 hw (fun x1 hw => ?_)
  refine G_if_ne (pc := 4) (tgt := 13) hC dX3_undo_4 (by decide) (fun hc => ?_) (fun hc => ?_)
  · replace hw := hw.1 hc
    refine G_aload_n (pc := 13) (i := 0) hC dX3_undo_13 rfl rfl ?_
    refine G_dup (pc := 14) hC dX3_undo_14 (rf_cat _) ?_
    refine G_getI (pc := 15) (ci := 2) (C := RX3) (T := TX3) (N := 61) (f := 10) hC rfl in_X3 (Nat.le_of_ble_eq_true rfl) q3384 (fun _ h => h) dX3_undo_15 hw (fun x2 hw => ?_)
    refine G_iconst (pc := 18) (v := 1) hC dX3_undo_18 (by decide) ?_
    refine G_isub (pc := 19) hC dX3_undo_19 ?_
    refine G_put (pc := 20) (ci := 2) (C := RX3) (T := TX3) (N := 61) (f := 10) tyX3 hC rfl in_X3 tyX3_ok nmX3 (Nat.le_of_ble_eq_true rfl) q3384 (fun _ h => h) rfl rfl rfl dX3_undo_20 hw (fun M3 hw => ?_)
    refine G_aload_n (pc := 23) (i := 0) hC dX3_undo_23 rfl rfl ?_
    refine G_getF (pc := 24) (ci := 2) (C := RX3) (T := TX3) (N := 61) (f := 7) hC rfl in_X3 (Nat.le_of_ble_eq_true rfl) q3381 (fun _ h => h) dX3_undo_24 hw (fun x4 hw => ?_)
    refine G_aload_n (pc := 27) (i := 0) hC dX3_undo_27 rfl rfl ?_
    refine G_getI (pc := 28) (ci := 2) (C := RX3) (T := TX3) (N := 61) (f := 10) hC rfl in_X3 (Nat.le_of_ble_eq_true rfl) q3384 (fun _ h => h) dX3_undo_28 hw (fun x5 hw => ?_)
    refine G_iald (pc := 31) hC dX3_undo_31 hw (fun x6 hw => ?_)
    refine G_istore_n (pc := 32) (i := 1) (lw := [some (va_rf (some a0)), some (.int x6), none]) hC dX3_undo_32 rfl (Nat.le_of_ble_eq_true rfl) rfl ?_
    refine G_aload_n (pc := 33) (i := 0) hC dX3_undo_33 rfl rfl ?_
    refine G_getF (pc := 34) (ci := 2) (C := RX3) (T := TX3) (N := 61) (f := 2) hC rfl in_X3 (Nat.le_of_ble_eq_true rfl) q3376 (fun _ h => h) dX3_undo_34 hw (fun x7 hw => ?_)
    refine G_iload_n (pc := 37) (i := 1) hC dX3_undo_37 rfl rfl ?_
    refine G_aload_n (pc := 38) (i := 0) hC dX3_undo_38 rfl rfl ?_
    refine G_getF (pc := 39) (ci := 2) (C := RX3) (T := TX3) (N := 61) (f := 8) hC rfl in_X3 (Nat.le_of_ble_eq_true rfl) q3382 (fun _ h => h) dX3_undo_39 hw (fun x8 hw => ?_)
    refine G_aload_n (pc := 42) (i := 0) hC dX3_undo_42 rfl rfl ?_
    refine G_getI (pc := 43) (ci := 2) (C := RX3) (T := TX3) (N := 61) (f := 10) hC rfl in_X3 (Nat.le_of_ble_eq_true rfl) q3384 (fun _ h => h) dX3_undo_43 hw (fun x9 hw => ?_)
    refine G_iald (pc := 46) hC dX3_undo_46 hw (fun x10 hw => ?_)
    refine G_iast (pc := 47) hC dX3_undo_47 hw (fun M11 hw => ?_)
    refine G_iconst (pc := 48) (v := 0) hC dX3_undo_48 (by decide) ?_
    refine G_istore_n (pc := 49) (i := 2) (lw := [some (va_rf (some a0)), some (.int x6), some (.int (0 : Int32))]) hC dX3_undo_49 rfl (Nat.le_of_ble_eq_true rfl) rfl ?_
    exact g_X3_undo_50 hJ hC hQ hin _ x6 (0 : Int32) M11 hw
  · replace hw := hw.2 hc
    refine G_aload_n (pc := 7) (i := 0) hC dX3_undo_7 rfl rfl ?_
    refine G_iconst (pc := 8) (v := 1) hC dX3_undo_8 (by decide) ?_
    obtain ⟨hb, hw⟩ := hw
    refine G_callV (pc := 9) (n := 1) (C := "MergeWorkbenchModel") (b := a0) (As := [.int (1 : Int32)]) (rest := []) hC (m_X3_fails hJ hw) (lw_V q3573 q3575 qs52 q108 q3576) hd_X3_fails (by decide) (rcv (C := RX3) (T := TX3) (N := 61) hC hb rfl) rfl rfl (st_c cat_e (Nat.le_of_ble_eq_true rfl)) dX3_undo_9 (kI fun x13 M12 hw => ?_)
    exact G_iret (pc := 12) hC rfl hQ dX3_undo_12 hw
def w_X3_all_4 (g : gT) (F : Nat) (a0 : Nat) (Q : Int32 → hM → Prop) : Nat → Int32 → Int32 → hM → Prop
  | 0, _, _, _ => False
  | n + 1, v1, v2, M => (((4 : Int32) ≤ v2 → Q v1 M) ∧ (¬ ((4 : Int32) ≤ v2) → gF M (some a0) 2 2 fun x1 => aI M x1 0 v2 fun x2 => w_X3_all_4 g F a0 Q n (v1 + x2) (v2 + (1 : Int32)) M))
def w_X3_all (g : gT) (F : Nat) (a0 : Nat) (M : hM) (Q : Int32 → hM → Prop) : Prop :=
  w_X3_all_4 g F a0 Q F (0 : Int32) (0 : Int32) M
theorem g_X3_all_4 {k : kT} {F : Nat} {a0 : Nat} {Q : Int32 → hM → Prop} (hJ : JOK (kl k) (kg k)) (hC : CX k 3 cX3_all RX3 (some .int) 1 12) (hQ : isQ k (PI Q)) (hin : (kt k).name = "all") : ∀ (n : Nat) (v1 : Int32) (v2 : Int32) (M : hM), w_X3_all_4 (kg k) F a0 Q n v1 v2 M → GW k 3 M 4 [some (va_rf (some a0)), some (.int v1), some (.int v2)] [] := by
  intro n
  induction n with
  | zero =>
    intro v1 v2 M hw
    exact hw.elim
  | succ n ih =>
    intro v1 v2 M hw
    refine G_iload_n (pc := 4) (i := 2) hC dX3_all_4 rfl rfl ?_
    refine G_iconst (pc := 5) (v := 4) hC dX3_all_5 (by decide) ?_
    refine G_icmp_ge (pc := 6) (tgt := 24) hC dX3_all_6 (by decide) (fun hc => ?_) (fun hc => ?_)
    · replace hw := hw.1 hc
      refine G_iload_n (pc := 24) (i := 1) hC dX3_all_24 rfl rfl ?_
      exact G_iret (pc := 25) hC rfl hQ dX3_all_25 hw
    · replace hw := hw.2 hc
      refine G_iload_n (pc := 9) (i := 1) hC dX3_all_9 rfl rfl ?_
      refine G_aload_n (pc := 10) (i := 0) hC dX3_all_10 rfl rfl ?_
      refine G_getF (pc := 11) (ci := 2) (C := RX3) (T := TX3) (N := 61) (f := 2) hC rfl in_X3 (Nat.le_of_ble_eq_true rfl) q3376 (fun _ h => h) dX3_all_11 hw (fun x1 hw => ?_)
      refine G_iload_n (pc := 14) (i := 2) hC dX3_all_14 rfl rfl ?_
      refine G_iald (pc := 15) hC dX3_all_15 hw (fun x2 hw => ?_)
      refine G_iadd (pc := 16) hC dX3_all_16 ?_
      refine G_istore_n (pc := 17) (i := 1) (lw := [some (va_rf (some a0)), some (.int (v1 + x2)), some (.int v2)]) hC dX3_all_17 rfl (Nat.le_of_ble_eq_true rfl) rfl ?_
      refine G_iinc (pc := 18) (i := 2) (v := (v2 + (1 : Int32))) (lw := [some (va_rf (some a0)), some (.int (v1 + x2)), some (.int (v2 + (1 : Int32)))]) hC dX3_all_18 rfl (Nat.le_of_ble_eq_true rfl) rfl rfl ?_
      refine G_goto (pc := 21) (tgt := 4) hC dX3_all_21 (by decide) ?_
      exact ih (v1 + x2) (v2 + (1 : Int32)) M hw
theorem m_X3_all {l : Launch} {g : gT} {F : Nat} {a0 : Nat} {M : hM} {Q : Int32 → hM → Prop} (hJ : JOK l g) (hw : w_X3_all g F a0 M Q) : MG l g yX3_all (ws_ yX3_all cX3_all 3 (some .int)) 1 12 [va_rf (some a0)] M (PI Q) := by
  refine MG_of hJ.2.1 (by decide) (cat_r cat_e) (Nat.le_of_ble_eq_true rfl) (fun k hl hg hin hQ hC => ?_)
  subst hl hg
  show GW k 3 M 0 [some (va_rf (some a0)), none, none] []
  refine G_iconst (pc := 0) (v := 0) hC dX3_all_0 (by decide) ?_
  refine G_istore_n (pc := 1) (i := 1) (lw := [some (va_rf (some a0)), some (.int (0 : Int32)), none]) hC dX3_all_1 rfl (Nat.le_of_ble_eq_true rfl) rfl ?_
  refine G_iconst (pc := 2) (v := 0) hC dX3_all_2 (by decide) ?_
  refine G_istore_n (pc := 3) (i := 2) (lw := [some (va_rf (some a0)), some (.int (0 : Int32)), some (.int (0 : Int32))]) hC dX3_all_3 rfl (Nat.le_of_ble_eq_true rfl) rfl ?_
  exact g_X3_all_4 hJ hC hQ hin _ (0 : Int32) (0 : Int32) M hw
theorem hd_X3_all : yX3_all.cls = "MergeWorkbenchModel" ∧ yX3_all.cls ≠ "java/lang/invoke/MethodHandle" ∧ yX3_all.cls ≠ "java/lang/invoke/VarHandle" ∧ (parseMethodDescriptor yX3_all.desc).map (fun d => d.parameters.length) = some 0 := by decide +kernel
def w_X3_save_41 (g : gT) (F : Nat) (a0 : Nat) (Q : Int32 → hM → Prop) : Nat → Int32 → hM → Prop
  | 0, _, _ => False
  | n + 1, v1, M => (((4 : Int32) ≤ v1 → (isC M a0 2 ∧ w_X3_all g F a0  M (fun x2 M1 => (isC M1 a0 2 ∧ w_X3_done g F a0 x2 M1 (fun x4 M3 => Q x4 M3))))) ∧ (¬ ((4 : Int32) ≤ v1) → gF M (some a0) 2 13 fun x5 => gF M (some a0) 2 2 fun x6 => aI M x6 0 v1 fun x7 => sI M x5 0 v1 x7 fun M8 => w_X3_save_41 g F a0 Q n (v1 + (1 : Int32)) M8))
def w_X3_save_15 (g : gT) (F : Nat) (a0 : Nat) (Q : Int32 → hM → Prop) : Nat → Int32 → hM → Prop
  | 0, _, _ => False
  | n + 1, v1, M => (((96 : Int32) ≤ v1 → w_X3_save_41 g F a0 Q F (0 : Int32) M) ∧ (¬ ((96 : Int32) ≤ v1) → gF M (some a0) 2 12 fun x1 => gF M (some a0) 2 1 fun x2 => aI M x2 0 v1 fun x3 => sI M x1 0 v1 x3 fun M4 => w_X3_save_15 g F a0 Q n (v1 + (1 : Int32)) M4))
def w_X3_save (g : gT) (F : Nat) (a0 : Nat) (M : hM) (Q : Int32 → hM → Prop) : Prop :=
  pV M (some a0) 2 11 (.int (1 : Int32)) fun M1 => gI M1 (some a0) 2 3 fun x2 => pV M1 (some a0) 2 14 (.int x2) fun M3 => w_X3_save_15 g F a0 Q F (0 : Int32) M3
theorem g_X3_save_41 {k : kT} {F : Nat} {a0 : Nat} {Q : Int32 → hM → Prop} (hJ : JOK (kl k) (kg k)) (hC : CX k 2 cX3_save RX3 (some .int) 2 34) (hQ : isQ k (PI Q)) (hin : (kt k).name = "save") : ∀ (n : Nat) (v1 : Int32) (M : hM), w_X3_save_41 (kg k) F a0 Q n v1 M → GW k 2 M 41 [some (va_rf (some a0)), some (.int v1)] [] := by
  intro n
  induction n with
  | zero =>
    intro v1 M hw
    exact hw.elim
  | succ n ih =>
    intro v1 M hw
    refine G_iload_n (pc := 41) (i := 1) hC dX3_save_41 rfl rfl ?_
    refine G_iconst (pc := 42) (v := 4) hC dX3_save_42 (by decide) ?_
    refine G_icmp_ge (pc := 43) (tgt := 64) hC dX3_save_43 (by decide) (fun hc => ?_) (fun hc => ?_)
    · replace hw := hw.1 hc
      refine G_aload_n (pc := 64) (i := 0) hC dX3_save_64 rfl rfl ?_
      refine G_aload_n (pc := 65) (i := 0) hC dX3_save_65 rfl rfl ?_
      obtain ⟨hb, hw⟩ := hw
      refine G_callV (pc := 66) (n := 0) (C := "MergeWorkbenchModel") (b := a0) (As := []) (rest := [va_rf (some a0)]) hC (m_X3_all hJ hw) (lw_V q3844 q3846 qs82 q108 q3847) hd_X3_all (by decide) (rcv (C := RX3) (T := TX3) (N := 61) hC hb rfl) rfl rfl (st_c (cat_r cat_e) (Nat.le_of_ble_eq_true rfl)) dX3_save_66 (kI fun x2 M1 hw => ?_)
      obtain ⟨hb, hw⟩ := hw
      refine G_callV (pc := 69) (n := 1) (C := "MergeWorkbenchModel") (b := a0) (As := [.int x2]) (rest := []) hC (m_X3_done hJ hw) (lw_V q3581 q3583 qs54 q108 q3584) hd_X3_done (by decide) (rcv (C := RX3) (T := TX3) (N := 61) hC hb rfl) rfl rfl (st_c cat_e (Nat.le_of_ble_eq_true rfl)) dX3_save_69 (kI fun x4 M3 hw => ?_)
      exact G_iret (pc := 72) hC rfl hQ dX3_save_72 hw
    · replace hw := hw.2 hc
      refine G_aload_n (pc := 46) (i := 0) hC dX3_save_46 rfl rfl ?_
      refine G_getF (pc := 47) (ci := 2) (C := RX3) (T := TX3) (N := 61) (f := 13) hC rfl in_X3 (Nat.le_of_ble_eq_true rfl) q3387 (fun _ h => h) dX3_save_47 hw (fun x5 hw => ?_)
      refine G_iload_n (pc := 50) (i := 1) hC dX3_save_50 rfl rfl ?_
      refine G_aload_n (pc := 51) (i := 0) hC dX3_save_51 rfl rfl ?_
      refine G_getF (pc := 52) (ci := 2) (C := RX3) (T := TX3) (N := 61) (f := 2) hC rfl in_X3 (Nat.le_of_ble_eq_true rfl) q3376 (fun _ h => h) dX3_save_52 hw (fun x6 hw => ?_)
      refine G_iload_n (pc := 55) (i := 1) hC dX3_save_55 rfl rfl ?_
      refine G_iald (pc := 56) hC dX3_save_56 hw (fun x7 hw => ?_)
      refine G_iast (pc := 57) hC dX3_save_57 hw (fun M8 hw => ?_)
      refine G_iinc (pc := 58) (i := 1) (v := (v1 + (1 : Int32))) (lw := [some (va_rf (some a0)), some (.int (v1 + (1 : Int32)))]) hC dX3_save_58 rfl (Nat.le_of_ble_eq_true rfl) rfl rfl ?_
      refine G_goto (pc := 61) (tgt := 41) hC dX3_save_61 (by decide) ?_
      exact ih (v1 + (1 : Int32)) M8 hw
theorem g_X3_save_15 {k : kT} {F : Nat} {a0 : Nat} {Q : Int32 → hM → Prop} (hJ : JOK (kl k) (kg k)) (hC : CX k 2 cX3_save RX3 (some .int) 2 34) (hQ : isQ k (PI Q)) (hin : (kt k).name = "save") : ∀ (n : Nat) (v1 : Int32) (M : hM), w_X3_save_15 (kg k) F a0 Q n v1 M → GW k 2 M 15 [some (va_rf (some a0)), some (.int v1)] [] := by
  intro n
  induction n with
  | zero =>
    intro v1 M hw
    exact hw.elim
  | succ n ih =>
    intro v1 M hw
    refine G_iload_n (pc := 15) (i := 1) hC dX3_save_15 rfl rfl ?_
    refine G_bipush (pc := 16) (v := 96) hC dX3_save_16 (by decide) ?_
    refine G_icmp_ge (pc := 18) (tgt := 39) hC dX3_save_18 (by decide) (fun hc => ?_) (fun hc => ?_)
    · replace hw := hw.1 hc
      refine G_iconst (pc := 39) (v := 0) hC dX3_save_39 (by decide) ?_
      refine G_istore_n (pc := 40) (i := 1) (lw := [some (va_rf (some a0)), some (.int (0 : Int32))]) hC dX3_save_40 rfl (Nat.le_of_ble_eq_true rfl) rfl ?_
      exact g_X3_save_41 hJ hC hQ hin _ (0 : Int32) M hw
    · replace hw := hw.2 hc
      refine G_aload_n (pc := 21) (i := 0) hC dX3_save_21 rfl rfl ?_
      refine G_getF (pc := 22) (ci := 2) (C := RX3) (T := TX3) (N := 61) (f := 12) hC rfl in_X3 (Nat.le_of_ble_eq_true rfl) q3386 (fun _ h => h) dX3_save_22 hw (fun x1 hw => ?_)
      refine G_iload_n (pc := 25) (i := 1) hC dX3_save_25 rfl rfl ?_
      refine G_aload_n (pc := 26) (i := 0) hC dX3_save_26 rfl rfl ?_
      refine G_getF (pc := 27) (ci := 2) (C := RX3) (T := TX3) (N := 61) (f := 1) hC rfl in_X3 (Nat.le_of_ble_eq_true rfl) q3375 (fun _ h => h) dX3_save_27 hw (fun x2 hw => ?_)
      refine G_iload_n (pc := 30) (i := 1) hC dX3_save_30 rfl rfl ?_
      refine G_iald (pc := 31) hC dX3_save_31 hw (fun x3 hw => ?_)
      refine G_iast (pc := 32) hC dX3_save_32 hw (fun M4 hw => ?_)
      refine G_iinc (pc := 33) (i := 1) (v := (v1 + (1 : Int32))) (lw := [some (va_rf (some a0)), some (.int (v1 + (1 : Int32)))]) hC dX3_save_33 rfl (Nat.le_of_ble_eq_true rfl) rfl rfl ?_
      refine G_goto (pc := 36) (tgt := 15) hC dX3_save_36 (by decide) ?_
      exact ih (v1 + (1 : Int32)) M4 hw
theorem m_X3_save {l : Launch} {g : gT} {F : Nat} {a0 : Nat} {M : hM} {Q : Int32 → hM → Prop} (hJ : JOK l g) (hw : w_X3_save g F a0 M Q) : MG l g yX3_save (ws_ yX3_save cX3_save 2 (some .int)) 2 34 [va_rf (some a0)] M (PI Q) := by
  refine MG_of hJ.2.1 (by decide) (cat_r cat_e) (Nat.le_of_ble_eq_true rfl) (fun k hl hg hin hQ hC => ?_)
  subst hl hg
  show GW k 2 M 0 [some (va_rf (some a0)), none] []
  refine G_aload_n (pc := 0) (i := 0) hC dX3_save_0 rfl rfl ?_
  refine G_iconst (pc := 1) (v := 1) hC dX3_save_1 (by decide) ?_
  refine G_put (pc := 2) (ci := 2) (C := RX3) (T := TX3) (N := 61) (f := 11) tyX3 hC rfl in_X3 tyX3_ok nmX3 (Nat.le_of_ble_eq_true rfl) q3385 (fun _ h => h) rfl rfl rfl dX3_save_2 hw (fun M1 hw => ?_)
  refine G_aload_n (pc := 5) (i := 0) hC dX3_save_5 rfl rfl ?_
  refine G_aload_n (pc := 6) (i := 0) hC dX3_save_6 rfl rfl ?_
  refine G_getI (pc := 7) (ci := 2) (C := RX3) (T := TX3) (N := 61) (f := 3) hC rfl in_X3 (Nat.le_of_ble_eq_true rfl) q3377 (fun _ h => h) dX3_save_7 hw (fun x2 hw => ?_)
  refine G_put (pc := 10) (ci := 2) (C := RX3) (T := TX3) (N := 61) (f := 14) tyX3 hC rfl in_X3 tyX3_ok nmX3 (Nat.le_of_ble_eq_true rfl) q3388 (fun _ h => h) rfl rfl rfl dX3_save_10 hw (fun M3 hw => ?_)
  refine G_iconst (pc := 13) (v := 0) hC dX3_save_13 (by decide) ?_
  refine G_istore_n (pc := 14) (i := 1) (lw := [some (va_rf (some a0)), some (.int (0 : Int32))]) hC dX3_save_14 rfl (Nat.le_of_ble_eq_true rfl) rfl ?_
  exact g_X3_save_15 hJ hC hQ hin _ (0 : Int32) M3 hw
def w_X3_restore_49 (g : gT) (F : Nat) (a0 : Nat) (Q : Int32 → hM → Prop) : Nat → Int32 → hM → Prop
  | 0, _, _ => False
  | n + 1, v1, M => (((4 : Int32) ≤ v1 → pV M (some a0) 2 10 (.int (0 : Int32)) fun M1 => (isC M1 a0 2 ∧ w_X3_all g F a0  M1 (fun x3 M2 => (isC M2 a0 2 ∧ w_X3_done g F a0 x3 M2 (fun x5 M4 => Q x5 M4))))) ∧ (¬ ((4 : Int32) ≤ v1) → gF M (some a0) 2 2 fun x6 => gF M (some a0) 2 13 fun x7 => aI M x7 0 v1 fun x8 => sI M x6 0 v1 x8 fun M9 => w_X3_restore_49 g F a0 Q n (v1 + (1 : Int32)) M9))
def w_X3_restore_23 (g : gT) (F : Nat) (a0 : Nat) (Q : Int32 → hM → Prop) : Nat → Int32 → hM → Prop
  | 0, _, _ => False
  | n + 1, v1, M => (((96 : Int32) ≤ v1 → w_X3_restore_49 g F a0 Q F (0 : Int32) M) ∧ (¬ ((96 : Int32) ≤ v1) → gF M (some a0) 2 1 fun x1 => gF M (some a0) 2 12 fun x2 => aI M x2 0 v1 fun x3 => sI M x1 0 v1 x3 fun M4 => w_X3_restore_23 g F a0 Q n (v1 + (1 : Int32)) M4))
def w_X3_restore (g : gT) (F : Nat) (a0 : Nat) (M : hM) (Q : Int32 → hM → Prop) : Prop :=
  gI M (some a0) 2 11 fun x1 => ((¬ x1 = 0 → gI M (some a0) 2 14 fun x2 => pV M (some a0) 2 3 (.int x2) fun M3 => w_X3_restore_23 g F a0 Q F (0 : Int32) M3) ∧ (x1 = 0 → (isC M a0 2 ∧ w_X3_fails g F a0 (1 : Int32) M (fun x5 M4 => Q x5 M4))))
theorem g_X3_restore_49 {k : kT} {F : Nat} {a0 : Nat} {Q : Int32 → hM → Prop} (hJ : JOK (kl k) (kg k)) (hC : CX k 2 cX3_restore RX3 (some .int) 2 34) (hQ : isQ k (PI Q)) (hin : (kt k).name = "restore") : ∀ (n : Nat) (v1 : Int32) (M : hM), w_X3_restore_49 (kg k) F a0 Q n v1 M → GW k 2 M 49 [some (va_rf (some a0)), some (.int v1)] [] := by
  intro n
  induction n with
  | zero =>
    intro v1 M hw
    exact hw.elim
  | succ n ih =>
    intro v1 M hw
    refine G_iload_n (pc := 49) (i := 1) hC dX3_restore_49 rfl rfl ?_
    refine G_iconst (pc := 50) (v := 4) hC dX3_restore_50 (by decide) ?_
    refine G_icmp_ge (pc := 51) (tgt := 72) hC dX3_restore_51 (by decide) (fun hc => ?_) (fun hc => ?_)
    · replace hw := hw.1 hc
      refine G_aload_n (pc := 72) (i := 0) hC dX3_restore_72 rfl rfl ?_
      refine G_iconst (pc := 73) (v := 0) hC dX3_restore_73 (by decide) ?_
      refine G_put (pc := 74) (ci := 2) (C := RX3) (T := TX3) (N := 61) (f := 10) tyX3 hC rfl in_X3 tyX3_ok nmX3 (Nat.le_of_ble_eq_true rfl) q3384 (fun _ h => h) rfl rfl rfl dX3_restore_74 hw (fun M1 hw => ?_)
      refine G_aload_n (pc := 77) (i := 0) hC dX3_restore_77 rfl rfl ?_
      refine G_aload_n (pc := 78) (i := 0) hC dX3_restore_78 rfl rfl ?_
      obtain ⟨hb, hw⟩ := hw
      refine G_callV (pc := 79) (n := 0) (C := "MergeWorkbenchModel") (b := a0) (As := []) (rest := [va_rf (some a0)]) hC (m_X3_all hJ hw) (lw_V q3844 q3846 qs82 q108 q3847) hd_X3_all (by decide) (rcv (C := RX3) (T := TX3) (N := 61) hC hb rfl) rfl rfl (st_c (cat_r cat_e) (Nat.le_of_ble_eq_true rfl)) dX3_restore_79 (kI fun x3 M2 hw => ?_)
      obtain ⟨hb, hw⟩ := hw
      refine G_callV (pc := 82) (n := 1) (C := "MergeWorkbenchModel") (b := a0) (As := [.int x3]) (rest := []) hC (m_X3_done hJ hw) (lw_V q3581 q3583 qs54 q108 q3584) hd_X3_done (by decide) (rcv (C := RX3) (T := TX3) (N := 61) hC hb rfl) rfl rfl (st_c cat_e (Nat.le_of_ble_eq_true rfl)) dX3_restore_82 (kI fun x5 M4 hw => ?_)
      exact G_iret (pc := 85) hC rfl hQ dX3_restore_85 hw
    · replace hw := hw.2 hc
      refine G_aload_n (pc := 54) (i := 0) hC dX3_restore_54 rfl rfl ?_
      refine G_getF (pc := 55) (ci := 2) (C := RX3) (T := TX3) (N := 61) (f := 2) hC rfl in_X3 (Nat.le_of_ble_eq_true rfl) q3376 (fun _ h => h) dX3_restore_55 hw (fun x6 hw => ?_)
      refine G_iload_n (pc := 58) (i := 1) hC dX3_restore_58 rfl rfl ?_
      refine G_aload_n (pc := 59) (i := 0) hC dX3_restore_59 rfl rfl ?_
      refine G_getF (pc := 60) (ci := 2) (C := RX3) (T := TX3) (N := 61) (f := 13) hC rfl in_X3 (Nat.le_of_ble_eq_true rfl) q3387 (fun _ h => h) dX3_restore_60 hw (fun x7 hw => ?_)
      refine G_iload_n (pc := 63) (i := 1) hC dX3_restore_63 rfl rfl ?_
      refine G_iald (pc := 64) hC dX3_restore_64 hw (fun x8 hw => ?_)
      refine G_iast (pc := 65) hC dX3_restore_65 hw (fun M9 hw => ?_)
      refine G_iinc (pc := 66) (i := 1) (v := (v1 + (1 : Int32))) (lw := [some (va_rf (some a0)), some (.int (v1 + (1 : Int32)))]) hC dX3_restore_66 rfl (Nat.le_of_ble_eq_true rfl) rfl rfl ?_
      refine G_goto (pc := 69) (tgt := 49) hC dX3_restore_69 (by decide) ?_
      exact ih (v1 + (1 : Int32)) M9 hw
theorem g_X3_restore_23 {k : kT} {F : Nat} {a0 : Nat} {Q : Int32 → hM → Prop} (hJ : JOK (kl k) (kg k)) (hC : CX k 2 cX3_restore RX3 (some .int) 2 34) (hQ : isQ k (PI Q)) (hin : (kt k).name = "restore") : ∀ (n : Nat) (v1 : Int32) (M : hM), w_X3_restore_23 (kg k) F a0 Q n v1 M → GW k 2 M 23 [some (va_rf (some a0)), some (.int v1)] [] := by
  intro n
  induction n with
  | zero =>
    intro v1 M hw
    exact hw.elim
  | succ n ih =>
    intro v1 M hw
    refine G_iload_n (pc := 23) (i := 1) hC dX3_restore_23 rfl rfl ?_
    refine G_bipush (pc := 24) (v := 96) hC dX3_restore_24 (by decide) ?_
    refine G_icmp_ge (pc := 26) (tgt := 47) hC dX3_restore_26 (by decide) (fun hc => ?_) (fun hc => ?_)
    · replace hw := hw.1 hc
      refine G_iconst (pc := 47) (v := 0) hC dX3_restore_47 (by decide) ?_
      refine G_istore_n (pc := 48) (i := 1) (lw := [some (va_rf (some a0)), some (.int (0 : Int32))]) hC dX3_restore_48 rfl (Nat.le_of_ble_eq_true rfl) rfl ?_
      exact g_X3_restore_49 hJ hC hQ hin _ (0 : Int32) M hw
    · replace hw := hw.2 hc
      refine G_aload_n (pc := 29) (i := 0) hC dX3_restore_29 rfl rfl ?_
      refine G_getF (pc := 30) (ci := 2) (C := RX3) (T := TX3) (N := 61) (f := 1) hC rfl in_X3 (Nat.le_of_ble_eq_true rfl) q3375 (fun _ h => h) dX3_restore_30 hw (fun x1 hw => ?_)
      refine G_iload_n (pc := 33) (i := 1) hC dX3_restore_33 rfl rfl ?_
      refine G_aload_n (pc := 34) (i := 0) hC dX3_restore_34 rfl rfl ?_
      refine G_getF (pc := 35) (ci := 2) (C := RX3) (T := TX3) (N := 61) (f := 12) hC rfl in_X3 (Nat.le_of_ble_eq_true rfl) q3386 (fun _ h => h) dX3_restore_35 hw (fun x2 hw => ?_)
      refine G_iload_n (pc := 38) (i := 1) hC dX3_restore_38 rfl rfl ?_
      refine G_iald (pc := 39) hC dX3_restore_39 hw (fun x3 hw => ?_)
      refine G_iast (pc := 40) hC dX3_restore_40 hw (fun M4 hw => ?_)
      refine G_iinc (pc := 41) (i := 1) (v := (v1 + (1 : Int32))) (lw := [some (va_rf (some a0)), some (.int (v1 + (1 : Int32)))]) hC dX3_restore_41 rfl (Nat.le_of_ble_eq_true rfl) rfl rfl ?_
      refine G_goto (pc := 44) (tgt := 23) hC dX3_restore_44 (by decide) ?_
      exact ih (v1 + (1 : Int32)) M4 hw
theorem m_X3_restore {l : Launch} {g : gT} {F : Nat} {a0 : Nat} {M : hM} {Q : Int32 → hM → Prop} (hJ : JOK l g) (hw : w_X3_restore g F a0 M Q) : MG l g yX3_restore (ws_ yX3_restore cX3_restore 2 (some .int)) 2 34 [va_rf (some a0)] M (PI Q) := by
  refine MG_of hJ.2.1 (by decide) (cat_r cat_e) (Nat.le_of_ble_eq_true rfl) (fun k hl hg hin hQ hC => ?_)
  subst hl hg
  show GW k 2 M 0 [some (va_rf (some a0)), none] []
  refine G_aload_n (pc := 0) (i := 0) hC dX3_restore_0 rfl rfl ?_
  refine G_getI (pc := 1) (ci := 2) (C := RX3) (T := TX3) (N := 61) (f := 11) hC rfl in_X3 (Nat.le_of_ble_eq_true rfl) q3385 (fun _ h => h) dX3_restore_1 hw (fun x1 hw => ?_)
  refine G_if_ne (pc := 4) (tgt := 13) hC dX3_restore_4 (by decide) (fun hc => ?_) (fun hc => ?_)
  · replace hw := hw.1 hc
    refine G_aload_n (pc := 13) (i := 0) hC dX3_restore_13 rfl rfl ?_
    refine G_aload_n (pc := 14) (i := 0) hC dX3_restore_14 rfl rfl ?_
    refine G_getI (pc := 15) (ci := 2) (C := RX3) (T := TX3) (N := 61) (f := 14) hC rfl in_X3 (Nat.le_of_ble_eq_true rfl) q3388 (fun _ h => h) dX3_restore_15 hw (fun x2 hw => ?_)
    refine G_put (pc := 18) (ci := 2) (C := RX3) (T := TX3) (N := 61) (f := 3) tyX3 hC rfl in_X3 tyX3_ok nmX3 (Nat.le_of_ble_eq_true rfl) q3377 (fun _ h => h) rfl rfl rfl dX3_restore_18 hw (fun M3 hw => ?_)
    refine G_iconst (pc := 21) (v := 0) hC dX3_restore_21 (by decide) ?_
    refine G_istore_n (pc := 22) (i := 1) (lw := [some (va_rf (some a0)), some (.int (0 : Int32))]) hC dX3_restore_22 rfl (Nat.le_of_ble_eq_true rfl) rfl ?_
    exact g_X3_restore_23 hJ hC hQ hin _ (0 : Int32) M3 hw
  · replace hw := hw.2 hc
    refine G_aload_n (pc := 7) (i := 0) hC dX3_restore_7 rfl rfl ?_
    refine G_iconst (pc := 8) (v := 1) hC dX3_restore_8 (by decide) ?_
    obtain ⟨hb, hw⟩ := hw
    refine G_callV (pc := 9) (n := 1) (C := "MergeWorkbenchModel") (b := a0) (As := [.int (1 : Int32)]) (rest := []) hC (m_X3_fails hJ hw) (lw_V q3573 q3575 qs52 q108 q3576) hd_X3_fails (by decide) (rcv (C := RX3) (T := TX3) (N := 61) hC hb rfl) rfl rfl (st_c cat_e (Nat.le_of_ble_eq_true rfl)) dX3_restore_9 (kI fun x5 M4 hw => ?_)
    exact G_iret (pc := 12) hC rfl hQ dX3_restore_12 hw
