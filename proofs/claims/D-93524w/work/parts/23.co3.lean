/-! STAGE 1, printed by wip/D-93524w/genall.py: component, part 3 -/
set_option maxRecDepth 100000
def w_X1_setMode (g : gT) (F : Nat) (a0 : Nat) (p1 : Int32) (M : hM) (Q : Int32 → hM → Prop) (X : String → Nat → hM → Prop) : Prop :=
  w_X1_isBetween g F p1 (0 : Int32) (1 : Int32) M (fun x2 M1 => w_X1_require g F x2 M1 (fun M3 => gI M3 (some a0) 0 3 fun x4 => pV M3 (some a0) 0 3 (.int p1) fun M5 => Q x4 M5) X)
theorem m_X1_setMode {l : Launch} {g : gT} {F : Nat} {a0 : Nat} {p1 : Int32} {M : hM} {Q : Int32 → hM → Prop} {X : String → Nat → hM → Prop} (hJ : JOK l g) (hw : w_X1_setMode g F a0 p1 M Q X) : MX l g yX1_setMode (ws_ yX1_setMode cX1_setMode 3 (some .int)) 7 116 [va_rf (some a0), .int p1] M (PI Q) X := by
  refine MX_of hJ.2.1 (by decide) (cat_r (cat_i cat_e)) (Nat.le_of_ble_eq_true rfl) (fun k hl hg hin hno hQ hC => ?_)
  subst hl hg
  show GW k 3 M 0 [some (va_rf (some a0)), some (.int p1), none] []
  refine G_iload_n (pc := 0) (i := 1) hC dX1_setMode_0 rfl rfl ?_
  refine G_iconst (pc := 1) (v := 0) hC dX1_setMode_1 (by decide) ?_
  refine G_iconst (pc := 2) (v := 1) hC dX1_setMode_2 (by decide) ?_
  refine G_callS (pc := 3) (n := 3) (As := [.int p1, .int (0 : Int32), .int (1 : Int32)]) (rest := []) hC (m_X1_isBetween hJ hw) (lw_S q1222 q1223 q84 q1224) hd_X1_isBetween.2 (by decide) rfl rfl (st_c cat_e (Nat.le_of_ble_eq_true rfl)) dX1_setMode_3 (kI fun x2 M1 hw => ?_)
  refine GX_callS (pc := 6) (n := 1) (As := [.int x2]) (rest := []) hC (m_X1_require hJ hw) (lw_S q1225 q1226 q84 q1227) hd_X1_require.2 (by decide) rfl rfl (st_c cat_e (Nat.le_of_ble_eq_true rfl)) dX1_setMode_6 (fun E q M hx => GX_out hC hno hQ hx) (kU fun M3 hw => ?_)
  refine G_aload_n (pc := 9) (i := 0) hC dX1_setMode_9 rfl rfl ?_
  refine G_getI (pc := 10) (ci := 0) (C := RX1) (T := TX1) (N := 10) (f := 3) hC rfl in_X1 (Nat.le_of_ble_eq_true rfl) q697 (fun _ h => h) dX1_setMode_10 hw (fun x4 hw => ?_)
  refine G_istore_n (pc := 13) (i := 2) (lw := [some (va_rf (some a0)), some (.int p1), some (.int x4)]) hC dX1_setMode_13 rfl (Nat.le_of_ble_eq_true rfl) rfl ?_
  refine G_aload_n (pc := 14) (i := 0) hC dX1_setMode_14 rfl rfl ?_
  refine G_iload_n (pc := 15) (i := 1) hC dX1_setMode_15 rfl rfl ?_
  refine G_put (pc := 16) (ci := 0) (C := RX1) (T := TX1) (N := 10) (f := 3) tyX1 hC rfl in_X1 tyX1_ok nmX1 (Nat.le_of_ble_eq_true rfl) q697 (fun _ h => h) rfl rfl rfl dX1_setMode_16 hw (fun M5 hw => ?_)
  refine G_iload_n (pc := 19) (i := 2) hC dX1_setMode_19 rfl rfl ?_
  exact G_iretX (pc := 20) hC rfl hQ dX1_setMode_20 hw
theorem hd_X9_init : yX9_init.cls = "MergeWorkbench$Comparison" ∧ yX9_init.cls ≠ "java/lang/invoke/MethodHandle" ∧ yX9_init.cls ≠ "java/lang/invoke/VarHandle" ∧ (parseMethodDescriptor yX9_init.desc).map (fun d => d.parameters.length) = some 3 := by decide +kernel
def w_X1_compare (g : gT) (F : Nat) (a0 : Nat) (p1 : Int32) (p2 : Int32) (M : hM) (Q : Int32 → hM → Prop) (X : String → Nat → hM → Prop) : Prop :=
  nW M 8 fsX9 fun q1 M2 => (isC M2 a0 0 ∧ w_X1_document g F a0 p1 M2 (fun x4 M3 => (isC M3 a0 0 ∧ w_X1_document g F a0 p2 M3 (fun x6 M5 => gI M5 (some a0) 0 3 fun x7 => (isC M5 q1 8 ∧ w_X9_init g F q1 x4 x6 x7 M5 (fun M8 => pV M8 (some a0) 0 5 (va_rf (some q1)) fun M9 => gF M9 (some a0) 0 5 fun x10 => gF M9 x10 8 2 fun x11 => gThis M9 x11 21 fun b13 => L_size g b13  M9 (fun x14 M12 => Q x14 M12)))) X)) X)
theorem m_X1_compare {l : Launch} {g : gT} {F : Nat} {a0 : Nat} {p1 : Int32} {p2 : Int32} {M : hM} {Q : Int32 → hM → Prop} {X : String → Nat → hM → Prop} (hJ : JOK l g) (hw : w_X1_compare g F a0 p1 p2 M Q X) : MX l g yX1_compare (ws_ yX1_compare cX1_compare 3 (some .int)) 45 2131 [va_rf (some a0), .int p1, .int p2] M (PI Q) X := by
  refine MX_of hJ.2.1 (by decide) (cat_r (cat_i (cat_i cat_e))) (Nat.le_of_ble_eq_true rfl) (fun k hl hg hin hno hQ hC => ?_)
  subst hl hg
  show GW k 3 M 0 [some (va_rf (some a0)), some (.int p1), some (.int p2)] []
  refine G_aload_n (pc := 0) (i := 0) hC dX1_compare_0 rfl rfl ?_
  refine G_new (pc := 1) (ci := 8) (C := RX9) (T := TX9) (N := 6) (fs := fsX9) tyX9 hC rfl in_X9 tyX9_ok q2184 q2185 q134 dfX9 rfl dX1_compare_1 hw (fun q1 M2 hw => ?_)
  refine G_dup (pc := 4) hC dX1_compare_4 (rf_cat _) ?_
  refine G_aload_n (pc := 5) (i := 0) hC dX1_compare_5 rfl rfl ?_
  refine G_iload_n (pc := 6) (i := 1) hC dX1_compare_6 rfl rfl ?_
  obtain ⟨hb, hw⟩ := hw
  refine GX_callV (pc := 7) (n := 1) (C := "MergeWorkbench") (b := a0) (As := [.int p1]) (rest := [va_rf (some q1), va_rf (some q1), va_rf (some a0)]) hC (m_X1_document hJ hw) (lw_V q1215 q1217 qs10 q84 q1218) hd_X1_document (by decide) (rcv (C := RX1) (T := TX1) (N := 10) hC hb rfl) rfl rfl (st_c (cat_r (cat_r (cat_r cat_e))) (Nat.le_of_ble_eq_true rfl)) dX1_compare_7 (fun E q M hx => GX_out hC hno hQ hx) (kRf fun x4 M3 hw => ?_)
  refine G_aload_n (pc := 10) (i := 0) hC dX1_compare_10 rfl rfl ?_
  refine G_iload_n (pc := 11) (i := 2) hC dX1_compare_11 rfl rfl ?_
  obtain ⟨hb, hw⟩ := hw
  refine GX_callV (pc := 12) (n := 1) (C := "MergeWorkbench") (b := a0) (As := [.int p2]) (rest := [va_rf x4, va_rf (some q1), va_rf (some q1), va_rf (some a0)]) hC (m_X1_document hJ hw) (lw_V q1215 q1217 qs10 q84 q1218) hd_X1_document (by decide) (rcv (C := RX1) (T := TX1) (N := 10) hC hb rfl) rfl rfl (st_c (cat_r (cat_r (cat_r (cat_r cat_e)))) (Nat.le_of_ble_eq_true rfl)) dX1_compare_12 (fun E q M hx => GX_out hC hno hQ hx) (kRf fun x6 M5 hw => ?_)
  refine G_aload_n (pc := 15) (i := 0) hC dX1_compare_15 rfl rfl ?_
  refine G_getI (pc := 16) (ci := 0) (C := RX1) (T := TX1) (N := 10) (f := 3) hC rfl in_X1 (Nat.le_of_ble_eq_true rfl) q697 (fun _ h => h) dX1_compare_16 hw (fun x7 hw => ?_)
  obtain ⟨hb, hw⟩ := hw
  refine G_callI (pc := 19) (n := 3) (b := q1) (As := [va_rf x4, va_rf x6, .int x7]) (rest := [va_rf (some q1), va_rf (some a0)]) hC (m_X9_init hJ hw) (lw_meth q2188) q134 q2186 q2187 rfl hd_X9_init.2 (by decide) rfl rfl (st_c (cat_r (cat_r cat_e)) (Nat.le_of_ble_eq_true rfl)) dX1_compare_19 (kU fun M8 hw => ?_)
  refine G_put (pc := 22) (ci := 0) (C := RX1) (T := TX1) (N := 10) (f := 5) tyX1 hC rfl in_X1 tyX1_ok nmX1 (Nat.le_of_ble_eq_true rfl) q699 (fun _ h => h) rfl (nR_o _ _) (fR_o _ _) dX1_compare_22 hw (fun M9 hw => ?_)
  refine G_aload_n (pc := 25) (i := 0) hC dX1_compare_25 rfl rfl ?_
  refine G_getF (pc := 26) (ci := 0) (C := RX1) (T := TX1) (N := 10) (f := 5) hC rfl in_X1 (Nat.le_of_ble_eq_true rfl) q699 (fun _ h => h) dX1_compare_26 hw (fun x10 hw => ?_)
  refine G_getFN (pc := 29) (ci := 8) (C := RX9) (T := TX9) (N := 6) (f := 2) hC rfl in_X9 (Nat.le_of_ble_eq_true rfl) (nw_in q2427 rfl) (fun _ h => h) dX1_compare_29 hw (fun x11 hw => ?_)
  obtain ⟨b13, rfl, hb, hw⟩ := gThis_e hw
  refine G_callF (pc := 32) (n := 0) (x := ⟨"java/util/List", "size", "()I"⟩) (C := "java/util/ArrayList") (ci := 21) (T := TJ2) (N := 3) (b := b13) (As := []) (rest := []) hC (J_L_size hJ hw) (lw_F q1205 q889 q363 q87 q364) (nw_in q888 rfl) (nw_in q887 rfl) (nw_in q891 rfl) (nw_in q890 rfl) (nw_in q259 rfl) rfl (rcv (C := RJ2) (T := TJ2) (N := 3) hC hb rfl) (by decide +kernel) (by decide) rfl rfl (st_c cat_e (Nat.le_of_ble_eq_true rfl)) dX1_compare_32 (kI fun x14 M12 hw => ?_)
  exact G_iretX (pc := 37) hC rfl hQ dX1_compare_37 hw
def w_X1_comparison_12 (g : gT) (F : Nat) (a0 : Nat) (Q : Option Nat → hM → Prop) (X : String → Nat → hM → Prop) (s0 : Int32) (M : hM) : Prop :=
  w_X1_requireState g F s0 M (fun M1 => gF M1 (some a0) 0 5 fun x2 => Q x2 M1) X
def w_X1_comparison (g : gT) (F : Nat) (a0 : Nat) (M : hM) (Q : Option Nat → hM → Prop) (X : String → Nat → hM → Prop) : Prop :=
  gF M (some a0) 0 5 fun x1 => ((x1 = none → w_X1_comparison_12 g F a0 Q X (0 : Int32) M) ∧ (¬ x1 = none → w_X1_comparison_12 g F a0 Q X (1 : Int32) M))
theorem g_X1_comparison_12 {k : kT} {F : Nat} {a0 : Nat} {Q : Option Nat → hM → Prop} {X : String → Nat → hM → Prop} (hJ : JOK (kl k) (kg k)) (hC : CX k 1 cX1_comparison RX1 (some (.object "MergeWorkbench$Comparison")) 7 116) (hQ : isQX k (PR Q) X) (hin : (kt k).name = "comparison") (hno : ∀ x ∈ (kc k).exceptionTable.toList, False) : ∀ (s0 : Int32) (M : hM), w_X1_comparison_12 (kg k) F a0 Q X s0 M → GW k 1 M 12 [some (va_rf (some a0))] [.int s0] := by
  intro s0 M hw
  refine GX_callS (pc := 12) (n := 1) (As := [.int s0]) (rest := []) hC (m_X1_requireState hJ hw) (lw_S q1235 q1236 q84 q1237) hd_X1_requireState.2 (by decide) rfl rfl (st_c cat_e (Nat.le_of_ble_eq_true rfl)) dX1_comparison_12 (fun E q M hx => GX_out hC hno hQ hx) (kU fun M1 hw => ?_)
  refine G_aload_n (pc := 15) (i := 0) hC dX1_comparison_15 rfl rfl ?_
  refine G_getF (pc := 16) (ci := 0) (C := RX1) (T := TX1) (N := 10) (f := 5) hC rfl in_X1 (Nat.le_of_ble_eq_true rfl) q699 (fun _ h => h) dX1_comparison_16 hw (fun x2 hw => ?_)
  exact G_aretX (pc := 19) hC (Or.inl ⟨_, rfl⟩) hQ dX1_comparison_19 hw
theorem m_X1_comparison {l : Launch} {g : gT} {F : Nat} {a0 : Nat} {M : hM} {Q : Option Nat → hM → Prop} {X : String → Nat → hM → Prop} (hJ : JOK l g) (hw : w_X1_comparison g F a0 M Q X) : MX l g yX1_comparison (ws_ yX1_comparison cX1_comparison 1 (some (.object "MergeWorkbench$Comparison"))) 7 116 [va_rf (some a0)] M (PR Q) X := by
  refine MX_of hJ.2.1 (by decide) (cat_r cat_e) (Nat.le_of_ble_eq_true rfl) (fun k hl hg hin hno hQ hC => ?_)
  subst hl hg
  show GW k 1 M 0 [some (va_rf (some a0))] []
  refine G_aload_n (pc := 0) (i := 0) hC dX1_comparison_0 rfl rfl ?_
  refine G_getF (pc := 1) (ci := 0) (C := RX1) (T := TX1) (N := 10) (f := 5) hC rfl in_X1 (Nat.le_of_ble_eq_true rfl) q699 (fun _ h => h) dX1_comparison_1 hw (fun x1 hw => ?_)
  refine G_ifnull (pc := 4) (tgt := 11) hC dX1_comparison_4 (by decide) (fun hc => ?_) (fun hc => ?_)
  · replace hw := hw.1 hc
    refine G_iconst (pc := 11) (v := 0) hC dX1_comparison_11 (by decide) ?_
    exact g_X1_comparison_12 hJ hC hQ hin hno  (0 : Int32) M hw
  · replace hw := hw.2 hc
    refine G_iconst (pc := 7) (v := 1) hC dX1_comparison_7 (by decide) ?_
    refine G_goto (pc := 8) (tgt := 12) hC dX1_comparison_8 (by decide) ?_
    exact g_X1_comparison_12 hJ hC hQ hin hno  (1 : Int32) M hw
theorem hd_X1_comparison : yX1_comparison.cls = "MergeWorkbench" ∧ yX1_comparison.cls ≠ "java/lang/invoke/MethodHandle" ∧ yX1_comparison.cls ≠ "java/lang/invoke/VarHandle" ∧ (parseMethodDescriptor yX1_comparison.desc).map (fun d => d.parameters.length) = some 0 := by decide +kernel
def w_X1_partner (g : gT) (F : Nat) (a0 : Nat) (p1 : Int32) (M : hM) (Q : Int32 → hM → Prop) (X : String → Nat → hM → Prop) : Prop :=
  (isC M a0 0 ∧ w_X1_comparison g F a0  M (fun x2 M1 => gF M1 x2 8 0 fun x3 => gThis M1 x3 21 fun b5 => L_size g b5  M1 (fun x6 M4 => w_X1_requireIndex g F p1 x6 M4 (fun M7 => gF M7 (some a0) 0 5 fun x8 => gThis M7 x8 8 fun b10 => w_X9_partner g F b10 p1 M7 (fun x11 M9 => Q x11 M9)) X)) X)
theorem m_X1_partner {l : Launch} {g : gT} {F : Nat} {a0 : Nat} {p1 : Int32} {M : hM} {Q : Int32 → hM → Prop} {X : String → Nat → hM → Prop} (hJ : JOK l g) (hw : w_X1_partner g F a0 p1 M Q X) : MX l g yX1_partner (ws_ yX1_partner cX1_partner 2 (some .int)) 42 2043 [va_rf (some a0), .int p1] M (PI Q) X := by
  refine MX_of hJ.2.1 (by decide) (cat_r (cat_i cat_e)) (Nat.le_of_ble_eq_true rfl) (fun k hl hg hin hno hQ hC => ?_)
  subst hl hg
  show GW k 2 M 0 [some (va_rf (some a0)), some (.int p1)] []
  refine G_iload_n (pc := 0) (i := 1) hC dX1_partner_0 rfl rfl ?_
  refine G_aload_n (pc := 1) (i := 0) hC dX1_partner_1 rfl rfl ?_
  obtain ⟨hb, hw⟩ := hw
  refine GX_callV (pc := 2) (n := 0) (C := "MergeWorkbench") (b := a0) (As := []) (rest := [.int p1]) hC (m_X1_comparison hJ hw) (lw_V q2457 q2459 qs37 q84 q2460) hd_X1_comparison (by decide) (rcv (C := RX1) (T := TX1) (N := 10) hC hb rfl) rfl rfl (st_c (cat_i cat_e) (Nat.le_of_ble_eq_true rfl)) dX1_partner_2 (fun E q M hx => GX_out hC hno hQ hx) (kRf fun x2 M1 hw => ?_)
  refine G_getFN (pc := 5) (ci := 8) (C := RX9) (T := TX9) (N := 6) (f := 0) hC rfl in_X9 (Nat.le_of_ble_eq_true rfl) (nw_in q2418 rfl) (fun _ h => h) dX1_partner_5 hw (fun x3 hw => ?_)
  obtain ⟨b5, rfl, hb, hw⟩ := gThis_e hw
  refine G_callF (pc := 8) (n := 0) (x := ⟨"java/util/List", "size", "()I"⟩) (C := "java/util/ArrayList") (ci := 21) (T := TJ2) (N := 3) (b := b5) (As := []) (rest := [.int p1]) hC (J_L_size hJ hw) (lw_F q1205 q889 q363 q87 q364) (nw_in q888 rfl) (nw_in q887 rfl) (nw_in q891 rfl) (nw_in q890 rfl) (nw_in q259 rfl) rfl (rcv (C := RJ2) (T := TJ2) (N := 3) hC hb rfl) (by decide +kernel) (by decide) rfl rfl (st_c (cat_i cat_e) (Nat.le_of_ble_eq_true rfl)) dX1_partner_8 (kI fun x6 M4 hw => ?_)
  refine GX_callS (pc := 13) (n := 2) (As := [.int p1, .int x6]) (rest := []) hC (m_X1_requireIndex hJ hw) (lw_S q1366 q1367 q84 q1368) hd_X1_requireIndex.2 (by decide) rfl rfl (st_c cat_e (Nat.le_of_ble_eq_true rfl)) dX1_partner_13 (fun E q M hx => GX_out hC hno hQ hx) (kU fun M7 hw => ?_)
  refine G_aload_n (pc := 16) (i := 0) hC dX1_partner_16 rfl rfl ?_
  refine G_getF (pc := 17) (ci := 0) (C := RX1) (T := TX1) (N := 10) (f := 5) hC rfl in_X1 (Nat.le_of_ble_eq_true rfl) q699 (fun _ h => h) dX1_partner_17 hw (fun x8 hw => ?_)
  refine G_iload_n (pc := 20) (i := 1) hC dX1_partner_20 rfl rfl ?_
  obtain ⟨b10, rfl, hb, hw⟩ := gThis_e hw
  refine G_callV (pc := 21) (n := 1) (C := "MergeWorkbench$Comparison") (b := b10) (As := [.int p1]) (rest := []) hC (m_X9_partner hJ hw) (lw_V q2461 q2462 q2463 q134 q2464) hd_X9_partner (by decide) (rcv (C := RX9) (T := TX9) (N := 6) hC hb rfl) rfl rfl (st_c cat_e (Nat.le_of_ble_eq_true rfl)) dX1_partner_21 (kI fun x11 M9 hw => ?_)
  exact G_iretX (pc := 24) hC rfl hQ dX1_partner_24 hw
def w_X1_anchors (g : gT) (F : Nat) (a0 : Nat) (M : hM) (Q : Int32 → hM → Prop) (X : String → Nat → hM → Prop) : Prop :=
  (isC M a0 0 ∧ w_X1_comparison g F a0  M (fun x2 M1 => gI M1 x2 8 3 fun x3 => Q x3 M1) X)
theorem m_X1_anchors {l : Launch} {g : gT} {F : Nat} {a0 : Nat} {M : hM} {Q : Int32 → hM → Prop} {X : String → Nat → hM → Prop} (hJ : JOK l g) (hw : w_X1_anchors g F a0 M Q X) : MX l g yX1_anchors (ws_ yX1_anchors cX1_anchors 1 (some .int)) 8 136 [va_rf (some a0)] M (PI Q) X := by
  refine MX_of hJ.2.1 (by decide) (cat_r cat_e) (Nat.le_of_ble_eq_true rfl) (fun k hl hg hin hno hQ hC => ?_)
  subst hl hg
  show GW k 1 M 0 [some (va_rf (some a0))] []
  refine G_aload_n (pc := 0) (i := 0) hC dX1_anchors_0 rfl rfl ?_
  obtain ⟨hb, hw⟩ := hw
  refine GX_callV (pc := 1) (n := 0) (C := "MergeWorkbench") (b := a0) (As := []) (rest := []) hC (m_X1_comparison hJ hw) (lw_V q2457 q2459 qs37 q84 q2460) hd_X1_comparison (by decide) (rcv (C := RX1) (T := TX1) (N := 10) hC hb rfl) rfl rfl (st_c cat_e (Nat.le_of_ble_eq_true rfl)) dX1_anchors_1 (fun E q M hx => GX_out hC hno hQ hx) (kRf fun x2 M1 hw => ?_)
  refine G_getIN (pc := 4) (ci := 8) (C := RX9) (T := TX9) (N := 6) (f := 3) hC rfl in_X9 (Nat.le_of_ble_eq_true rfl) (nw_in q2429 rfl) (fun _ h => h) dX1_anchors_4 hw (fun x3 hw => ?_)
  exact G_iretX (pc := 7) hC rfl hQ dX1_anchors_7 hw
def w_X1_differences (g : gT) (F : Nat) (a0 : Nat) (M : hM) (Q : Int32 → hM → Prop) (X : String → Nat → hM → Prop) : Prop :=
  (isC M a0 0 ∧ w_X1_comparison g F a0  M (fun x2 M1 => gF M1 x2 8 4 fun x3 => gThis M1 x3 21 fun b5 => L_size g b5  M1 (fun x6 M4 => Q x6 M4)) X)
theorem m_X1_differences {l : Launch} {g : gT} {F : Nat} {a0 : Nat} {M : hM} {Q : Int32 → hM → Prop} {X : String → Nat → hM → Prop} (hJ : JOK l g) (hw : w_X1_differences g F a0 M Q X) : MX l g yX1_differences (ws_ yX1_differences cX1_differences 1 (some .int)) 41 2020 [va_rf (some a0)] M (PI Q) X := by
  refine MX_of hJ.2.1 (by decide) (cat_r cat_e) (Nat.le_of_ble_eq_true rfl) (fun k hl hg hin hno hQ hC => ?_)
  subst hl hg
  show GW k 1 M 0 [some (va_rf (some a0))] []
  refine G_aload_n (pc := 0) (i := 0) hC dX1_differences_0 rfl rfl ?_
  obtain ⟨hb, hw⟩ := hw
  refine GX_callV (pc := 1) (n := 0) (C := "MergeWorkbench") (b := a0) (As := []) (rest := []) hC (m_X1_comparison hJ hw) (lw_V q2457 q2459 qs37 q84 q2460) hd_X1_comparison (by decide) (rcv (C := RX1) (T := TX1) (N := 10) hC hb rfl) rfl rfl (st_c cat_e (Nat.le_of_ble_eq_true rfl)) dX1_differences_1 (fun E q M hx => GX_out hC hno hQ hx) (kRf fun x2 M1 hw => ?_)
  refine G_getFN (pc := 4) (ci := 8) (C := RX9) (T := TX9) (N := 6) (f := 4) hC rfl in_X9 (Nat.le_of_ble_eq_true rfl) (nw_in q2433 rfl) (fun _ h => h) dX1_differences_4 hw (fun x3 hw => ?_)
  obtain ⟨b5, rfl, hb, hw⟩ := gThis_e hw
  refine G_callF (pc := 7) (n := 0) (x := ⟨"java/util/List", "size", "()I"⟩) (C := "java/util/ArrayList") (ci := 21) (T := TJ2) (N := 3) (b := b5) (As := []) (rest := []) hC (J_L_size hJ hw) (lw_F q1205 q889 q363 q87 q364) (nw_in q888 rfl) (nw_in q887 rfl) (nw_in q891 rfl) (nw_in q890 rfl) (nw_in q259 rfl) rfl (rcv (C := RJ2) (T := TJ2) (N := 3) hC hb rfl) (by decide +kernel) (by decide) rfl rfl (st_c cat_e (Nat.le_of_ble_eq_true rfl)) dX1_differences_7 (kI fun x6 M4 hw => ?_)
  exact G_iretX (pc := 12) hC rfl hQ dX1_differences_12 hw
theorem hd_X10_bound : yX10_bound.cls = "MergeWorkbench$Difference" ∧ yX10_bound.cls ≠ "java/lang/invoke/MethodHandle" ∧ yX10_bound.cls ≠ "java/lang/invoke/VarHandle" ∧ (parseMethodDescriptor yX10_bound.desc).map (fun d => d.parameters.length) = some 1 := by decide +kernel
def w_X1_difference (g : gT) (F : Nat) (a0 : Nat) (p1 : Int32) (p2 : Int32) (M : hM) (Q : Int32 → hM → Prop) (X : String → Nat → hM → Prop) : Prop :=
  (isC M a0 0 ∧ w_X1_comparison g F a0  M (fun x2 M1 => gF M1 x2 8 4 fun x3 => gThis M1 x3 21 fun b5 => L_size g b5  M1 (fun x6 M4 => w_X1_requireIndex g F p1 x6 M4 (fun M7 => w_X1_isBetween g F p2 (0 : Int32) (3 : Int32) M7 (fun x9 M8 => w_X1_require g F x9 M8 (fun M10 => gF M10 (some a0) 0 5 fun x11 => gF M10 x11 8 4 fun x12 => gThis M10 x12 21 fun b14 => L_get g b14 p1 M10 (fun x15 M13 => ckC M13 x15 9 (gThis M13 x15 9 fun b17 => w_X10_bound g F b17 p2 M13 (fun x18 M16 => Q x18 M16)))) X)) X)) X)
theorem m_X1_difference {l : Launch} {g : gT} {F : Nat} {a0 : Nat} {p1 : Int32} {p2 : Int32} {M : hM} {Q : Int32 → hM → Prop} {X : String → Nat → hM → Prop} (hJ : JOK l g) (hw : w_X1_difference g F a0 p1 p2 M Q X) : MX l g yX1_difference (ws_ yX1_difference cX1_difference 3 (some .int)) 41 2021 [va_rf (some a0), .int p1, .int p2] M (PI Q) X := by
  refine MX_of hJ.2.1 (by decide) (cat_r (cat_i (cat_i cat_e))) (Nat.le_of_ble_eq_true rfl) (fun k hl hg hin hno hQ hC => ?_)
  subst hl hg
  show GW k 3 M 0 [some (va_rf (some a0)), some (.int p1), some (.int p2)] []
  refine G_iload_n (pc := 0) (i := 1) hC dX1_difference_0 rfl rfl ?_
  refine G_aload_n (pc := 1) (i := 0) hC dX1_difference_1 rfl rfl ?_
  obtain ⟨hb, hw⟩ := hw
  refine GX_callV (pc := 2) (n := 0) (C := "MergeWorkbench") (b := a0) (As := []) (rest := [.int p1]) hC (m_X1_comparison hJ hw) (lw_V q2457 q2459 qs37 q84 q2460) hd_X1_comparison (by decide) (rcv (C := RX1) (T := TX1) (N := 10) hC hb rfl) rfl rfl (st_c (cat_i cat_e) (Nat.le_of_ble_eq_true rfl)) dX1_difference_2 (fun E q M hx => GX_out hC hno hQ hx) (kRf fun x2 M1 hw => ?_)
  refine G_getFN (pc := 5) (ci := 8) (C := RX9) (T := TX9) (N := 6) (f := 4) hC rfl in_X9 (Nat.le_of_ble_eq_true rfl) (nw_in q2433 rfl) (fun _ h => h) dX1_difference_5 hw (fun x3 hw => ?_)
  obtain ⟨b5, rfl, hb, hw⟩ := gThis_e hw
  refine G_callF (pc := 8) (n := 0) (x := ⟨"java/util/List", "size", "()I"⟩) (C := "java/util/ArrayList") (ci := 21) (T := TJ2) (N := 3) (b := b5) (As := []) (rest := [.int p1]) hC (J_L_size hJ hw) (lw_F q1205 q889 q363 q87 q364) (nw_in q888 rfl) (nw_in q887 rfl) (nw_in q891 rfl) (nw_in q890 rfl) (nw_in q259 rfl) rfl (rcv (C := RJ2) (T := TJ2) (N := 3) hC hb rfl) (by decide +kernel) (by decide) rfl rfl (st_c (cat_i cat_e) (Nat.le_of_ble_eq_true rfl)) dX1_difference_8 (kI fun x6 M4 hw => ?_)
  refine GX_callS (pc := 13) (n := 2) (As := [.int p1, .int x6]) (rest := []) hC (m_X1_requireIndex hJ hw) (lw_S q1366 q1367 q84 q1368) hd_X1_requireIndex.2 (by decide) rfl rfl (st_c cat_e (Nat.le_of_ble_eq_true rfl)) dX1_difference_13 (fun E q M hx => GX_out hC hno hQ hx) (kU fun M7 hw => ?_)
  refine G_iload_n (pc := 16) (i := 2) hC dX1_difference_16 rfl rfl ?_
  refine G_iconst (pc := 17) (v := 0) hC dX1_difference_17 (by decide) ?_
  refine G_iconst (pc := 18) (v := 3) hC dX1_difference_18 (by decide) ?_
  refine G_callS (pc := 19) (n := 3) (As := [.int p2, .int (0 : Int32), .int (3 : Int32)]) (rest := []) hC (m_X1_isBetween hJ hw) (lw_S q1222 q1223 q84 q1224) hd_X1_isBetween.2 (by decide) rfl rfl (st_c cat_e (Nat.le_of_ble_eq_true rfl)) dX1_difference_19 (kI fun x9 M8 hw => ?_)
  refine GX_callS (pc := 22) (n := 1) (As := [.int x9]) (rest := []) hC (m_X1_require hJ hw) (lw_S q1225 q1226 q84 q1227) hd_X1_require.2 (by decide) rfl rfl (st_c cat_e (Nat.le_of_ble_eq_true rfl)) dX1_difference_22 (fun E q M hx => GX_out hC hno hQ hx) (kU fun M10 hw => ?_)
  refine G_aload_n (pc := 25) (i := 0) hC dX1_difference_25 rfl rfl ?_
  refine G_getF (pc := 26) (ci := 0) (C := RX1) (T := TX1) (N := 10) (f := 5) hC rfl in_X1 (Nat.le_of_ble_eq_true rfl) q699 (fun _ h => h) dX1_difference_26 hw (fun x11 hw => ?_)
  refine G_getFN (pc := 29) (ci := 8) (C := RX9) (T := TX9) (N := 6) (f := 4) hC rfl in_X9 (Nat.le_of_ble_eq_true rfl) (nw_in q2433 rfl) (fun _ h => h) dX1_difference_29 hw (fun x12 hw => ?_)
  refine G_iload_n (pc := 32) (i := 1) hC dX1_difference_32 rfl rfl ?_
  obtain ⟨b14, rfl, hb, hw⟩ := gThis_e hw
  refine G_callF (pc := 33) (n := 1) (x := ⟨"java/util/List", "get", "(I)Ljava/lang/Object;"⟩) (C := "java/util/ArrayList") (ci := 21) (T := TJ2) (N := 3) (b := b14) (As := [.int p1]) (rest := []) hC (J_L_get hJ hw) (lw_F q1234 q956 q958 q87 q960) (nw_in q955 rfl) (nw_in q954 rfl) (nw_in q959 rfl) (nw_in q957 rfl) (nw_in q259 rfl) rfl (rcv (C := RJ2) (T := TJ2) (N := 3) hC hb rfl) (by decide +kernel) (by decide) rfl rfl (st_c cat_e (Nat.le_of_ble_eq_true rfl)) dX1_difference_33 (kRf fun x15 M13 hw => ?_)
  obtain ⟨hb, hw⟩ := hw
  refine G_castCS (pc := 38) (C := RX10) (T := TX10) (N := 2) hC rfl q2488 hb dX1_difference_38 ?_
  refine G_iload_n (pc := 41) (i := 2) hC dX1_difference_41 rfl rfl ?_
  obtain ⟨b17, rfl, hb, hw⟩ := gThis_e hw
  refine G_callV (pc := 42) (n := 1) (C := "MergeWorkbench$Difference") (b := b17) (As := [.int p2]) (rest := []) hC (m_X10_bound hJ hw) (lw_V q2489 q2490 q2491 q138 q2492) hd_X10_bound (by decide) (rcv (C := RX10) (T := TX10) (N := 2) hC hb rfl) rfl rfl (st_c cat_e (Nat.le_of_ble_eq_true rfl)) dX1_difference_42 (kI fun x18 M16 hw => ?_)
  exact G_iretX (pc := 45) hC rfl hQ dX1_difference_45 hw
theorem hd_X9_iterator : yX9_iterator.cls = "MergeWorkbench$Comparison" ∧ yX9_iterator.cls ≠ "java/lang/invoke/MethodHandle" ∧ yX9_iterator.cls ≠ "java/lang/invoke/VarHandle" ∧ (parseMethodDescriptor yX9_iterator.desc).map (fun d => d.parameters.length) = some 0 := by decide +kernel
theorem at_X1_step_41 : ∀ w ∈ vx_at0 RX1 199 "java/util/NoSuchElementException" nmE, w ∈ lw_all ∨ w ∈ nwAll := at_in [98, 400, 409, 420, 423, 425, 401, 402, 158, 159, 403, 408, 421, 629, 390, 630, 392, 631, 394, 404, 406, 396, 1025, 1026, 1027, 686, 686, 687, 688, 689, 689, 690, 691, 401, 2524, 1016, 1018, 419, 1019, 1020, 1021, 1022, 399, 398, 1023] [381, 383, 385, 1017] (by decide +kernel) (by decide +kernel) (by decide +kernel)
theorem ag_X1_step_41 : (Cond.classLink RX1 197 "java/util/NoSuchElementException" :: Cond.initialized "java/util/NoSuchElementException" :: vx_at0 RX1 199 "java/util/NoSuchElementException" nmE).all vx_ot = true := by decide +kernel
def w_X1_step_37 (g : gT) (F : Nat) (a0 : Nat) (p1 : Int32) (Q : Int32 → hM → Prop) (X : String → Nat → hM → Prop) (v2 : Option Nat) (M : hM) : Prop :=
  ((0 ≤ p1 → gThis M v2 26 fun b2 => T_next g b2  M (fun x3 M1 => ckB g M1 x3 (gBx g M1 x3 fun b5 => B_val g b5  M1 (fun x6 M4 => Q x6 M4)))) ∧ (¬ (0 ≤ p1) → thr M "java/util/NoSuchElementException" X))
def w_X1_step_10 (g : gT) (F : Nat) (a0 : Nat) (p1 : Int32) (Q : Int32 → hM → Prop) (X : String → Nat → hM → Prop) : Nat → (Option Nat) → Int32 → hM → Prop
  | 0, _, _, _ => False
  | n + 1, v2, v3, M => ((p1 ≤ v3 → w_X1_step_37 g F a0 p1 Q X v2 M) ∧ (¬ (p1 ≤ v3) → gThis M v2 26 fun b2 => T_has g b2  M (fun x3 M1 => ((x3 = 0 → w_X1_step_37 g F a0 p1 Q X (some b2) M1) ∧ (¬ (x3 = 0) → (isC M1 b2 26 ∧ T_next g b2  M1 (fun x5 M4 => w_X1_step_10 g F a0 p1 Q X n (some b2) (v3 + (1 : Int32)) M4)))))))
def w_X1_step (g : gT) (F : Nat) (a0 : Nat) (p1 : Int32) (M : hM) (Q : Int32 → hM → Prop) (X : String → Nat → hM → Prop) : Prop :=
  (isC M a0 0 ∧ w_X1_comparison g F a0  M (fun x2 M1 => gThis M1 x2 8 fun b4 => w_X9_iterator g F b4  M1 (fun x5 M3 => w_X1_step_10 g F a0 p1 Q X F x5 (0 : Int32) M3)) X)
theorem g_X1_step_37 {k : kT} {F : Nat} {a0 : Nat} {p1 : Int32} {Q : Int32 → hM → Prop} {X : String → Nat → hM → Prop} (hJ : JOK (kl k) (kg k)) (hC : CX k 4 cX1_step RX1 (some .int) 41 2022) (hQ : isQX k (PI Q) X) (hin : (kt k).name = "step") (hno : ∀ x ∈ (kc k).exceptionTable.toList, False) : ∀ (v2 : Option Nat) (M : hM), w_X1_step_37 (kg k) F a0 p1 Q X v2 M → GW k 4 M 37 [some (va_rf (some a0)), some (.int p1), some (va_rf v2), none] [] := by
  intro v2 M hw
  refine G_iload_n (pc := 37) (i := 1) hC dX1_step_37 rfl rfl ?_
  refine G_if_ge (pc := 38) (tgt := 49) hC dX1_step_38 (by decide) (fun hc => ?_) (fun hc => ?_)
  · replace hw := hw.1 hc
    refine G_aload_n (pc := 49) (i := 2) hC dX1_step_49 rfl rfl ?_
    obtain ⟨b2, rfl, hb, hw⟩ := gThis_e hw
    refine G_callF (pc := 50) (n := 0) (x := ⟨"java/util/Iterator", "next", "()Ljava/lang/Object;"⟩) (C := "java/util/ArrayList$Itr") (ci := 26) (T := TJ24) (N := 4) (b := b2) (As := []) (rest := []) hC (J_T_next hJ hw) (lw_F q1202 q1119 q1121 q112 q1123) (nw_in q937 rfl) (nw_in q936 rfl) (nw_in q1122 rfl) (nw_in q1120 rfl) (nw_in q908 rfl) rfl (rcv (C := RJ24) (T := TJ24) (N := 4) hC hb rfl) (by decide +kernel) (by decide) rfl rfl (st_c cat_e (Nat.le_of_ble_eq_true rfl)) dX1_step_50 (kRf fun x3 M1 hw => ?_)
    obtain ⟨hb, hw⟩ := hw
    refine G_castBS (pc := 55) hJ.1 hC q1409 hb dX1_step_55 ?_
    obtain ⟨b5, rfl, hb, hw⟩ := gBx_e hw
    refine G_callV (pc := 58) (n := 0) (C := "java/lang/Integer") (b := b5) (As := []) (rest := []) hC (J_B_val hJ hw) (lw_V q1410 q988 q989 q106 q990) hd_J19_intValue (by decide) (rcvB hJ.1 hC hb) rfl rfl (st_c cat_e (Nat.le_of_ble_eq_true rfl)) dX1_step_58 (kI fun x6 M4 hw => ?_)
    exact G_iretX (pc := 61) hC rfl hQ dX1_step_61 hw
  · replace hw := hw.2 hc
    exact G_throw0 (pc := 41) (cls := "java/util/NoSuchElementException") (names := nmE) (ik := 197) (ic := 199) hJ.1 hC hno hQ (by decide +kernel) nmE_fit q2523 q117 at_X1_step_41 ag_X1_step_41 dX1_step_41 dX1_step_44 dX1_step_45 dX1_step_48 rfl rfl (st_c cat_e (Nat.le_of_ble_eq_true rfl)) hw
theorem g_X1_step_10 {k : kT} {F : Nat} {a0 : Nat} {p1 : Int32} {Q : Int32 → hM → Prop} {X : String → Nat → hM → Prop} (hJ : JOK (kl k) (kg k)) (hC : CX k 4 cX1_step RX1 (some .int) 41 2022) (hQ : isQX k (PI Q) X) (hin : (kt k).name = "step") (hno : ∀ x ∈ (kc k).exceptionTable.toList, False) : ∀ (n : Nat) (v2 : Option Nat) (v3 : Int32) (M : hM), w_X1_step_10 (kg k) F a0 p1 Q X n v2 v3 M → GW k 4 M 10 [some (va_rf (some a0)), some (.int p1), some (va_rf v2), some (.int v3)] [] := by
  intro n
  induction n with
  | zero =>
    intro v2 v3 M hw
    exact hw.elim
  | succ n ih =>
    intro v2 v3 M hw
    refine G_iload_n (pc := 10) (i := 3) hC dX1_step_10 rfl rfl ?_
    refine G_iload_n (pc := 11) (i := 1) hC dX1_step_11 rfl rfl ?_
    refine G_icmp_ge (pc := 12) (tgt := 37) hC dX1_step_12 (by decide) (fun hc => ?_) (fun hc => ?_)
    · replace hw := hw.1 hc
      refine G_loc (lv' := [some (va_rf (some a0)), some (.int p1), some (va_rf v2), none]) ⟨Or.inr rfl, Or.inr rfl, Or.inr rfl, Or.inl rfl, trivial⟩ ?_
      exact g_X1_step_37 hJ hC hQ hin hno  v2 M hw
    · replace hw := hw.2 hc
      refine G_aload_n (pc := 15) (i := 2) hC dX1_step_15 rfl rfl ?_
      obtain ⟨b2, rfl, hb, hw⟩ := gThis_e hw
      refine G_callF (pc := 16) (n := 0) (x := ⟨"java/util/Iterator", "hasNext", "()Z"⟩) (C := "java/util/ArrayList$Itr") (ci := 26) (T := TJ24) (N := 4) (b := b2) (As := []) (rest := []) hC (J_T_has hJ hw) (lw_F q1200 q909 q911 q112 q913) (nw_in q878 rfl) (nw_in q877 rfl) (nw_in q912 rfl) (nw_in q910 rfl) (nw_in q908 rfl) rfl (rcv (C := RJ24) (T := TJ24) (N := 4) hC hb rfl) (by decide +kernel) (by decide) rfl rfl (st_c cat_e (Nat.le_of_ble_eq_true rfl)) dX1_step_16 (kI fun x3 M1 hw => ?_)
      refine G_if_eq (pc := 21) (tgt := 37) hC dX1_step_21 (by decide) (fun hc => ?_) (fun hc => ?_)
      · replace hw := hw.1 hc
        refine G_loc (lv' := [some (va_rf (some a0)), some (.int p1), some (va_rf (some b2)), none]) ⟨Or.inr rfl, Or.inr rfl, Or.inr rfl, Or.inl rfl, trivial⟩ ?_
        exact g_X1_step_37 hJ hC hQ hin hno  (some b2) M1 hw
      · replace hw := hw.2 hc
        refine G_aload_n (pc := 24) (i := 2) hC dX1_step_24 rfl rfl ?_
        obtain ⟨hb, hw⟩ := hw
        refine G_callF (pc := 25) (n := 0) (x := ⟨"java/util/Iterator", "next", "()Ljava/lang/Object;"⟩) (C := "java/util/ArrayList$Itr") (ci := 26) (T := TJ24) (N := 4) (b := b2) (As := []) (rest := []) hC (J_T_next hJ hw) (lw_F q1202 q1119 q1121 q112 q1123) (nw_in q937 rfl) (nw_in q936 rfl) (nw_in q1122 rfl) (nw_in q1120 rfl) (nw_in q908 rfl) rfl (rcv (C := RJ24) (T := TJ24) (N := 4) hC hb rfl) (by decide +kernel) (by decide) rfl rfl (st_c cat_e (Nat.le_of_ble_eq_true rfl)) dX1_step_25 (kRf fun x5 M4 hw => ?_)
        refine G_pop (pc := 30) hC dX1_step_30 (rf_cat _) ?_
        refine G_iinc (pc := 31) (i := 3) (v := (v3 + (1 : Int32))) (lw := [some (va_rf (some a0)), some (.int p1), some (va_rf (some b2)), some (.int (v3 + (1 : Int32)))]) hC dX1_step_31 rfl (Nat.le_of_ble_eq_true rfl) rfl rfl ?_
        refine G_goto (pc := 34) (tgt := 10) hC dX1_step_34 (by decide) ?_
        exact ih (some b2) (v3 + (1 : Int32)) M4 hw
theorem m_X1_step {l : Launch} {g : gT} {F : Nat} {a0 : Nat} {p1 : Int32} {M : hM} {Q : Int32 → hM → Prop} {X : String → Nat → hM → Prop} (hJ : JOK l g) (hw : w_X1_step g F a0 p1 M Q X) : MX l g yX1_step (ws_ yX1_step cX1_step 4 (some .int)) 41 2022 [va_rf (some a0), .int p1] M (PI Q) X := by
  refine MX_of hJ.2.1 (by decide) (cat_r (cat_i cat_e)) (Nat.le_of_ble_eq_true rfl) (fun k hl hg hin hno hQ hC => ?_)
  subst hl hg
  show GW k 4 M 0 [some (va_rf (some a0)), some (.int p1), none, none] []
  refine G_aload_n (pc := 0) (i := 0) hC dX1_step_0 rfl rfl ?_
  obtain ⟨hb, hw⟩ := hw
  refine GX_callV (pc := 1) (n := 0) (C := "MergeWorkbench") (b := a0) (As := []) (rest := []) hC (m_X1_comparison hJ hw) (lw_V q2457 q2459 qs37 q84 q2460) hd_X1_comparison (by decide) (rcv (C := RX1) (T := TX1) (N := 10) hC hb rfl) rfl rfl (st_c cat_e (Nat.le_of_ble_eq_true rfl)) dX1_step_1 (fun E q M hx => GX_out hC hno hQ hx) (kRf fun x2 M1 hw => ?_)
  obtain ⟨b4, rfl, hb, hw⟩ := gThis_e hw
  refine G_callV (pc := 4) (n := 0) (C := "MergeWorkbench$Comparison") (b := b4) (As := []) (rest := []) hC (m_X9_iterator hJ hw) (lw_V q2501 q2502 q2503 q134 q2504) hd_X9_iterator (by decide) (rcv (C := RX9) (T := TX9) (N := 6) hC hb rfl) rfl rfl (st_c cat_e (Nat.le_of_ble_eq_true rfl)) dX1_step_4 (kRf fun x5 M3 hw => ?_)
  refine G_astore_n (pc := 7) (i := 2) (lw := [some (va_rf (some a0)), some (.int p1), some (va_rf x5), none]) hC dX1_step_7 rfl (Nat.le_of_ble_eq_true rfl) rfl ?_
  refine G_iconst (pc := 8) (v := 0) hC dX1_step_8 (by decide) ?_
  refine G_istore_n (pc := 9) (i := 3) (lw := [some (va_rf (some a0)), some (.int p1), some (va_rf x5), some (.int (0 : Int32))]) hC dX1_step_9 rfl (Nat.le_of_ble_eq_true rfl) rfl ?_
  exact g_X1_step_10 hJ hC hQ hin hno _ x5 (0 : Int32) M3 hw
theorem at_X1_similarity_30 : ∀ w ∈ vx_at0 RX1 205 "java/lang/ArithmeticException" nmE, w ∈ lw_all ∨ w ∈ nwAll := at_in [98, 400, 409, 420, 423, 425, 401, 402, 158, 159, 403, 408, 421, 629, 390, 630, 392, 631, 394, 404, 406, 396, 2548, 2549, 2550, 686, 686, 687, 688, 689, 689, 690, 691, 401, 2547, 2529, 2541, 412, 2535, 2536, 2538, 2534, 399, 398, 2533] [381, 383, 385, 2540] (by decide +kernel) (by decide +kernel) (by decide +kernel)
theorem ag_X1_similarity_30 : (Cond.classLink RX1 203 "java/lang/ArithmeticException" :: Cond.initialized "java/lang/ArithmeticException" :: vx_at0 RX1 205 "java/lang/ArithmeticException" nmE).all vx_ot = true := by decide +kernel
def w_X1_similarity (g : gT) (F : Nat) (a0 : Nat) (M : hM) (Q : UInt64 → hM → Prop) (X : String → Nat → hM → Prop) : Prop :=
  (isC M a0 0 ∧ w_X1_comparison g F a0  M (fun x2 M1 => gF M1 x2 8 0 fun x3 => gThis M1 x3 21 fun b5 => L_size g b5  M1 (fun x6 M4 => gF M4 (some a0) 0 5 fun x7 => gF M4 x7 8 1 fun x8 => gThis M4 x8 21 fun b10 => L_size g b10  M4 (fun x11 M9 => ((¬ (x6 + x11) = 0 → gF M9 (some a0) 0 5 fun x12 => gF M9 x12 8 2 fun x13 => gThis M9 x13 21 fun b15 => L_size g b15  M9 (fun x16 M14 => (vf_n64 (FP.ddiv (FP.i2d ((2 : Int32) * x16)) (FP.i2d (x6 + x11))) ∧ Q (FP.ddiv (FP.i2d ((2 : Int32) * x16)) (FP.i2d (x6 + x11))) M14))) ∧ ((x6 + x11) = 0 → thr M9 "java/lang/ArithmeticException" X))))) X)
theorem m_X1_similarity {l : Launch} {g : gT} {F : Nat} {a0 : Nat} {M : hM} {Q : UInt64 → hM → Prop} {X : String → Nat → hM → Prop} (hJ : JOK l g) (hw : w_X1_similarity g F a0 M Q X) : MX l g yX1_similarity (ws_ yX1_similarity cX1_similarity 2 (some .double)) 41 2020 [va_rf (some a0)] M (PD Q) X := by
  refine MX_of hJ.2.1 (by decide) (cat_r cat_e) (Nat.le_of_ble_eq_true rfl) (fun k hl hg hin hno hQ hC => ?_)
  subst hl hg
  show GW k 2 M 0 [some (va_rf (some a0)), none] []
  refine G_aload_n (pc := 0) (i := 0) hC dX1_similarity_0 rfl rfl ?_
  obtain ⟨hb, hw⟩ := hw
  refine GX_callV (pc := 1) (n := 0) (C := "MergeWorkbench") (b := a0) (As := []) (rest := []) hC (m_X1_comparison hJ hw) (lw_V q2457 q2459 qs37 q84 q2460) hd_X1_comparison (by decide) (rcv (C := RX1) (T := TX1) (N := 10) hC hb rfl) rfl rfl (st_c cat_e (Nat.le_of_ble_eq_true rfl)) dX1_similarity_1 (fun E q M hx => GX_out hC hno hQ hx) (kRf fun x2 M1 hw => ?_)
  refine G_getFN (pc := 4) (ci := 8) (C := RX9) (T := TX9) (N := 6) (f := 0) hC rfl in_X9 (Nat.le_of_ble_eq_true rfl) (nw_in q2418 rfl) (fun _ h => h) dX1_similarity_4 hw (fun x3 hw => ?_)
  obtain ⟨b5, rfl, hb, hw⟩ := gThis_e hw
  refine G_callF (pc := 7) (n := 0) (x := ⟨"java/util/List", "size", "()I"⟩) (C := "java/util/ArrayList") (ci := 21) (T := TJ2) (N := 3) (b := b5) (As := []) (rest := []) hC (J_L_size hJ hw) (lw_F q1205 q889 q363 q87 q364) (nw_in q888 rfl) (nw_in q887 rfl) (nw_in q891 rfl) (nw_in q890 rfl) (nw_in q259 rfl) rfl (rcv (C := RJ2) (T := TJ2) (N := 3) hC hb rfl) (by decide +kernel) (by decide) rfl rfl (st_c cat_e (Nat.le_of_ble_eq_true rfl)) dX1_similarity_7 (kI fun x6 M4 hw => ?_)
  refine G_aload_n (pc := 12) (i := 0) hC dX1_similarity_12 rfl rfl ?_
  refine G_getF (pc := 13) (ci := 0) (C := RX1) (T := TX1) (N := 10) (f := 5) hC rfl in_X1 (Nat.le_of_ble_eq_true rfl) q699 (fun _ h => h) dX1_similarity_13 hw (fun x7 hw => ?_)
  refine G_getFN (pc := 16) (ci := 8) (C := RX9) (T := TX9) (N := 6) (f := 1) hC rfl in_X9 (Nat.le_of_ble_eq_true rfl) (nw_in q2424 rfl) (fun _ h => h) dX1_similarity_16 hw (fun x8 hw => ?_)
  obtain ⟨b10, rfl, hb, hw⟩ := gThis_e hw
  refine G_callF (pc := 19) (n := 0) (x := ⟨"java/util/List", "size", "()I"⟩) (C := "java/util/ArrayList") (ci := 21) (T := TJ2) (N := 3) (b := b10) (As := []) (rest := [.int x6]) hC (J_L_size hJ hw) (lw_F q1205 q889 q363 q87 q364) (nw_in q888 rfl) (nw_in q887 rfl) (nw_in q891 rfl) (nw_in q890 rfl) (nw_in q259 rfl) rfl (rcv (C := RJ2) (T := TJ2) (N := 3) hC hb rfl) (by decide +kernel) (by decide) rfl rfl (st_c (cat_i cat_e) (Nat.le_of_ble_eq_true rfl)) dX1_similarity_19 (kI fun x11 M9 hw => ?_)
  refine G_iadd (pc := 24) hC dX1_similarity_24 ?_
  refine G_istore_n (pc := 25) (i := 1) (lw := [some (va_rf (some a0)), some (.int (x6 + x11))]) hC dX1_similarity_25 rfl (Nat.le_of_ble_eq_true rfl) rfl ?_
  refine G_iload_n (pc := 26) (i := 1) hC dX1_similarity_26 rfl rfl ?_
  refine G_if_ne (pc := 27) (tgt := 38) hC dX1_similarity_27 (by decide) (fun hc => ?_) (fun hc => ?_)
  · replace hw := hw.1 hc
    refine G_iconst (pc := 38) (v := 2) hC dX1_similarity_38 (by decide) ?_
    refine G_aload_n (pc := 39) (i := 0) hC dX1_similarity_39 rfl rfl ?_
    refine G_getF (pc := 40) (ci := 0) (C := RX1) (T := TX1) (N := 10) (f := 5) hC rfl in_X1 (Nat.le_of_ble_eq_true rfl) q699 (fun _ h => h) dX1_similarity_40 hw (fun x12 hw => ?_)
    refine G_getFN (pc := 43) (ci := 8) (C := RX9) (T := TX9) (N := 6) (f := 2) hC rfl in_X9 (Nat.le_of_ble_eq_true rfl) (nw_in q2427 rfl) (fun _ h => h) dX1_similarity_43 hw (fun x13 hw => ?_)
    obtain ⟨b15, rfl, hb, hw⟩ := gThis_e hw
    refine G_callF (pc := 46) (n := 0) (x := ⟨"java/util/List", "size", "()I"⟩) (C := "java/util/ArrayList") (ci := 21) (T := TJ2) (N := 3) (b := b15) (As := []) (rest := [.int (2 : Int32)]) hC (J_L_size hJ hw) (lw_F q1205 q889 q363 q87 q364) (nw_in q888 rfl) (nw_in q887 rfl) (nw_in q891 rfl) (nw_in q890 rfl) (nw_in q259 rfl) rfl (rcv (C := RJ2) (T := TJ2) (N := 3) hC hb rfl) (by decide +kernel) (by decide) rfl rfl (st_c (cat_i cat_e) (Nat.le_of_ble_eq_true rfl)) dX1_similarity_46 (kI fun x16 M14 hw => ?_)
    refine G_imul (pc := 51) hC dX1_similarity_51 ?_
    refine G_i2d (pc := 52) hC dX1_similarity_52 ?_
    refine G_iload_n (pc := 53) (i := 1) hC dX1_similarity_53 rfl rfl ?_
    refine G_i2d (pc := 54) hC dX1_similarity_54 ?_
    obtain ⟨hdd, hw⟩ := hw
    refine G_ddiv (pc := 55) hC dX1_similarity_55 hdd ?_
    exact G_dretX (pc := 56) hC hQ dX1_similarity_56 hw
  · replace hw := hw.2 hc
    exact G_throw0 (pc := 30) (cls := "java/lang/ArithmeticException") (names := nmE) (ik := 203) (ic := 205) hJ.1 hC hno hQ (by decide +kernel) nmE_fit q2546 q141 at_X1_similarity_30 ag_X1_similarity_30 dX1_similarity_30 dX1_similarity_33 dX1_similarity_34 dX1_similarity_37 rfl rfl (st_c cat_e (Nat.le_of_ble_eq_true rfl)) hw
theorem hd_X9_findMoves : yX9_findMoves.cls = "MergeWorkbench$Comparison" ∧ yX9_findMoves.cls ≠ "java/lang/invoke/MethodHandle" ∧ yX9_findMoves.cls ≠ "java/lang/invoke/VarHandle" ∧ (parseMethodDescriptor yX9_findMoves.desc).map (fun d => d.parameters.length) = some 1 := by decide +kernel
def w_X1_findMoves (g : gT) (F : Nat) (a0 : Nat) (p1 : Int32) (M : hM) (Q : Int32 → hM → Prop) (X : String → Nat → hM → Prop) : Prop :=
  w_X1_isBetween g F p1 (1 : Int32) (9 : Int32) M (fun x2 M1 => w_X1_require g F x2 M1 (fun M3 => (isC M3 a0 0 ∧ w_X1_comparison g F a0  M3 (fun x5 M4 => gThis M4 x5 8 fun b7 => w_X9_findMoves g F b7 p1 M4 (fun x8 M6 => Q x8 M6)) X)) X)
theorem m_X1_findMoves {l : Launch} {g : gT} {F : Nat} {a0 : Nat} {p1 : Int32} {M : hM} {Q : Int32 → hM → Prop} {X : String → Nat → hM → Prop} (hJ : JOK l g) (hw : w_X1_findMoves g F a0 p1 M Q X) : MX l g yX1_findMoves (ws_ yX1_findMoves cX1_findMoves 2 (some .int)) 46 2136 [va_rf (some a0), .int p1] M (PI Q) X := by
  refine MX_of hJ.2.1 (by decide) (cat_r (cat_i cat_e)) (Nat.le_of_ble_eq_true rfl) (fun k hl hg hin hno hQ hC => ?_)
  subst hl hg
  show GW k 2 M 0 [some (va_rf (some a0)), some (.int p1)] []
  refine G_iload_n (pc := 0) (i := 1) hC dX1_findMoves_0 rfl rfl ?_
  refine G_iconst (pc := 1) (v := 1) hC dX1_findMoves_1 (by decide) ?_
  refine G_bipush (pc := 2) (v := 9) hC dX1_findMoves_2 (by decide) ?_
  refine G_callS (pc := 4) (n := 3) (As := [.int p1, .int (1 : Int32), .int (9 : Int32)]) (rest := []) hC (m_X1_isBetween hJ hw) (lw_S q1222 q1223 q84 q1224) hd_X1_isBetween.2 (by decide) rfl rfl (st_c cat_e (Nat.le_of_ble_eq_true rfl)) dX1_findMoves_4 (kI fun x2 M1 hw => ?_)
  refine GX_callS (pc := 7) (n := 1) (As := [.int x2]) (rest := []) hC (m_X1_require hJ hw) (lw_S q1225 q1226 q84 q1227) hd_X1_require.2 (by decide) rfl rfl (st_c cat_e (Nat.le_of_ble_eq_true rfl)) dX1_findMoves_7 (fun E q M hx => GX_out hC hno hQ hx) (kU fun M3 hw => ?_)
  refine G_aload_n (pc := 10) (i := 0) hC dX1_findMoves_10 rfl rfl ?_
  obtain ⟨hb, hw⟩ := hw
  refine GX_callV (pc := 11) (n := 0) (C := "MergeWorkbench") (b := a0) (As := []) (rest := []) hC (m_X1_comparison hJ hw) (lw_V q2457 q2459 qs37 q84 q2460) hd_X1_comparison (by decide) (rcv (C := RX1) (T := TX1) (N := 10) hC hb rfl) rfl rfl (st_c cat_e (Nat.le_of_ble_eq_true rfl)) dX1_findMoves_11 (fun E q M hx => GX_out hC hno hQ hx) (kRf fun x5 M4 hw => ?_)
  refine G_iload_n (pc := 14) (i := 1) hC dX1_findMoves_14 rfl rfl ?_
  obtain ⟨b7, rfl, hb, hw⟩ := gThis_e hw
  refine G_callV (pc := 15) (n := 1) (C := "MergeWorkbench$Comparison") (b := b7) (As := [.int p1]) (rest := []) hC (m_X9_findMoves hJ hw) (lw_V q2558 q2559 q2560 q134 q2561) hd_X9_findMoves (by decide) (rcv (C := RX9) (T := TX9) (N := 6) hC hb rfl) rfl rfl (st_c cat_e (Nat.le_of_ble_eq_true rfl)) dX1_findMoves_15 (kI fun x8 M6 hw => ?_)
  exact G_iretX (pc := 18) hC rfl hQ dX1_findMoves_18 hw
theorem hd_X15_property : yX15_property.cls = "MergeWorkbench$Move" ∧ yX15_property.cls ≠ "java/lang/invoke/MethodHandle" ∧ yX15_property.cls ≠ "java/lang/invoke/VarHandle" ∧ (parseMethodDescriptor yX15_property.desc).map (fun d => d.parameters.length) = some 1 := by decide +kernel
def w_X1_move_24 (g : gT) (F : Nat) (a0 : Nat) (p1 : Int32) (p2 : Int32) (Q : Int32 → hM → Prop) (X : String → Nat → hM → Prop) (s0 : Int32) (s1 : Int32) (M : hM) : Prop :=
  w_X1_requireIndex g F s0 s1 M (fun M1 => w_X1_isBetween g F p2 (0 : Int32) (2 : Int32) M1 (fun x3 M2 => w_X1_require g F x3 M2 (fun M4 => gF M4 (some a0) 0 5 fun x5 => gF M4 x5 8 5 fun x6 => gThis M4 x6 21 fun b8 => L_get g b8 p1 M4 (fun x9 M7 => ckC M7 x9 14 (gThis M7 x9 14 fun b11 => w_X15_property g F b11 p2 M7 (fun x12 M10 => Q x12 M10)))) X)) X
def w_X1_move (g : gT) (F : Nat) (a0 : Nat) (p1 : Int32) (p2 : Int32) (M : hM) (Q : Int32 → hM → Prop) (X : String → Nat → hM → Prop) : Prop :=
  gF M (some a0) 0 5 fun x1 => ((¬ x1 = none → gF M (some a0) 0 5 fun x2 => gF M x2 8 5 fun x3 => gThis M x3 21 fun b5 => L_size g b5  M (fun x6 M4 => w_X1_move_24 g F a0 p1 p2 Q X p1 x6 M4)) ∧ (x1 = none → w_X1_move_24 g F a0 p1 p2 Q X p1 (0 : Int32) M))
theorem g_X1_move_24 {k : kT} {F : Nat} {a0 : Nat} {p1 : Int32} {p2 : Int32} {Q : Int32 → hM → Prop} {X : String → Nat → hM → Prop} (hJ : JOK (kl k) (kg k)) (hC : CX k 3 cX1_move RX1 (some .int) 41 2021) (hQ : isQX k (PI Q) X) (hin : (kt k).name = "move") (hno : ∀ x ∈ (kc k).exceptionTable.toList, False) : ∀ (s0 : Int32) (s1 : Int32) (M : hM), w_X1_move_24 (kg k) F a0 p1 p2 Q X s0 s1 M → GW k 3 M 24 [some (va_rf (some a0)), some (.int p1), some (.int p2)] [.int s1, .int s0] := by
  intro s0 s1 M hw
  refine GX_callS (pc := 24) (n := 2) (As := [.int s0, .int s1]) (rest := []) hC (m_X1_requireIndex hJ hw) (lw_S q1366 q1367 q84 q1368) hd_X1_requireIndex.2 (by decide) rfl rfl (st_c cat_e (Nat.le_of_ble_eq_true rfl)) dX1_move_24 (fun E q M hx => GX_out hC hno hQ hx) (kU fun M1 hw => ?_)
  refine G_iload_n (pc := 27) (i := 2) hC dX1_move_27 rfl rfl ?_
  refine G_iconst (pc := 28) (v := 0) hC dX1_move_28 (by decide) ?_
  refine G_iconst (pc := 29) (v := 2) hC dX1_move_29 (by decide) ?_
  refine G_callS (pc := 30) (n := 3) (As := [.int p2, .int (0 : Int32), .int (2 : Int32)]) (rest := []) hC (m_X1_isBetween hJ hw) (lw_S q1222 q1223 q84 q1224) hd_X1_isBetween.2 (by decide) rfl rfl (st_c cat_e (Nat.le_of_ble_eq_true rfl)) dX1_move_30 (kI fun x3 M2 hw => ?_)
  refine GX_callS (pc := 33) (n := 1) (As := [.int x3]) (rest := []) hC (m_X1_require hJ hw) (lw_S q1225 q1226 q84 q1227) hd_X1_require.2 (by decide) rfl rfl (st_c cat_e (Nat.le_of_ble_eq_true rfl)) dX1_move_33 (fun E q M hx => GX_out hC hno hQ hx) (kU fun M4 hw => ?_)
  refine G_aload_n (pc := 36) (i := 0) hC dX1_move_36 rfl rfl ?_
  refine G_getF (pc := 37) (ci := 0) (C := RX1) (T := TX1) (N := 10) (f := 5) hC rfl in_X1 (Nat.le_of_ble_eq_true rfl) q699 (fun _ h => h) dX1_move_37 hw (fun x5 hw => ?_)
  refine G_getFN (pc := 40) (ci := 8) (C := RX9) (T := TX9) (N := 6) (f := 5) hC rfl in_X9 (Nat.le_of_ble_eq_true rfl) (nw_in q2436 rfl) (fun _ h => h) dX1_move_40 hw (fun x6 hw => ?_)
  refine G_iload_n (pc := 43) (i := 1) hC dX1_move_43 rfl rfl ?_
  obtain ⟨b8, rfl, hb, hw⟩ := gThis_e hw
  refine G_callF (pc := 44) (n := 1) (x := ⟨"java/util/List", "get", "(I)Ljava/lang/Object;"⟩) (C := "java/util/ArrayList") (ci := 21) (T := TJ2) (N := 3) (b := b8) (As := [.int p1]) (rest := []) hC (J_L_get hJ hw) (lw_F q1234 q956 q958 q87 q960) (nw_in q955 rfl) (nw_in q954 rfl) (nw_in q959 rfl) (nw_in q957 rfl) (nw_in q259 rfl) rfl (rcv (C := RJ2) (T := TJ2) (N := 3) hC hb rfl) (by decide +kernel) (by decide) rfl rfl (st_c cat_e (Nat.le_of_ble_eq_true rfl)) dX1_move_44 (kRf fun x9 M7 hw => ?_)
  obtain ⟨hb, hw⟩ := hw
  refine G_castCS (pc := 49) (C := RX15) (T := TX15) (N := 3) hC rfl q2774 hb dX1_move_49 ?_
  refine G_iload_n (pc := 52) (i := 2) hC dX1_move_52 rfl rfl ?_
  obtain ⟨b11, rfl, hb, hw⟩ := gThis_e hw
  refine G_callV (pc := 53) (n := 1) (C := "MergeWorkbench$Move") (b := b11) (As := [.int p2]) (rest := []) hC (m_X15_property hJ hw) (lw_V q2775 q2776 q2777 q145 q2778) hd_X15_property (by decide) (rcv (C := RX15) (T := TX15) (N := 3) hC hb rfl) rfl rfl (st_c cat_e (Nat.le_of_ble_eq_true rfl)) dX1_move_53 (kI fun x12 M10 hw => ?_)
  exact G_iretX (pc := 56) hC rfl hQ dX1_move_56 hw
theorem m_X1_move {l : Launch} {g : gT} {F : Nat} {a0 : Nat} {p1 : Int32} {p2 : Int32} {M : hM} {Q : Int32 → hM → Prop} {X : String → Nat → hM → Prop} (hJ : JOK l g) (hw : w_X1_move g F a0 p1 p2 M Q X) : MX l g yX1_move (ws_ yX1_move cX1_move 3 (some .int)) 41 2021 [va_rf (some a0), .int p1, .int p2] M (PI Q) X := by
  refine MX_of hJ.2.1 (by decide) (cat_r (cat_i (cat_i cat_e))) (Nat.le_of_ble_eq_true rfl) (fun k hl hg hin hno hQ hC => ?_)
  subst hl hg
  show GW k 3 M 0 [some (va_rf (some a0)), some (.int p1), some (.int p2)] []
  refine G_iload_n (pc := 0) (i := 1) hC dX1_move_0 rfl rfl ?_
  refine G_aload_n (pc := 1) (i := 0) hC dX1_move_1 rfl rfl ?_
  refine G_getF (pc := 2) (ci := 0) (C := RX1) (T := TX1) (N := 10) (f := 5) hC rfl in_X1 (Nat.le_of_ble_eq_true rfl) q699 (fun _ h => h) dX1_move_2 hw (fun x1 hw => ?_)
  refine G_ifnonnull (pc := 5) (tgt := 12) hC dX1_move_5 (by decide) (fun hc => ?_) (fun hc => ?_)
  · replace hw := hw.1 hc
    refine G_aload_n (pc := 12) (i := 0) hC dX1_move_12 rfl rfl ?_
    refine G_getF (pc := 13) (ci := 0) (C := RX1) (T := TX1) (N := 10) (f := 5) hC rfl in_X1 (Nat.le_of_ble_eq_true rfl) q699 (fun _ h => h) dX1_move_13 hw (fun x2 hw => ?_)
    refine G_getFN (pc := 16) (ci := 8) (C := RX9) (T := TX9) (N := 6) (f := 5) hC rfl in_X9 (Nat.le_of_ble_eq_true rfl) (nw_in q2436 rfl) (fun _ h => h) dX1_move_16 hw (fun x3 hw => ?_)
    obtain ⟨b5, rfl, hb, hw⟩ := gThis_e hw
    refine G_callF (pc := 19) (n := 0) (x := ⟨"java/util/List", "size", "()I"⟩) (C := "java/util/ArrayList") (ci := 21) (T := TJ2) (N := 3) (b := b5) (As := []) (rest := [.int p1]) hC (J_L_size hJ hw) (lw_F q1205 q889 q363 q87 q364) (nw_in q888 rfl) (nw_in q887 rfl) (nw_in q891 rfl) (nw_in q890 rfl) (nw_in q259 rfl) rfl (rcv (C := RJ2) (T := TJ2) (N := 3) hC hb rfl) (by decide +kernel) (by decide) rfl rfl (st_c (cat_i cat_e) (Nat.le_of_ble_eq_true rfl)) dX1_move_19 (kI fun x6 M4 hw => ?_)
    exact g_X1_move_24 hJ hC hQ hin hno  p1 x6 M4 hw
  · replace hw := hw.2 hc
    refine G_iconst (pc := 8) (v := 0) hC dX1_move_8 (by decide) ?_
    refine G_goto (pc := 9) (tgt := 24) hC dX1_move_9 (by decide) ?_
    exact g_X1_move_24 hJ hC hQ hin hno  p1 (0 : Int32) M hw
theorem hd_X16_init : yX16_init.cls = "MergeWorkbench$Merge" ∧ yX16_init.cls ≠ "java/lang/invoke/MethodHandle" ∧ yX16_init.cls ≠ "java/lang/invoke/VarHandle" ∧ (parseMethodDescriptor yX16_init.desc).map (fun d => d.parameters.length) = some 3 := by decide +kernel
def w_X1_merge (g : gT) (F : Nat) (a0 : Nat) (p1 : Int32) (p2 : Int32) (p3 : Int32) (M : hM) (Q : Int32 → hM → Prop) (X : String → Nat → hM → Prop) : Prop :=
  (isC M a0 0 ∧ w_X1_document g F a0 p1 M (fun x2 M1 => (isC M1 a0 0 ∧ w_X1_document g F a0 p2 M1 (fun x4 M3 => (isC M3 a0 0 ∧ w_X1_document g F a0 p3 M3 (fun x6 M5 => nW M5 15 fsX16 fun q7 M8 => nW M8 8 fsX9 fun q9 M10 => gI M10 (some a0) 0 3 fun x11 => (isC M10 q9 8 ∧ w_X9_init g F q9 x2 x4 x11 M10 (fun M12 => nW M12 8 fsX9 fun q13 M14 => gI M14 (some a0) 0 3 fun x15 => (isC M14 q13 8 ∧ w_X9_init g F q13 x2 x6 x15 M14 (fun M16 => gI M16 (some a0) 0 4 fun x17 => (isC M16 q7 15 ∧ w_X16_init g F q7 (some q9) (some q13) x17 M16 (fun M18 => pV M18 (some a0) 0 6 (va_rf (some q7)) fun M19 => gF M19 (some a0) 0 6 fun x20 => gF M19 x20 15 4 fun x21 => gThis M19 x21 21 fun b23 => L_size g b23  M19 (fun x24 M22 => Q x24 M22)))))))) X)) X)) X)
theorem m_X1_merge {l : Launch} {g : gT} {F : Nat} {a0 : Nat} {p1 : Int32} {p2 : Int32} {p3 : Int32} {M : hM} {Q : Int32 → hM → Prop} {X : String → Nat → hM → Prop} (hJ : JOK l g) (hw : w_X1_merge g F a0 p1 p2 p3 M Q X) : MX l g yX1_merge (ws_ yX1_merge cX1_merge 7 (some .int)) 46 2145 [va_rf (some a0), .int p1, .int p2, .int p3] M (PI Q) X := by
  refine MX_of hJ.2.1 (by decide) (cat_r (cat_i (cat_i (cat_i cat_e)))) (Nat.le_of_ble_eq_true rfl) (fun k hl hg hin hno hQ hC => ?_)
  subst hl hg
  show GW k 7 M 0 [some (va_rf (some a0)), some (.int p1), some (.int p2), some (.int p3), none, none, none] []
  refine G_aload_n (pc := 0) (i := 0) hC dX1_merge_0 rfl rfl ?_
  refine G_iload_n (pc := 1) (i := 1) hC dX1_merge_1 rfl rfl ?_
  obtain ⟨hb, hw⟩ := hw
  refine GX_callV (pc := 2) (n := 1) (C := "MergeWorkbench") (b := a0) (As := [.int p1]) (rest := []) hC (m_X1_document hJ hw) (lw_V q1215 q1217 qs10 q84 q1218) hd_X1_document (by decide) (rcv (C := RX1) (T := TX1) (N := 10) hC hb rfl) rfl rfl (st_c cat_e (Nat.le_of_ble_eq_true rfl)) dX1_merge_2 (fun E q M hx => GX_out hC hno hQ hx) (kRf fun x2 M1 hw => ?_)
  refine G_astore (pc := 5) (i := 4) (lw := [some (va_rf (some a0)), some (.int p1), some (.int p2), some (.int p3), some (va_rf x2), none, none]) hC dX1_merge_5 (Nat.le_of_ble_eq_true rfl) rfl ?_
  refine G_aload_n (pc := 7) (i := 0) hC dX1_merge_7 rfl rfl ?_
  refine G_iload_n (pc := 8) (i := 2) hC dX1_merge_8 rfl rfl ?_
  obtain ⟨hb, hw⟩ := hw
  refine GX_callV (pc := 9) (n := 1) (C := "MergeWorkbench") (b := a0) (As := [.int p2]) (rest := []) hC (m_X1_document hJ hw) (lw_V q1215 q1217 qs10 q84 q1218) hd_X1_document (by decide) (rcv (C := RX1) (T := TX1) (N := 10) hC hb rfl) rfl rfl (st_c cat_e (Nat.le_of_ble_eq_true rfl)) dX1_merge_9 (fun E q M hx => GX_out hC hno hQ hx) (kRf fun x4 M3 hw => ?_)
  refine G_astore (pc := 12) (i := 5) (lw := [some (va_rf (some a0)), some (.int p1), some (.int p2), some (.int p3), some (va_rf x2), some (va_rf x4), none]) hC dX1_merge_12 (Nat.le_of_ble_eq_true rfl) rfl ?_
  refine G_aload_n (pc := 14) (i := 0) hC dX1_merge_14 rfl rfl ?_
  refine G_iload_n (pc := 15) (i := 3) hC dX1_merge_15 rfl rfl ?_
  obtain ⟨hb, hw⟩ := hw
  refine GX_callV (pc := 16) (n := 1) (C := "MergeWorkbench") (b := a0) (As := [.int p3]) (rest := []) hC (m_X1_document hJ hw) (lw_V q1215 q1217 qs10 q84 q1218) hd_X1_document (by decide) (rcv (C := RX1) (T := TX1) (N := 10) hC hb rfl) rfl rfl (st_c cat_e (Nat.le_of_ble_eq_true rfl)) dX1_merge_16 (fun E q M hx => GX_out hC hno hQ hx) (kRf fun x6 M5 hw => ?_)
  refine G_astore (pc := 19) (i := 6) (lw := [some (va_rf (some a0)), some (.int p1), some (.int p2), some (.int p3), some (va_rf x2), some (va_rf x4), some (va_rf x6)]) hC dX1_merge_19 (Nat.le_of_ble_eq_true rfl) rfl ?_
  refine G_aload_n (pc := 21) (i := 0) hC dX1_merge_21 rfl rfl ?_
  refine G_new (pc := 22) (ci := 15) (C := RX16) (T := TX16) (N := 5) (fs := fsX16) tyX16 hC rfl in_X16 tyX16_ok q2786 q2787 q146 dfX16 rfl dX1_merge_22 hw (fun q7 M8 hw => ?_)
  refine G_dup (pc := 25) hC dX1_merge_25 (rf_cat _) ?_
  refine G_new (pc := 26) (ci := 8) (C := RX9) (T := TX9) (N := 6) (fs := fsX9) tyX9 hC rfl in_X9 tyX9_ok q2184 q2185 q134 dfX9 rfl dX1_merge_26 hw (fun q9 M10 hw => ?_)
  refine G_dup (pc := 29) hC dX1_merge_29 (rf_cat _) ?_
  refine G_aload (pc := 30) (i := 4) hC dX1_merge_30 rfl ?_
  refine G_aload (pc := 32) (i := 5) hC dX1_merge_32 rfl ?_
  refine G_aload_n (pc := 34) (i := 0) hC dX1_merge_34 rfl rfl ?_
  refine G_getI (pc := 35) (ci := 0) (C := RX1) (T := TX1) (N := 10) (f := 3) hC rfl in_X1 (Nat.le_of_ble_eq_true rfl) q697 (fun _ h => h) dX1_merge_35 hw (fun x11 hw => ?_)
  obtain ⟨hb, hw⟩ := hw
  refine G_callI (pc := 38) (n := 3) (b := q9) (As := [va_rf x2, va_rf x4, .int x11]) (rest := [va_rf (some q9), va_rf (some q7), va_rf (some q7), va_rf (some a0)]) hC (m_X9_init hJ hw) (lw_meth q2188) q134 q2186 q2187 rfl hd_X9_init.2 (by decide) rfl rfl (st_c (cat_r (cat_r (cat_r (cat_r cat_e)))) (Nat.le_of_ble_eq_true rfl)) dX1_merge_38 (kU fun M12 hw => ?_)
  refine G_new (pc := 41) (ci := 8) (C := RX9) (T := TX9) (N := 6) (fs := fsX9) tyX9 hC rfl in_X9 tyX9_ok q2184 q2185 q134 dfX9 rfl dX1_merge_41 hw (fun q13 M14 hw => ?_)
  refine G_dup (pc := 44) hC dX1_merge_44 (rf_cat _) ?_
  refine G_aload (pc := 45) (i := 4) hC dX1_merge_45 rfl ?_
  refine G_aload (pc := 47) (i := 6) hC dX1_merge_47 rfl ?_
  refine G_aload_n (pc := 49) (i := 0) hC dX1_merge_49 rfl rfl ?_
  refine G_getI (pc := 50) (ci := 0) (C := RX1) (T := TX1) (N := 10) (f := 3) hC rfl in_X1 (Nat.le_of_ble_eq_true rfl) q697 (fun _ h => h) dX1_merge_50 hw (fun x15 hw => ?_)
  obtain ⟨hb, hw⟩ := hw
  refine G_callI (pc := 53) (n := 3) (b := q13) (As := [va_rf x2, va_rf x6, .int x15]) (rest := [va_rf (some q13), va_rf (some q9), va_rf (some q7), va_rf (some q7), va_rf (some a0)]) hC (m_X9_init hJ hw) (lw_meth q2188) q134 q2186 q2187 rfl hd_X9_init.2 (by decide) rfl rfl (st_c (cat_r (cat_r (cat_r (cat_r (cat_r cat_e))))) (Nat.le_of_ble_eq_true rfl)) dX1_merge_53 (kU fun M16 hw => ?_)
  refine G_aload_n (pc := 56) (i := 0) hC dX1_merge_56 rfl rfl ?_
  refine G_getI (pc := 57) (ci := 0) (C := RX1) (T := TX1) (N := 10) (f := 4) hC rfl in_X1 (Nat.le_of_ble_eq_true rfl) q698 (fun _ h => h) dX1_merge_57 hw (fun x17 hw => ?_)
  obtain ⟨hb, hw⟩ := hw
  refine G_callI (pc := 60) (n := 3) (b := q7) (As := [va_rf (some q9), va_rf (some q13), .int x17]) (rest := [va_rf (some q7), va_rf (some a0)]) hC (m_X16_init hJ hw) (lw_meth q2790) q146 q2788 q2789 rfl hd_X16_init.2 (by decide) rfl rfl (st_c (cat_r (cat_r cat_e)) (Nat.le_of_ble_eq_true rfl)) dX1_merge_60 (kU fun M18 hw => ?_)
  refine G_put (pc := 63) (ci := 0) (C := RX1) (T := TX1) (N := 10) (f := 6) tyX1 hC rfl in_X1 tyX1_ok nmX1 (Nat.le_of_ble_eq_true rfl) q700 (fun _ h => h) rfl (nR_o _ _) (fR_o _ _) dX1_merge_63 hw (fun M19 hw => ?_)
  refine G_aload_n (pc := 66) (i := 0) hC dX1_merge_66 rfl rfl ?_
  refine G_getF (pc := 67) (ci := 0) (C := RX1) (T := TX1) (N := 10) (f := 6) hC rfl in_X1 (Nat.le_of_ble_eq_true rfl) q700 (fun _ h => h) dX1_merge_67 hw (fun x20 hw => ?_)
  refine G_getFN (pc := 70) (ci := 15) (C := RX16) (T := TX16) (N := 5) (f := 4) hC rfl in_X16 (Nat.le_of_ble_eq_true rfl) (nw_in q2982 rfl) (fun _ h => h) dX1_merge_70 hw (fun x21 hw => ?_)
  obtain ⟨b23, rfl, hb, hw⟩ := gThis_e hw
  refine G_callF (pc := 73) (n := 0) (x := ⟨"java/util/List", "size", "()I"⟩) (C := "java/util/ArrayList") (ci := 21) (T := TJ2) (N := 3) (b := b23) (As := []) (rest := []) hC (J_L_size hJ hw) (lw_F q1205 q889 q363 q87 q364) (nw_in q888 rfl) (nw_in q887 rfl) (nw_in q891 rfl) (nw_in q890 rfl) (nw_in q259 rfl) rfl (rcv (C := RJ2) (T := TJ2) (N := 3) hC hb rfl) (by decide +kernel) (by decide) rfl rfl (st_c cat_e (Nat.le_of_ble_eq_true rfl)) dX1_merge_73 (kI fun x24 M22 hw => ?_)
  exact G_iretX (pc := 78) hC rfl hQ dX1_merge_78 hw
def w_X1_merge_2_12 (g : gT) (F : Nat) (a0 : Nat) (Q : Option Nat → hM → Prop) (X : String → Nat → hM → Prop) (s0 : Int32) (M : hM) : Prop :=
  w_X1_requireState g F s0 M (fun M1 => gF M1 (some a0) 0 6 fun x2 => Q x2 M1) X
def w_X1_merge_2 (g : gT) (F : Nat) (a0 : Nat) (M : hM) (Q : Option Nat → hM → Prop) (X : String → Nat → hM → Prop) : Prop :=
  gF M (some a0) 0 6 fun x1 => ((x1 = none → w_X1_merge_2_12 g F a0 Q X (0 : Int32) M) ∧ (¬ x1 = none → w_X1_merge_2_12 g F a0 Q X (1 : Int32) M))
theorem g_X1_merge_2_12 {k : kT} {F : Nat} {a0 : Nat} {Q : Option Nat → hM → Prop} {X : String → Nat → hM → Prop} (hJ : JOK (kl k) (kg k)) (hC : CX k 1 cX1_merge_2 RX1 (some (.object "MergeWorkbench$Merge")) 7 116) (hQ : isQX k (PR Q) X) (hin : (kt k).name = "merge") (hno : ∀ x ∈ (kc k).exceptionTable.toList, False) : ∀ (s0 : Int32) (M : hM), w_X1_merge_2_12 (kg k) F a0 Q X s0 M → GW k 1 M 12 [some (va_rf (some a0))] [.int s0] := by
  intro s0 M hw
  refine GX_callS (pc := 12) (n := 1) (As := [.int s0]) (rest := []) hC (m_X1_requireState hJ hw) (lw_S q1235 q1236 q84 q1237) hd_X1_requireState.2 (by decide) rfl rfl (st_c cat_e (Nat.le_of_ble_eq_true rfl)) dX1_merge_2_12 (fun E q M hx => GX_out hC hno hQ hx) (kU fun M1 hw => ?_)
  refine G_aload_n (pc := 15) (i := 0) hC dX1_merge_2_15 rfl rfl ?_
  refine G_getF (pc := 16) (ci := 0) (C := RX1) (T := TX1) (N := 10) (f := 6) hC rfl in_X1 (Nat.le_of_ble_eq_true rfl) q700 (fun _ h => h) dX1_merge_2_16 hw (fun x2 hw => ?_)
  exact G_aretX (pc := 19) hC (Or.inl ⟨_, rfl⟩) hQ dX1_merge_2_19 hw
theorem m_X1_merge_2 {l : Launch} {g : gT} {F : Nat} {a0 : Nat} {M : hM} {Q : Option Nat → hM → Prop} {X : String → Nat → hM → Prop} (hJ : JOK l g) (hw : w_X1_merge_2 g F a0 M Q X) : MX l g yX1_merge_2 (ws_ yX1_merge_2 cX1_merge_2 1 (some (.object "MergeWorkbench$Merge"))) 7 116 [va_rf (some a0)] M (PR Q) X := by
  refine MX_of hJ.2.1 (by decide) (cat_r cat_e) (Nat.le_of_ble_eq_true rfl) (fun k hl hg hin hno hQ hC => ?_)
  subst hl hg
  show GW k 1 M 0 [some (va_rf (some a0))] []
  refine G_aload_n (pc := 0) (i := 0) hC dX1_merge_2_0 rfl rfl ?_
  refine G_getF (pc := 1) (ci := 0) (C := RX1) (T := TX1) (N := 10) (f := 6) hC rfl in_X1 (Nat.le_of_ble_eq_true rfl) q700 (fun _ h => h) dX1_merge_2_1 hw (fun x1 hw => ?_)
  refine G_ifnull (pc := 4) (tgt := 11) hC dX1_merge_2_4 (by decide) (fun hc => ?_) (fun hc => ?_)
  · replace hw := hw.1 hc
    refine G_iconst (pc := 11) (v := 0) hC dX1_merge_2_11 (by decide) ?_
    exact g_X1_merge_2_12 hJ hC hQ hin hno  (0 : Int32) M hw
  · replace hw := hw.2 hc
    refine G_iconst (pc := 7) (v := 1) hC dX1_merge_2_7 (by decide) ?_
    refine G_goto (pc := 8) (tgt := 12) hC dX1_merge_2_8 (by decide) ?_
    exact g_X1_merge_2_12 hJ hC hQ hin hno  (1 : Int32) M hw
theorem hd_X1_merge_2 : yX1_merge_2.cls = "MergeWorkbench" ∧ yX1_merge_2.cls ≠ "java/lang/invoke/MethodHandle" ∧ yX1_merge_2.cls ≠ "java/lang/invoke/VarHandle" ∧ (parseMethodDescriptor yX1_merge_2.desc).map (fun d => d.parameters.length) = some 0 := by decide +kernel
def w_X1_chunks (g : gT) (F : Nat) (a0 : Nat) (M : hM) (Q : Int32 → hM → Prop) (X : String → Nat → hM → Prop) : Prop :=
  (isC M a0 0 ∧ w_X1_merge_2 g F a0  M (fun x2 M1 => gF M1 x2 15 3 fun x3 => gThis M1 x3 21 fun b5 => L_size g b5  M1 (fun x6 M4 => Q x6 M4)) X)
theorem m_X1_chunks {l : Launch} {g : gT} {F : Nat} {a0 : Nat} {M : hM} {Q : Int32 → hM → Prop} {X : String → Nat → hM → Prop} (hJ : JOK l g) (hw : w_X1_chunks g F a0 M Q X) : MX l g yX1_chunks (ws_ yX1_chunks cX1_chunks 1 (some .int)) 41 2020 [va_rf (some a0)] M (PI Q) X := by
  refine MX_of hJ.2.1 (by decide) (cat_r cat_e) (Nat.le_of_ble_eq_true rfl) (fun k hl hg hin hno hQ hC => ?_)
  subst hl hg
  show GW k 1 M 0 [some (va_rf (some a0))] []
  refine G_aload_n (pc := 0) (i := 0) hC dX1_chunks_0 rfl rfl ?_
  obtain ⟨hb, hw⟩ := hw
  refine GX_callV (pc := 1) (n := 0) (C := "MergeWorkbench") (b := a0) (As := []) (rest := []) hC (m_X1_merge_2 hJ hw) (lw_V q3001 q3003 qs47 q84 q3004) hd_X1_merge_2 (by decide) (rcv (C := RX1) (T := TX1) (N := 10) hC hb rfl) rfl rfl (st_c cat_e (Nat.le_of_ble_eq_true rfl)) dX1_chunks_1 (fun E q M hx => GX_out hC hno hQ hx) (kRf fun x2 M1 hw => ?_)
  refine G_getFN (pc := 4) (ci := 15) (C := RX16) (T := TX16) (N := 5) (f := 3) hC rfl in_X16 (Nat.le_of_ble_eq_true rfl) (nw_in q2980 rfl) (fun _ h => h) dX1_chunks_4 hw (fun x3 hw => ?_)
  obtain ⟨b5, rfl, hb, hw⟩ := gThis_e hw
  refine G_callF (pc := 7) (n := 0) (x := ⟨"java/util/List", "size", "()I"⟩) (C := "java/util/ArrayList") (ci := 21) (T := TJ2) (N := 3) (b := b5) (As := []) (rest := []) hC (J_L_size hJ hw) (lw_F q1205 q889 q363 q87 q364) (nw_in q888 rfl) (nw_in q887 rfl) (nw_in q891 rfl) (nw_in q890 rfl) (nw_in q259 rfl) rfl (rcv (C := RJ2) (T := TJ2) (N := 3) hC hb rfl) (by decide +kernel) (by decide) rfl rfl (st_c cat_e (Nat.le_of_ble_eq_true rfl)) dX1_chunks_7 (kI fun x6 M4 hw => ?_)
  exact G_iretX (pc := 12) hC rfl hQ dX1_chunks_12 hw
theorem hd_X17_property : yX17_property.cls = "MergeWorkbench$Chunk" ∧ yX17_property.cls ≠ "java/lang/invoke/MethodHandle" ∧ yX17_property.cls ≠ "java/lang/invoke/VarHandle" ∧ (parseMethodDescriptor yX17_property.desc).map (fun d => d.parameters.length) = some 1 := by decide +kernel
def w_X1_chunk (g : gT) (F : Nat) (a0 : Nat) (p1 : Int32) (p2 : Int32) (M : hM) (Q : Int32 → hM → Prop) (X : String → Nat → hM → Prop) : Prop :=
  (isC M a0 0 ∧ w_X1_merge_2 g F a0  M (fun x2 M1 => gF M1 x2 15 3 fun x3 => gThis M1 x3 21 fun b5 => L_size g b5  M1 (fun x6 M4 => w_X1_requireIndex g F p1 x6 M4 (fun M7 => w_X1_isBetween g F p2 (0 : Int32) (6 : Int32) M7 (fun x9 M8 => w_X1_require g F x9 M8 (fun M10 => gF M10 (some a0) 0 6 fun x11 => gF M10 x11 15 3 fun x12 => gThis M10 x12 21 fun b14 => L_get g b14 p1 M10 (fun x15 M13 => ckC M13 x15 16 (gThis M13 x15 16 fun b17 => w_X17_property g F b17 p2 M13 (fun x18 M16 => Q x18 M16)))) X)) X)) X)
theorem m_X1_chunk {l : Launch} {g : gT} {F : Nat} {a0 : Nat} {p1 : Int32} {p2 : Int32} {M : hM} {Q : Int32 → hM → Prop} {X : String → Nat → hM → Prop} (hJ : JOK l g) (hw : w_X1_chunk g F a0 p1 p2 M Q X) : MX l g yX1_chunk (ws_ yX1_chunk cX1_chunk 3 (some .int)) 41 2021 [va_rf (some a0), .int p1, .int p2] M (PI Q) X := by
  refine MX_of hJ.2.1 (by decide) (cat_r (cat_i (cat_i cat_e))) (Nat.le_of_ble_eq_true rfl) (fun k hl hg hin hno hQ hC => ?_)
  subst hl hg
  show GW k 3 M 0 [some (va_rf (some a0)), some (.int p1), some (.int p2)] []
  refine G_iload_n (pc := 0) (i := 1) hC dX1_chunk_0 rfl rfl ?_
  refine G_aload_n (pc := 1) (i := 0) hC dX1_chunk_1 rfl rfl ?_
  obtain ⟨hb, hw⟩ := hw
  refine GX_callV (pc := 2) (n := 0) (C := "MergeWorkbench") (b := a0) (As := []) (rest := [.int p1]) hC (m_X1_merge_2 hJ hw) (lw_V q3001 q3003 qs47 q84 q3004) hd_X1_merge_2 (by decide) (rcv (C := RX1) (T := TX1) (N := 10) hC hb rfl) rfl rfl (st_c (cat_i cat_e) (Nat.le_of_ble_eq_true rfl)) dX1_chunk_2 (fun E q M hx => GX_out hC hno hQ hx) (kRf fun x2 M1 hw => ?_)
  refine G_getFN (pc := 5) (ci := 15) (C := RX16) (T := TX16) (N := 5) (f := 3) hC rfl in_X16 (Nat.le_of_ble_eq_true rfl) (nw_in q2980 rfl) (fun _ h => h) dX1_chunk_5 hw (fun x3 hw => ?_)
  obtain ⟨b5, rfl, hb, hw⟩ := gThis_e hw
  refine G_callF (pc := 8) (n := 0) (x := ⟨"java/util/List", "size", "()I"⟩) (C := "java/util/ArrayList") (ci := 21) (T := TJ2) (N := 3) (b := b5) (As := []) (rest := [.int p1]) hC (J_L_size hJ hw) (lw_F q1205 q889 q363 q87 q364) (nw_in q888 rfl) (nw_in q887 rfl) (nw_in q891 rfl) (nw_in q890 rfl) (nw_in q259 rfl) rfl (rcv (C := RJ2) (T := TJ2) (N := 3) hC hb rfl) (by decide +kernel) (by decide) rfl rfl (st_c (cat_i cat_e) (Nat.le_of_ble_eq_true rfl)) dX1_chunk_8 (kI fun x6 M4 hw => ?_)
  refine GX_callS (pc := 13) (n := 2) (As := [.int p1, .int x6]) (rest := []) hC (m_X1_requireIndex hJ hw) (lw_S q1366 q1367 q84 q1368) hd_X1_requireIndex.2 (by decide) rfl rfl (st_c cat_e (Nat.le_of_ble_eq_true rfl)) dX1_chunk_13 (fun E q M hx => GX_out hC hno hQ hx) (kU fun M7 hw => ?_)
  refine G_iload_n (pc := 16) (i := 2) hC dX1_chunk_16 rfl rfl ?_
  refine G_iconst (pc := 17) (v := 0) hC dX1_chunk_17 (by decide) ?_
  refine G_bipush (pc := 18) (v := 6) hC dX1_chunk_18 (by decide) ?_
  refine G_callS (pc := 20) (n := 3) (As := [.int p2, .int (0 : Int32), .int (6 : Int32)]) (rest := []) hC (m_X1_isBetween hJ hw) (lw_S q1222 q1223 q84 q1224) hd_X1_isBetween.2 (by decide) rfl rfl (st_c cat_e (Nat.le_of_ble_eq_true rfl)) dX1_chunk_20 (kI fun x9 M8 hw => ?_)
  refine GX_callS (pc := 23) (n := 1) (As := [.int x9]) (rest := []) hC (m_X1_require hJ hw) (lw_S q1225 q1226 q84 q1227) hd_X1_require.2 (by decide) rfl rfl (st_c cat_e (Nat.le_of_ble_eq_true rfl)) dX1_chunk_23 (fun E q M hx => GX_out hC hno hQ hx) (kU fun M10 hw => ?_)
  refine G_aload_n (pc := 26) (i := 0) hC dX1_chunk_26 rfl rfl ?_
  refine G_getF (pc := 27) (ci := 0) (C := RX1) (T := TX1) (N := 10) (f := 6) hC rfl in_X1 (Nat.le_of_ble_eq_true rfl) q700 (fun _ h => h) dX1_chunk_27 hw (fun x11 hw => ?_)
  refine G_getFN (pc := 30) (ci := 15) (C := RX16) (T := TX16) (N := 5) (f := 3) hC rfl in_X16 (Nat.le_of_ble_eq_true rfl) (nw_in q2980 rfl) (fun _ h => h) dX1_chunk_30 hw (fun x12 hw => ?_)
  refine G_iload_n (pc := 33) (i := 1) hC dX1_chunk_33 rfl rfl ?_
  obtain ⟨b14, rfl, hb, hw⟩ := gThis_e hw
  refine G_callF (pc := 34) (n := 1) (x := ⟨"java/util/List", "get", "(I)Ljava/lang/Object;"⟩) (C := "java/util/ArrayList") (ci := 21) (T := TJ2) (N := 3) (b := b14) (As := [.int p1]) (rest := []) hC (J_L_get hJ hw) (lw_F q1234 q956 q958 q87 q960) (nw_in q955 rfl) (nw_in q954 rfl) (nw_in q959 rfl) (nw_in q957 rfl) (nw_in q259 rfl) rfl (rcv (C := RJ2) (T := TJ2) (N := 3) hC hb rfl) (by decide +kernel) (by decide) rfl rfl (st_c cat_e (Nat.le_of_ble_eq_true rfl)) dX1_chunk_34 (kRf fun x15 M13 hw => ?_)
  obtain ⟨hb, hw⟩ := hw
  refine G_castCS (pc := 39) (C := RX17) (T := TX17) (N := 5) hC rfl q3012 hb dX1_chunk_39 ?_
  refine G_iload_n (pc := 42) (i := 2) hC dX1_chunk_42 rfl rfl ?_
  obtain ⟨b17, rfl, hb, hw⟩ := gThis_e hw
  refine G_callV (pc := 43) (n := 1) (C := "MergeWorkbench$Chunk") (b := b17) (As := [.int p2]) (rest := []) hC (m_X17_property hJ hw) (lw_V q3013 q3014 q3015 q147 q3016) hd_X17_property (by decide) (rcv (C := RX17) (T := TX17) (N := 5) hC hb rfl) rfl rfl (st_c cat_e (Nat.le_of_ble_eq_true rfl)) dX1_chunk_43 (kI fun x18 M16 hw => ?_)
  exact G_iretX (pc := 46) hC rfl hQ dX1_chunk_46 hw
theorem at_X1_resolve_22 : ∀ w ∈ vx_at0 RX1 199 "java/util/NoSuchElementException" nmE, w ∈ lw_all ∨ w ∈ nwAll := at_in [98, 400, 409, 420, 423, 425, 401, 402, 158, 159, 403, 408, 421, 629, 390, 630, 392, 631, 394, 404, 406, 396, 1025, 1026, 1027, 686, 686, 687, 688, 689, 689, 690, 691, 401, 2524, 1016, 1018, 419, 1019, 1020, 1021, 1022, 399, 398, 1023] [381, 383, 385, 1017] (by decide +kernel) (by decide +kernel) (by decide +kernel)
theorem ag_X1_resolve_22 : (Cond.classLink RX1 197 "java/util/NoSuchElementException" :: Cond.initialized "java/util/NoSuchElementException" :: vx_at0 RX1 199 "java/util/NoSuchElementException" nmE).all vx_ot = true := by decide +kernel
def w_X1_resolve (g : gT) (F : Nat) (a0 : Nat) (p1 : Int32) (p2 : Int32) (M : hM) (Q : Int32 → hM → Prop) (X : String → Nat → hM → Prop) : Prop :=
  (isC M a0 0 ∧ w_X1_merge_2 g F a0  M (fun x2 M1 => gF M1 x2 15 4 fun x3 => gThis M1 x3 21 fun b5 => L_size g b5  M1 (fun x6 M4 => w_X1_isBetween g F p1 (0 : Int32) (x6 - (1 : Int32)) M4 (fun x8 M7 => ((¬ x8 = 0 → w_X1_isBetween g F p2 (0 : Int32) (4 : Int32) M7 (fun x10 M9 => w_X1_require g F x10 M9 (fun M11 => gF M11 (some a0) 0 6 fun x12 => gF M11 x12 15 4 fun x13 => gThis M11 x13 21 fun b15 => L_get g b15 p1 M11 (fun x16 M14 => ckC M14 x16 16 (pV M14 x16 16 4 (.int p2) fun M17 => nW M17 21 fsJ2 fun q18 M19 => (isC M19 q18 21 ∧ L_new g q18  M19 (fun M20 => gThis M20 x16 16 fun b22 => w_X17_addResult g F b22 (some q18) M20 (fun M21 => (isC M21 q18 21 ∧ L_size g q18  M21 (fun x24 M23 => Q x24 M23)))))))) X)) ∧ (x8 = 0 → thr M7 "java/util/NoSuchElementException" X))))) X)
theorem m_X1_resolve {l : Launch} {g : gT} {F : Nat} {a0 : Nat} {p1 : Int32} {p2 : Int32} {M : hM} {Q : Int32 → hM → Prop} {X : String → Nat → hM → Prop} (hJ : JOK l g) (hw : w_X1_resolve g F a0 p1 p2 M Q X) : MX l g yX1_resolve (ws_ yX1_resolve cX1_resolve 5 (some .int)) 43 2064 [va_rf (some a0), .int p1, .int p2] M (PI Q) X := by
  refine MX_of hJ.2.1 (by decide) (cat_r (cat_i (cat_i cat_e))) (Nat.le_of_ble_eq_true rfl) (fun k hl hg hin hno hQ hC => ?_)
  subst hl hg
  show GW k 5 M 0 [some (va_rf (some a0)), some (.int p1), some (.int p2), none, none] []
  refine G_iload_n (pc := 0) (i := 1) hC dX1_resolve_0 rfl rfl ?_
  refine G_iconst (pc := 1) (v := 0) hC dX1_resolve_1 (by decide) ?_
  refine G_aload_n (pc := 2) (i := 0) hC dX1_resolve_2 rfl rfl ?_
  obtain ⟨hb, hw⟩ := hw
  refine GX_callV (pc := 3) (n := 0) (C := "MergeWorkbench") (b := a0) (As := []) (rest := [.int (0 : Int32), .int p1]) hC (m_X1_merge_2 hJ hw) (lw_V q3001 q3003 qs47 q84 q3004) hd_X1_merge_2 (by decide) (rcv (C := RX1) (T := TX1) (N := 10) hC hb rfl) rfl rfl (st_c (cat_i (cat_i cat_e)) (Nat.le_of_ble_eq_true rfl)) dX1_resolve_3 (fun E q M hx => GX_out hC hno hQ hx) (kRf fun x2 M1 hw => ?_)
  refine G_getFN (pc := 6) (ci := 15) (C := RX16) (T := TX16) (N := 5) (f := 4) hC rfl in_X16 (Nat.le_of_ble_eq_true rfl) (nw_in q2982 rfl) (fun _ h => h) dX1_resolve_6 hw (fun x3 hw => ?_)
  obtain ⟨b5, rfl, hb, hw⟩ := gThis_e hw
  refine G_callF (pc := 9) (n := 0) (x := ⟨"java/util/List", "size", "()I"⟩) (C := "java/util/ArrayList") (ci := 21) (T := TJ2) (N := 3) (b := b5) (As := []) (rest := [.int (0 : Int32), .int p1]) hC (J_L_size hJ hw) (lw_F q1205 q889 q363 q87 q364) (nw_in q888 rfl) (nw_in q887 rfl) (nw_in q891 rfl) (nw_in q890 rfl) (nw_in q259 rfl) rfl (rcv (C := RJ2) (T := TJ2) (N := 3) hC hb rfl) (by decide +kernel) (by decide) rfl rfl (st_c (cat_i (cat_i cat_e)) (Nat.le_of_ble_eq_true rfl)) dX1_resolve_9 (kI fun x6 M4 hw => ?_)
  refine G_iconst (pc := 14) (v := 1) hC dX1_resolve_14 (by decide) ?_
  refine G_isub (pc := 15) hC dX1_resolve_15 ?_
  refine G_callS (pc := 16) (n := 3) (As := [.int p1, .int (0 : Int32), .int (x6 - (1 : Int32))]) (rest := []) hC (m_X1_isBetween hJ hw) (lw_S q1222 q1223 q84 q1224) hd_X1_isBetween.2 (by decide) rfl rfl (st_c cat_e (Nat.le_of_ble_eq_true rfl)) dX1_resolve_16 (kI fun x8 M7 hw => ?_)
  refine G_if_ne (pc := 19) (tgt := 30) hC dX1_resolve_19 (by decide) (fun hc => ?_) (fun hc => ?_)
  · replace hw := hw.1 hc
    refine G_iload_n (pc := 30) (i := 2) hC dX1_resolve_30 rfl rfl ?_
    refine G_iconst (pc := 31) (v := 0) hC dX1_resolve_31 (by decide) ?_
    refine G_iconst (pc := 32) (v := 4) hC dX1_resolve_32 (by decide) ?_
    refine G_callS (pc := 33) (n := 3) (As := [.int p2, .int (0 : Int32), .int (4 : Int32)]) (rest := []) hC (m_X1_isBetween hJ hw) (lw_S q1222 q1223 q84 q1224) hd_X1_isBetween.2 (by decide) rfl rfl (st_c cat_e (Nat.le_of_ble_eq_true rfl)) dX1_resolve_33 (kI fun x10 M9 hw => ?_)
    refine GX_callS (pc := 36) (n := 1) (As := [.int x10]) (rest := []) hC (m_X1_require hJ hw) (lw_S q1225 q1226 q84 q1227) hd_X1_require.2 (by decide) rfl rfl (st_c cat_e (Nat.le_of_ble_eq_true rfl)) dX1_resolve_36 (fun E q M hx => GX_out hC hno hQ hx) (kU fun M11 hw => ?_)
    refine G_aload_n (pc := 39) (i := 0) hC dX1_resolve_39 rfl rfl ?_
    refine G_getF (pc := 40) (ci := 0) (C := RX1) (T := TX1) (N := 10) (f := 6) hC rfl in_X1 (Nat.le_of_ble_eq_true rfl) q700 (fun _ h => h) dX1_resolve_40 hw (fun x12 hw => ?_)
    refine G_getFN (pc := 43) (ci := 15) (C := RX16) (T := TX16) (N := 5) (f := 4) hC rfl in_X16 (Nat.le_of_ble_eq_true rfl) (nw_in q2982 rfl) (fun _ h => h) dX1_resolve_43 hw (fun x13 hw => ?_)
    refine G_iload_n (pc := 46) (i := 1) hC dX1_resolve_46 rfl rfl ?_
    obtain ⟨b15, rfl, hb, hw⟩ := gThis_e hw
    refine G_callF (pc := 47) (n := 1) (x := ⟨"java/util/List", "get", "(I)Ljava/lang/Object;"⟩) (C := "java/util/ArrayList") (ci := 21) (T := TJ2) (N := 3) (b := b15) (As := [.int p1]) (rest := []) hC (J_L_get hJ hw) (lw_F q1234 q956 q958 q87 q960) (nw_in q955 rfl) (nw_in q954 rfl) (nw_in q959 rfl) (nw_in q957 rfl) (nw_in q259 rfl) rfl (rcv (C := RJ2) (T := TJ2) (N := 3) hC hb rfl) (by decide +kernel) (by decide) rfl rfl (st_c cat_e (Nat.le_of_ble_eq_true rfl)) dX1_resolve_47 (kRf fun x16 M14 hw => ?_)
    obtain ⟨hb, hw⟩ := hw
    refine G_castCS (pc := 52) (C := RX17) (T := TX17) (N := 5) hC rfl q3012 hb dX1_resolve_52 ?_
    refine G_astore_n (pc := 55) (i := 3) (lw := [some (va_rf (some a0)), some (.int p1), some (.int p2), some (va_rf x16), none]) hC dX1_resolve_55 rfl (Nat.le_of_ble_eq_true rfl) rfl ?_
    refine G_aload_n (pc := 56) (i := 3) hC dX1_resolve_56 rfl rfl ?_
    refine G_iload_n (pc := 57) (i := 2) hC dX1_resolve_57 rfl rfl ?_
    refine G_putN (pc := 58) (ci := 16) (C := RX17) (T := TX17) (N := 5) (f := 4) tyX17 hC rfl in_X17 tyX17_ok nmX17 (Nat.le_of_ble_eq_true rfl) (nw_in q2919 rfl) (fun _ h => h) rfl rfl rfl dX1_resolve_58 hw (fun M17 hw => ?_)
    refine G_new (pc := 61) (ci := 21) (C := RJ2) (T := TJ2) (N := 3) (fs := fsJ2) tyJ2 hC rfl in_J2 tyJ2_ok q160 q161 q87 dfJ2 rfl dX1_resolve_61 hw (fun q18 M19 hw => ?_)
    refine G_dup (pc := 64) hC dX1_resolve_64 (rf_cat _) ?_
    obtain ⟨hb, hw⟩ := hw
    refine G_callI (pc := 65) (n := 0) (b := q18) (As := []) (rest := [va_rf (some q18)]) hC (J_L_new hJ hw) (lw_meth q164) q87 q162 q163 rfl hd_J2_init.2 (by decide) rfl rfl (st_c (cat_r cat_e) (Nat.le_of_ble_eq_true rfl)) dX1_resolve_65 (kU fun M20 hw => ?_)
    refine G_astore (pc := 68) (i := 4) (lw := [some (va_rf (some a0)), some (.int p1), some (.int p2), some (va_rf x16), some (va_rf (some q18))]) hC dX1_resolve_68 (Nat.le_of_ble_eq_true rfl) rfl ?_
    refine G_aload_n (pc := 70) (i := 3) hC dX1_resolve_70 rfl rfl ?_
    refine G_aload (pc := 71) (i := 4) hC dX1_resolve_71 rfl ?_
    obtain ⟨b22, rfl, hb, hw⟩ := gThis_e hw
    refine G_callV (pc := 73) (n := 1) (C := "MergeWorkbench$Chunk") (b := b22) (As := [va_rf (some q18)]) (rest := []) hC (m_X17_addResult hJ hw) (lw_V q3024 q3025 q3026 q147 q3027) hd_X17_addResult (by decide) (rcv (C := RX17) (T := TX17) (N := 5) hC hb rfl) rfl rfl (st_c cat_e (Nat.le_of_ble_eq_true rfl)) dX1_resolve_73 (kU fun M21 hw => ?_)
    refine G_aload (pc := 76) (i := 4) hC dX1_resolve_76 rfl ?_
    obtain ⟨hb, hw⟩ := hw
    refine G_callF (pc := 78) (n := 0) (x := ⟨"java/util/List", "size", "()I"⟩) (C := "java/util/ArrayList") (ci := 21) (T := TJ2) (N := 3) (b := q18) (As := []) (rest := []) hC (J_L_size hJ hw) (lw_F q1205 q889 q363 q87 q364) (nw_in q888 rfl) (nw_in q887 rfl) (nw_in q891 rfl) (nw_in q890 rfl) (nw_in q259 rfl) rfl (rcv (C := RJ2) (T := TJ2) (N := 3) hC hb rfl) (by decide +kernel) (by decide) rfl rfl (st_c cat_e (Nat.le_of_ble_eq_true rfl)) dX1_resolve_78 (kI fun x24 M23 hw => ?_)
    exact G_iretX (pc := 83) hC rfl hQ dX1_resolve_83 hw
  · replace hw := hw.2 hc
    exact G_throw0 (pc := 22) (cls := "java/util/NoSuchElementException") (names := nmE) (ik := 197) (ic := 199) hJ.1 hC hno hQ (by decide +kernel) nmE_fit q2523 q117 at_X1_resolve_22 ag_X1_resolve_22 dX1_resolve_22 dX1_resolve_25 dX1_resolve_26 dX1_resolve_29 rfl rfl (st_c cat_e (Nat.le_of_ble_eq_true rfl)) hw
theorem hd_X16_unresolved : yX16_unresolved.cls = "MergeWorkbench$Merge" ∧ yX16_unresolved.cls ≠ "java/lang/invoke/MethodHandle" ∧ yX16_unresolved.cls ≠ "java/lang/invoke/VarHandle" ∧ (parseMethodDescriptor yX16_unresolved.desc).map (fun d => d.parameters.length) = some 0 := by decide +kernel
def w_X1_unresolved (g : gT) (F : Nat) (a0 : Nat) (M : hM) (Q : Int32 → hM → Prop) (X : String → Nat → hM → Prop) : Prop :=
  (isC M a0 0 ∧ w_X1_merge_2 g F a0  M (fun x2 M1 => gThis M1 x2 15 fun b4 => w_X16_unresolved g F b4  M1 (fun x5 M3 => Q x5 M3)) X)
theorem m_X1_unresolved {l : Launch} {g : gT} {F : Nat} {a0 : Nat} {M : hM} {Q : Int32 → hM → Prop} {X : String → Nat → hM → Prop} (hJ : JOK l g) (hw : w_X1_unresolved g F a0 M Q X) : MX l g yX1_unresolved (ws_ yX1_unresolved cX1_unresolved 1 (some .int)) 42 2045 [va_rf (some a0)] M (PI Q) X := by
  refine MX_of hJ.2.1 (by decide) (cat_r cat_e) (Nat.le_of_ble_eq_true rfl) (fun k hl hg hin hno hQ hC => ?_)
  subst hl hg
  show GW k 1 M 0 [some (va_rf (some a0))] []
  refine G_aload_n (pc := 0) (i := 0) hC dX1_unresolved_0 rfl rfl ?_
  obtain ⟨hb, hw⟩ := hw
  refine GX_callV (pc := 1) (n := 0) (C := "MergeWorkbench") (b := a0) (As := []) (rest := []) hC (m_X1_merge_2 hJ hw) (lw_V q3001 q3003 qs47 q84 q3004) hd_X1_merge_2 (by decide) (rcv (C := RX1) (T := TX1) (N := 10) hC hb rfl) rfl rfl (st_c cat_e (Nat.le_of_ble_eq_true rfl)) dX1_unresolved_1 (fun E q M hx => GX_out hC hno hQ hx) (kRf fun x2 M1 hw => ?_)
  obtain ⟨b4, rfl, hb, hw⟩ := gThis_e hw
  refine G_callV (pc := 4) (n := 0) (C := "MergeWorkbench$Merge") (b := b4) (As := []) (rest := []) hC (m_X16_unresolved hJ hw) (lw_V q3044 q3045 q3046 q146 q3047) hd_X16_unresolved (by decide) (rcv (C := RX16) (T := TX16) (N := 5) hC hb rfl) rfl rfl (st_c cat_e (Nat.le_of_ble_eq_true rfl)) dX1_unresolved_4 (kI fun x5 M3 hw => ?_)
  exact G_iretX (pc := 7) hC rfl hQ dX1_unresolved_7 hw
theorem hd_X16_result : yX16_result.cls = "MergeWorkbench$Merge" ∧ yX16_result.cls ≠ "java/lang/invoke/MethodHandle" ∧ yX16_result.cls ≠ "java/lang/invoke/VarHandle" ∧ (parseMethodDescriptor yX16_result.desc).map (fun d => d.parameters.length) = some 0 := by decide +kernel
def w_X1_mergedLength (g : gT) (F : Nat) (a0 : Nat) (M : hM) (Q : Int32 → hM → Prop) (X : String → Nat → hM → Prop) : Prop :=
  (isC M a0 0 ∧ w_X1_merge_2 g F a0  M (fun x2 M1 => gThis M1 x2 15 fun b4 => w_X16_result g F b4  M1 (fun x5 M3 => gThis M3 x5 21 fun b7 => L_size g b7  M3 (fun x8 M6 => Q x8 M6))) X)
theorem m_X1_mergedLength {l : Launch} {g : gT} {F : Nat} {a0 : Nat} {M : hM} {Q : Int32 → hM → Prop} {X : String → Nat → hM → Prop} (hJ : JOK l g) (hw : w_X1_mergedLength g F a0 M Q X) : MX l g yX1_mergedLength (ws_ yX1_mergedLength cX1_mergedLength 1 (some .int)) 44 2087 [va_rf (some a0)] M (PI Q) X := by
  refine MX_of hJ.2.1 (by decide) (cat_r cat_e) (Nat.le_of_ble_eq_true rfl) (fun k hl hg hin hno hQ hC => ?_)
  subst hl hg
  show GW k 1 M 0 [some (va_rf (some a0))] []
  refine G_aload_n (pc := 0) (i := 0) hC dX1_mergedLength_0 rfl rfl ?_
  obtain ⟨hb, hw⟩ := hw
  refine GX_callV (pc := 1) (n := 0) (C := "MergeWorkbench") (b := a0) (As := []) (rest := []) hC (m_X1_merge_2 hJ hw) (lw_V q3001 q3003 qs47 q84 q3004) hd_X1_merge_2 (by decide) (rcv (C := RX1) (T := TX1) (N := 10) hC hb rfl) rfl rfl (st_c cat_e (Nat.le_of_ble_eq_true rfl)) dX1_mergedLength_1 (fun E q M hx => GX_out hC hno hQ hx) (kRf fun x2 M1 hw => ?_)
  obtain ⟨b4, rfl, hb, hw⟩ := gThis_e hw
  refine G_callV (pc := 4) (n := 0) (C := "MergeWorkbench$Merge") (b := b4) (As := []) (rest := []) hC (m_X16_result hJ hw) (lw_V q3065 q3066 q3067 q146 q3068) hd_X16_result (by decide) (rcv (C := RX16) (T := TX16) (N := 5) hC hb rfl) rfl rfl (st_c cat_e (Nat.le_of_ble_eq_true rfl)) dX1_mergedLength_4 (kRf fun x5 M3 hw => ?_)
  obtain ⟨b7, rfl, hb, hw⟩ := gThis_e hw
  refine G_callF (pc := 7) (n := 0) (x := ⟨"java/util/List", "size", "()I"⟩) (C := "java/util/ArrayList") (ci := 21) (T := TJ2) (N := 3) (b := b7) (As := []) (rest := []) hC (J_L_size hJ hw) (lw_F q1205 q889 q363 q87 q364) (nw_in q888 rfl) (nw_in q887 rfl) (nw_in q891 rfl) (nw_in q890 rfl) (nw_in q259 rfl) rfl (rcv (C := RJ2) (T := TJ2) (N := 3) hC hb rfl) (by decide +kernel) (by decide) rfl rfl (st_c cat_e (Nat.le_of_ble_eq_true rfl)) dX1_mergedLength_7 (kI fun x8 M6 hw => ?_)
  exact G_iretX (pc := 12) hC rfl hQ dX1_mergedLength_12 hw
def w_X1_merged (g : gT) (F : Nat) (a0 : Nat) (p1 : Int32) (M : hM) (Q : Int32 → hM → Prop) (X : String → Nat → hM → Prop) : Prop :=
  (isC M a0 0 ∧ w_X1_merge_2 g F a0  M (fun x2 M1 => gThis M1 x2 15 fun b4 => w_X16_result g F b4  M1 (fun x5 M3 => gThis M3 x5 21 fun b7 => L_size g b7  M3 (fun x8 M6 => w_X1_requireIndex g F p1 x8 M6 (fun M9 => (isC M9 b7 21 ∧ L_get g b7 p1 M9 (fun x11 M10 => ckB g M10 x11 (gBx g M10 x11 fun b13 => B_val g b13  M10 (fun x14 M12 => Q x14 M12))))) X))) X)
theorem m_X1_merged {l : Launch} {g : gT} {F : Nat} {a0 : Nat} {p1 : Int32} {M : hM} {Q : Int32 → hM → Prop} {X : String → Nat → hM → Prop} (hJ : JOK l g) (hw : w_X1_merged g F a0 p1 M Q X) : MX l g yX1_merged (ws_ yX1_merged cX1_merged 3 (some .int)) 44 2087 [va_rf (some a0), .int p1] M (PI Q) X := by
  refine MX_of hJ.2.1 (by decide) (cat_r (cat_i cat_e)) (Nat.le_of_ble_eq_true rfl) (fun k hl hg hin hno hQ hC => ?_)
  subst hl hg
  show GW k 3 M 0 [some (va_rf (some a0)), some (.int p1), none] []
  refine G_aload_n (pc := 0) (i := 0) hC dX1_merged_0 rfl rfl ?_
  obtain ⟨hb, hw⟩ := hw
  refine GX_callV (pc := 1) (n := 0) (C := "MergeWorkbench") (b := a0) (As := []) (rest := []) hC (m_X1_merge_2 hJ hw) (lw_V q3001 q3003 qs47 q84 q3004) hd_X1_merge_2 (by decide) (rcv (C := RX1) (T := TX1) (N := 10) hC hb rfl) rfl rfl (st_c cat_e (Nat.le_of_ble_eq_true rfl)) dX1_merged_1 (fun E q M hx => GX_out hC hno hQ hx) (kRf fun x2 M1 hw => ?_)
  obtain ⟨b4, rfl, hb, hw⟩ := gThis_e hw
  refine G_callV (pc := 4) (n := 0) (C := "MergeWorkbench$Merge") (b := b4) (As := []) (rest := []) hC (m_X16_result hJ hw) (lw_V q3065 q3066 q3067 q146 q3068) hd_X16_result (by decide) (rcv (C := RX16) (T := TX16) (N := 5) hC hb rfl) rfl rfl (st_c cat_e (Nat.le_of_ble_eq_true rfl)) dX1_merged_4 (kRf fun x5 M3 hw => ?_)
  refine G_astore_n (pc := 7) (i := 2) (lw := [some (va_rf (some a0)), some (.int p1), some (va_rf x5)]) hC dX1_merged_7 rfl (Nat.le_of_ble_eq_true rfl) rfl ?_
  refine G_iload_n (pc := 8) (i := 1) hC dX1_merged_8 rfl rfl ?_
  refine G_aload_n (pc := 9) (i := 2) hC dX1_merged_9 rfl rfl ?_
  obtain ⟨b7, rfl, hb, hw⟩ := gThis_e hw
  refine G_callF (pc := 10) (n := 0) (x := ⟨"java/util/List", "size", "()I"⟩) (C := "java/util/ArrayList") (ci := 21) (T := TJ2) (N := 3) (b := b7) (As := []) (rest := [.int p1]) hC (J_L_size hJ hw) (lw_F q1205 q889 q363 q87 q364) (nw_in q888 rfl) (nw_in q887 rfl) (nw_in q891 rfl) (nw_in q890 rfl) (nw_in q259 rfl) rfl (rcv (C := RJ2) (T := TJ2) (N := 3) hC hb rfl) (by decide +kernel) (by decide) rfl rfl (st_c (cat_i cat_e) (Nat.le_of_ble_eq_true rfl)) dX1_merged_10 (kI fun x8 M6 hw => ?_)
  refine GX_callS (pc := 15) (n := 2) (As := [.int p1, .int x8]) (rest := []) hC (m_X1_requireIndex hJ hw) (lw_S q1366 q1367 q84 q1368) hd_X1_requireIndex.2 (by decide) rfl rfl (st_c cat_e (Nat.le_of_ble_eq_true rfl)) dX1_merged_15 (fun E q M hx => GX_out hC hno hQ hx) (kU fun M9 hw => ?_)
  refine G_aload_n (pc := 18) (i := 2) hC dX1_merged_18 rfl rfl ?_
  refine G_iload_n (pc := 19) (i := 1) hC dX1_merged_19 rfl rfl ?_
  obtain ⟨hb, hw⟩ := hw
  refine G_callF (pc := 20) (n := 1) (x := ⟨"java/util/List", "get", "(I)Ljava/lang/Object;"⟩) (C := "java/util/ArrayList") (ci := 21) (T := TJ2) (N := 3) (b := b7) (As := [.int p1]) (rest := []) hC (J_L_get hJ hw) (lw_F q1234 q956 q958 q87 q960) (nw_in q955 rfl) (nw_in q954 rfl) (nw_in q959 rfl) (nw_in q957 rfl) (nw_in q259 rfl) rfl (rcv (C := RJ2) (T := TJ2) (N := 3) hC hb rfl) (by decide +kernel) (by decide) rfl rfl (st_c cat_e (Nat.le_of_ble_eq_true rfl)) dX1_merged_20 (kRf fun x11 M10 hw => ?_)
  obtain ⟨hb, hw⟩ := hw
  refine G_castBS (pc := 25) hJ.1 hC q1409 hb dX1_merged_25 ?_
  obtain ⟨b13, rfl, hb, hw⟩ := gBx_e hw
  refine G_callV (pc := 28) (n := 0) (C := "java/lang/Integer") (b := b13) (As := []) (rest := []) hC (J_B_val hJ hw) (lw_V q1410 q988 q989 q106 q990) hd_J19_intValue (by decide) (rcvB hJ.1 hC hb) rfl rfl (st_c cat_e (Nat.le_of_ble_eq_true rfl)) dX1_merged_28 (kI fun x14 M12 hw => ?_)
  exact G_iretX (pc := 31) hC rfl hQ dX1_merged_31 hw
theorem at_X1_accept_43 : ∀ w ∈ vx_at0 RX1 253 "java/lang/UnsupportedOperationException" nmE, w ∈ lw_all ∨ w ∈ nwAll := at_in [98, 400, 409, 420, 423, 425, 401, 402, 158, 159, 403, 408, 421, 629, 390, 630, 392, 631, 394, 404, 406, 396, 683, 684, 685, 686, 686, 687, 688, 689, 689, 690, 691, 401, 3086, 674, 676, 417, 677, 678, 679, 680, 399, 398, 681] [381, 383, 385, 675] (by decide +kernel) (by decide +kernel) (by decide +kernel)
theorem ag_X1_accept_43 : (Cond.classLink RX1 251 "java/lang/UnsupportedOperationException" :: Cond.initialized "java/lang/UnsupportedOperationException" :: vx_at0 RX1 253 "java/lang/UnsupportedOperationException" nmE).all vx_ot = true := by decide +kernel
def w_X1_accept_21 (g : gT) (F : Nat) (a0 : Nat) (p1 : Int32) (Q : Int32 → hM → Prop) (X : String → Nat → hM → Prop) (s0 : Int32) (M : hM) : Prop :=
  w_X1_requireState g F s0 M (fun M1 => gF M1 (some a0) 0 6 fun x2 => gThis M1 x2 15 fun b4 => w_X16_result g F b4  M1 (fun x5 M3 => gThis M3 x5 21 fun b7 => L_size g b7  M3 (fun x8 M6 => ((x8 ≤ (24 : Int32) → (isC M6 a0 0 ∧ w_X1_change g F a0 p1 (some b7) M6 (fun M9 => (isC M9 b7 21 ∧ L_size g b7  M9 (fun x11 M10 => Q x11 M10))))) ∧ (¬ (x8 ≤ (24 : Int32)) → thr M6 "java/lang/UnsupportedOperationException" X))))) X
def w_X1_accept (g : gT) (F : Nat) (a0 : Nat) (p1 : Int32) (M : hM) (Q : Int32 → hM → Prop) (X : String → Nat → hM → Prop) : Prop :=
  (isC M a0 0 ∧ w_X1_document g F a0 p1 M (fun x2 M1 => (isC M1 a0 0 ∧ w_X1_merge_2 g F a0  M1 (fun x4 M3 => gThis M3 x4 15 fun b6 => w_X16_unresolved g F b6  M3 (fun x7 M5 => ((¬ x7 = 0 → w_X1_accept_21 g F a0 p1 Q X (0 : Int32) M5) ∧ (x7 = 0 → w_X1_accept_21 g F a0 p1 Q X (1 : Int32) M5)))) X)) X)
theorem g_X1_accept_21 {k : kT} {F : Nat} {a0 : Nat} {p1 : Int32} {Q : Int32 → hM → Prop} {X : String → Nat → hM → Prop} (hJ : JOK (kl k) (kg k)) (hC : CX k 3 cX1_accept RX1 (some .int) 44 2087) (hQ : isQX k (PI Q) X) (hin : (kt k).name = "accept") (hno : ∀ x ∈ (kc k).exceptionTable.toList, False) : ∀ (s0 : Int32) (M : hM), w_X1_accept_21 (kg k) F a0 p1 Q X s0 M → GW k 3 M 21 [some (va_rf (some a0)), some (.int p1), none] [.int s0] := by
  intro s0 M hw
  refine GX_callS (pc := 21) (n := 1) (As := [.int s0]) (rest := []) hC (m_X1_requireState hJ hw) (lw_S q1235 q1236 q84 q1237) hd_X1_requireState.2 (by decide) rfl rfl (st_c cat_e (Nat.le_of_ble_eq_true rfl)) dX1_accept_21 (fun E q M hx => GX_out hC hno hQ hx) (kU fun M1 hw => ?_)
  refine G_aload_n (pc := 24) (i := 0) hC dX1_accept_24 rfl rfl ?_
  refine G_getF (pc := 25) (ci := 0) (C := RX1) (T := TX1) (N := 10) (f := 6) hC rfl in_X1 (Nat.le_of_ble_eq_true rfl) q700 (fun _ h => h) dX1_accept_25 hw (fun x2 hw => ?_)
  obtain ⟨b4, rfl, hb, hw⟩ := gThis_e hw
  refine G_callV (pc := 28) (n := 0) (C := "MergeWorkbench$Merge") (b := b4) (As := []) (rest := []) hC (m_X16_result hJ hw) (lw_V q3065 q3066 q3067 q146 q3068) hd_X16_result (by decide) (rcv (C := RX16) (T := TX16) (N := 5) hC hb rfl) rfl rfl (st_c cat_e (Nat.le_of_ble_eq_true rfl)) dX1_accept_28 (kRf fun x5 M3 hw => ?_)
  refine G_astore_n (pc := 31) (i := 2) (lw := [some (va_rf (some a0)), some (.int p1), some (va_rf x5)]) hC dX1_accept_31 rfl (Nat.le_of_ble_eq_true rfl) rfl ?_
  refine G_aload_n (pc := 32) (i := 2) hC dX1_accept_32 rfl rfl ?_
  obtain ⟨b7, rfl, hb, hw⟩ := gThis_e hw
  refine G_callF (pc := 33) (n := 0) (x := ⟨"java/util/List", "size", "()I"⟩) (C := "java/util/ArrayList") (ci := 21) (T := TJ2) (N := 3) (b := b7) (As := []) (rest := []) hC (J_L_size hJ hw) (lw_F q1205 q889 q363 q87 q364) (nw_in q888 rfl) (nw_in q887 rfl) (nw_in q891 rfl) (nw_in q890 rfl) (nw_in q259 rfl) rfl (rcv (C := RJ2) (T := TJ2) (N := 3) hC hb rfl) (by decide +kernel) (by decide) rfl rfl (st_c cat_e (Nat.le_of_ble_eq_true rfl)) dX1_accept_33 (kI fun x8 M6 hw => ?_)
  refine G_bipush (pc := 38) (v := 24) hC dX1_accept_38 (by decide) ?_
  refine G_icmp_le (pc := 40) (tgt := 51) hC dX1_accept_40 (by decide) (fun hc => ?_) (fun hc => ?_)
  · replace hw := hw.1 hc
    refine G_aload_n (pc := 51) (i := 0) hC dX1_accept_51 rfl rfl ?_
    refine G_iload_n (pc := 52) (i := 1) hC dX1_accept_52 rfl rfl ?_
    refine G_aload_n (pc := 53) (i := 2) hC dX1_accept_53 rfl rfl ?_
    obtain ⟨hb, hw⟩ := hw
    refine G_callV (pc := 54) (n := 2) (C := "MergeWorkbench") (b := a0) (As := [.int p1, va_rf (some b7)]) (rest := []) hC (m_X1_change hJ hw) (lw_V q1254 q1256 qs11 q84 q1257) hd_X1_change (by decide) (rcv (C := RX1) (T := TX1) (N := 10) hC hb rfl) rfl rfl (st_c cat_e (Nat.le_of_ble_eq_true rfl)) dX1_accept_54 (kU fun M9 hw => ?_)
    refine G_aload_n (pc := 57) (i := 2) hC dX1_accept_57 rfl rfl ?_
    obtain ⟨hb, hw⟩ := hw
    refine G_callF (pc := 58) (n := 0) (x := ⟨"java/util/List", "size", "()I"⟩) (C := "java/util/ArrayList") (ci := 21) (T := TJ2) (N := 3) (b := b7) (As := []) (rest := []) hC (J_L_size hJ hw) (lw_F q1205 q889 q363 q87 q364) (nw_in q888 rfl) (nw_in q887 rfl) (nw_in q891 rfl) (nw_in q890 rfl) (nw_in q259 rfl) rfl (rcv (C := RJ2) (T := TJ2) (N := 3) hC hb rfl) (by decide +kernel) (by decide) rfl rfl (st_c cat_e (Nat.le_of_ble_eq_true rfl)) dX1_accept_58 (kI fun x11 M10 hw => ?_)
    exact G_iretX (pc := 63) hC rfl hQ dX1_accept_63 hw
  · replace hw := hw.2 hc
    exact G_throw0 (pc := 43) (cls := "java/lang/UnsupportedOperationException") (names := nmE) (ik := 251) (ic := 253) hJ.1 hC hno hQ (by decide +kernel) nmE_fit q3085 q101 at_X1_accept_43 ag_X1_accept_43 dX1_accept_43 dX1_accept_46 dX1_accept_47 dX1_accept_50 rfl rfl (st_c cat_e (Nat.le_of_ble_eq_true rfl)) hw
theorem m_X1_accept {l : Launch} {g : gT} {F : Nat} {a0 : Nat} {p1 : Int32} {M : hM} {Q : Int32 → hM → Prop} {X : String → Nat → hM → Prop} (hJ : JOK l g) (hw : w_X1_accept g F a0 p1 M Q X) : MX l g yX1_accept (ws_ yX1_accept cX1_accept 3 (some .int)) 44 2087 [va_rf (some a0), .int p1] M (PI Q) X := by
  refine MX_of hJ.2.1 (by decide) (cat_r (cat_i cat_e)) (Nat.le_of_ble_eq_true rfl) (fun k hl hg hin hno hQ hC => ?_)
  subst hl hg
  show GW k 3 M 0 [some (va_rf (some a0)), some (.int p1), none] []
  refine G_aload_n (pc := 0) (i := 0) hC dX1_accept_0 rfl rfl ?_
  refine G_iload_n (pc := 1) (i := 1) hC dX1_accept_1 rfl rfl ?_
  obtain ⟨hb, hw⟩ := hw
  refine GX_callV (pc := 2) (n := 1) (C := "MergeWorkbench") (b := a0) (As := [.int p1]) (rest := []) hC (m_X1_document hJ hw) (lw_V q1215 q1217 qs10 q84 q1218) hd_X1_document (by decide) (rcv (C := RX1) (T := TX1) (N := 10) hC hb rfl) rfl rfl (st_c cat_e (Nat.le_of_ble_eq_true rfl)) dX1_accept_2 (fun E q M hx => GX_out hC hno hQ hx) (kRf fun x2 M1 hw => ?_)
  refine G_pop (pc := 5) hC dX1_accept_5 (rf_cat _) ?_
  refine G_aload_n (pc := 6) (i := 0) hC dX1_accept_6 rfl rfl ?_
  obtain ⟨hb, hw⟩ := hw
  refine GX_callV (pc := 7) (n := 0) (C := "MergeWorkbench") (b := a0) (As := []) (rest := []) hC (m_X1_merge_2 hJ hw) (lw_V q3001 q3003 qs47 q84 q3004) hd_X1_merge_2 (by decide) (rcv (C := RX1) (T := TX1) (N := 10) hC hb rfl) rfl rfl (st_c cat_e (Nat.le_of_ble_eq_true rfl)) dX1_accept_7 (fun E q M hx => GX_out hC hno hQ hx) (kRf fun x4 M3 hw => ?_)
  obtain ⟨b6, rfl, hb, hw⟩ := gThis_e hw
  refine G_callV (pc := 10) (n := 0) (C := "MergeWorkbench$Merge") (b := b6) (As := []) (rest := []) hC (m_X16_unresolved hJ hw) (lw_V q3044 q3045 q3046 q146 q3047) hd_X16_unresolved (by decide) (rcv (C := RX16) (T := TX16) (N := 5) hC hb rfl) rfl rfl (st_c cat_e (Nat.le_of_ble_eq_true rfl)) dX1_accept_10 (kI fun x7 M5 hw => ?_)
  refine G_if_ne (pc := 13) (tgt := 20) hC dX1_accept_13 (by decide) (fun hc => ?_) (fun hc => ?_)
  · replace hw := hw.1 hc
    refine G_iconst (pc := 20) (v := 0) hC dX1_accept_20 (by decide) ?_
    exact g_X1_accept_21 hJ hC hQ hin hno  (0 : Int32) M5 hw
  · replace hw := hw.2 hc
    refine G_iconst (pc := 16) (v := 1) hC dX1_accept_16 (by decide) ?_
    refine G_goto (pc := 17) (tgt := 21) hC dX1_accept_17 (by decide) ?_
    exact g_X1_accept_21 hJ hC hQ hin hno  (1 : Int32) M5 hw
theorem hd_X18_init : yX18_init.cls = "MergeWorkbench$Patch" ∧ yX18_init.cls ≠ "java/lang/invoke/MethodHandle" ∧ yX18_init.cls ≠ "java/lang/invoke/VarHandle" ∧ (parseMethodDescriptor yX18_init.desc).map (fun d => d.parameters.length) = some 2 := by decide +kernel
def w_X1_makePatch (g : gT) (F : Nat) (a0 : Nat) (p1 : Int32) (M : hM) (Q : Int32 → hM → Prop) (X : String → Nat → hM → Prop) : Prop :=
  w_X1_isBetween g F p1 (0 : Int32) (3 : Int32) M (fun x2 M1 => w_X1_require g F x2 M1 (fun M3 => nW M3 17 fsX18 fun q4 M5 => (isC M5 a0 0 ∧ w_X1_comparison g F a0  M5 (fun x7 M6 => (isC M6 q4 17 ∧ w_X18_init g F q4 x7 p1 M6 (fun M8 => pV M8 (some a0) 0 7 (va_rf (some q4)) fun M9 => gF M9 (some a0) 0 7 fun x10 => gF M9 x10 17 0 fun x11 => gThis M9 x11 21 fun b13 => L_size g b13  M9 (fun x14 M12 => Q x14 M12)))) X)) X)
theorem m_X1_makePatch {l : Launch} {g : gT} {F : Nat} {a0 : Nat} {p1 : Int32} {M : hM} {Q : Int32 → hM → Prop} {X : String → Nat → hM → Prop} (hJ : JOK l g) (hw : w_X1_makePatch g F a0 p1 M Q X) : MX l g yX1_makePatch (ws_ yX1_makePatch cX1_makePatch 2 (some .int)) 43 2073 [va_rf (some a0), .int p1] M (PI Q) X := by
  refine MX_of hJ.2.1 (by decide) (cat_r (cat_i cat_e)) (Nat.le_of_ble_eq_true rfl) (fun k hl hg hin hno hQ hC => ?_)
  subst hl hg
  show GW k 2 M 0 [some (va_rf (some a0)), some (.int p1)] []
  refine G_iload_n (pc := 0) (i := 1) hC dX1_makePatch_0 rfl rfl ?_
  refine G_iconst (pc := 1) (v := 0) hC dX1_makePatch_1 (by decide) ?_
  refine G_iconst (pc := 2) (v := 3) hC dX1_makePatch_2 (by decide) ?_
  refine G_callS (pc := 3) (n := 3) (As := [.int p1, .int (0 : Int32), .int (3 : Int32)]) (rest := []) hC (m_X1_isBetween hJ hw) (lw_S q1222 q1223 q84 q1224) hd_X1_isBetween.2 (by decide) rfl rfl (st_c cat_e (Nat.le_of_ble_eq_true rfl)) dX1_makePatch_3 (kI fun x2 M1 hw => ?_)
  refine GX_callS (pc := 6) (n := 1) (As := [.int x2]) (rest := []) hC (m_X1_require hJ hw) (lw_S q1225 q1226 q84 q1227) hd_X1_require.2 (by decide) rfl rfl (st_c cat_e (Nat.le_of_ble_eq_true rfl)) dX1_makePatch_6 (fun E q M hx => GX_out hC hno hQ hx) (kU fun M3 hw => ?_)
  refine G_aload_n (pc := 9) (i := 0) hC dX1_makePatch_9 rfl rfl ?_
  refine G_new (pc := 10) (ci := 17) (C := RX18) (T := TX18) (N := 2) (fs := fsX18) tyX18 hC rfl in_X18 tyX18_ok q3094 q3095 q148 dfX18 rfl dX1_makePatch_10 hw (fun q4 M5 hw => ?_)
  refine G_dup (pc := 13) hC dX1_makePatch_13 (rf_cat _) ?_
  refine G_aload_n (pc := 14) (i := 0) hC dX1_makePatch_14 rfl rfl ?_
  obtain ⟨hb, hw⟩ := hw
  refine GX_callV (pc := 15) (n := 0) (C := "MergeWorkbench") (b := a0) (As := []) (rest := [va_rf (some q4), va_rf (some q4), va_rf (some a0)]) hC (m_X1_comparison hJ hw) (lw_V q2457 q2459 qs37 q84 q2460) hd_X1_comparison (by decide) (rcv (C := RX1) (T := TX1) (N := 10) hC hb rfl) rfl rfl (st_c (cat_r (cat_r (cat_r cat_e))) (Nat.le_of_ble_eq_true rfl)) dX1_makePatch_15 (fun E q M hx => GX_out hC hno hQ hx) (kRf fun x7 M6 hw => ?_)
  refine G_iload_n (pc := 18) (i := 1) hC dX1_makePatch_18 rfl rfl ?_
  obtain ⟨hb, hw⟩ := hw
  refine G_callI (pc := 19) (n := 2) (b := q4) (As := [va_rf x7, .int p1]) (rest := [va_rf (some q4), va_rf (some a0)]) hC (m_X18_init hJ hw) (lw_meth q3098) q148 q3096 q3097 rfl hd_X18_init.2 (by decide) rfl rfl (st_c (cat_r (cat_r cat_e)) (Nat.le_of_ble_eq_true rfl)) dX1_makePatch_19 (kU fun M8 hw => ?_)
  refine G_put (pc := 22) (ci := 0) (C := RX1) (T := TX1) (N := 10) (f := 7) tyX1 hC rfl in_X1 tyX1_ok nmX1 (Nat.le_of_ble_eq_true rfl) q701 (fun _ h => h) rfl (nR_o _ _) (fR_o _ _) dX1_makePatch_22 hw (fun M9 hw => ?_)
  refine G_aload_n (pc := 25) (i := 0) hC dX1_makePatch_25 rfl rfl ?_
  refine G_getF (pc := 26) (ci := 0) (C := RX1) (T := TX1) (N := 10) (f := 7) hC rfl in_X1 (Nat.le_of_ble_eq_true rfl) q701 (fun _ h => h) dX1_makePatch_26 hw (fun x10 hw => ?_)
  refine G_getFN (pc := 29) (ci := 17) (C := RX18) (T := TX18) (N := 2) (f := 0) hC rfl in_X18 (Nat.le_of_ble_eq_true rfl) (nw_in q3138 rfl) (fun _ h => h) dX1_makePatch_29 hw (fun x11 hw => ?_)
  obtain ⟨b13, rfl, hb, hw⟩ := gThis_e hw
  refine G_callF (pc := 32) (n := 0) (x := ⟨"java/util/List", "size", "()I"⟩) (C := "java/util/ArrayList") (ci := 21) (T := TJ2) (N := 3) (b := b13) (As := []) (rest := []) hC (J_L_size hJ hw) (lw_F q1205 q889 q363 q87 q364) (nw_in q888 rfl) (nw_in q887 rfl) (nw_in q891 rfl) (nw_in q890 rfl) (nw_in q259 rfl) rfl (rcv (C := RJ2) (T := TJ2) (N := 3) hC hb rfl) (by decide +kernel) (by decide) rfl rfl (st_c cat_e (Nat.le_of_ble_eq_true rfl)) dX1_makePatch_32 (kI fun x14 M12 hw => ?_)
  exact G_iretX (pc := 37) hC rfl hQ dX1_makePatch_37 hw
def w_X1_patch_12 (g : gT) (F : Nat) (a0 : Nat) (Q : Option Nat → hM → Prop) (X : String → Nat → hM → Prop) (s0 : Int32) (M : hM) : Prop :=
  w_X1_requireState g F s0 M (fun M1 => gF M1 (some a0) 0 7 fun x2 => Q x2 M1) X
def w_X1_patch (g : gT) (F : Nat) (a0 : Nat) (M : hM) (Q : Option Nat → hM → Prop) (X : String → Nat → hM → Prop) : Prop :=
  gF M (some a0) 0 7 fun x1 => ((x1 = none → w_X1_patch_12 g F a0 Q X (0 : Int32) M) ∧ (¬ x1 = none → w_X1_patch_12 g F a0 Q X (1 : Int32) M))
theorem g_X1_patch_12 {k : kT} {F : Nat} {a0 : Nat} {Q : Option Nat → hM → Prop} {X : String → Nat → hM → Prop} (hJ : JOK (kl k) (kg k)) (hC : CX k 1 cX1_patch RX1 (some (.object "MergeWorkbench$Patch")) 7 116) (hQ : isQX k (PR Q) X) (hin : (kt k).name = "patch") (hno : ∀ x ∈ (kc k).exceptionTable.toList, False) : ∀ (s0 : Int32) (M : hM), w_X1_patch_12 (kg k) F a0 Q X s0 M → GW k 1 M 12 [some (va_rf (some a0))] [.int s0] := by
  intro s0 M hw
  refine GX_callS (pc := 12) (n := 1) (As := [.int s0]) (rest := []) hC (m_X1_requireState hJ hw) (lw_S q1235 q1236 q84 q1237) hd_X1_requireState.2 (by decide) rfl rfl (st_c cat_e (Nat.le_of_ble_eq_true rfl)) dX1_patch_12 (fun E q M hx => GX_out hC hno hQ hx) (kU fun M1 hw => ?_)
  refine G_aload_n (pc := 15) (i := 0) hC dX1_patch_15 rfl rfl ?_
  refine G_getF (pc := 16) (ci := 0) (C := RX1) (T := TX1) (N := 10) (f := 7) hC rfl in_X1 (Nat.le_of_ble_eq_true rfl) q701 (fun _ h => h) dX1_patch_16 hw (fun x2 hw => ?_)
  exact G_aretX (pc := 19) hC (Or.inl ⟨_, rfl⟩) hQ dX1_patch_19 hw
theorem m_X1_patch {l : Launch} {g : gT} {F : Nat} {a0 : Nat} {M : hM} {Q : Option Nat → hM → Prop} {X : String → Nat → hM → Prop} (hJ : JOK l g) (hw : w_X1_patch g F a0 M Q X) : MX l g yX1_patch (ws_ yX1_patch cX1_patch 1 (some (.object "MergeWorkbench$Patch"))) 7 116 [va_rf (some a0)] M (PR Q) X := by
  refine MX_of hJ.2.1 (by decide) (cat_r cat_e) (Nat.le_of_ble_eq_true rfl) (fun k hl hg hin hno hQ hC => ?_)
  subst hl hg
  show GW k 1 M 0 [some (va_rf (some a0))] []
  refine G_aload_n (pc := 0) (i := 0) hC dX1_patch_0 rfl rfl ?_
  refine G_getF (pc := 1) (ci := 0) (C := RX1) (T := TX1) (N := 10) (f := 7) hC rfl in_X1 (Nat.le_of_ble_eq_true rfl) q701 (fun _ h => h) dX1_patch_1 hw (fun x1 hw => ?_)
  refine G_ifnull (pc := 4) (tgt := 11) hC dX1_patch_4 (by decide) (fun hc => ?_) (fun hc => ?_)
  · replace hw := hw.1 hc
    refine G_iconst (pc := 11) (v := 0) hC dX1_patch_11 (by decide) ?_
    exact g_X1_patch_12 hJ hC hQ hin hno  (0 : Int32) M hw
  · replace hw := hw.2 hc
    refine G_iconst (pc := 7) (v := 1) hC dX1_patch_7 (by decide) ?_
    refine G_goto (pc := 8) (tgt := 12) hC dX1_patch_8 (by decide) ?_
    exact g_X1_patch_12 hJ hC hQ hin hno  (1 : Int32) M hw
theorem hd_X19_property : yX19_property.cls = "MergeWorkbench$Hunk" ∧ yX19_property.cls ≠ "java/lang/invoke/MethodHandle" ∧ yX19_property.cls ≠ "java/lang/invoke/VarHandle" ∧ (parseMethodDescriptor yX19_property.desc).map (fun d => d.parameters.length) = some 1 := by decide +kernel
theorem hd_X1_patch : yX1_patch.cls = "MergeWorkbench" ∧ yX1_patch.cls ≠ "java/lang/invoke/MethodHandle" ∧ yX1_patch.cls ≠ "java/lang/invoke/VarHandle" ∧ (parseMethodDescriptor yX1_patch.desc).map (fun d => d.parameters.length) = some 0 := by decide +kernel
def w_X1_hunk (g : gT) (F : Nat) (a0 : Nat) (p1 : Int32) (p2 : Int32) (M : hM) (Q : Int32 → hM → Prop) (X : String → Nat → hM → Prop) : Prop :=
  (isC M a0 0 ∧ w_X1_patch g F a0  M (fun x2 M1 => gF M1 x2 17 0 fun x3 => gThis M1 x3 21 fun b5 => L_size g b5  M1 (fun x6 M4 => w_X1_requireIndex g F p1 x6 M4 (fun M7 => w_X1_isBetween g F p2 (0 : Int32) (5 : Int32) M7 (fun x9 M8 => w_X1_require g F x9 M8 (fun M10 => gF M10 (some a0) 0 7 fun x11 => gF M10 x11 17 0 fun x12 => gThis M10 x12 21 fun b14 => L_get g b14 p1 M10 (fun x15 M13 => ckC M13 x15 18 (gThis M13 x15 18 fun b17 => w_X19_property g F b17 p2 M13 (fun x18 M16 => Q x18 M16)))) X)) X)) X)
theorem m_X1_hunk {l : Launch} {g : gT} {F : Nat} {a0 : Nat} {p1 : Int32} {p2 : Int32} {M : hM} {Q : Int32 → hM → Prop} {X : String → Nat → hM → Prop} (hJ : JOK l g) (hw : w_X1_hunk g F a0 p1 p2 M Q X) : MX l g yX1_hunk (ws_ yX1_hunk cX1_hunk 3 (some .int)) 41 2021 [va_rf (some a0), .int p1, .int p2] M (PI Q) X := by
  refine MX_of hJ.2.1 (by decide) (cat_r (cat_i (cat_i cat_e))) (Nat.le_of_ble_eq_true rfl) (fun k hl hg hin hno hQ hC => ?_)
  subst hl hg
  show GW k 3 M 0 [some (va_rf (some a0)), some (.int p1), some (.int p2)] []
  refine G_iload_n (pc := 0) (i := 1) hC dX1_hunk_0 rfl rfl ?_
  refine G_aload_n (pc := 1) (i := 0) hC dX1_hunk_1 rfl rfl ?_
  obtain ⟨hb, hw⟩ := hw
  refine GX_callV (pc := 2) (n := 0) (C := "MergeWorkbench") (b := a0) (As := []) (rest := [.int p1]) hC (m_X1_patch hJ hw) (lw_V q3152 q3154 qs48 q84 q3155) hd_X1_patch (by decide) (rcv (C := RX1) (T := TX1) (N := 10) hC hb rfl) rfl rfl (st_c (cat_i cat_e) (Nat.le_of_ble_eq_true rfl)) dX1_hunk_2 (fun E q M hx => GX_out hC hno hQ hx) (kRf fun x2 M1 hw => ?_)
  refine G_getFN (pc := 5) (ci := 17) (C := RX18) (T := TX18) (N := 2) (f := 0) hC rfl in_X18 (Nat.le_of_ble_eq_true rfl) (nw_in q3138 rfl) (fun _ h => h) dX1_hunk_5 hw (fun x3 hw => ?_)
  obtain ⟨b5, rfl, hb, hw⟩ := gThis_e hw
  refine G_callF (pc := 8) (n := 0) (x := ⟨"java/util/List", "size", "()I"⟩) (C := "java/util/ArrayList") (ci := 21) (T := TJ2) (N := 3) (b := b5) (As := []) (rest := [.int p1]) hC (J_L_size hJ hw) (lw_F q1205 q889 q363 q87 q364) (nw_in q888 rfl) (nw_in q887 rfl) (nw_in q891 rfl) (nw_in q890 rfl) (nw_in q259 rfl) rfl (rcv (C := RJ2) (T := TJ2) (N := 3) hC hb rfl) (by decide +kernel) (by decide) rfl rfl (st_c (cat_i cat_e) (Nat.le_of_ble_eq_true rfl)) dX1_hunk_8 (kI fun x6 M4 hw => ?_)
  refine GX_callS (pc := 13) (n := 2) (As := [.int p1, .int x6]) (rest := []) hC (m_X1_requireIndex hJ hw) (lw_S q1366 q1367 q84 q1368) hd_X1_requireIndex.2 (by decide) rfl rfl (st_c cat_e (Nat.le_of_ble_eq_true rfl)) dX1_hunk_13 (fun E q M hx => GX_out hC hno hQ hx) (kU fun M7 hw => ?_)
  refine G_iload_n (pc := 16) (i := 2) hC dX1_hunk_16 rfl rfl ?_
  refine G_iconst (pc := 17) (v := 0) hC dX1_hunk_17 (by decide) ?_
  refine G_iconst (pc := 18) (v := 5) hC dX1_hunk_18 (by decide) ?_
  refine G_callS (pc := 19) (n := 3) (As := [.int p2, .int (0 : Int32), .int (5 : Int32)]) (rest := []) hC (m_X1_isBetween hJ hw) (lw_S q1222 q1223 q84 q1224) hd_X1_isBetween.2 (by decide) rfl rfl (st_c cat_e (Nat.le_of_ble_eq_true rfl)) dX1_hunk_19 (kI fun x9 M8 hw => ?_)
  refine GX_callS (pc := 22) (n := 1) (As := [.int x9]) (rest := []) hC (m_X1_require hJ hw) (lw_S q1225 q1226 q84 q1227) hd_X1_require.2 (by decide) rfl rfl (st_c cat_e (Nat.le_of_ble_eq_true rfl)) dX1_hunk_22 (fun E q M hx => GX_out hC hno hQ hx) (kU fun M10 hw => ?_)
  refine G_aload_n (pc := 25) (i := 0) hC dX1_hunk_25 rfl rfl ?_
  refine G_getF (pc := 26) (ci := 0) (C := RX1) (T := TX1) (N := 10) (f := 7) hC rfl in_X1 (Nat.le_of_ble_eq_true rfl) q701 (fun _ h => h) dX1_hunk_26 hw (fun x11 hw => ?_)
  refine G_getFN (pc := 29) (ci := 17) (C := RX18) (T := TX18) (N := 2) (f := 0) hC rfl in_X18 (Nat.le_of_ble_eq_true rfl) (nw_in q3138 rfl) (fun _ h => h) dX1_hunk_29 hw (fun x12 hw => ?_)
  refine G_iload_n (pc := 32) (i := 1) hC dX1_hunk_32 rfl rfl ?_
  obtain ⟨b14, rfl, hb, hw⟩ := gThis_e hw
  refine G_callF (pc := 33) (n := 1) (x := ⟨"java/util/List", "get", "(I)Ljava/lang/Object;"⟩) (C := "java/util/ArrayList") (ci := 21) (T := TJ2) (N := 3) (b := b14) (As := [.int p1]) (rest := []) hC (J_L_get hJ hw) (lw_F q1234 q956 q958 q87 q960) (nw_in q955 rfl) (nw_in q954 rfl) (nw_in q959 rfl) (nw_in q957 rfl) (nw_in q259 rfl) rfl (rcv (C := RJ2) (T := TJ2) (N := 3) hC hb rfl) (by decide +kernel) (by decide) rfl rfl (st_c cat_e (Nat.le_of_ble_eq_true rfl)) dX1_hunk_33 (kRf fun x15 M13 hw => ?_)
  obtain ⟨hb, hw⟩ := hw
  refine G_castCS (pc := 38) (C := RX19) (T := TX19) (N := 4) hC rfl q3156 hb dX1_hunk_38 ?_
  refine G_iload_n (pc := 41) (i := 2) hC dX1_hunk_41 rfl rfl ?_
  obtain ⟨b17, rfl, hb, hw⟩ := gThis_e hw
  refine G_callV (pc := 42) (n := 1) (C := "MergeWorkbench$Hunk") (b := b17) (As := [.int p2]) (rest := []) hC (m_X19_property hJ hw) (lw_V q3157 q3158 q3159 q149 q3160) hd_X19_property (by decide) (rcv (C := RX19) (T := TX19) (N := 4) hC hb rfl) rfl rfl (st_c cat_e (Nat.le_of_ble_eq_true rfl)) dX1_hunk_42 (kI fun x18 M16 hw => ?_)
  exact G_iretX (pc := 45) hC rfl hQ dX1_hunk_45 hw
theorem hd_X20_init : yX20_init.cls = "MergeWorkbench$Application" ∧ yX20_init.cls ≠ "java/lang/invoke/MethodHandle" ∧ yX20_init.cls ≠ "java/lang/invoke/VarHandle" ∧ (parseMethodDescriptor yX20_init.desc).map (fun d => d.parameters.length) = some 4 := by decide +kernel
theorem at_X1_apply_48 : ∀ w ∈ vx_at0 RX1 253 "java/lang/UnsupportedOperationException" nmE, w ∈ lw_all ∨ w ∈ nwAll := at_in [98, 400, 409, 420, 423, 425, 401, 402, 158, 159, 403, 408, 421, 629, 390, 630, 392, 631, 394, 404, 406, 396, 683, 684, 685, 686, 686, 687, 688, 689, 689, 690, 691, 401, 3086, 674, 676, 417, 677, 678, 679, 680, 399, 398, 681] [381, 383, 385, 675] (by decide +kernel) (by decide +kernel) (by decide +kernel)
theorem ag_X1_apply_48 : (Cond.classLink RX1 251 "java/lang/UnsupportedOperationException" :: Cond.initialized "java/lang/UnsupportedOperationException" :: vx_at0 RX1 253 "java/lang/UnsupportedOperationException" nmE).all vx_ot = true := by decide +kernel
def w_X1_apply (g : gT) (F : Nat) (a0 : Nat) (p1 : Int32) (p2 : Int32) (p3 : Int32) (M : hM) (Q : Int32 → hM → Prop) (X : String → Nat → hM → Prop) : Prop :=
  (isC M a0 0 ∧ w_X1_document g F a0 p1 M (fun x2 M1 => w_X1_isBetween g F p2 (0 : Int32) (2 : Int32) M1 (fun x4 M3 => w_X1_require g F x4 M3 (fun M5 => nW M5 19 fsX20 fun q6 M7 => (isC M7 a0 0 ∧ w_X1_patch g F a0  M7 (fun x9 M8 => (isC M8 q6 19 ∧ w_X20_init g F q6 x9 x2 p2 p3 M8 (fun M10 => gF M10 (some q6) 19 2 fun x11 => gThis M10 x11 21 fun b13 => L_size g b13  M10 (fun x14 M12 => ((x14 ≤ (24 : Int32) → gF M12 (some a0) 0 7 fun x15 => gF M12 (some q6) 19 3 fun x16 => pV M12 x15 17 1 (va_rf x16) fun M17 => gF M17 (some q6) 19 2 fun x18 => (isC M17 a0 0 ∧ w_X1_change g F a0 p1 x18 M17 (fun M19 => gI M19 (some q6) 19 6 fun x20 => Q x20 M19))) ∧ (¬ (x14 ≤ (24 : Int32)) → thr M12 "java/lang/UnsupportedOperationException" X)))))) X)) X)) X)
theorem m_X1_apply {l : Launch} {g : gT} {F : Nat} {a0 : Nat} {p1 : Int32} {p2 : Int32} {p3 : Int32} {M : hM} {Q : Int32 → hM → Prop} {X : String → Nat → hM → Prop} (hJ : JOK l g) (hw : w_X1_apply g F a0 p1 p2 p3 M Q X) : MX l g yX1_apply (ws_ yX1_apply cX1_apply 6 (some .int)) 49 2203 [va_rf (some a0), .int p1, .int p2, .int p3] M (PI Q) X := by
  refine MX_of hJ.2.1 (by decide) (cat_r (cat_i (cat_i (cat_i cat_e)))) (Nat.le_of_ble_eq_true rfl) (fun k hl hg hin hno hQ hC => ?_)
  subst hl hg
  show GW k 6 M 0 [some (va_rf (some a0)), some (.int p1), some (.int p2), some (.int p3), none, none] []
  refine G_aload_n (pc := 0) (i := 0) hC dX1_apply_0 rfl rfl ?_
  refine G_iload_n (pc := 1) (i := 1) hC dX1_apply_1 rfl rfl ?_
  obtain ⟨hb, hw⟩ := hw
  refine GX_callV (pc := 2) (n := 1) (C := "MergeWorkbench") (b := a0) (As := [.int p1]) (rest := []) hC (m_X1_document hJ hw) (lw_V q1215 q1217 qs10 q84 q1218) hd_X1_document (by decide) (rcv (C := RX1) (T := TX1) (N := 10) hC hb rfl) rfl rfl (st_c cat_e (Nat.le_of_ble_eq_true rfl)) dX1_apply_2 (fun E q M hx => GX_out hC hno hQ hx) (kRf fun x2 M1 hw => ?_)
  refine G_astore (pc := 5) (i := 4) (lw := [some (va_rf (some a0)), some (.int p1), some (.int p2), some (.int p3), some (va_rf x2), none]) hC dX1_apply_5 (Nat.le_of_ble_eq_true rfl) rfl ?_
  refine G_iload_n (pc := 7) (i := 2) hC dX1_apply_7 rfl rfl ?_
  refine G_iconst (pc := 8) (v := 0) hC dX1_apply_8 (by decide) ?_
  refine G_iconst (pc := 9) (v := 2) hC dX1_apply_9 (by decide) ?_
  refine G_callS (pc := 10) (n := 3) (As := [.int p2, .int (0 : Int32), .int (2 : Int32)]) (rest := []) hC (m_X1_isBetween hJ hw) (lw_S q1222 q1223 q84 q1224) hd_X1_isBetween.2 (by decide) rfl rfl (st_c cat_e (Nat.le_of_ble_eq_true rfl)) dX1_apply_10 (kI fun x4 M3 hw => ?_)
  refine GX_callS (pc := 13) (n := 1) (As := [.int x4]) (rest := []) hC (m_X1_require hJ hw) (lw_S q1225 q1226 q84 q1227) hd_X1_require.2 (by decide) rfl rfl (st_c cat_e (Nat.le_of_ble_eq_true rfl)) dX1_apply_13 (fun E q M hx => GX_out hC hno hQ hx) (kU fun M5 hw => ?_)
  refine G_new (pc := 16) (ci := 19) (C := RX20) (T := TX20) (N := 7) (fs := fsX20) tyX20 hC rfl in_X20 tyX20_ok q3169 q3170 q150 dfX20 rfl dX1_apply_16 hw (fun q6 M7 hw => ?_)
  refine G_dup (pc := 19) hC dX1_apply_19 (rf_cat _) ?_
  refine G_aload_n (pc := 20) (i := 0) hC dX1_apply_20 rfl rfl ?_
  obtain ⟨hb, hw⟩ := hw
  refine GX_callV (pc := 21) (n := 0) (C := "MergeWorkbench") (b := a0) (As := []) (rest := [va_rf (some q6), va_rf (some q6)]) hC (m_X1_patch hJ hw) (lw_V q3152 q3154 qs48 q84 q3155) hd_X1_patch (by decide) (rcv (C := RX1) (T := TX1) (N := 10) hC hb rfl) rfl rfl (st_c (cat_r (cat_r cat_e)) (Nat.le_of_ble_eq_true rfl)) dX1_apply_21 (fun E q M hx => GX_out hC hno hQ hx) (kRf fun x9 M8 hw => ?_)
  refine G_aload (pc := 24) (i := 4) hC dX1_apply_24 rfl ?_
  refine G_iload_n (pc := 26) (i := 2) hC dX1_apply_26 rfl rfl ?_
  refine G_iload_n (pc := 27) (i := 3) hC dX1_apply_27 rfl rfl ?_
  obtain ⟨hb, hw⟩ := hw
  refine G_callI (pc := 28) (n := 4) (b := q6) (As := [va_rf x9, va_rf x2, .int p2, .int p3]) (rest := [va_rf (some q6)]) hC (m_X20_init hJ hw) (lw_meth q3173) q150 q3171 q3172 rfl hd_X20_init.2 (by decide) rfl rfl (st_c (cat_r cat_e) (Nat.le_of_ble_eq_true rfl)) dX1_apply_28 (kU fun M10 hw => ?_)
  refine G_astore (pc := 31) (i := 5) (lw := [some (va_rf (some a0)), some (.int p1), some (.int p2), some (.int p3), some (va_rf x2), some (va_rf (some q6))]) hC dX1_apply_31 (Nat.le_of_ble_eq_true rfl) rfl ?_
  refine G_aload (pc := 33) (i := 5) hC dX1_apply_33 rfl ?_
  refine G_getFN (pc := 35) (ci := 19) (C := RX20) (T := TX20) (N := 7) (f := 2) hC rfl in_X20 (Nat.le_of_ble_eq_true rfl) (nw_in q3244 rfl) (fun _ h => h) dX1_apply_35 hw (fun x11 hw => ?_)
  obtain ⟨b13, rfl, hb, hw⟩ := gThis_e hw
  refine G_callF (pc := 38) (n := 0) (x := ⟨"java/util/List", "size", "()I"⟩) (C := "java/util/ArrayList") (ci := 21) (T := TJ2) (N := 3) (b := b13) (As := []) (rest := []) hC (J_L_size hJ hw) (lw_F q1205 q889 q363 q87 q364) (nw_in q888 rfl) (nw_in q887 rfl) (nw_in q891 rfl) (nw_in q890 rfl) (nw_in q259 rfl) rfl (rcv (C := RJ2) (T := TJ2) (N := 3) hC hb rfl) (by decide +kernel) (by decide) rfl rfl (st_c cat_e (Nat.le_of_ble_eq_true rfl)) dX1_apply_38 (kI fun x14 M12 hw => ?_)
  refine G_bipush (pc := 43) (v := 24) hC dX1_apply_43 (by decide) ?_
  refine G_icmp_le (pc := 45) (tgt := 56) hC dX1_apply_45 (by decide) (fun hc => ?_) (fun hc => ?_)
  · replace hw := hw.1 hc
    refine G_aload_n (pc := 56) (i := 0) hC dX1_apply_56 rfl rfl ?_
    refine G_getF (pc := 57) (ci := 0) (C := RX1) (T := TX1) (N := 10) (f := 7) hC rfl in_X1 (Nat.le_of_ble_eq_true rfl) q701 (fun _ h => h) dX1_apply_57 hw (fun x15 hw => ?_)
    refine G_aload (pc := 60) (i := 5) hC dX1_apply_60 rfl ?_
    refine G_getFN (pc := 62) (ci := 19) (C := RX20) (T := TX20) (N := 7) (f := 3) hC rfl in_X20 (Nat.le_of_ble_eq_true rfl) (nw_in q3246 rfl) (fun _ h => h) dX1_apply_62 hw (fun x16 hw => ?_)
    refine G_putN (pc := 65) (ci := 17) (C := RX18) (T := TX18) (N := 2) (f := 1) tyX18 hC rfl in_X18 tyX18_ok nmX18 (Nat.le_of_ble_eq_true rfl) (nw_in q3139 rfl) (fun _ h => h) rfl (nR_o _ _) (fR_o _ _) dX1_apply_65 hw (fun M17 hw => ?_)
    refine G_aload_n (pc := 68) (i := 0) hC dX1_apply_68 rfl rfl ?_
    refine G_iload_n (pc := 69) (i := 1) hC dX1_apply_69 rfl rfl ?_
    refine G_aload (pc := 70) (i := 5) hC dX1_apply_70 rfl ?_
    refine G_getFN (pc := 72) (ci := 19) (C := RX20) (T := TX20) (N := 7) (f := 2) hC rfl in_X20 (Nat.le_of_ble_eq_true rfl) (nw_in q3244 rfl) (fun _ h => h) dX1_apply_72 hw (fun x18 hw => ?_)
    obtain ⟨hb, hw⟩ := hw
    refine G_callV (pc := 75) (n := 2) (C := "MergeWorkbench") (b := a0) (As := [.int p1, va_rf x18]) (rest := []) hC (m_X1_change hJ hw) (lw_V q1254 q1256 qs11 q84 q1257) hd_X1_change (by decide) (rcv (C := RX1) (T := TX1) (N := 10) hC hb rfl) rfl rfl (st_c cat_e (Nat.le_of_ble_eq_true rfl)) dX1_apply_75 (kU fun M19 hw => ?_)
    refine G_aload (pc := 78) (i := 5) hC dX1_apply_78 rfl ?_
    refine G_getIN (pc := 80) (ci := 19) (C := RX20) (T := TX20) (N := 7) (f := 6) hC rfl in_X20 (Nat.le_of_ble_eq_true rfl) (nw_in q3250 rfl) (fun _ h => h) dX1_apply_80 hw (fun x20 hw => ?_)
    exact G_iretX (pc := 83) hC rfl hQ dX1_apply_83 hw
  · replace hw := hw.2 hc
    exact G_throw0 (pc := 48) (cls := "java/lang/UnsupportedOperationException") (names := nmE) (ik := 251) (ic := 253) hJ.1 hC hno hQ (by decide +kernel) nmE_fit q3085 q101 at_X1_apply_48 ag_X1_apply_48 dX1_apply_48 dX1_apply_51 dX1_apply_52 dX1_apply_55 rfl rfl (st_c cat_e (Nat.le_of_ble_eq_true rfl)) hw
theorem at_X1_outcome_39 : ∀ w ∈ vx_at0 RX1 199 "java/util/NoSuchElementException" nmE, w ∈ lw_all ∨ w ∈ nwAll := at_in [98, 400, 409, 420, 423, 425, 401, 402, 158, 159, 403, 408, 421, 629, 390, 630, 392, 631, 394, 404, 406, 396, 1025, 1026, 1027, 686, 686, 687, 688, 689, 689, 690, 691, 401, 2524, 1016, 1018, 419, 1019, 1020, 1021, 1022, 399, 398, 1023] [381, 383, 385, 1017] (by decide +kernel) (by decide +kernel) (by decide +kernel)
theorem ag_X1_outcome_39 : (Cond.classLink RX1 197 "java/util/NoSuchElementException" :: Cond.initialized "java/util/NoSuchElementException" :: vx_at0 RX1 199 "java/util/NoSuchElementException" nmE).all vx_ot = true := by decide +kernel
def w_X1_outcome_39 (g : gT) (F : Nat) (a0 : Nat) (p1 : Int32) (p2 : Int32) (Q : Int32 → hM → Prop) (X : String → Nat → hM → Prop) (M : hM) : Prop :=
  thr M "java/util/NoSuchElementException" X
def w_X1_outcome_89 (g : gT) (F : Nat) (a0 : Nat) (p1 : Int32) (p2 : Int32) (Q : Int32 → hM → Prop) (X : String → Nat → hM → Prop) (s0 : Int32) (M : hM) : Prop :=
  Q s0 M
def w_X1_outcome_18 (g : gT) (F : Nat) (a0 : Nat) (p1 : Int32) (p2 : Int32) (Q : Int32 → hM → Prop) (X : String → Nat → hM → Prop) (s0 : Option Nat) (M : hM) : Prop :=
  ((s0 = none → w_X1_outcome_39 g F a0 p1 p2 Q X M) ∧ (¬ s0 = none → gThis M s0 21 fun b2 => L_size g b2  M (fun x3 M1 => w_X1_isBetween g F p1 (0 : Int32) (x3 - (1 : Int32)) M1 (fun x5 M4 => ((¬ x5 = 0 → w_X1_isBetween g F p2 (0 : Int32) (1 : Int32) M4 (fun x7 M6 => w_X1_require g F x7 M6 (fun M8 => ((¬ p2 = 0 → (isC M8 b2 21 ∧ L_get g b2 p1 M8 (fun x10 M9 => ckC M9 x10 20 (gI M9 x10 20 1 fun x11 => w_X1_outcome_89 g F a0 p1 p2 Q X x11 M9)))) ∧ (p2 = 0 → (isC M8 b2 21 ∧ L_get g b2 p1 M8 (fun x13 M12 => ckC M12 x13 20 (gI M12 x13 20 0 fun x14 => w_X1_outcome_89 g F a0 p1 p2 Q X x14 M12)))))) X)) ∧ (x5 = 0 → w_X1_outcome_39 g F a0 p1 p2 Q X M4))))))
def w_X1_outcome (g : gT) (F : Nat) (a0 : Nat) (p1 : Int32) (p2 : Int32) (M : hM) (Q : Int32 → hM → Prop) (X : String → Nat → hM → Prop) : Prop :=
  gF M (some a0) 0 7 fun x1 => ((¬ x1 = none → gF M (some a0) 0 7 fun x2 => gF M x2 17 1 fun x3 => w_X1_outcome_18 g F a0 p1 p2 Q X x3 M) ∧ (x1 = none → w_X1_outcome_18 g F a0 p1 p2 Q X none M))
theorem g_X1_outcome_39 {k : kT} {F : Nat} {a0 : Nat} {p1 : Int32} {p2 : Int32} {Q : Int32 → hM → Prop} {X : String → Nat → hM → Prop} (hJ : JOK (kl k) (kg k)) (hC : CX k 4 cX1_outcome RX1 (some .int) 41 2021) (hQ : isQX k (PI Q) X) (hin : (kt k).name = "outcome") (hno : ∀ x ∈ (kc k).exceptionTable.toList, False) : ∀  (M : hM), w_X1_outcome_39 (kg k) F a0 p1 p2 Q X  M → GW k 4 M 39 [some (va_rf (some a0)), some (.int p1), some (.int p2), none] [] := by
  intro  M hw
  exact G_throw0 (pc := 39) (cls := "java/util/NoSuchElementException") (names := nmE) (ik := 197) (ic := 199) hJ.1 hC hno hQ (by decide +kernel) nmE_fit q2523 q117 at_X1_outcome_39 ag_X1_outcome_39 dX1_outcome_39 dX1_outcome_42 dX1_outcome_43 dX1_outcome_46 rfl rfl (st_c cat_e (Nat.le_of_ble_eq_true rfl)) hw
theorem g_X1_outcome_89 {k : kT} {F : Nat} {a0 : Nat} {p1 : Int32} {p2 : Int32} {Q : Int32 → hM → Prop} {X : String → Nat → hM → Prop} (hJ : JOK (kl k) (kg k)) (hC : CX k 4 cX1_outcome RX1 (some .int) 41 2021) (hQ : isQX k (PI Q) X) (hin : (kt k).name = "outcome") (hno : ∀ x ∈ (kc k).exceptionTable.toList, False) : ∀ (s0 : Int32) (M : hM), w_X1_outcome_89 (kg k) F a0 p1 p2 Q X s0 M → GW k 4 M 89 [some (va_rf (some a0)), some (.int p1), some (.int p2), none] [.int s0] := by
  intro s0 M hw
  exact G_iretX (pc := 89) hC rfl hQ dX1_outcome_89 hw
theorem g_X1_outcome_18 {k : kT} {F : Nat} {a0 : Nat} {p1 : Int32} {p2 : Int32} {Q : Int32 → hM → Prop} {X : String → Nat → hM → Prop} (hJ : JOK (kl k) (kg k)) (hC : CX k 4 cX1_outcome RX1 (some .int) 41 2021) (hQ : isQX k (PI Q) X) (hin : (kt k).name = "outcome") (hno : ∀ x ∈ (kc k).exceptionTable.toList, False) : ∀ (s0 : Option Nat) (M : hM), w_X1_outcome_18 (kg k) F a0 p1 p2 Q X s0 M → GW k 4 M 18 [some (va_rf (some a0)), some (.int p1), some (.int p2), none] [va_rf s0] := by
  intro s0 M hw
  refine G_astore_n (pc := 18) (i := 3) (lw := [some (va_rf (some a0)), some (.int p1), some (.int p2), some (va_rf s0)]) hC dX1_outcome_18 rfl (Nat.le_of_ble_eq_true rfl) rfl ?_
  refine G_aload_n (pc := 19) (i := 3) hC dX1_outcome_19 rfl rfl ?_
  refine G_ifnull (pc := 20) (tgt := 39) hC dX1_outcome_20 (by decide) (fun hc => ?_) (fun hc => ?_)
  · replace hw := hw.1 hc
    refine G_loc (lv' := [some (va_rf (some a0)), some (.int p1), some (.int p2), none]) ⟨Or.inr rfl, Or.inr rfl, Or.inr rfl, Or.inl rfl, trivial⟩ ?_
    exact g_X1_outcome_39 hJ hC hQ hin hno   M hw
  · replace hw := hw.2 hc
    refine G_iload_n (pc := 23) (i := 1) hC dX1_outcome_23 rfl rfl ?_
    refine G_iconst (pc := 24) (v := 0) hC dX1_outcome_24 (by decide) ?_
    refine G_aload_n (pc := 25) (i := 3) hC dX1_outcome_25 rfl rfl ?_
    obtain ⟨b2, rfl, hb, hw⟩ := gThis_e hw
    refine G_callF (pc := 26) (n := 0) (x := ⟨"java/util/List", "size", "()I"⟩) (C := "java/util/ArrayList") (ci := 21) (T := TJ2) (N := 3) (b := b2) (As := []) (rest := [.int (0 : Int32), .int p1]) hC (J_L_size hJ hw) (lw_F q1205 q889 q363 q87 q364) (nw_in q888 rfl) (nw_in q887 rfl) (nw_in q891 rfl) (nw_in q890 rfl) (nw_in q259 rfl) rfl (rcv (C := RJ2) (T := TJ2) (N := 3) hC hb rfl) (by decide +kernel) (by decide) rfl rfl (st_c (cat_i (cat_i cat_e)) (Nat.le_of_ble_eq_true rfl)) dX1_outcome_26 (kI fun x3 M1 hw => ?_)
    refine G_iconst (pc := 31) (v := 1) hC dX1_outcome_31 (by decide) ?_
    refine G_isub (pc := 32) hC dX1_outcome_32 ?_
    refine G_callS (pc := 33) (n := 3) (As := [.int p1, .int (0 : Int32), .int (x3 - (1 : Int32))]) (rest := []) hC (m_X1_isBetween hJ hw) (lw_S q1222 q1223 q84 q1224) hd_X1_isBetween.2 (by decide) rfl rfl (st_c cat_e (Nat.le_of_ble_eq_true rfl)) dX1_outcome_33 (kI fun x5 M4 hw => ?_)
    refine G_if_ne (pc := 36) (tgt := 47) hC dX1_outcome_36 (by decide) (fun hc => ?_) (fun hc => ?_)
    · replace hw := hw.1 hc
      refine G_iload_n (pc := 47) (i := 2) hC dX1_outcome_47 rfl rfl ?_
      refine G_iconst (pc := 48) (v := 0) hC dX1_outcome_48 (by decide) ?_
      refine G_iconst (pc := 49) (v := 1) hC dX1_outcome_49 (by decide) ?_
      refine G_callS (pc := 50) (n := 3) (As := [.int p2, .int (0 : Int32), .int (1 : Int32)]) (rest := []) hC (m_X1_isBetween hJ hw) (lw_S q1222 q1223 q84 q1224) hd_X1_isBetween.2 (by decide) rfl rfl (st_c cat_e (Nat.le_of_ble_eq_true rfl)) dX1_outcome_50 (kI fun x7 M6 hw => ?_)
      refine GX_callS (pc := 53) (n := 1) (As := [.int x7]) (rest := []) hC (m_X1_require hJ hw) (lw_S q1225 q1226 q84 q1227) hd_X1_require.2 (by decide) rfl rfl (st_c cat_e (Nat.le_of_ble_eq_true rfl)) dX1_outcome_53 (fun E q M hx => GX_out hC hno hQ hx) (kU fun M8 hw => ?_)
      refine G_iload_n (pc := 56) (i := 2) hC dX1_outcome_56 rfl rfl ?_
      refine G_if_ne (pc := 57) (tgt := 76) hC dX1_outcome_57 (by decide) (fun hc => ?_) (fun hc => ?_)
      · replace hw := hw.1 hc
        refine G_aload_n (pc := 76) (i := 3) hC dX1_outcome_76 rfl rfl ?_
        refine G_iload_n (pc := 77) (i := 1) hC dX1_outcome_77 rfl rfl ?_
        obtain ⟨hb, hw⟩ := hw
        refine G_callF (pc := 78) (n := 1) (x := ⟨"java/util/List", "get", "(I)Ljava/lang/Object;"⟩) (C := "java/util/ArrayList") (ci := 21) (T := TJ2) (N := 3) (b := b2) (As := [.int p1]) (rest := []) hC (J_L_get hJ hw) (lw_F q1234 q956 q958 q87 q960) (nw_in q955 rfl) (nw_in q954 rfl) (nw_in q959 rfl) (nw_in q957 rfl) (nw_in q259 rfl) rfl (rcv (C := RJ2) (T := TJ2) (N := 3) hC hb rfl) (by decide +kernel) (by decide) rfl rfl (st_c cat_e (Nat.le_of_ble_eq_true rfl)) dX1_outcome_78 (kRf fun x10 M9 hw => ?_)
        obtain ⟨hb, hw⟩ := hw
        refine G_castCS (pc := 83) (C := RX21) (T := TX21) (N := 2) hC rfl q3273 hb dX1_outcome_83 ?_
        refine G_getIN (pc := 86) (ci := 20) (C := RX21) (T := TX21) (N := 2) (f := 1) hC rfl in_X21 (Nat.le_of_ble_eq_true rfl) (nw_in q3231 rfl) (fun _ h => h) dX1_outcome_86 hw (fun x11 hw => ?_)
        refine G_loc (lv' := [some (va_rf (some a0)), some (.int p1), some (.int p2), none]) ⟨Or.inr rfl, Or.inr rfl, Or.inr rfl, Or.inl rfl, trivial⟩ ?_
        exact g_X1_outcome_89 hJ hC hQ hin hno  x11 M9 hw
      · replace hw := hw.2 hc
        refine G_aload_n (pc := 60) (i := 3) hC dX1_outcome_60 rfl rfl ?_
        refine G_iload_n (pc := 61) (i := 1) hC dX1_outcome_61 rfl rfl ?_
        obtain ⟨hb, hw⟩ := hw
        refine G_callF (pc := 62) (n := 1) (x := ⟨"java/util/List", "get", "(I)Ljava/lang/Object;"⟩) (C := "java/util/ArrayList") (ci := 21) (T := TJ2) (N := 3) (b := b2) (As := [.int p1]) (rest := []) hC (J_L_get hJ hw) (lw_F q1234 q956 q958 q87 q960) (nw_in q955 rfl) (nw_in q954 rfl) (nw_in q959 rfl) (nw_in q957 rfl) (nw_in q259 rfl) rfl (rcv (C := RJ2) (T := TJ2) (N := 3) hC hb rfl) (by decide +kernel) (by decide) rfl rfl (st_c cat_e (Nat.le_of_ble_eq_true rfl)) dX1_outcome_62 (kRf fun x13 M12 hw => ?_)
        obtain ⟨hb, hw⟩ := hw
        refine G_castCS (pc := 67) (C := RX21) (T := TX21) (N := 2) hC rfl q3273 hb dX1_outcome_67 ?_
        refine G_getIN (pc := 70) (ci := 20) (C := RX21) (T := TX21) (N := 2) (f := 0) hC rfl in_X21 (Nat.le_of_ble_eq_true rfl) (nw_in q3228 rfl) (fun _ h => h) dX1_outcome_70 hw (fun x14 hw => ?_)
        refine G_goto (pc := 73) (tgt := 89) hC dX1_outcome_73 (by decide) ?_
        refine G_loc (lv' := [some (va_rf (some a0)), some (.int p1), some (.int p2), none]) ⟨Or.inr rfl, Or.inr rfl, Or.inr rfl, Or.inl rfl, trivial⟩ ?_
        exact g_X1_outcome_89 hJ hC hQ hin hno  x14 M12 hw
    · replace hw := hw.2 hc
      refine G_loc (lv' := [some (va_rf (some a0)), some (.int p1), some (.int p2), none]) ⟨Or.inr rfl, Or.inr rfl, Or.inr rfl, Or.inl rfl, trivial⟩ ?_
      exact g_X1_outcome_39 hJ hC hQ hin hno   M4 hw
theorem m_X1_outcome {l : Launch} {g : gT} {F : Nat} {a0 : Nat} {p1 : Int32} {p2 : Int32} {M : hM} {Q : Int32 → hM → Prop} {X : String → Nat → hM → Prop} (hJ : JOK l g) (hw : w_X1_outcome g F a0 p1 p2 M Q X) : MX l g yX1_outcome (ws_ yX1_outcome cX1_outcome 4 (some .int)) 41 2021 [va_rf (some a0), .int p1, .int p2] M (PI Q) X := by
  refine MX_of hJ.2.1 (by decide) (cat_r (cat_i (cat_i cat_e))) (Nat.le_of_ble_eq_true rfl) (fun k hl hg hin hno hQ hC => ?_)
  subst hl hg
  show GW k 4 M 0 [some (va_rf (some a0)), some (.int p1), some (.int p2), none] []
  refine G_aload_n (pc := 0) (i := 0) hC dX1_outcome_0 rfl rfl ?_
  refine G_getF (pc := 1) (ci := 0) (C := RX1) (T := TX1) (N := 10) (f := 7) hC rfl in_X1 (Nat.le_of_ble_eq_true rfl) q701 (fun _ h => h) dX1_outcome_1 hw (fun x1 hw => ?_)
  refine G_ifnonnull (pc := 4) (tgt := 11) hC dX1_outcome_4 (by decide) (fun hc => ?_) (fun hc => ?_)
  · replace hw := hw.1 hc
    refine G_aload_n (pc := 11) (i := 0) hC dX1_outcome_11 rfl rfl ?_
    refine G_getF (pc := 12) (ci := 0) (C := RX1) (T := TX1) (N := 10) (f := 7) hC rfl in_X1 (Nat.le_of_ble_eq_true rfl) q701 (fun _ h => h) dX1_outcome_12 hw (fun x2 hw => ?_)
    refine G_getFN (pc := 15) (ci := 17) (C := RX18) (T := TX18) (N := 2) (f := 1) hC rfl in_X18 (Nat.le_of_ble_eq_true rfl) (nw_in q3139 rfl) (fun _ h => h) dX1_outcome_15 hw (fun x3 hw => ?_)
    exact g_X1_outcome_18 hJ hC hQ hin hno  x3 M hw
  · replace hw := hw.2 hc
    refine G_null (pc := 7) hC dX1_outcome_7 ?_
    refine G_goto (pc := 8) (tgt := 18) hC dX1_outcome_8 (by decide) ?_
    exact g_X1_outcome_18 hJ hC hQ hin hno  none M hw
theorem hd_X2_remove : yX2_remove.cls = "MergeWorkbench$History" ∧ yX2_remove.cls ≠ "java/lang/invoke/MethodHandle" ∧ yX2_remove.cls ≠ "java/lang/invoke/VarHandle" ∧ (parseMethodDescriptor yX2_remove.desc).map (fun d => d.parameters.length) = some 0 := by decide +kernel
def w_X1_undo (g : gT) (F : Nat) (a0 : Nat) (M : hM) (Q : Int32 → hM → Prop) (X : String → Nat → hM → Prop) : Prop :=
  gF M (some a0) 0 1 fun x1 => gThis M x1 1 fun b3 => w_X2_remove g F b3  M (fun x4 M2 => gF M2 (some a0) 0 0 fun x5 => gI M2 x4 3 0 fun x6 => gF M2 x4 3 1 fun x7 => ckC M2 x7 21 (gThis M2 x5 21 fun b9 => L_set g b9 x6 x7 M2 (fun x10 M8 => gI M8 x4 3 0 fun x11 => Q x11 M8))) X
theorem m_X1_undo {l : Launch} {g : gT} {F : Nat} {a0 : Nat} {M : hM} {Q : Int32 → hM → Prop} {X : String → Nat → hM → Prop} (hJ : JOK l g) (hw : w_X1_undo g F a0 M Q X) : MX l g yX1_undo (ws_ yX1_undo cX1_undo 2 (some .int)) 42 2041 [va_rf (some a0)] M (PI Q) X := by
  refine MX_of hJ.2.1 (by decide) (cat_r cat_e) (Nat.le_of_ble_eq_true rfl) (fun k hl hg hin hno hQ hC => ?_)
  subst hl hg
  show GW k 2 M 0 [some (va_rf (some a0)), none] []
  refine G_aload_n (pc := 0) (i := 0) hC dX1_undo_0 rfl rfl ?_
  refine G_getF (pc := 1) (ci := 0) (C := RX1) (T := TX1) (N := 10) (f := 1) hC rfl in_X1 (Nat.le_of_ble_eq_true rfl) q695 (fun _ h => h) dX1_undo_1 hw (fun x1 hw => ?_)
  obtain ⟨b3, rfl, hb, hw⟩ := gThis_e hw
  refine GX_callV (pc := 4) (n := 0) (C := "MergeWorkbench$History") (b := b3) (As := []) (rest := []) hC (m_X2_remove hJ hw) (lw_V q3281 q3282 q3283 q88 q3284) hd_X2_remove (by decide) (rcv (C := RX2) (T := TX2) (N := 1) hC hb rfl) rfl rfl (st_c cat_e (Nat.le_of_ble_eq_true rfl)) dX1_undo_4 (fun E q M hx => GX_out hC hno hQ hx) (kRf fun x4 M2 hw => ?_)
  refine G_astore_n (pc := 7) (i := 1) (lw := [some (va_rf (some a0)), some (va_rf x4)]) hC dX1_undo_7 rfl (Nat.le_of_ble_eq_true rfl) rfl ?_
  refine G_aload_n (pc := 8) (i := 0) hC dX1_undo_8 rfl rfl ?_
  refine G_getF (pc := 9) (ci := 0) (C := RX1) (T := TX1) (N := 10) (f := 0) hC rfl in_X1 (Nat.le_of_ble_eq_true rfl) q694 (fun _ h => h) dX1_undo_9 hw (fun x5 hw => ?_)
  refine G_aload_n (pc := 12) (i := 1) hC dX1_undo_12 rfl rfl ?_
  refine G_getIN (pc := 13) (ci := 3) (C := RX4) (T := TX4) (N := 2) (f := 0) hC rfl in_X4 (Nat.le_of_ble_eq_true rfl) (nw_in q1283 rfl) (fun _ h => h) dX1_undo_13 hw (fun x6 hw => ?_)
  refine G_aload_n (pc := 16) (i := 1) hC dX1_undo_16 rfl rfl ?_
  refine G_getFN (pc := 17) (ci := 3) (C := RX4) (T := TX4) (N := 2) (f := 1) hC rfl in_X4 (Nat.le_of_ble_eq_true rfl) (nw_in q1285 rfl) (fun _ h => h) dX1_undo_17 hw (fun x7 hw => ?_)
  obtain ⟨hb, hw⟩ := hw
  refine G_castC (pc := 20) (C := RJ2) (T := TJ2) (N := 3) (nm := "java/util/List") hC rfl q1203 (nw_in q259 rfl) hb dX1_undo_20 ?_
  obtain ⟨b9, rfl, hb, hw⟩ := gThis_e hw
  refine G_callF (pc := 23) (n := 2) (x := ⟨"java/util/List", "set", "(ILjava/lang/Object;)Ljava/lang/Object;"⟩) (C := "java/util/ArrayList") (ci := 21) (T := TJ2) (N := 3) (b := b9) (As := [.int x6, va_rf x7]) (rest := []) hC (J_L_set hJ hw) (lw_F q1259 q1262 q1264 q87 q1266) (nw_in q1261 rfl) (nw_in q1260 rfl) (nw_in q1265 rfl) (nw_in q1263 rfl) (nw_in q259 rfl) rfl (rcv (C := RJ2) (T := TJ2) (N := 3) hC hb rfl) (by decide +kernel) (by decide) rfl rfl (st_c cat_e (Nat.le_of_ble_eq_true rfl)) dX1_undo_23 (kRf fun x10 M8 hw => ?_)
  refine G_pop (pc := 28) hC dX1_undo_28 (rf_cat _) ?_
  refine G_aload_n (pc := 29) (i := 1) hC dX1_undo_29 rfl rfl ?_
  refine G_getIN (pc := 30) (ci := 3) (C := RX4) (T := TX4) (N := 2) (f := 0) hC rfl in_X4 (Nat.le_of_ble_eq_true rfl) (nw_in q1283 rfl) (fun _ h => h) dX1_undo_30 hw (fun x11 hw => ?_)
  exact G_iretX (pc := 33) hC rfl hQ dX1_undo_33 hw
theorem hd_J25_copy : yJ25_copy.cls = "java/util/Collections" ∧ yJ25_copy.cls ≠ "java/lang/invoke/MethodHandle" ∧ yJ25_copy.cls ≠ "java/lang/invoke/VarHandle" ∧ (parseMethodDescriptor yJ25_copy.desc).map (fun d => d.parameters.length) = some 2 := by decide +kernel
theorem hd_J3_clear : yJ3_clear.cls = "java/util/ArrayDeque" ∧ yJ3_clear.cls ≠ "java/lang/invoke/MethodHandle" ∧ yJ3_clear.cls ≠ "java/lang/invoke/VarHandle" ∧ (parseMethodDescriptor yJ3_clear.desc).map (fun d => d.parameters.length) = some 0 := by decide +kernel
def w_X1_restore_12 (g : gT) (F : Nat) (a0 : Nat) (Q : Int32 → hM → Prop) (X : String → Nat → hM → Prop) (s0 : Int32) (M : hM) : Prop :=
  w_X1_requireState g F s0 M (fun M1 => gF M1 (some a0) 0 0 fun x2 => gF M1 (some a0) 0 8 fun x3 => C_copy g x2 x3 M1 (fun M4 => gI M4 (some a0) 0 9 fun x5 => pV M4 (some a0) 0 3 (.int x5) fun M6 => gF M6 (some a0) 0 1 fun x7 => gF M6 x7 1 0 fun x8 => gThis M6 x8 22 fun b10 => D_clr g b10  M6 (fun M9 => (isC M9 a0 0 ∧ w_X1_allLines g F a0  M9 (fun x12 M11 => Q x12 M11))))) X
def w_X1_restore (g : gT) (F : Nat) (a0 : Nat) (M : hM) (Q : Int32 → hM → Prop) (X : String → Nat → hM → Prop) : Prop :=
  gF M (some a0) 0 8 fun x1 => ((x1 = none → w_X1_restore_12 g F a0 Q X (0 : Int32) M) ∧ (¬ x1 = none → w_X1_restore_12 g F a0 Q X (1 : Int32) M))
theorem g_X1_restore_12 {k : kT} {F : Nat} {a0 : Nat} {Q : Int32 → hM → Prop} {X : String → Nat → hM → Prop} (hJ : JOK (kl k) (kg k)) (hC : CX k 1 cX1_restore RX1 (some .int) 42 2045) (hQ : isQX k (PI Q) X) (hin : (kt k).name = "restore") (hno : ∀ x ∈ (kc k).exceptionTable.toList, False) : ∀ (s0 : Int32) (M : hM), w_X1_restore_12 (kg k) F a0 Q X s0 M → GW k 1 M 12 [some (va_rf (some a0))] [.int s0] := by
  intro s0 M hw
  refine GX_callS (pc := 12) (n := 1) (As := [.int s0]) (rest := []) hC (m_X1_requireState hJ hw) (lw_S q1235 q1236 q84 q1237) hd_X1_requireState.2 (by decide) rfl rfl (st_c cat_e (Nat.le_of_ble_eq_true rfl)) dX1_restore_12 (fun E q M hx => GX_out hC hno hQ hx) (kU fun M1 hw => ?_)
  refine G_aload_n (pc := 15) (i := 0) hC dX1_restore_15 rfl rfl ?_
  refine G_getF (pc := 16) (ci := 0) (C := RX1) (T := TX1) (N := 10) (f := 0) hC rfl in_X1 (Nat.le_of_ble_eq_true rfl) q694 (fun _ h => h) dX1_restore_16 hw (fun x2 hw => ?_)
  refine G_aload_n (pc := 19) (i := 0) hC dX1_restore_19 rfl rfl ?_
  refine G_getF (pc := 20) (ci := 0) (C := RX1) (T := TX1) (N := 10) (f := 8) hC rfl in_X1 (Nat.le_of_ble_eq_true rfl) q702 (fun _ h => h) dX1_restore_20 hw (fun x3 hw => ?_)
  refine G_callS (pc := 23) (n := 2) (As := [va_rf x2, va_rf x3]) (rest := []) hC (J_C_copy hJ hw) (lw_S q3308 q3309 q113 q3310) hd_J25_copy.2 (by decide) rfl rfl (st_c cat_e (Nat.le_of_ble_eq_true rfl)) dX1_restore_23 (kU fun M4 hw => ?_)
  refine G_aload_n (pc := 26) (i := 0) hC dX1_restore_26 rfl rfl ?_
  refine G_aload_n (pc := 27) (i := 0) hC dX1_restore_27 rfl rfl ?_
  refine G_getI (pc := 28) (ci := 0) (C := RX1) (T := TX1) (N := 10) (f := 9) hC rfl in_X1 (Nat.le_of_ble_eq_true rfl) q703 (fun _ h => h) dX1_restore_28 hw (fun x5 hw => ?_)
  refine G_put (pc := 31) (ci := 0) (C := RX1) (T := TX1) (N := 10) (f := 3) tyX1 hC rfl in_X1 tyX1_ok nmX1 (Nat.le_of_ble_eq_true rfl) q697 (fun _ h => h) rfl rfl rfl dX1_restore_31 hw (fun M6 hw => ?_)
  refine G_aload_n (pc := 34) (i := 0) hC dX1_restore_34 rfl rfl ?_
  refine G_getF (pc := 35) (ci := 0) (C := RX1) (T := TX1) (N := 10) (f := 1) hC rfl in_X1 (Nat.le_of_ble_eq_true rfl) q695 (fun _ h => h) dX1_restore_35 hw (fun x7 hw => ?_)
  refine G_getFN (pc := 38) (ci := 1) (C := RX2) (T := TX2) (N := 1) (f := 0) hC rfl in_X2 (Nat.le_of_ble_eq_true rfl) (nw_in q218 rfl) (fun _ h => h) dX1_restore_38 hw (fun x8 hw => ?_)
  obtain ⟨b10, rfl, hb, hw⟩ := gThis_e hw
  refine G_callFJ (pc := 41) (n := 0) (x := ⟨"java/util/Deque", "clear", "()V"⟩) (J := "java/util/Collection") (C := "java/util/ArrayDeque") (ci := 22) (T := TJ3) (N := 3) (b := b10) (As := []) (rest := []) hC (J_D_clr hJ hw) (lw_meth q3364) (Or.inr (xt_in 0 rfl)) (xt_in 2 rfl) (nw_in q3359 rfl) (nw_in q3358 rfl) (by decide) (by decide) q3360 q3362 q89 (nw_in q3363 rfl) (nw_in q3361 rfl) (nw_in q1295 rfl) rfl (rcv (C := RJ3) (T := TJ3) (N := 3) hC hb rfl) (by decide +kernel) (by decide) rfl rfl (st_c cat_e (Nat.le_of_ble_eq_true rfl)) dX1_restore_41 (kU fun M9 hw => ?_)
  refine G_aload_n (pc := 46) (i := 0) hC dX1_restore_46 rfl rfl ?_
  obtain ⟨hb, hw⟩ := hw
  refine G_callV (pc := 47) (n := 0) (C := "MergeWorkbench") (b := a0) (As := []) (rest := []) hC (m_X1_allLines hJ hw) (lw_V q1185 q1187 qs9 q84 q1188) hd_X1_allLines (by decide) (rcv (C := RX1) (T := TX1) (N := 10) hC hb rfl) rfl rfl (st_c cat_e (Nat.le_of_ble_eq_true rfl)) dX1_restore_47 (kI fun x12 M11 hw => ?_)
  exact G_iretX (pc := 50) hC rfl hQ dX1_restore_50 hw
theorem m_X1_restore {l : Launch} {g : gT} {F : Nat} {a0 : Nat} {M : hM} {Q : Int32 → hM → Prop} {X : String → Nat → hM → Prop} (hJ : JOK l g) (hw : w_X1_restore g F a0 M Q X) : MX l g yX1_restore (ws_ yX1_restore cX1_restore 1 (some .int)) 42 2045 [va_rf (some a0)] M (PI Q) X := by
  refine MX_of hJ.2.1 (by decide) (cat_r cat_e) (Nat.le_of_ble_eq_true rfl) (fun k hl hg hin hno hQ hC => ?_)
  subst hl hg
  show GW k 1 M 0 [some (va_rf (some a0))] []
  refine G_aload_n (pc := 0) (i := 0) hC dX1_restore_0 rfl rfl ?_
  refine G_getF (pc := 1) (ci := 0) (C := RX1) (T := TX1) (N := 10) (f := 8) hC rfl in_X1 (Nat.le_of_ble_eq_true rfl) q702 (fun _ h => h) dX1_restore_1 hw (fun x1 hw => ?_)
  refine G_ifnull (pc := 4) (tgt := 11) hC dX1_restore_4 (by decide) (fun hc => ?_) (fun hc => ?_)
  · replace hw := hw.1 hc
    refine G_iconst (pc := 11) (v := 0) hC dX1_restore_11 (by decide) ?_
    exact g_X1_restore_12 hJ hC hQ hin hno  (0 : Int32) M hw
  · replace hw := hw.2 hc
    refine G_iconst (pc := 7) (v := 1) hC dX1_restore_7 (by decide) ?_
    refine G_goto (pc := 8) (tgt := 12) hC dX1_restore_8 (by decide) ?_
    exact g_X1_restore_12 hJ hC hQ hin hno  (1 : Int32) M hw
theorem hd_X1_append : yX1_append.cls = "MergeWorkbench" ∧ yX1_append.cls ≠ "java/lang/invoke/MethodHandle" ∧ yX1_append.cls ≠ "java/lang/invoke/VarHandle" ∧ (parseMethodDescriptor yX1_append.desc).map (fun d => d.parameters.length) = some 2 := by decide +kernel
abbrev hh_X0_append : List (Nat × Nat × Nat × Nat) := [(0, 10, 13, 13), (0, 10, 17, 15)]
def w_X0_append (g : gT) (F : Nat) (p0 : Option Nat) (p1 : Int32) (p2 : Int32) (p3 : Option Nat) (M : hM) (Q : Int32 → hM → Prop) (X : String → Nat → hM → Prop) : Prop :=
  gThis M p0 0 fun b2 => w_X1_append g F b2 p1 p2 M (fun x3 M1 => sJ M1 p3 (0 : Int32) (x3).toInt64 fun M4 => Q (0 : Int32) M4) (fun E5 q6 M7 => (E5 = "java/lang/IllegalArgumentException" ∧ Q (1 : Int32) M7) ∨ (E5 = "java/lang/IllegalStateException" ∧ Q (2 : Int32) M7))
theorem m_X0_append {l : Launch} {g : gT} {F : Nat} {p0 : Option Nat} {p1 : Int32} {p2 : Int32} {p3 : Option Nat} {M : hM} {Q : Int32 → hM → Prop} {X : String → Nat → hM → Prop} (hJ : JOK l g) (hw : w_X0_append g F p0 p1 p2 p3 M Q X) : MX l g yX0_append (wsW_ yX0_append cX0_append 5 (some .int) hh_X0_append) 44 2090 [va_rf p0, .int p1, .int p2, va_rf p3] M (PI Q) X := by
  refine MX_ofH hJ.2.1 (by decide) (cat_r (cat_i (cat_i (cat_r cat_e)))) (Nat.le_of_ble_eq_true rfl) (fun k hl hg hin htab hQ hC => ?_)
  subst hl hg
  show GW k 5 M 0 [some (va_rf p0), some (.int p1), some (.int p2), some (va_rf p3), none] []
  refine G_aload_n (pc := 0) (i := 3) hC dX0_append_0 rfl rfl ?_
  refine G_iconst (pc := 1) (v := 0) hC dX0_append_1 (by decide) ?_
  refine G_aload_n (pc := 2) (i := 0) hC dX0_append_2 rfl rfl ?_
  refine G_iload_n (pc := 3) (i := 1) hC dX0_append_3 rfl rfl ?_
  refine G_iload_n (pc := 4) (i := 2) hC dX0_append_4 rfl rfl ?_
  obtain ⟨b2, rfl, hb, hw⟩ := gThis_e hw
  refine GX_callV (pc := 5) (n := 2) (C := "MergeWorkbench") (b := b2) (As := [.int p1, .int p2]) (rest := [.int (0 : Int32), va_rf p3]) hC (m_X1_append hJ hw) (lw_V q1211 q1212 q1213 q84 q1214) hd_X1_append (by decide) (rcv (C := RX1) (T := TX1) (N := 10) hC hb rfl) rfl rfl (st_c (cat_i (cat_r cat_e)) (Nat.le_of_ble_eq_true rfl)) dX0_append_5 (fun E5 q6 M7 hx => ?_) (kI fun x3 M1 hw => ?_)
  · rcases hx with ⟨rfl, hw⟩ | ⟨rfl, hw⟩
    · refine GX_catch (pc := 5) (tgt := 13) hJ.1 hC htab [] ⟨0, 10, 13, 13⟩ [⟨0, 10, 17, 15⟩] rfl trivial (by decide) (by decide) q1209 (nw_in q602 rfl) rfl ?_
      refine G_astore (pc := 13) (i := 4) (lw := [some (va_rf (some b2)), some (.int p1), some (.int p2), some (va_rf p3), some (va_rf (some q6))]) hC dX0_append_13 (Nat.le_of_ble_eq_true rfl) rfl ?_
      refine G_iconst (pc := 15) (v := 1) hC dX0_append_15 (by decide) ?_
      exact G_iretX (pc := 16) hC rfl hQ dX0_append_16 hw
    · refine GX_catch (pc := 5) (tgt := 17) hJ.1 hC htab [⟨0, 10, 13, 13⟩] ⟨0, 10, 17, 15⟩ [] rfl ⟨Or.inr ⟨by decide, _, q1209, by decide +kernel⟩, trivial⟩ (by decide) (by decide) q1210 (nw_in q1240 rfl) rfl ?_
      refine G_astore (pc := 17) (i := 4) (lw := [some (va_rf (some b2)), some (.int p1), some (.int p2), some (va_rf p3), some (va_rf (some q6))]) hC dX0_append_17 (Nat.le_of_ble_eq_true rfl) rfl ?_
      refine G_iconst (pc := 19) (v := 2) hC dX0_append_19 (by decide) ?_
      exact G_iretX (pc := 20) hC rfl hQ dX0_append_20 hw
  refine G_i2l (pc := 8) hC dX0_append_8 ?_
  refine G_last (pc := 9) hC dX0_append_9 hw (fun M4 hw => ?_)
  refine G_goto (pc := 10) (tgt := 21) hC dX0_append_10 (by decide) ?_
  refine G_iconst (pc := 21) (v := 0) hC dX0_append_21 (by decide) ?_
  exact G_iretX (pc := 22) hC rfl hQ dX0_append_22 hw
theorem hd_X1_insert : yX1_insert.cls = "MergeWorkbench" ∧ yX1_insert.cls ≠ "java/lang/invoke/MethodHandle" ∧ yX1_insert.cls ≠ "java/lang/invoke/VarHandle" ∧ (parseMethodDescriptor yX1_insert.desc).map (fun d => d.parameters.length) = some 3 := by decide +kernel
abbrev hh_X0_insert : List (Nat × Nat × Nat × Nat) := [(0, 12, 15, 13), (0, 12, 19, 15), (0, 12, 23, 21)]
def w_X0_insert (g : gT) (F : Nat) (p0 : Option Nat) (p1 : Int32) (p2 : Int32) (p3 : Int32) (p4 : Option Nat) (M : hM) (Q : Int32 → hM → Prop) (X : String → Nat → hM → Prop) : Prop :=
  gThis M p0 0 fun b2 => w_X1_insert g F b2 p1 p2 p3 M (fun x3 M1 => sJ M1 p4 (0 : Int32) (x3).toInt64 fun M4 => Q (0 : Int32) M4) (fun E5 q6 M7 => (E5 = "java/lang/IllegalArgumentException" ∧ Q (1 : Int32) M7) ∨ (E5 = "java/lang/IllegalStateException" ∧ Q (2 : Int32) M7) ∨ (E5 = "java/lang/IndexOutOfBoundsException" ∧ Q (3 : Int32) M7))
theorem m_X0_insert {l : Launch} {g : gT} {F : Nat} {p0 : Option Nat} {p1 : Int32} {p2 : Int32} {p3 : Int32} {p4 : Option Nat} {M : hM} {Q : Int32 → hM → Prop} {X : String → Nat → hM → Prop} (hJ : JOK l g) (hw : w_X0_insert g F p0 p1 p2 p3 p4 M Q X) : MX l g yX0_insert (wsW_ yX0_insert cX0_insert 6 (some .int) hh_X0_insert) 44 2091 [va_rf p0, .int p1, .int p2, .int p3, va_rf p4] M (PI Q) X := by
  refine MX_ofH hJ.2.1 (by decide) (cat_r (cat_i (cat_i (cat_i (cat_r cat_e))))) (Nat.le_of_ble_eq_true rfl) (fun k hl hg hin htab hQ hC => ?_)
  subst hl hg
  show GW k 6 M 0 [some (va_rf p0), some (.int p1), some (.int p2), some (.int p3), some (va_rf p4), none] []
  refine G_aload (pc := 0) (i := 4) hC dX0_insert_0 rfl ?_
  refine G_iconst (pc := 2) (v := 0) hC dX0_insert_2 (by decide) ?_
  refine G_aload_n (pc := 3) (i := 0) hC dX0_insert_3 rfl rfl ?_
  refine G_iload_n (pc := 4) (i := 1) hC dX0_insert_4 rfl rfl ?_
  refine G_iload_n (pc := 5) (i := 2) hC dX0_insert_5 rfl rfl ?_
  refine G_iload_n (pc := 6) (i := 3) hC dX0_insert_6 rfl rfl ?_
  obtain ⟨b2, rfl, hb, hw⟩ := gThis_e hw
  refine GX_callV (pc := 7) (n := 3) (C := "MergeWorkbench") (b := b2) (As := [.int p1, .int p2, .int p3]) (rest := [.int (0 : Int32), va_rf p4]) hC (m_X1_insert hJ hw) (lw_V q1362 q1363 q1364 q84 q1365) hd_X1_insert (by decide) (rcv (C := RX1) (T := TX1) (N := 10) hC hb rfl) rfl rfl (st_c (cat_i (cat_r cat_e)) (Nat.le_of_ble_eq_true rfl)) dX0_insert_7 (fun E5 q6 M7 hx => ?_) (kI fun x3 M1 hw => ?_)
  · rcases hx with ⟨rfl, hw⟩ | ⟨rfl, hw⟩ | ⟨rfl, hw⟩
    · refine GX_catch (pc := 7) (tgt := 15) hJ.1 hC htab [] ⟨0, 12, 15, 13⟩ [⟨0, 12, 19, 15⟩, ⟨0, 12, 23, 21⟩] rfl trivial (by decide) (by decide) q1209 (nw_in q602 rfl) rfl ?_
      refine G_astore (pc := 15) (i := 5) (lw := [some (va_rf (some b2)), some (.int p1), some (.int p2), some (.int p3), some (va_rf p4), some (va_rf (some q6))]) hC dX0_insert_15 (Nat.le_of_ble_eq_true rfl) rfl ?_
      refine G_iconst (pc := 17) (v := 1) hC dX0_insert_17 (by decide) ?_
      exact G_iretX (pc := 18) hC rfl hQ dX0_insert_18 hw
    · refine GX_catch (pc := 7) (tgt := 19) hJ.1 hC htab [⟨0, 12, 15, 13⟩] ⟨0, 12, 19, 15⟩ [⟨0, 12, 23, 21⟩] rfl ⟨Or.inr ⟨by decide, _, q1209, by decide +kernel⟩, trivial⟩ (by decide) (by decide) q1210 (nw_in q1240 rfl) rfl ?_
      refine G_astore (pc := 19) (i := 5) (lw := [some (va_rf (some b2)), some (.int p1), some (.int p2), some (.int p3), some (va_rf p4), some (va_rf (some q6))]) hC dX0_insert_19 (Nat.le_of_ble_eq_true rfl) rfl ?_
      refine G_iconst (pc := 21) (v := 2) hC dX0_insert_21 (by decide) ?_
      exact G_iretX (pc := 22) hC rfl hQ dX0_insert_22 hw
    · refine GX_catch (pc := 7) (tgt := 23) hJ.1 hC htab [⟨0, 12, 15, 13⟩, ⟨0, 12, 19, 15⟩] ⟨0, 12, 23, 21⟩ [] rfl ⟨Or.inr ⟨by decide, _, q1209, by decide +kernel⟩, ⟨Or.inr ⟨by decide, _, q1210, by decide +kernel⟩, trivial⟩⟩ (by decide) (by decide) q1346 (nw_in q380 rfl) rfl ?_
      refine G_astore (pc := 23) (i := 5) (lw := [some (va_rf (some b2)), some (.int p1), some (.int p2), some (.int p3), some (va_rf p4), some (va_rf (some q6))]) hC dX0_insert_23 (Nat.le_of_ble_eq_true rfl) rfl ?_
      refine G_iconst (pc := 25) (v := 3) hC dX0_insert_25 (by decide) ?_
      exact G_iretX (pc := 26) hC rfl hQ dX0_insert_26 hw
  refine G_i2l (pc := 10) hC dX0_insert_10 ?_
  refine G_last (pc := 11) hC dX0_insert_11 hw (fun M4 hw => ?_)
  refine G_goto (pc := 12) (tgt := 27) hC dX0_insert_12 (by decide) ?_
  refine G_iconst (pc := 27) (v := 0) hC dX0_insert_27 (by decide) ?_
  exact G_iretX (pc := 28) hC rfl hQ dX0_insert_28 hw
theorem hd_X1_delete : yX1_delete.cls = "MergeWorkbench" ∧ yX1_delete.cls ≠ "java/lang/invoke/MethodHandle" ∧ yX1_delete.cls ≠ "java/lang/invoke/VarHandle" ∧ (parseMethodDescriptor yX1_delete.desc).map (fun d => d.parameters.length) = some 2 := by decide +kernel
abbrev hh_X0_delete : List (Nat × Nat × Nat × Nat) := [(0, 10, 13, 13), (0, 10, 17, 21)]
def w_X0_delete (g : gT) (F : Nat) (p0 : Option Nat) (p1 : Int32) (p2 : Int32) (p3 : Option Nat) (M : hM) (Q : Int32 → hM → Prop) (X : String → Nat → hM → Prop) : Prop :=
  gThis M p0 0 fun b2 => w_X1_delete g F b2 p1 p2 M (fun x3 M1 => sJ M1 p3 (0 : Int32) (x3).toInt64 fun M4 => Q (0 : Int32) M4) (fun E5 q6 M7 => (E5 = "java/lang/IllegalArgumentException" ∧ Q (1 : Int32) M7) ∨ (E5 = "java/lang/IndexOutOfBoundsException" ∧ Q (2 : Int32) M7))
theorem m_X0_delete {l : Launch} {g : gT} {F : Nat} {p0 : Option Nat} {p1 : Int32} {p2 : Int32} {p3 : Option Nat} {M : hM} {Q : Int32 → hM → Prop} {X : String → Nat → hM → Prop} (hJ : JOK l g) (hw : w_X0_delete g F p0 p1 p2 p3 M Q X) : MX l g yX0_delete (wsW_ yX0_delete cX0_delete 5 (some .int) hh_X0_delete) 44 2091 [va_rf p0, .int p1, .int p2, va_rf p3] M (PI Q) X := by
  refine MX_ofH hJ.2.1 (by decide) (cat_r (cat_i (cat_i (cat_r cat_e)))) (Nat.le_of_ble_eq_true rfl) (fun k hl hg hin htab hQ hC => ?_)
  subst hl hg
  show GW k 5 M 0 [some (va_rf p0), some (.int p1), some (.int p2), some (va_rf p3), none] []
  refine G_aload_n (pc := 0) (i := 3) hC dX0_delete_0 rfl rfl ?_
  refine G_iconst (pc := 1) (v := 0) hC dX0_delete_1 (by decide) ?_
  refine G_aload_n (pc := 2) (i := 0) hC dX0_delete_2 rfl rfl ?_
  refine G_iload_n (pc := 3) (i := 1) hC dX0_delete_3 rfl rfl ?_
  refine G_iload_n (pc := 4) (i := 2) hC dX0_delete_4 rfl rfl ?_
  obtain ⟨b2, rfl, hb, hw⟩ := gThis_e hw
  refine GX_callV (pc := 5) (n := 2) (C := "MergeWorkbench") (b := b2) (As := [.int p1, .int p2]) (rest := [.int (0 : Int32), va_rf p3]) hC (m_X1_delete hJ hw) (lw_V q1387 q1388 q1389 q84 q1390) hd_X1_delete (by decide) (rcv (C := RX1) (T := TX1) (N := 10) hC hb rfl) rfl rfl (st_c (cat_i (cat_r cat_e)) (Nat.le_of_ble_eq_true rfl)) dX0_delete_5 (fun E5 q6 M7 hx => ?_) (kI fun x3 M1 hw => ?_)
  · rcases hx with ⟨rfl, hw⟩ | ⟨rfl, hw⟩
    · refine GX_catch (pc := 5) (tgt := 13) hJ.1 hC htab [] ⟨0, 10, 13, 13⟩ [⟨0, 10, 17, 21⟩] rfl trivial (by decide) (by decide) q1209 (nw_in q602 rfl) rfl ?_
      refine G_astore (pc := 13) (i := 4) (lw := [some (va_rf (some b2)), some (.int p1), some (.int p2), some (va_rf p3), some (va_rf (some q6))]) hC dX0_delete_13 (Nat.le_of_ble_eq_true rfl) rfl ?_
      refine G_iconst (pc := 15) (v := 1) hC dX0_delete_15 (by decide) ?_
      exact G_iretX (pc := 16) hC rfl hQ dX0_delete_16 hw
    · refine GX_catch (pc := 5) (tgt := 17) hJ.1 hC htab [⟨0, 10, 13, 13⟩] ⟨0, 10, 17, 21⟩ [] rfl ⟨Or.inr ⟨by decide, _, q1209, by decide +kernel⟩, trivial⟩ (by decide) (by decide) q1346 (nw_in q380 rfl) rfl ?_
      refine G_astore (pc := 17) (i := 4) (lw := [some (va_rf (some b2)), some (.int p1), some (.int p2), some (va_rf p3), some (va_rf (some q6))]) hC dX0_delete_17 (Nat.le_of_ble_eq_true rfl) rfl ?_
      refine G_iconst (pc := 19) (v := 2) hC dX0_delete_19 (by decide) ?_
      exact G_iretX (pc := 20) hC rfl hQ dX0_delete_20 hw
  refine G_i2l (pc := 8) hC dX0_delete_8 ?_
  refine G_last (pc := 9) hC dX0_delete_9 hw (fun M4 hw => ?_)
  refine G_goto (pc := 10) (tgt := 21) hC dX0_delete_10 (by decide) ?_
  refine G_iconst (pc := 21) (v := 0) hC dX0_delete_21 (by decide) ?_
  exact G_iretX (pc := 22) hC rfl hQ dX0_delete_22 hw
theorem hd_X1_length : yX1_length.cls = "MergeWorkbench" ∧ yX1_length.cls ≠ "java/lang/invoke/MethodHandle" ∧ yX1_length.cls ≠ "java/lang/invoke/VarHandle" ∧ (parseMethodDescriptor yX1_length.desc).map (fun d => d.parameters.length) = some 1 := by decide +kernel
abbrev hh_X0_length : List (Nat × Nat × Nat × Nat) := [(0, 9, 12, 13)]
def w_X0_length (g : gT) (F : Nat) (p0 : Option Nat) (p1 : Int32) (p2 : Option Nat) (M : hM) (Q : Int32 → hM → Prop) (X : String → Nat → hM → Prop) : Prop :=
  gThis M p0 0 fun b2 => w_X1_length g F b2 p1 M (fun x3 M1 => sJ M1 p2 (0 : Int32) (x3).toInt64 fun M4 => Q (0 : Int32) M4) (fun E5 q6 M7 => (E5 = "java/lang/IllegalArgumentException" ∧ Q (1 : Int32) M7))
theorem m_X0_length {l : Launch} {g : gT} {F : Nat} {p0 : Option Nat} {p1 : Int32} {p2 : Option Nat} {M : hM} {Q : Int32 → hM → Prop} {X : String → Nat → hM → Prop} (hJ : JOK l g) (hw : w_X0_length g F p0 p1 p2 M Q X) : MX l g yX0_length (wsW_ yX0_length cX0_length 4 (some .int) hh_X0_length) 43 2063 [va_rf p0, .int p1, va_rf p2] M (PI Q) X := by
  refine MX_ofH hJ.2.1 (by decide) (cat_r (cat_i (cat_r cat_e))) (Nat.le_of_ble_eq_true rfl) (fun k hl hg hin htab hQ hC => ?_)
  subst hl hg
  show GW k 4 M 0 [some (va_rf p0), some (.int p1), some (va_rf p2), none] []
  refine G_aload_n (pc := 0) (i := 2) hC dX0_length_0 rfl rfl ?_
  refine G_iconst (pc := 1) (v := 0) hC dX0_length_1 (by decide) ?_
  refine G_aload_n (pc := 2) (i := 0) hC dX0_length_2 rfl rfl ?_
  refine G_iload_n (pc := 3) (i := 1) hC dX0_length_3 rfl rfl ?_
  obtain ⟨b2, rfl, hb, hw⟩ := gThis_e hw
  refine GX_callV (pc := 4) (n := 1) (C := "MergeWorkbench") (b := b2) (As := [.int p1]) (rest := [.int (0 : Int32), va_rf p2]) hC (m_X1_length hJ hw) (lw_V q1414 q1415 q1416 q84 q1417) hd_X1_length (by decide) (rcv (C := RX1) (T := TX1) (N := 10) hC hb rfl) rfl rfl (st_c (cat_i (cat_r cat_e)) (Nat.le_of_ble_eq_true rfl)) dX0_length_4 (fun E5 q6 M7 hx => ?_) (kI fun x3 M1 hw => ?_)
  · obtain ⟨rfl, hw⟩ := hx
    refine GX_catch (pc := 4) (tgt := 12) hJ.1 hC htab [] ⟨0, 9, 12, 13⟩ [] rfl trivial (by decide) (by decide) q1209 (nw_in q602 rfl) rfl ?_
    refine G_astore_n (pc := 12) (i := 3) (lw := [some (va_rf (some b2)), some (.int p1), some (va_rf p2), some (va_rf (some q6))]) hC dX0_length_12 rfl (Nat.le_of_ble_eq_true rfl) rfl ?_
    refine G_iconst (pc := 13) (v := 1) hC dX0_length_13 (by decide) ?_
    exact G_iretX (pc := 14) hC rfl hQ dX0_length_14 hw
  refine G_i2l (pc := 7) hC dX0_length_7 ?_
  refine G_last (pc := 8) hC dX0_length_8 hw (fun M4 hw => ?_)
  refine G_goto (pc := 9) (tgt := 15) hC dX0_length_9 (by decide) ?_
  refine G_iconst (pc := 15) (v := 0) hC dX0_length_15 (by decide) ?_
  exact G_iretX (pc := 16) hC rfl hQ dX0_length_16 hw
theorem hd_X1_line : yX1_line.cls = "MergeWorkbench" ∧ yX1_line.cls ≠ "java/lang/invoke/MethodHandle" ∧ yX1_line.cls ≠ "java/lang/invoke/VarHandle" ∧ (parseMethodDescriptor yX1_line.desc).map (fun d => d.parameters.length) = some 2 := by decide +kernel
abbrev hh_X0_line : List (Nat × Nat × Nat × Nat) := [(0, 10, 13, 13), (0, 10, 17, 21)]
def w_X0_line (g : gT) (F : Nat) (p0 : Option Nat) (p1 : Int32) (p2 : Int32) (p3 : Option Nat) (M : hM) (Q : Int32 → hM → Prop) (X : String → Nat → hM → Prop) : Prop :=
  gThis M p0 0 fun b2 => w_X1_line g F b2 p1 p2 M (fun x3 M1 => sJ M1 p3 (0 : Int32) (x3).toInt64 fun M4 => Q (0 : Int32) M4) (fun E5 q6 M7 => (E5 = "java/lang/IllegalArgumentException" ∧ Q (1 : Int32) M7) ∨ (E5 = "java/lang/IndexOutOfBoundsException" ∧ Q (2 : Int32) M7))
theorem m_X0_line {l : Launch} {g : gT} {F : Nat} {p0 : Option Nat} {p1 : Int32} {p2 : Int32} {p3 : Option Nat} {M : hM} {Q : Int32 → hM → Prop} {X : String → Nat → hM → Prop} (hJ : JOK l g) (hw : w_X0_line g F p0 p1 p2 p3 M Q X) : MX l g yX0_line (wsW_ yX0_line cX0_line 5 (some .int) hh_X0_line) 43 2065 [va_rf p0, .int p1, .int p2, va_rf p3] M (PI Q) X := by
  refine MX_ofH hJ.2.1 (by decide) (cat_r (cat_i (cat_i (cat_r cat_e)))) (Nat.le_of_ble_eq_true rfl) (fun k hl hg hin htab hQ hC => ?_)
  subst hl hg
  show GW k 5 M 0 [some (va_rf p0), some (.int p1), some (.int p2), some (va_rf p3), none] []
  refine G_aload_n (pc := 0) (i := 3) hC dX0_line_0 rfl rfl ?_
  refine G_iconst (pc := 1) (v := 0) hC dX0_line_1 (by decide) ?_
  refine G_aload_n (pc := 2) (i := 0) hC dX0_line_2 rfl rfl ?_
  refine G_iload_n (pc := 3) (i := 1) hC dX0_line_3 rfl rfl ?_
  refine G_iload_n (pc := 4) (i := 2) hC dX0_line_4 rfl rfl ?_
  obtain ⟨b2, rfl, hb, hw⟩ := gThis_e hw
  refine GX_callV (pc := 5) (n := 2) (C := "MergeWorkbench") (b := b2) (As := [.int p1, .int p2]) (rest := [.int (0 : Int32), va_rf p3]) hC (m_X1_line hJ hw) (lw_V q1421 q1422 q1423 q84 q1424) hd_X1_line (by decide) (rcv (C := RX1) (T := TX1) (N := 10) hC hb rfl) rfl rfl (st_c (cat_i (cat_r cat_e)) (Nat.le_of_ble_eq_true rfl)) dX0_line_5 (fun E5 q6 M7 hx => ?_) (kI fun x3 M1 hw => ?_)
  · rcases hx with ⟨rfl, hw⟩ | ⟨rfl, hw⟩
    · refine GX_catch (pc := 5) (tgt := 13) hJ.1 hC htab [] ⟨0, 10, 13, 13⟩ [⟨0, 10, 17, 21⟩] rfl trivial (by decide) (by decide) q1209 (nw_in q602 rfl) rfl ?_
      refine G_astore (pc := 13) (i := 4) (lw := [some (va_rf (some b2)), some (.int p1), some (.int p2), some (va_rf p3), some (va_rf (some q6))]) hC dX0_line_13 (Nat.le_of_ble_eq_true rfl) rfl ?_
      refine G_iconst (pc := 15) (v := 1) hC dX0_line_15 (by decide) ?_
      exact G_iretX (pc := 16) hC rfl hQ dX0_line_16 hw
    · refine GX_catch (pc := 5) (tgt := 17) hJ.1 hC htab [⟨0, 10, 13, 13⟩] ⟨0, 10, 17, 21⟩ [] rfl ⟨Or.inr ⟨by decide, _, q1209, by decide +kernel⟩, trivial⟩ (by decide) (by decide) q1346 (nw_in q380 rfl) rfl ?_
      refine G_astore (pc := 17) (i := 4) (lw := [some (va_rf (some b2)), some (.int p1), some (.int p2), some (va_rf p3), some (va_rf (some q6))]) hC dX0_line_17 (Nat.le_of_ble_eq_true rfl) rfl ?_
      refine G_iconst (pc := 19) (v := 2) hC dX0_line_19 (by decide) ?_
      exact G_iretX (pc := 20) hC rfl hQ dX0_line_20 hw
  refine G_i2l (pc := 8) hC dX0_line_8 ?_
  refine G_last (pc := 9) hC dX0_line_9 hw (fun M4 hw => ?_)
  refine G_goto (pc := 10) (tgt := 21) hC dX0_line_10 (by decide) ?_
  refine G_iconst (pc := 21) (v := 0) hC dX0_line_21 (by decide) ?_
  exact G_iretX (pc := 22) hC rfl hQ dX0_line_22 hw
theorem hd_X1_copy : yX1_copy.cls = "MergeWorkbench" ∧ yX1_copy.cls ≠ "java/lang/invoke/MethodHandle" ∧ yX1_copy.cls ≠ "java/lang/invoke/VarHandle" ∧ (parseMethodDescriptor yX1_copy.desc).map (fun d => d.parameters.length) = some 2 := by decide +kernel
abbrev hh_X0_copy : List (Nat × Nat × Nat × Nat) := [(0, 10, 13, 13)]
def w_X0_copy (g : gT) (F : Nat) (p0 : Option Nat) (p1 : Int32) (p2 : Int32) (p3 : Option Nat) (M : hM) (Q : Int32 → hM → Prop) (X : String → Nat → hM → Prop) : Prop :=
  gThis M p0 0 fun b2 => w_X1_copy g F b2 p1 p2 M (fun x3 M1 => sJ M1 p3 (0 : Int32) (x3).toInt64 fun M4 => Q (0 : Int32) M4) (fun E5 q6 M7 => (E5 = "java/lang/IllegalArgumentException" ∧ Q (1 : Int32) M7))
theorem m_X0_copy {l : Launch} {g : gT} {F : Nat} {p0 : Option Nat} {p1 : Int32} {p2 : Int32} {p3 : Option Nat} {M : hM} {Q : Int32 → hM → Prop} {X : String → Nat → hM → Prop} (hJ : JOK l g) (hw : w_X0_copy g F p0 p1 p2 p3 M Q X) : MX l g yX0_copy (wsW_ yX0_copy cX0_copy 5 (some .int) hh_X0_copy) 44 2089 [va_rf p0, .int p1, .int p2, va_rf p3] M (PI Q) X := by
  refine MX_ofH hJ.2.1 (by decide) (cat_r (cat_i (cat_i (cat_r cat_e)))) (Nat.le_of_ble_eq_true rfl) (fun k hl hg hin htab hQ hC => ?_)
  subst hl hg
  show GW k 5 M 0 [some (va_rf p0), some (.int p1), some (.int p2), some (va_rf p3), none] []
  refine G_aload_n (pc := 0) (i := 3) hC dX0_copy_0 rfl rfl ?_
  refine G_iconst (pc := 1) (v := 0) hC dX0_copy_1 (by decide) ?_
  refine G_aload_n (pc := 2) (i := 0) hC dX0_copy_2 rfl rfl ?_
  refine G_iload_n (pc := 3) (i := 1) hC dX0_copy_3 rfl rfl ?_
  refine G_iload_n (pc := 4) (i := 2) hC dX0_copy_4 rfl rfl ?_
  obtain ⟨b2, rfl, hb, hw⟩ := gThis_e hw
  refine GX_callV (pc := 5) (n := 2) (C := "MergeWorkbench") (b := b2) (As := [.int p1, .int p2]) (rest := [.int (0 : Int32), va_rf p3]) hC (m_X1_copy hJ hw) (lw_V q1428 q1429 q1430 q84 q1431) hd_X1_copy (by decide) (rcv (C := RX1) (T := TX1) (N := 10) hC hb rfl) rfl rfl (st_c (cat_i (cat_r cat_e)) (Nat.le_of_ble_eq_true rfl)) dX0_copy_5 (fun E5 q6 M7 hx => ?_) (kI fun x3 M1 hw => ?_)
  · obtain ⟨rfl, hw⟩ := hx
    refine GX_catch (pc := 5) (tgt := 13) hJ.1 hC htab [] ⟨0, 10, 13, 13⟩ [] rfl trivial (by decide) (by decide) q1209 (nw_in q602 rfl) rfl ?_
    refine G_astore (pc := 13) (i := 4) (lw := [some (va_rf (some b2)), some (.int p1), some (.int p2), some (va_rf p3), some (va_rf (some q6))]) hC dX0_copy_13 (Nat.le_of_ble_eq_true rfl) rfl ?_
    refine G_iconst (pc := 15) (v := 1) hC dX0_copy_15 (by decide) ?_
    exact G_iretX (pc := 16) hC rfl hQ dX0_copy_16 hw
  refine G_i2l (pc := 8) hC dX0_copy_8 ?_
  refine G_last (pc := 9) hC dX0_copy_9 hw (fun M4 hw => ?_)
  refine G_goto (pc := 10) (tgt := 17) hC dX0_copy_10 (by decide) ?_
  refine G_iconst (pc := 17) (v := 0) hC dX0_copy_17 (by decide) ?_
  exact G_iretX (pc := 18) hC rfl hQ dX0_copy_18 hw
theorem hd_X1_isSame : yX1_isSame.cls = "MergeWorkbench" ∧ yX1_isSame.cls ≠ "java/lang/invoke/MethodHandle" ∧ yX1_isSame.cls ≠ "java/lang/invoke/VarHandle" ∧ (parseMethodDescriptor yX1_isSame.desc).map (fun d => d.parameters.length) = some 2 := by decide +kernel
abbrev hh_X0_isSame : List (Nat × Nat × Nat × Nat) := [(0, 17, 20, 13)]
def w_X0_isSame_16 (g : gT) (F : Nat) (p0 : Option Nat) (p1 : Int32) (p2 : Int32) (p3 : Option Nat) (Q : Int32 → hM → Prop) (X : String → Nat → hM → Prop) (s0 : Option Nat) (s1 : Int32) (s2 : Int64) (M : hM) : Prop :=
  sJ M s0 s1 s2 fun M1 => Q (0 : Int32) M1
def w_X0_isSame (g : gT) (F : Nat) (p0 : Option Nat) (p1 : Int32) (p2 : Int32) (p3 : Option Nat) (M : hM) (Q : Int32 → hM → Prop) (X : String → Nat → hM → Prop) : Prop :=
  gThis M p0 0 fun b2 => w_X1_isSame g F b2 p1 p2 M (fun x3 M1 => ((x3 = 0 → w_X0_isSame_16 g F p0 p1 p2 p3 Q X p3 (0 : Int32) (0 : Int64) M1) ∧ (¬ (x3 = 0) → w_X0_isSame_16 g F p0 p1 p2 p3 Q X p3 (0 : Int32) (1 : Int64) M1))) (fun E4 q5 M6 => (E4 = "java/lang/IllegalArgumentException" ∧ Q (1 : Int32) M6))
theorem g_X0_isSame_16 {k : kT} {F : Nat} {p0 : Option Nat} {p1 : Int32} {p2 : Int32} {p3 : Option Nat} {Q : Int32 → hM → Prop} {X : String → Nat → hM → Prop} (hJ : JOK (kl k) (kg k)) (hC : CX k 5 cX0_isSame RX0 (some .int) 43 2064) (hQ : isQX k (PI Q) X) (hin : (kt k).name = "isSame") (htab : (kc k).exceptionTable.toList = tableOf hh_X0_isSame) : ∀ (s0 : Option Nat) (s1 : Int32) (s2 : Int64) (M : hM), w_X0_isSame_16 (kg k) F p0 p1 p2 p3 Q X s0 s1 s2 M → GW k 5 M 16 [some (va_rf p0), some (.int p1), some (.int p2), some (va_rf p3), none] [.long s2, .int s1, va_rf s0] := by
  intro s0 s1 s2 M hw
  refine G_last (pc := 16) hC dX0_isSame_16 hw (fun M1 hw => ?_)
  refine G_goto (pc := 17) (tgt := 24) hC dX0_isSame_17 (by decide) ?_
  refine G_iconst (pc := 24) (v := 0) hC dX0_isSame_24 (by decide) ?_
  exact G_iretX (pc := 25) hC rfl hQ dX0_isSame_25 hw
theorem m_X0_isSame {l : Launch} {g : gT} {F : Nat} {p0 : Option Nat} {p1 : Int32} {p2 : Int32} {p3 : Option Nat} {M : hM} {Q : Int32 → hM → Prop} {X : String → Nat → hM → Prop} (hJ : JOK l g) (hw : w_X0_isSame g F p0 p1 p2 p3 M Q X) : MX l g yX0_isSame (wsW_ yX0_isSame cX0_isSame 5 (some .int) hh_X0_isSame) 43 2064 [va_rf p0, .int p1, .int p2, va_rf p3] M (PI Q) X := by
  refine MX_ofH hJ.2.1 (by decide) (cat_r (cat_i (cat_i (cat_r cat_e)))) (Nat.le_of_ble_eq_true rfl) (fun k hl hg hin htab hQ hC => ?_)
  subst hl hg
  show GW k 5 M 0 [some (va_rf p0), some (.int p1), some (.int p2), some (va_rf p3), none] []
  refine G_aload_n (pc := 0) (i := 3) hC dX0_isSame_0 rfl rfl ?_
  refine G_iconst (pc := 1) (v := 0) hC dX0_isSame_1 (by decide) ?_
  refine G_aload_n (pc := 2) (i := 0) hC dX0_isSame_2 rfl rfl ?_
  refine G_iload_n (pc := 3) (i := 1) hC dX0_isSame_3 rfl rfl ?_
  refine G_iload_n (pc := 4) (i := 2) hC dX0_isSame_4 rfl rfl ?_
  obtain ⟨b2, rfl, hb, hw⟩ := gThis_e hw
  refine GX_callV (pc := 5) (n := 2) (C := "MergeWorkbench") (b := b2) (As := [.int p1, .int p2]) (rest := [.int (0 : Int32), va_rf p3]) hC (m_X1_isSame hJ hw) (lw_V q1435 q1436 q1437 q84 q1438) hd_X1_isSame (by decide) (rcv (C := RX1) (T := TX1) (N := 10) hC hb rfl) rfl rfl (st_c (cat_i (cat_r cat_e)) (Nat.le_of_ble_eq_true rfl)) dX0_isSame_5 (fun E4 q5 M6 hx => ?_) (kI fun x3 M1 hw => ?_)
  · obtain ⟨rfl, hw⟩ := hx
    refine GX_catch (pc := 5) (tgt := 20) hJ.1 hC htab [] ⟨0, 17, 20, 13⟩ [] rfl trivial (by decide) (by decide) q1209 (nw_in q602 rfl) rfl ?_
    refine G_astore (pc := 20) (i := 4) (lw := [some (va_rf (some b2)), some (.int p1), some (.int p2), some (va_rf p3), some (va_rf (some q5))]) hC dX0_isSame_20 (Nat.le_of_ble_eq_true rfl) rfl ?_
    refine G_iconst (pc := 22) (v := 1) hC dX0_isSame_22 (by decide) ?_
    exact G_iretX (pc := 23) hC rfl hQ dX0_isSame_23 hw
  refine G_if_eq (pc := 8) (tgt := 15) hC dX0_isSame_8 (by decide) (fun hc => ?_) (fun hc => ?_)
  · replace hw := hw.1 hc
    refine G_lconst (pc := 15) (v := 0) hC dX0_isSame_15 (by decide) ?_
    exact g_X0_isSame_16 hJ hC hQ hin htab  p3 (0 : Int32) (0 : Int64) M1 hw
  · replace hw := hw.2 hc
    refine G_lconst (pc := 11) (v := 1) hC dX0_isSame_11 (by decide) ?_
    refine G_goto (pc := 12) (tgt := 16) hC dX0_isSame_12 (by decide) ?_
    exact g_X0_isSame_16 hJ hC hQ hin htab  p3 (0 : Int32) (1 : Int64) M1 hw
theorem hd_X1_distance : yX1_distance.cls = "MergeWorkbench" ∧ yX1_distance.cls ≠ "java/lang/invoke/MethodHandle" ∧ yX1_distance.cls ≠ "java/lang/invoke/VarHandle" ∧ (parseMethodDescriptor yX1_distance.desc).map (fun d => d.parameters.length) = some 2 := by decide +kernel
abbrev hh_X0_distance : List (Nat × Nat × Nat × Nat) := [(0, 10, 13, 13)]
def w_X0_distance (g : gT) (F : Nat) (p0 : Option Nat) (p1 : Int32) (p2 : Int32) (p3 : Option Nat) (M : hM) (Q : Int32 → hM → Prop) (X : String → Nat → hM → Prop) : Prop :=
  gThis M p0 0 fun b2 => w_X1_distance g F b2 p1 p2 M (fun x3 M1 => sJ M1 p3 (0 : Int32) (x3).toInt64 fun M4 => Q (0 : Int32) M4) (fun E5 q6 M7 => (E5 = "java/lang/IllegalArgumentException" ∧ Q (1 : Int32) M7))
theorem m_X0_distance {l : Launch} {g : gT} {F : Nat} {p0 : Option Nat} {p1 : Int32} {p2 : Int32} {p3 : Option Nat} {M : hM} {Q : Int32 → hM → Prop} {X : String → Nat → hM → Prop} (hJ : JOK l g) (hw : w_X0_distance g F p0 p1 p2 p3 M Q X) : MX l g yX0_distance (wsW_ yX0_distance cX0_distance 5 (some .int) hh_X0_distance) 45 2122 [va_rf p0, .int p1, .int p2, va_rf p3] M (PI Q) X := by
  refine MX_ofH hJ.2.1 (by decide) (cat_r (cat_i (cat_i (cat_r cat_e)))) (Nat.le_of_ble_eq_true rfl) (fun k hl hg hin htab hQ hC => ?_)
  subst hl hg
  show GW k 5 M 0 [some (va_rf p0), some (.int p1), some (.int p2), some (va_rf p3), none] []
  refine G_aload_n (pc := 0) (i := 3) hC dX0_distance_0 rfl rfl ?_
  refine G_iconst (pc := 1) (v := 0) hC dX0_distance_1 (by decide) ?_
  refine G_aload_n (pc := 2) (i := 0) hC dX0_distance_2 rfl rfl ?_
  refine G_iload_n (pc := 3) (i := 1) hC dX0_distance_3 rfl rfl ?_
  refine G_iload_n (pc := 4) (i := 2) hC dX0_distance_4 rfl rfl ?_
  obtain ⟨b2, rfl, hb, hw⟩ := gThis_e hw
  refine GX_callV (pc := 5) (n := 2) (C := "MergeWorkbench") (b := b2) (As := [.int p1, .int p2]) (rest := [.int (0 : Int32), va_rf p3]) hC (m_X1_distance hJ hw) (lw_V q1629 q1630 q1631 q84 q1632) hd_X1_distance (by decide) (rcv (C := RX1) (T := TX1) (N := 10) hC hb rfl) rfl rfl (st_c (cat_i (cat_r cat_e)) (Nat.le_of_ble_eq_true rfl)) dX0_distance_5 (fun E5 q6 M7 hx => ?_) (kI fun x3 M1 hw => ?_)
  · obtain ⟨rfl, hw⟩ := hx
    refine GX_catch (pc := 5) (tgt := 13) hJ.1 hC htab [] ⟨0, 10, 13, 13⟩ [] rfl trivial (by decide) (by decide) q1209 (nw_in q602 rfl) rfl ?_
    refine G_astore (pc := 13) (i := 4) (lw := [some (va_rf (some b2)), some (.int p1), some (.int p2), some (va_rf p3), some (va_rf (some q6))]) hC dX0_distance_13 (Nat.le_of_ble_eq_true rfl) rfl ?_
    refine G_iconst (pc := 15) (v := 1) hC dX0_distance_15 (by decide) ?_
    exact G_iretX (pc := 16) hC rfl hQ dX0_distance_16 hw
  refine G_i2l (pc := 8) hC dX0_distance_8 ?_
  refine G_last (pc := 9) hC dX0_distance_9 hw (fun M4 hw => ?_)
  refine G_goto (pc := 10) (tgt := 17) hC dX0_distance_10 (by decide) ?_
  refine G_iconst (pc := 17) (v := 0) hC dX0_distance_17 (by decide) ?_
  exact G_iretX (pc := 18) hC rfl hQ dX0_distance_18 hw
theorem hd_X1_feed : yX1_feed.cls = "MergeWorkbench" ∧ yX1_feed.cls ≠ "java/lang/invoke/MethodHandle" ∧ yX1_feed.cls ≠ "java/lang/invoke/VarHandle" ∧ (parseMethodDescriptor yX1_feed.desc).map (fun d => d.parameters.length) = some 1 := by decide +kernel
abbrev hh_X0_feed : List (Nat × Nat × Nat × Nat) := [(0, 9, 12, 15)]
def w_X0_feed (g : gT) (F : Nat) (p0 : Option Nat) (p1 : Int32) (p2 : Option Nat) (M : hM) (Q : Int32 → hM → Prop) (X : String → Nat → hM → Prop) : Prop :=
  gThis M p0 0 fun b2 => w_X1_feed g F b2 p1 M (fun x3 M1 => sJ M1 p2 (0 : Int32) (x3).toInt64 fun M4 => Q (0 : Int32) M4) (fun E5 q6 M7 => (E5 = "java/lang/IllegalStateException" ∧ Q (1 : Int32) M7))
theorem m_X0_feed {l : Launch} {g : gT} {F : Nat} {p0 : Option Nat} {p1 : Int32} {p2 : Option Nat} {M : hM} {Q : Int32 → hM → Prop} {X : String → Nat → hM → Prop} (hJ : JOK l g) (hw : w_X0_feed g F p0 p1 p2 M Q X) : MX l g yX0_feed (wsW_ yX0_feed cX0_feed 4 (some .int) hh_X0_feed) 42 2042 [va_rf p0, .int p1, va_rf p2] M (PI Q) X := by
  refine MX_ofH hJ.2.1 (by decide) (cat_r (cat_i (cat_r cat_e))) (Nat.le_of_ble_eq_true rfl) (fun k hl hg hin htab hQ hC => ?_)
  subst hl hg
  show GW k 4 M 0 [some (va_rf p0), some (.int p1), some (va_rf p2), none] []
  refine G_aload_n (pc := 0) (i := 2) hC dX0_feed_0 rfl rfl ?_
  refine G_iconst (pc := 1) (v := 0) hC dX0_feed_1 (by decide) ?_
  refine G_aload_n (pc := 2) (i := 0) hC dX0_feed_2 rfl rfl ?_
  refine G_iload_n (pc := 3) (i := 1) hC dX0_feed_3 rfl rfl ?_
  obtain ⟨b2, rfl, hb, hw⟩ := gThis_e hw
  refine GX_callV (pc := 4) (n := 1) (C := "MergeWorkbench") (b := b2) (As := [.int p1]) (rest := [.int (0 : Int32), va_rf p2]) hC (m_X1_feed hJ hw) (lw_V q1718 q1719 q1720 q84 q1721) hd_X1_feed (by decide) (rcv (C := RX1) (T := TX1) (N := 10) hC hb rfl) rfl rfl (st_c (cat_i (cat_r cat_e)) (Nat.le_of_ble_eq_true rfl)) dX0_feed_4 (fun E5 q6 M7 hx => ?_) (kI fun x3 M1 hw => ?_)
  · obtain ⟨rfl, hw⟩ := hx
    refine GX_catch (pc := 4) (tgt := 12) hJ.1 hC htab [] ⟨0, 9, 12, 15⟩ [] rfl trivial (by decide) (by decide) q1210 (nw_in q1240 rfl) rfl ?_
    refine G_astore_n (pc := 12) (i := 3) (lw := [some (va_rf (some b2)), some (.int p1), some (va_rf p2), some (va_rf (some q6))]) hC dX0_feed_12 rfl (Nat.le_of_ble_eq_true rfl) rfl ?_
    refine G_iconst (pc := 13) (v := 1) hC dX0_feed_13 (by decide) ?_
    exact G_iretX (pc := 14) hC rfl hQ dX0_feed_14 hw
  refine G_i2l (pc := 7) hC dX0_feed_7 ?_
  refine G_last (pc := 8) hC dX0_feed_8 hw (fun M4 hw => ?_)
  refine G_goto (pc := 9) (tgt := 15) hC dX0_feed_9 (by decide) ?_
  refine G_iconst (pc := 15) (v := 0) hC dX0_feed_15 (by decide) ?_
  exact G_iretX (pc := 16) hC rfl hQ dX0_feed_16 hw
theorem hd_X1_readDocument : yX1_readDocument.cls = "MergeWorkbench" ∧ yX1_readDocument.cls ≠ "java/lang/invoke/MethodHandle" ∧ yX1_readDocument.cls ≠ "java/lang/invoke/VarHandle" ∧ (parseMethodDescriptor yX1_readDocument.desc).map (fun d => d.parameters.length) = some 1 := by decide +kernel
abbrev hh_X0_readDocument : List (Nat × Nat × Nat × Nat) := [(0, 9, 12, 13), (0, 9, 15, 15)]
def w_X0_readDocument (g : gT) (F : Nat) (p0 : Option Nat) (p1 : Int32) (p2 : Option Nat) (M : hM) (Q : Int32 → hM → Prop) (X : String → Nat → hM → Prop) : Prop :=
  gThis M p0 0 fun b2 => w_X1_readDocument g F b2 p1 M (fun x3 M1 => sJ M1 p2 (0 : Int32) (x3).toInt64 fun M4 => Q (0 : Int32) M4) (fun E5 q6 M7 => (E5 = "java/lang/IllegalArgumentException" ∧ Q (1 : Int32) M7) ∨ (E5 = "java/lang/IllegalStateException" ∧ Q (2 : Int32) M7))
theorem m_X0_readDocument {l : Launch} {g : gT} {F : Nat} {p0 : Option Nat} {p1 : Int32} {p2 : Option Nat} {M : hM} {Q : Int32 → hM → Prop} {X : String → Nat → hM → Prop} (hJ : JOK l g) (hw : w_X0_readDocument g F p0 p1 p2 M Q X) : MX l g yX0_readDocument (wsW_ yX0_readDocument cX0_readDocument 4 (some .int) hh_X0_readDocument) 56 2360 [va_rf p0, .int p1, va_rf p2] M (PI Q) X := by
  refine MX_ofH hJ.2.1 (by decide) (cat_r (cat_i (cat_r cat_e))) (Nat.le_of_ble_eq_true rfl) (fun k hl hg hin htab hQ hC => ?_)
  subst hl hg
  show GW k 4 M 0 [some (va_rf p0), some (.int p1), some (va_rf p2), none] []
  refine G_aload_n (pc := 0) (i := 2) hC dX0_readDocument_0 rfl rfl ?_
  refine G_iconst (pc := 1) (v := 0) hC dX0_readDocument_1 (by decide) ?_
  refine G_aload_n (pc := 2) (i := 0) hC dX0_readDocument_2 rfl rfl ?_
  refine G_iload_n (pc := 3) (i := 1) hC dX0_readDocument_3 rfl rfl ?_
  obtain ⟨b2, rfl, hb, hw⟩ := gThis_e hw
  refine GX_callVW (pc := 4) (n := 1) (C := "MergeWorkbench") (b := b2) (As := [.int p1]) (rest := [.int (0 : Int32), va_rf p2]) hC (m_X1_readDocument hJ hw) (lw_VW q1746 q1747 q1748 q84 q1749) hd_X1_readDocument (by decide) (rcv (C := RX1) (T := TX1) (N := 10) hC hb rfl) rfl rfl (st_c (cat_i (cat_r cat_e)) (Nat.le_of_ble_eq_true rfl)) dX0_readDocument_4 (fun E5 q6 M7 hx => ?_) (kI fun x3 M1 hw => ?_)
  · rcases hx with ⟨rfl, hw⟩ | ⟨rfl, hw⟩
    · refine GX_catch (pc := 4) (tgt := 12) hJ.1 hC htab [] ⟨0, 9, 12, 13⟩ [⟨0, 9, 15, 15⟩] rfl trivial (by decide) (by decide) q1209 (nw_in q602 rfl) rfl ?_
      refine G_astore_n (pc := 12) (i := 3) (lw := [some (va_rf (some b2)), some (.int p1), some (va_rf p2), some (va_rf (some q6))]) hC dX0_readDocument_12 rfl (Nat.le_of_ble_eq_true rfl) rfl ?_
      refine G_iconst (pc := 13) (v := 1) hC dX0_readDocument_13 (by decide) ?_
      exact G_iretX (pc := 14) hC rfl hQ dX0_readDocument_14 hw
    · refine GX_catch (pc := 4) (tgt := 15) hJ.1 hC htab [⟨0, 9, 12, 13⟩] ⟨0, 9, 15, 15⟩ [] rfl ⟨Or.inr ⟨by decide, _, q1209, by decide +kernel⟩, trivial⟩ (by decide) (by decide) q1210 (nw_in q1240 rfl) rfl ?_
      refine G_astore_n (pc := 15) (i := 3) (lw := [some (va_rf (some b2)), some (.int p1), some (va_rf p2), some (va_rf (some q6))]) hC dX0_readDocument_15 rfl (Nat.le_of_ble_eq_true rfl) rfl ?_
      refine G_iconst (pc := 16) (v := 2) hC dX0_readDocument_16 (by decide) ?_
      exact G_iretX (pc := 17) hC rfl hQ dX0_readDocument_17 hw
  refine G_i2l (pc := 7) hC dX0_readDocument_7 ?_
  refine G_last (pc := 8) hC dX0_readDocument_8 hw (fun M4 hw => ?_)
  refine G_goto (pc := 9) (tgt := 18) hC dX0_readDocument_9 (by decide) ?_
  refine G_iconst (pc := 18) (v := 0) hC dX0_readDocument_18 (by decide) ?_
  exact G_iretX (pc := 19) hC rfl hQ dX0_readDocument_19 hw
theorem hd_X1_setMode : yX1_setMode.cls = "MergeWorkbench" ∧ yX1_setMode.cls ≠ "java/lang/invoke/MethodHandle" ∧ yX1_setMode.cls ≠ "java/lang/invoke/VarHandle" ∧ (parseMethodDescriptor yX1_setMode.desc).map (fun d => d.parameters.length) = some 1 := by decide +kernel
abbrev hh_X0_setMode : List (Nat × Nat × Nat × Nat) := [(0, 9, 12, 13)]
def w_X0_setMode (g : gT) (F : Nat) (p0 : Option Nat) (p1 : Int32) (p2 : Option Nat) (M : hM) (Q : Int32 → hM → Prop) (X : String → Nat → hM → Prop) : Prop :=
  gThis M p0 0 fun b2 => w_X1_setMode g F b2 p1 M (fun x3 M1 => sJ M1 p2 (0 : Int32) (x3).toInt64 fun M4 => Q (0 : Int32) M4) (fun E5 q6 M7 => (E5 = "java/lang/IllegalArgumentException" ∧ Q (1 : Int32) M7))
theorem m_X0_setMode {l : Launch} {g : gT} {F : Nat} {p0 : Option Nat} {p1 : Int32} {p2 : Option Nat} {M : hM} {Q : Int32 → hM → Prop} {X : String → Nat → hM → Prop} (hJ : JOK l g) (hw : w_X0_setMode g F p0 p1 p2 M Q X) : MX l g yX0_setMode (wsW_ yX0_setMode cX0_setMode 4 (some .int) hh_X0_setMode) 8 138 [va_rf p0, .int p1, va_rf p2] M (PI Q) X := by
  refine MX_ofH hJ.2.1 (by decide) (cat_r (cat_i (cat_r cat_e))) (Nat.le_of_ble_eq_true rfl) (fun k hl hg hin htab hQ hC => ?_)
  subst hl hg
  show GW k 4 M 0 [some (va_rf p0), some (.int p1), some (va_rf p2), none] []
  refine G_aload_n (pc := 0) (i := 2) hC dX0_setMode_0 rfl rfl ?_
  refine G_iconst (pc := 1) (v := 0) hC dX0_setMode_1 (by decide) ?_
  refine G_aload_n (pc := 2) (i := 0) hC dX0_setMode_2 rfl rfl ?_
  refine G_iload_n (pc := 3) (i := 1) hC dX0_setMode_3 rfl rfl ?_
  obtain ⟨b2, rfl, hb, hw⟩ := gThis_e hw
  refine GX_callV (pc := 4) (n := 1) (C := "MergeWorkbench") (b := b2) (As := [.int p1]) (rest := [.int (0 : Int32), va_rf p2]) hC (m_X1_setMode hJ hw) (lw_V q2173 q2174 q2175 q84 q2176) hd_X1_setMode (by decide) (rcv (C := RX1) (T := TX1) (N := 10) hC hb rfl) rfl rfl (st_c (cat_i (cat_r cat_e)) (Nat.le_of_ble_eq_true rfl)) dX0_setMode_4 (fun E5 q6 M7 hx => ?_) (kI fun x3 M1 hw => ?_)
  · obtain ⟨rfl, hw⟩ := hx
    refine GX_catch (pc := 4) (tgt := 12) hJ.1 hC htab [] ⟨0, 9, 12, 13⟩ [] rfl trivial (by decide) (by decide) q1209 (nw_in q602 rfl) rfl ?_
    refine G_astore_n (pc := 12) (i := 3) (lw := [some (va_rf (some b2)), some (.int p1), some (va_rf p2), some (va_rf (some q6))]) hC dX0_setMode_12 rfl (Nat.le_of_ble_eq_true rfl) rfl ?_
    refine G_iconst (pc := 13) (v := 1) hC dX0_setMode_13 (by decide) ?_
    exact G_iretX (pc := 14) hC rfl hQ dX0_setMode_14 hw
  refine G_i2l (pc := 7) hC dX0_setMode_7 ?_
  refine G_last (pc := 8) hC dX0_setMode_8 hw (fun M4 hw => ?_)
  refine G_goto (pc := 9) (tgt := 15) hC dX0_setMode_9 (by decide) ?_
  refine G_iconst (pc := 15) (v := 0) hC dX0_setMode_15 (by decide) ?_
  exact G_iretX (pc := 16) hC rfl hQ dX0_setMode_16 hw
theorem hd_X1_compare : yX1_compare.cls = "MergeWorkbench" ∧ yX1_compare.cls ≠ "java/lang/invoke/MethodHandle" ∧ yX1_compare.cls ≠ "java/lang/invoke/VarHandle" ∧ (parseMethodDescriptor yX1_compare.desc).map (fun d => d.parameters.length) = some 2 := by decide +kernel
abbrev hh_X0_compare : List (Nat × Nat × Nat × Nat) := [(0, 10, 13, 13)]
def w_X0_compare (g : gT) (F : Nat) (p0 : Option Nat) (p1 : Int32) (p2 : Int32) (p3 : Option Nat) (M : hM) (Q : Int32 → hM → Prop) (X : String → Nat → hM → Prop) : Prop :=
  gThis M p0 0 fun b2 => w_X1_compare g F b2 p1 p2 M (fun x3 M1 => sJ M1 p3 (0 : Int32) (x3).toInt64 fun M4 => Q (0 : Int32) M4) (fun E5 q6 M7 => (E5 = "java/lang/IllegalArgumentException" ∧ Q (1 : Int32) M7))
theorem m_X0_compare {l : Launch} {g : gT} {F : Nat} {p0 : Option Nat} {p1 : Int32} {p2 : Int32} {p3 : Option Nat} {M : hM} {Q : Int32 → hM → Prop} {X : String → Nat → hM → Prop} (hJ : JOK l g) (hw : w_X0_compare g F p0 p1 p2 p3 M Q X) : MX l g yX0_compare (wsW_ yX0_compare cX0_compare 5 (some .int) hh_X0_compare) 46 2153 [va_rf p0, .int p1, .int p2, va_rf p3] M (PI Q) X := by
  refine MX_ofH hJ.2.1 (by decide) (cat_r (cat_i (cat_i (cat_r cat_e)))) (Nat.le_of_ble_eq_true rfl) (fun k hl hg hin htab hQ hC => ?_)
  subst hl hg
  show GW k 5 M 0 [some (va_rf p0), some (.int p1), some (.int p2), some (va_rf p3), none] []
  refine G_aload_n (pc := 0) (i := 3) hC dX0_compare_0 rfl rfl ?_
  refine G_iconst (pc := 1) (v := 0) hC dX0_compare_1 (by decide) ?_
  refine G_aload_n (pc := 2) (i := 0) hC dX0_compare_2 rfl rfl ?_
  refine G_iload_n (pc := 3) (i := 1) hC dX0_compare_3 rfl rfl ?_
  refine G_iload_n (pc := 4) (i := 2) hC dX0_compare_4 rfl rfl ?_
  obtain ⟨b2, rfl, hb, hw⟩ := gThis_e hw
  refine GX_callV (pc := 5) (n := 2) (C := "MergeWorkbench") (b := b2) (As := [.int p1, .int p2]) (rest := [.int (0 : Int32), va_rf p3]) hC (m_X1_compare hJ hw) (lw_V q2180 q2181 q2182 q84 q2183) hd_X1_compare (by decide) (rcv (C := RX1) (T := TX1) (N := 10) hC hb rfl) rfl rfl (st_c (cat_i (cat_r cat_e)) (Nat.le_of_ble_eq_true rfl)) dX0_compare_5 (fun E5 q6 M7 hx => ?_) (kI fun x3 M1 hw => ?_)
  · obtain ⟨rfl, hw⟩ := hx
    refine GX_catch (pc := 5) (tgt := 13) hJ.1 hC htab [] ⟨0, 10, 13, 13⟩ [] rfl trivial (by decide) (by decide) q1209 (nw_in q602 rfl) rfl ?_
    refine G_astore (pc := 13) (i := 4) (lw := [some (va_rf (some b2)), some (.int p1), some (.int p2), some (va_rf p3), some (va_rf (some q6))]) hC dX0_compare_13 (Nat.le_of_ble_eq_true rfl) rfl ?_
    refine G_iconst (pc := 15) (v := 1) hC dX0_compare_15 (by decide) ?_
    exact G_iretX (pc := 16) hC rfl hQ dX0_compare_16 hw
  refine G_i2l (pc := 8) hC dX0_compare_8 ?_
  refine G_last (pc := 9) hC dX0_compare_9 hw (fun M4 hw => ?_)
  refine G_goto (pc := 10) (tgt := 17) hC dX0_compare_10 (by decide) ?_
  refine G_iconst (pc := 17) (v := 0) hC dX0_compare_17 (by decide) ?_
  exact G_iretX (pc := 18) hC rfl hQ dX0_compare_18 hw
theorem hd_X1_partner : yX1_partner.cls = "MergeWorkbench" ∧ yX1_partner.cls ≠ "java/lang/invoke/MethodHandle" ∧ yX1_partner.cls ≠ "java/lang/invoke/VarHandle" ∧ (parseMethodDescriptor yX1_partner.desc).map (fun d => d.parameters.length) = some 1 := by decide +kernel
abbrev hh_X0_partner : List (Nat × Nat × Nat × Nat) := [(0, 9, 12, 15), (0, 9, 15, 21)]
def w_X0_partner (g : gT) (F : Nat) (p0 : Option Nat) (p1 : Int32) (p2 : Option Nat) (M : hM) (Q : Int32 → hM → Prop) (X : String → Nat → hM → Prop) : Prop :=
  gThis M p0 0 fun b2 => w_X1_partner g F b2 p1 M (fun x3 M1 => sJ M1 p2 (0 : Int32) (x3).toInt64 fun M4 => Q (0 : Int32) M4) (fun E5 q6 M7 => (E5 = "java/lang/IllegalStateException" ∧ Q (1 : Int32) M7) ∨ (E5 = "java/lang/IndexOutOfBoundsException" ∧ Q (2 : Int32) M7))
theorem m_X0_partner {l : Launch} {g : gT} {F : Nat} {p0 : Option Nat} {p1 : Int32} {p2 : Option Nat} {M : hM} {Q : Int32 → hM → Prop} {X : String → Nat → hM → Prop} (hJ : JOK l g) (hw : w_X0_partner g F p0 p1 p2 M Q X) : MX l g yX0_partner (wsW_ yX0_partner cX0_partner 4 (some .int) hh_X0_partner) 43 2064 [va_rf p0, .int p1, va_rf p2] M (PI Q) X := by
  refine MX_ofH hJ.2.1 (by decide) (cat_r (cat_i (cat_r cat_e))) (Nat.le_of_ble_eq_true rfl) (fun k hl hg hin htab hQ hC => ?_)
  subst hl hg
  show GW k 4 M 0 [some (va_rf p0), some (.int p1), some (va_rf p2), none] []
  refine G_aload_n (pc := 0) (i := 2) hC dX0_partner_0 rfl rfl ?_
  refine G_iconst (pc := 1) (v := 0) hC dX0_partner_1 (by decide) ?_
  refine G_aload_n (pc := 2) (i := 0) hC dX0_partner_2 rfl rfl ?_
  refine G_iload_n (pc := 3) (i := 1) hC dX0_partner_3 rfl rfl ?_
  obtain ⟨b2, rfl, hb, hw⟩ := gThis_e hw
  refine GX_callV (pc := 4) (n := 1) (C := "MergeWorkbench") (b := b2) (As := [.int p1]) (rest := [.int (0 : Int32), va_rf p2]) hC (m_X1_partner hJ hw) (lw_V q2453 q2454 q2455 q84 q2456) hd_X1_partner (by decide) (rcv (C := RX1) (T := TX1) (N := 10) hC hb rfl) rfl rfl (st_c (cat_i (cat_r cat_e)) (Nat.le_of_ble_eq_true rfl)) dX0_partner_4 (fun E5 q6 M7 hx => ?_) (kI fun x3 M1 hw => ?_)
  · rcases hx with ⟨rfl, hw⟩ | ⟨rfl, hw⟩
    · refine GX_catch (pc := 4) (tgt := 12) hJ.1 hC htab [] ⟨0, 9, 12, 15⟩ [⟨0, 9, 15, 21⟩] rfl trivial (by decide) (by decide) q1210 (nw_in q1240 rfl) rfl ?_
      refine G_astore_n (pc := 12) (i := 3) (lw := [some (va_rf (some b2)), some (.int p1), some (va_rf p2), some (va_rf (some q6))]) hC dX0_partner_12 rfl (Nat.le_of_ble_eq_true rfl) rfl ?_
      refine G_iconst (pc := 13) (v := 1) hC dX0_partner_13 (by decide) ?_
      exact G_iretX (pc := 14) hC rfl hQ dX0_partner_14 hw
    · refine GX_catch (pc := 4) (tgt := 15) hJ.1 hC htab [⟨0, 9, 12, 15⟩] ⟨0, 9, 15, 21⟩ [] rfl ⟨Or.inr ⟨by decide, _, q1210, by decide +kernel⟩, trivial⟩ (by decide) (by decide) q1346 (nw_in q380 rfl) rfl ?_
      refine G_astore_n (pc := 15) (i := 3) (lw := [some (va_rf (some b2)), some (.int p1), some (va_rf p2), some (va_rf (some q6))]) hC dX0_partner_15 rfl (Nat.le_of_ble_eq_true rfl) rfl ?_
      refine G_iconst (pc := 16) (v := 2) hC dX0_partner_16 (by decide) ?_
      exact G_iretX (pc := 17) hC rfl hQ dX0_partner_17 hw
  refine G_i2l (pc := 7) hC dX0_partner_7 ?_
  refine G_last (pc := 8) hC dX0_partner_8 hw (fun M4 hw => ?_)
  refine G_goto (pc := 9) (tgt := 18) hC dX0_partner_9 (by decide) ?_
  refine G_iconst (pc := 18) (v := 0) hC dX0_partner_18 (by decide) ?_
  exact G_iretX (pc := 19) hC rfl hQ dX0_partner_19 hw
theorem hd_X1_anchors : yX1_anchors.cls = "MergeWorkbench" ∧ yX1_anchors.cls ≠ "java/lang/invoke/MethodHandle" ∧ yX1_anchors.cls ≠ "java/lang/invoke/VarHandle" ∧ (parseMethodDescriptor yX1_anchors.desc).map (fun d => d.parameters.length) = some 0 := by decide +kernel
abbrev hh_X0_anchors : List (Nat × Nat × Nat × Nat) := [(0, 8, 11, 15)]
def w_X0_anchors (g : gT) (F : Nat) (p0 : Option Nat) (p1 : Option Nat) (M : hM) (Q : Int32 → hM → Prop) (X : String → Nat → hM → Prop) : Prop :=
  gThis M p0 0 fun b2 => w_X1_anchors g F b2  M (fun x3 M1 => sJ M1 p1 (0 : Int32) (x3).toInt64 fun M4 => Q (0 : Int32) M4) (fun E5 q6 M7 => (E5 = "java/lang/IllegalStateException" ∧ Q (1 : Int32) M7))
theorem m_X0_anchors {l : Launch} {g : gT} {F : Nat} {p0 : Option Nat} {p1 : Option Nat} {M : hM} {Q : Int32 → hM → Prop} {X : String → Nat → hM → Prop} (hJ : JOK l g) (hw : w_X0_anchors g F p0 p1 M Q X) : MX l g yX0_anchors (wsW_ yX0_anchors cX0_anchors 3 (some .int) hh_X0_anchors) 9 156 [va_rf p0, va_rf p1] M (PI Q) X := by
  refine MX_ofH hJ.2.1 (by decide) (cat_r (cat_r cat_e)) (Nat.le_of_ble_eq_true rfl) (fun k hl hg hin htab hQ hC => ?_)
  subst hl hg
  show GW k 3 M 0 [some (va_rf p0), some (va_rf p1), none] []
  refine G_aload_n (pc := 0) (i := 1) hC dX0_anchors_0 rfl rfl ?_
  refine G_iconst (pc := 1) (v := 0) hC dX0_anchors_1 (by decide) ?_
  refine G_aload_n (pc := 2) (i := 0) hC dX0_anchors_2 rfl rfl ?_
  obtain ⟨b2, rfl, hb, hw⟩ := gThis_e hw
  refine GX_callV (pc := 3) (n := 0) (C := "MergeWorkbench") (b := b2) (As := []) (rest := [.int (0 : Int32), va_rf p1]) hC (m_X1_anchors hJ hw) (lw_V q2470 q2471 q2472 q84 q2473) hd_X1_anchors (by decide) (rcv (C := RX1) (T := TX1) (N := 10) hC hb rfl) rfl rfl (st_c (cat_i (cat_r cat_e)) (Nat.le_of_ble_eq_true rfl)) dX0_anchors_3 (fun E5 q6 M7 hx => ?_) (kI fun x3 M1 hw => ?_)
  · obtain ⟨rfl, hw⟩ := hx
    refine GX_catch (pc := 3) (tgt := 11) hJ.1 hC htab [] ⟨0, 8, 11, 15⟩ [] rfl trivial (by decide) (by decide) q1210 (nw_in q1240 rfl) rfl ?_
    refine G_astore_n (pc := 11) (i := 2) (lw := [some (va_rf (some b2)), some (va_rf p1), some (va_rf (some q6))]) hC dX0_anchors_11 rfl (Nat.le_of_ble_eq_true rfl) rfl ?_
    refine G_iconst (pc := 12) (v := 1) hC dX0_anchors_12 (by decide) ?_
    exact G_iretX (pc := 13) hC rfl hQ dX0_anchors_13 hw
  refine G_i2l (pc := 6) hC dX0_anchors_6 ?_
  refine G_last (pc := 7) hC dX0_anchors_7 hw (fun M4 hw => ?_)
  refine G_goto (pc := 8) (tgt := 14) hC dX0_anchors_8 (by decide) ?_
  refine G_iconst (pc := 14) (v := 0) hC dX0_anchors_14 (by decide) ?_
  exact G_iretX (pc := 15) hC rfl hQ dX0_anchors_15 hw
theorem hd_X1_differences : yX1_differences.cls = "MergeWorkbench" ∧ yX1_differences.cls ≠ "java/lang/invoke/MethodHandle" ∧ yX1_differences.cls ≠ "java/lang/invoke/VarHandle" ∧ (parseMethodDescriptor yX1_differences.desc).map (fun d => d.parameters.length) = some 0 := by decide +kernel
abbrev hh_X0_differences : List (Nat × Nat × Nat × Nat) := [(0, 8, 11, 15)]
def w_X0_differences (g : gT) (F : Nat) (p0 : Option Nat) (p1 : Option Nat) (M : hM) (Q : Int32 → hM → Prop) (X : String → Nat → hM → Prop) : Prop :=
  gThis M p0 0 fun b2 => w_X1_differences g F b2  M (fun x3 M1 => sJ M1 p1 (0 : Int32) (x3).toInt64 fun M4 => Q (0 : Int32) M4) (fun E5 q6 M7 => (E5 = "java/lang/IllegalStateException" ∧ Q (1 : Int32) M7))
theorem m_X0_differences {l : Launch} {g : gT} {F : Nat} {p0 : Option Nat} {p1 : Option Nat} {M : hM} {Q : Int32 → hM → Prop} {X : String → Nat → hM → Prop} (hJ : JOK l g) (hw : w_X0_differences g F p0 p1 M Q X) : MX l g yX0_differences (wsW_ yX0_differences cX0_differences 3 (some .int) hh_X0_differences) 42 2040 [va_rf p0, va_rf p1] M (PI Q) X := by
  refine MX_ofH hJ.2.1 (by decide) (cat_r (cat_r cat_e)) (Nat.le_of_ble_eq_true rfl) (fun k hl hg hin htab hQ hC => ?_)
  subst hl hg
  show GW k 3 M 0 [some (va_rf p0), some (va_rf p1), none] []
  refine G_aload_n (pc := 0) (i := 1) hC dX0_differences_0 rfl rfl ?_
  refine G_iconst (pc := 1) (v := 0) hC dX0_differences_1 (by decide) ?_
  refine G_aload_n (pc := 2) (i := 0) hC dX0_differences_2 rfl rfl ?_
  obtain ⟨b2, rfl, hb, hw⟩ := gThis_e hw
  refine GX_callV (pc := 3) (n := 0) (C := "MergeWorkbench") (b := b2) (As := []) (rest := [.int (0 : Int32), va_rf p1]) hC (m_X1_differences hJ hw) (lw_V q2477 q2478 q2479 q84 q2480) hd_X1_differences (by decide) (rcv (C := RX1) (T := TX1) (N := 10) hC hb rfl) rfl rfl (st_c (cat_i (cat_r cat_e)) (Nat.le_of_ble_eq_true rfl)) dX0_differences_3 (fun E5 q6 M7 hx => ?_) (kI fun x3 M1 hw => ?_)
  · obtain ⟨rfl, hw⟩ := hx
    refine GX_catch (pc := 3) (tgt := 11) hJ.1 hC htab [] ⟨0, 8, 11, 15⟩ [] rfl trivial (by decide) (by decide) q1210 (nw_in q1240 rfl) rfl ?_
    refine G_astore_n (pc := 11) (i := 2) (lw := [some (va_rf (some b2)), some (va_rf p1), some (va_rf (some q6))]) hC dX0_differences_11 rfl (Nat.le_of_ble_eq_true rfl) rfl ?_
    refine G_iconst (pc := 12) (v := 1) hC dX0_differences_12 (by decide) ?_
    exact G_iretX (pc := 13) hC rfl hQ dX0_differences_13 hw
  refine G_i2l (pc := 6) hC dX0_differences_6 ?_
  refine G_last (pc := 7) hC dX0_differences_7 hw (fun M4 hw => ?_)
  refine G_goto (pc := 8) (tgt := 14) hC dX0_differences_8 (by decide) ?_
  refine G_iconst (pc := 14) (v := 0) hC dX0_differences_14 (by decide) ?_
  exact G_iretX (pc := 15) hC rfl hQ dX0_differences_15 hw
theorem hd_X1_difference : yX1_difference.cls = "MergeWorkbench" ∧ yX1_difference.cls ≠ "java/lang/invoke/MethodHandle" ∧ yX1_difference.cls ≠ "java/lang/invoke/VarHandle" ∧ (parseMethodDescriptor yX1_difference.desc).map (fun d => d.parameters.length) = some 2 := by decide +kernel
abbrev hh_X0_difference : List (Nat × Nat × Nat × Nat) := [(0, 10, 13, 15), (0, 10, 17, 21), (0, 10, 21, 13)]
def w_X0_difference (g : gT) (F : Nat) (p0 : Option Nat) (p1 : Int32) (p2 : Int32) (p3 : Option Nat) (M : hM) (Q : Int32 → hM → Prop) (X : String → Nat → hM → Prop) : Prop :=
  gThis M p0 0 fun b2 => w_X1_difference g F b2 p1 p2 M (fun x3 M1 => sJ M1 p3 (0 : Int32) (x3).toInt64 fun M4 => Q (0 : Int32) M4) (fun E5 q6 M7 => (E5 = "java/lang/IllegalStateException" ∧ Q (1 : Int32) M7) ∨ (E5 = "java/lang/IndexOutOfBoundsException" ∧ Q (2 : Int32) M7) ∨ (E5 = "java/lang/IllegalArgumentException" ∧ Q (3 : Int32) M7))
theorem m_X0_difference {l : Launch} {g : gT} {F : Nat} {p0 : Option Nat} {p1 : Int32} {p2 : Int32} {p3 : Option Nat} {M : hM} {Q : Int32 → hM → Prop} {X : String → Nat → hM → Prop} (hJ : JOK l g) (hw : w_X0_difference g F p0 p1 p2 p3 M Q X) : MX l g yX0_difference (wsW_ yX0_difference cX0_difference 5 (some .int) hh_X0_difference) 42 2043 [va_rf p0, .int p1, .int p2, va_rf p3] M (PI Q) X := by
  refine MX_ofH hJ.2.1 (by decide) (cat_r (cat_i (cat_i (cat_r cat_e)))) (Nat.le_of_ble_eq_true rfl) (fun k hl hg hin htab hQ hC => ?_)
  subst hl hg
  show GW k 5 M 0 [some (va_rf p0), some (.int p1), some (.int p2), some (va_rf p3), none] []
  refine G_aload_n (pc := 0) (i := 3) hC dX0_difference_0 rfl rfl ?_
  refine G_iconst (pc := 1) (v := 0) hC dX0_difference_1 (by decide) ?_
  refine G_aload_n (pc := 2) (i := 0) hC dX0_difference_2 rfl rfl ?_
  refine G_iload_n (pc := 3) (i := 1) hC dX0_difference_3 rfl rfl ?_
  refine G_iload_n (pc := 4) (i := 2) hC dX0_difference_4 rfl rfl ?_
  obtain ⟨b2, rfl, hb, hw⟩ := gThis_e hw
  refine GX_callV (pc := 5) (n := 2) (C := "MergeWorkbench") (b := b2) (As := [.int p1, .int p2]) (rest := [.int (0 : Int32), va_rf p3]) hC (m_X1_difference hJ hw) (lw_V q2484 q2485 q2486 q84 q2487) hd_X1_difference (by decide) (rcv (C := RX1) (T := TX1) (N := 10) hC hb rfl) rfl rfl (st_c (cat_i (cat_r cat_e)) (Nat.le_of_ble_eq_true rfl)) dX0_difference_5 (fun E5 q6 M7 hx => ?_) (kI fun x3 M1 hw => ?_)
  · rcases hx with ⟨rfl, hw⟩ | ⟨rfl, hw⟩ | ⟨rfl, hw⟩
    · refine GX_catch (pc := 5) (tgt := 13) hJ.1 hC htab [] ⟨0, 10, 13, 15⟩ [⟨0, 10, 17, 21⟩, ⟨0, 10, 21, 13⟩] rfl trivial (by decide) (by decide) q1210 (nw_in q1240 rfl) rfl ?_
      refine G_astore (pc := 13) (i := 4) (lw := [some (va_rf (some b2)), some (.int p1), some (.int p2), some (va_rf p3), some (va_rf (some q6))]) hC dX0_difference_13 (Nat.le_of_ble_eq_true rfl) rfl ?_
      refine G_iconst (pc := 15) (v := 1) hC dX0_difference_15 (by decide) ?_
      exact G_iretX (pc := 16) hC rfl hQ dX0_difference_16 hw
    · refine GX_catch (pc := 5) (tgt := 17) hJ.1 hC htab [⟨0, 10, 13, 15⟩] ⟨0, 10, 17, 21⟩ [⟨0, 10, 21, 13⟩] rfl ⟨Or.inr ⟨by decide, _, q1210, by decide +kernel⟩, trivial⟩ (by decide) (by decide) q1346 (nw_in q380 rfl) rfl ?_
      refine G_astore (pc := 17) (i := 4) (lw := [some (va_rf (some b2)), some (.int p1), some (.int p2), some (va_rf p3), some (va_rf (some q6))]) hC dX0_difference_17 (Nat.le_of_ble_eq_true rfl) rfl ?_
      refine G_iconst (pc := 19) (v := 2) hC dX0_difference_19 (by decide) ?_
      exact G_iretX (pc := 20) hC rfl hQ dX0_difference_20 hw
    · refine GX_catch (pc := 5) (tgt := 21) hJ.1 hC htab [⟨0, 10, 13, 15⟩, ⟨0, 10, 17, 21⟩] ⟨0, 10, 21, 13⟩ [] rfl ⟨Or.inr ⟨by decide, _, q1210, by decide +kernel⟩, ⟨Or.inr ⟨by decide, _, q1346, by decide +kernel⟩, trivial⟩⟩ (by decide) (by decide) q1209 (nw_in q602 rfl) rfl ?_
      refine G_astore (pc := 21) (i := 4) (lw := [some (va_rf (some b2)), some (.int p1), some (.int p2), some (va_rf p3), some (va_rf (some q6))]) hC dX0_difference_21 (Nat.le_of_ble_eq_true rfl) rfl ?_
      refine G_iconst (pc := 23) (v := 3) hC dX0_difference_23 (by decide) ?_
      exact G_iretX (pc := 24) hC rfl hQ dX0_difference_24 hw
  refine G_i2l (pc := 8) hC dX0_difference_8 ?_
  refine G_last (pc := 9) hC dX0_difference_9 hw (fun M4 hw => ?_)
  refine G_goto (pc := 10) (tgt := 25) hC dX0_difference_10 (by decide) ?_
  refine G_iconst (pc := 25) (v := 0) hC dX0_difference_25 (by decide) ?_
  exact G_iretX (pc := 26) hC rfl hQ dX0_difference_26 hw
theorem hd_X1_step : yX1_step.cls = "MergeWorkbench" ∧ yX1_step.cls ≠ "java/lang/invoke/MethodHandle" ∧ yX1_step.cls ≠ "java/lang/invoke/VarHandle" ∧ (parseMethodDescriptor yX1_step.desc).map (fun d => d.parameters.length) = some 1 := by decide +kernel
abbrev hh_X0_step : List (Nat × Nat × Nat × Nat) := [(0, 9, 12, 15), (0, 9, 15, 72)]
def w_X0_step (g : gT) (F : Nat) (p0 : Option Nat) (p1 : Int32) (p2 : Option Nat) (M : hM) (Q : Int32 → hM → Prop) (X : String → Nat → hM → Prop) : Prop :=
  gThis M p0 0 fun b2 => w_X1_step g F b2 p1 M (fun x3 M1 => sJ M1 p2 (0 : Int32) (x3).toInt64 fun M4 => Q (0 : Int32) M4) (fun E5 q6 M7 => (E5 = "java/lang/IllegalStateException" ∧ Q (1 : Int32) M7) ∨ (E5 = "java/util/NoSuchElementException" ∧ Q (2 : Int32) M7))
theorem m_X0_step {l : Launch} {g : gT} {F : Nat} {p0 : Option Nat} {p1 : Int32} {p2 : Option Nat} {M : hM} {Q : Int32 → hM → Prop} {X : String → Nat → hM → Prop} (hJ : JOK l g) (hw : w_X0_step g F p0 p1 p2 M Q X) : MX l g yX0_step (wsW_ yX0_step cX0_step 4 (some .int) hh_X0_step) 42 2045 [va_rf p0, .int p1, va_rf p2] M (PI Q) X := by
  refine MX_ofH hJ.2.1 (by decide) (cat_r (cat_i (cat_r cat_e))) (Nat.le_of_ble_eq_true rfl) (fun k hl hg hin htab hQ hC => ?_)
  subst hl hg
  show GW k 4 M 0 [some (va_rf p0), some (.int p1), some (va_rf p2), none] []
  refine G_aload_n (pc := 0) (i := 2) hC dX0_step_0 rfl rfl ?_
  refine G_iconst (pc := 1) (v := 0) hC dX0_step_1 (by decide) ?_
  refine G_aload_n (pc := 2) (i := 0) hC dX0_step_2 rfl rfl ?_
  refine G_iload_n (pc := 3) (i := 1) hC dX0_step_3 rfl rfl ?_
  obtain ⟨b2, rfl, hb, hw⟩ := gThis_e hw
  refine GX_callV (pc := 4) (n := 1) (C := "MergeWorkbench") (b := b2) (As := [.int p1]) (rest := [.int (0 : Int32), va_rf p2]) hC (m_X1_step hJ hw) (lw_V q2497 q2498 q2499 q84 q2500) hd_X1_step (by decide) (rcv (C := RX1) (T := TX1) (N := 10) hC hb rfl) rfl rfl (st_c (cat_i (cat_r cat_e)) (Nat.le_of_ble_eq_true rfl)) dX0_step_4 (fun E5 q6 M7 hx => ?_) (kI fun x3 M1 hw => ?_)
  · rcases hx with ⟨rfl, hw⟩ | ⟨rfl, hw⟩
    · refine GX_catch (pc := 4) (tgt := 12) hJ.1 hC htab [] ⟨0, 9, 12, 15⟩ [⟨0, 9, 15, 72⟩] rfl trivial (by decide) (by decide) q1210 (nw_in q1240 rfl) rfl ?_
      refine G_astore_n (pc := 12) (i := 3) (lw := [some (va_rf (some b2)), some (.int p1), some (va_rf p2), some (va_rf (some q6))]) hC dX0_step_12 rfl (Nat.le_of_ble_eq_true rfl) rfl ?_
      refine G_iconst (pc := 13) (v := 1) hC dX0_step_13 (by decide) ?_
      exact G_iretX (pc := 14) hC rfl hQ dX0_step_14 hw
    · refine GX_catch (pc := 4) (tgt := 15) hJ.1 hC htab [⟨0, 9, 12, 15⟩] ⟨0, 9, 15, 72⟩ [] rfl ⟨Or.inr ⟨by decide, _, q1210, by decide +kernel⟩, trivial⟩ (by decide) (by decide) q2496 (nw_in q1017 rfl) rfl ?_
      refine G_astore_n (pc := 15) (i := 3) (lw := [some (va_rf (some b2)), some (.int p1), some (va_rf p2), some (va_rf (some q6))]) hC dX0_step_15 rfl (Nat.le_of_ble_eq_true rfl) rfl ?_
      refine G_iconst (pc := 16) (v := 2) hC dX0_step_16 (by decide) ?_
      exact G_iretX (pc := 17) hC rfl hQ dX0_step_17 hw
  refine G_i2l (pc := 7) hC dX0_step_7 ?_
  refine G_last (pc := 8) hC dX0_step_8 hw (fun M4 hw => ?_)
  refine G_goto (pc := 9) (tgt := 18) hC dX0_step_9 (by decide) ?_
  refine G_iconst (pc := 18) (v := 0) hC dX0_step_18 (by decide) ?_
  exact G_iretX (pc := 19) hC rfl hQ dX0_step_19 hw
theorem hd_X1_similarity : yX1_similarity.cls = "MergeWorkbench" ∧ yX1_similarity.cls ≠ "java/lang/invoke/MethodHandle" ∧ yX1_similarity.cls ≠ "java/lang/invoke/VarHandle" ∧ (parseMethodDescriptor yX1_similarity.desc).map (fun d => d.parameters.length) = some 0 := by decide +kernel
abbrev hh_X0_similarity : List (Nat × Nat × Nat × Nat) := [(0, 7, 10, 15), (0, 7, 13, 78)]
def w_X0_similarity (g : gT) (F : Nat) (p0 : Option Nat) (p1 : Option Nat) (M : hM) (Q : Int32 → hM → Prop) (X : String → Nat → hM → Prop) : Prop :=
  gThis M p0 0 fun b2 => w_X1_similarity g F b2  M (fun x3 M1 => sD M1 p1 (0 : Int32) x3 fun M4 => Q (0 : Int32) M4) (fun E5 q6 M7 => (E5 = "java/lang/IllegalStateException" ∧ Q (1 : Int32) M7) ∨ (E5 = "java/lang/ArithmeticException" ∧ Q (2 : Int32) M7))
theorem m_X0_similarity {l : Launch} {g : gT} {F : Nat} {p0 : Option Nat} {p1 : Option Nat} {M : hM} {Q : Int32 → hM → Prop} {X : String → Nat → hM → Prop} (hJ : JOK l g) (hw : w_X0_similarity g F p0 p1 M Q X) : MX l g yX0_similarity (wsW_ yX0_similarity cX0_similarity 3 (some .int) hh_X0_similarity) 42 2041 [va_rf p0, va_rf p1] M (PI Q) X := by
  refine MX_ofH hJ.2.1 (by decide) (cat_r (cat_r cat_e)) (Nat.le_of_ble_eq_true rfl) (fun k hl hg hin htab hQ hC => ?_)
  subst hl hg
  show GW k 3 M 0 [some (va_rf p0), some (va_rf p1), none] []
  refine G_aload_n (pc := 0) (i := 1) hC dX0_similarity_0 rfl rfl ?_
  refine G_iconst (pc := 1) (v := 0) hC dX0_similarity_1 (by decide) ?_
  refine G_aload_n (pc := 2) (i := 0) hC dX0_similarity_2 rfl rfl ?_
  obtain ⟨b2, rfl, hb, hw⟩ := gThis_e hw
  refine GX_callV (pc := 3) (n := 0) (C := "MergeWorkbench") (b := b2) (As := []) (rest := [.int (0 : Int32), va_rf p1]) hC (m_X1_similarity hJ hw) (lw_V q2542 q2543 q2544 q84 q2545) hd_X1_similarity (by decide) (rcv (C := RX1) (T := TX1) (N := 10) hC hb rfl) rfl rfl (st_c (cat_i (cat_r cat_e)) (Nat.le_of_ble_eq_true rfl)) dX0_similarity_3 (fun E5 q6 M7 hx => ?_) (kD fun x3 M1 hw => ?_)
  · rcases hx with ⟨rfl, hw⟩ | ⟨rfl, hw⟩
    · refine GX_catch (pc := 3) (tgt := 10) hJ.1 hC htab [] ⟨0, 7, 10, 15⟩ [⟨0, 7, 13, 78⟩] rfl trivial (by decide) (by decide) q1210 (nw_in q1240 rfl) rfl ?_
      refine G_astore_n (pc := 10) (i := 2) (lw := [some (va_rf (some b2)), some (va_rf p1), some (va_rf (some q6))]) hC dX0_similarity_10 rfl (Nat.le_of_ble_eq_true rfl) rfl ?_
      refine G_iconst (pc := 11) (v := 1) hC dX0_similarity_11 (by decide) ?_
      exact G_iretX (pc := 12) hC rfl hQ dX0_similarity_12 hw
    · refine GX_catch (pc := 3) (tgt := 13) hJ.1 hC htab [⟨0, 7, 10, 15⟩] ⟨0, 7, 13, 78⟩ [] rfl ⟨Or.inr ⟨by decide, _, q1210, by decide +kernel⟩, trivial⟩ (by decide) (by decide) q2528 (nw_in q2540 rfl) rfl ?_
      refine G_astore_n (pc := 13) (i := 2) (lw := [some (va_rf (some b2)), some (va_rf p1), some (va_rf (some q6))]) hC dX0_similarity_13 rfl (Nat.le_of_ble_eq_true rfl) rfl ?_
      refine G_iconst (pc := 14) (v := 2) hC dX0_similarity_14 (by decide) ?_
      exact G_iretX (pc := 15) hC rfl hQ dX0_similarity_15 hw
  refine G_dast (pc := 6) hC dX0_similarity_6 hw (fun M4 hw => ?_)
  refine G_goto (pc := 7) (tgt := 16) hC dX0_similarity_7 (by decide) ?_
  refine G_iconst (pc := 16) (v := 0) hC dX0_similarity_16 (by decide) ?_
  exact G_iretX (pc := 17) hC rfl hQ dX0_similarity_17 hw
theorem hd_X1_findMoves : yX1_findMoves.cls = "MergeWorkbench" ∧ yX1_findMoves.cls ≠ "java/lang/invoke/MethodHandle" ∧ yX1_findMoves.cls ≠ "java/lang/invoke/VarHandle" ∧ (parseMethodDescriptor yX1_findMoves.desc).map (fun d => d.parameters.length) = some 1 := by decide +kernel
abbrev hh_X0_findMoves : List (Nat × Nat × Nat × Nat) := [(0, 9, 12, 13), (0, 9, 15, 15)]
def w_X0_findMoves (g : gT) (F : Nat) (p0 : Option Nat) (p1 : Int32) (p2 : Option Nat) (M : hM) (Q : Int32 → hM → Prop) (X : String → Nat → hM → Prop) : Prop :=
  gThis M p0 0 fun b2 => w_X1_findMoves g F b2 p1 M (fun x3 M1 => sJ M1 p2 (0 : Int32) (x3).toInt64 fun M4 => Q (0 : Int32) M4) (fun E5 q6 M7 => (E5 = "java/lang/IllegalArgumentException" ∧ Q (1 : Int32) M7) ∨ (E5 = "java/lang/IllegalStateException" ∧ Q (2 : Int32) M7))
theorem m_X0_findMoves {l : Launch} {g : gT} {F : Nat} {p0 : Option Nat} {p1 : Int32} {p2 : Option Nat} {M : hM} {Q : Int32 → hM → Prop} {X : String → Nat → hM → Prop} (hJ : JOK l g) (hw : w_X0_findMoves g F p0 p1 p2 M Q X) : MX l g yX0_findMoves (wsW_ yX0_findMoves cX0_findMoves 4 (some .int) hh_X0_findMoves) 47 2157 [va_rf p0, .int p1, va_rf p2] M (PI Q) X := by
  refine MX_ofH hJ.2.1 (by decide) (cat_r (cat_i (cat_r cat_e))) (Nat.le_of_ble_eq_true rfl) (fun k hl hg hin htab hQ hC => ?_)
  subst hl hg
  show GW k 4 M 0 [some (va_rf p0), some (.int p1), some (va_rf p2), none] []
  refine G_aload_n (pc := 0) (i := 2) hC dX0_findMoves_0 rfl rfl ?_
  refine G_iconst (pc := 1) (v := 0) hC dX0_findMoves_1 (by decide) ?_
  refine G_aload_n (pc := 2) (i := 0) hC dX0_findMoves_2 rfl rfl ?_
  refine G_iload_n (pc := 3) (i := 1) hC dX0_findMoves_3 rfl rfl ?_
  obtain ⟨b2, rfl, hb, hw⟩ := gThis_e hw
  refine GX_callV (pc := 4) (n := 1) (C := "MergeWorkbench") (b := b2) (As := [.int p1]) (rest := [.int (0 : Int32), va_rf p2]) hC (m_X1_findMoves hJ hw) (lw_V q2554 q2555 q2556 q84 q2557) hd_X1_findMoves (by decide) (rcv (C := RX1) (T := TX1) (N := 10) hC hb rfl) rfl rfl (st_c (cat_i (cat_r cat_e)) (Nat.le_of_ble_eq_true rfl)) dX0_findMoves_4 (fun E5 q6 M7 hx => ?_) (kI fun x3 M1 hw => ?_)
  · rcases hx with ⟨rfl, hw⟩ | ⟨rfl, hw⟩
    · refine GX_catch (pc := 4) (tgt := 12) hJ.1 hC htab [] ⟨0, 9, 12, 13⟩ [⟨0, 9, 15, 15⟩] rfl trivial (by decide) (by decide) q1209 (nw_in q602 rfl) rfl ?_
      refine G_astore_n (pc := 12) (i := 3) (lw := [some (va_rf (some b2)), some (.int p1), some (va_rf p2), some (va_rf (some q6))]) hC dX0_findMoves_12 rfl (Nat.le_of_ble_eq_true rfl) rfl ?_
      refine G_iconst (pc := 13) (v := 1) hC dX0_findMoves_13 (by decide) ?_
      exact G_iretX (pc := 14) hC rfl hQ dX0_findMoves_14 hw
    · refine GX_catch (pc := 4) (tgt := 15) hJ.1 hC htab [⟨0, 9, 12, 13⟩] ⟨0, 9, 15, 15⟩ [] rfl ⟨Or.inr ⟨by decide, _, q1209, by decide +kernel⟩, trivial⟩ (by decide) (by decide) q1210 (nw_in q1240 rfl) rfl ?_
      refine G_astore_n (pc := 15) (i := 3) (lw := [some (va_rf (some b2)), some (.int p1), some (va_rf p2), some (va_rf (some q6))]) hC dX0_findMoves_15 rfl (Nat.le_of_ble_eq_true rfl) rfl ?_
      refine G_iconst (pc := 16) (v := 2) hC dX0_findMoves_16 (by decide) ?_
      exact G_iretX (pc := 17) hC rfl hQ dX0_findMoves_17 hw
  refine G_i2l (pc := 7) hC dX0_findMoves_7 ?_
  refine G_last (pc := 8) hC dX0_findMoves_8 hw (fun M4 hw => ?_)
  refine G_goto (pc := 9) (tgt := 18) hC dX0_findMoves_9 (by decide) ?_
  refine G_iconst (pc := 18) (v := 0) hC dX0_findMoves_18 (by decide) ?_
  exact G_iretX (pc := 19) hC rfl hQ dX0_findMoves_19 hw
theorem hd_X1_move : yX1_move.cls = "MergeWorkbench" ∧ yX1_move.cls ≠ "java/lang/invoke/MethodHandle" ∧ yX1_move.cls ≠ "java/lang/invoke/VarHandle" ∧ (parseMethodDescriptor yX1_move.desc).map (fun d => d.parameters.length) = some 2 := by decide +kernel
abbrev hh_X0_move : List (Nat × Nat × Nat × Nat) := [(0, 10, 13, 21), (0, 10, 17, 13)]
def w_X0_move (g : gT) (F : Nat) (p0 : Option Nat) (p1 : Int32) (p2 : Int32) (p3 : Option Nat) (M : hM) (Q : Int32 → hM → Prop) (X : String → Nat → hM → Prop) : Prop :=
  gThis M p0 0 fun b2 => w_X1_move g F b2 p1 p2 M (fun x3 M1 => sJ M1 p3 (0 : Int32) (x3).toInt64 fun M4 => Q (0 : Int32) M4) (fun E5 q6 M7 => (E5 = "java/lang/IndexOutOfBoundsException" ∧ Q (1 : Int32) M7) ∨ (E5 = "java/lang/IllegalArgumentException" ∧ Q (2 : Int32) M7))
theorem m_X0_move {l : Launch} {g : gT} {F : Nat} {p0 : Option Nat} {p1 : Int32} {p2 : Int32} {p3 : Option Nat} {M : hM} {Q : Int32 → hM → Prop} {X : String → Nat → hM → Prop} (hJ : JOK l g) (hw : w_X0_move g F p0 p1 p2 p3 M Q X) : MX l g yX0_move (wsW_ yX0_move cX0_move 5 (some .int) hh_X0_move) 42 2043 [va_rf p0, .int p1, .int p2, va_rf p3] M (PI Q) X := by
  refine MX_ofH hJ.2.1 (by decide) (cat_r (cat_i (cat_i (cat_r cat_e)))) (Nat.le_of_ble_eq_true rfl) (fun k hl hg hin htab hQ hC => ?_)
  subst hl hg
  show GW k 5 M 0 [some (va_rf p0), some (.int p1), some (.int p2), some (va_rf p3), none] []
  refine G_aload_n (pc := 0) (i := 3) hC dX0_move_0 rfl rfl ?_
  refine G_iconst (pc := 1) (v := 0) hC dX0_move_1 (by decide) ?_
  refine G_aload_n (pc := 2) (i := 0) hC dX0_move_2 rfl rfl ?_
  refine G_iload_n (pc := 3) (i := 1) hC dX0_move_3 rfl rfl ?_
  refine G_iload_n (pc := 4) (i := 2) hC dX0_move_4 rfl rfl ?_
  obtain ⟨b2, rfl, hb, hw⟩ := gThis_e hw
  refine GX_callV (pc := 5) (n := 2) (C := "MergeWorkbench") (b := b2) (As := [.int p1, .int p2]) (rest := [.int (0 : Int32), va_rf p3]) hC (m_X1_move hJ hw) (lw_V q2770 q2771 q2772 q84 q2773) hd_X1_move (by decide) (rcv (C := RX1) (T := TX1) (N := 10) hC hb rfl) rfl rfl (st_c (cat_i (cat_r cat_e)) (Nat.le_of_ble_eq_true rfl)) dX0_move_5 (fun E5 q6 M7 hx => ?_) (kI fun x3 M1 hw => ?_)
  · rcases hx with ⟨rfl, hw⟩ | ⟨rfl, hw⟩
    · refine GX_catch (pc := 5) (tgt := 13) hJ.1 hC htab [] ⟨0, 10, 13, 21⟩ [⟨0, 10, 17, 13⟩] rfl trivial (by decide) (by decide) q1346 (nw_in q380 rfl) rfl ?_
      refine G_astore (pc := 13) (i := 4) (lw := [some (va_rf (some b2)), some (.int p1), some (.int p2), some (va_rf p3), some (va_rf (some q6))]) hC dX0_move_13 (Nat.le_of_ble_eq_true rfl) rfl ?_
      refine G_iconst (pc := 15) (v := 1) hC dX0_move_15 (by decide) ?_
      exact G_iretX (pc := 16) hC rfl hQ dX0_move_16 hw
    · refine GX_catch (pc := 5) (tgt := 17) hJ.1 hC htab [⟨0, 10, 13, 21⟩] ⟨0, 10, 17, 13⟩ [] rfl ⟨Or.inr ⟨by decide, _, q1346, by decide +kernel⟩, trivial⟩ (by decide) (by decide) q1209 (nw_in q602 rfl) rfl ?_
      refine G_astore (pc := 17) (i := 4) (lw := [some (va_rf (some b2)), some (.int p1), some (.int p2), some (va_rf p3), some (va_rf (some q6))]) hC dX0_move_17 (Nat.le_of_ble_eq_true rfl) rfl ?_
      refine G_iconst (pc := 19) (v := 2) hC dX0_move_19 (by decide) ?_
      exact G_iretX (pc := 20) hC rfl hQ dX0_move_20 hw
  refine G_i2l (pc := 8) hC dX0_move_8 ?_
  refine G_last (pc := 9) hC dX0_move_9 hw (fun M4 hw => ?_)
  refine G_goto (pc := 10) (tgt := 21) hC dX0_move_10 (by decide) ?_
  refine G_iconst (pc := 21) (v := 0) hC dX0_move_21 (by decide) ?_
  exact G_iretX (pc := 22) hC rfl hQ dX0_move_22 hw
theorem hd_X1_merge : yX1_merge.cls = "MergeWorkbench" ∧ yX1_merge.cls ≠ "java/lang/invoke/MethodHandle" ∧ yX1_merge.cls ≠ "java/lang/invoke/VarHandle" ∧ (parseMethodDescriptor yX1_merge.desc).map (fun d => d.parameters.length) = some 3 := by decide +kernel
abbrev hh_X0_merge : List (Nat × Nat × Nat × Nat) := [(0, 12, 15, 13)]
def w_X0_merge (g : gT) (F : Nat) (p0 : Option Nat) (p1 : Int32) (p2 : Int32) (p3 : Int32) (p4 : Option Nat) (M : hM) (Q : Int32 → hM → Prop) (X : String → Nat → hM → Prop) : Prop :=
  gThis M p0 0 fun b2 => w_X1_merge g F b2 p1 p2 p3 M (fun x3 M1 => sJ M1 p4 (0 : Int32) (x3).toInt64 fun M4 => Q (0 : Int32) M4) (fun E5 q6 M7 => (E5 = "java/lang/IllegalArgumentException" ∧ Q (1 : Int32) M7))
theorem m_X0_merge {l : Launch} {g : gT} {F : Nat} {p0 : Option Nat} {p1 : Int32} {p2 : Int32} {p3 : Int32} {p4 : Option Nat} {M : hM} {Q : Int32 → hM → Prop} {X : String → Nat → hM → Prop} (hJ : JOK l g) (hw : w_X0_merge g F p0 p1 p2 p3 p4 M Q X) : MX l g yX0_merge (wsW_ yX0_merge cX0_merge 6 (some .int) hh_X0_merge) 47 2171 [va_rf p0, .int p1, .int p2, .int p3, va_rf p4] M (PI Q) X := by
  refine MX_ofH hJ.2.1 (by decide) (cat_r (cat_i (cat_i (cat_i (cat_r cat_e))))) (Nat.le_of_ble_eq_true rfl) (fun k hl hg hin htab hQ hC => ?_)
  subst hl hg
  show GW k 6 M 0 [some (va_rf p0), some (.int p1), some (.int p2), some (.int p3), some (va_rf p4), none] []
  refine G_aload (pc := 0) (i := 4) hC dX0_merge_0 rfl ?_
  refine G_iconst (pc := 2) (v := 0) hC dX0_merge_2 (by decide) ?_
  refine G_aload_n (pc := 3) (i := 0) hC dX0_merge_3 rfl rfl ?_
  refine G_iload_n (pc := 4) (i := 1) hC dX0_merge_4 rfl rfl ?_
  refine G_iload_n (pc := 5) (i := 2) hC dX0_merge_5 rfl rfl ?_
  refine G_iload_n (pc := 6) (i := 3) hC dX0_merge_6 rfl rfl ?_
  obtain ⟨b2, rfl, hb, hw⟩ := gThis_e hw
  refine GX_callV (pc := 7) (n := 3) (C := "MergeWorkbench") (b := b2) (As := [.int p1, .int p2, .int p3]) (rest := [.int (0 : Int32), va_rf p4]) hC (m_X1_merge hJ hw) (lw_V q2782 q2783 q2784 q84 q2785) hd_X1_merge (by decide) (rcv (C := RX1) (T := TX1) (N := 10) hC hb rfl) rfl rfl (st_c (cat_i (cat_r cat_e)) (Nat.le_of_ble_eq_true rfl)) dX0_merge_7 (fun E5 q6 M7 hx => ?_) (kI fun x3 M1 hw => ?_)
  · obtain ⟨rfl, hw⟩ := hx
    refine GX_catch (pc := 7) (tgt := 15) hJ.1 hC htab [] ⟨0, 12, 15, 13⟩ [] rfl trivial (by decide) (by decide) q1209 (nw_in q602 rfl) rfl ?_
    refine G_astore (pc := 15) (i := 5) (lw := [some (va_rf (some b2)), some (.int p1), some (.int p2), some (.int p3), some (va_rf p4), some (va_rf (some q6))]) hC dX0_merge_15 (Nat.le_of_ble_eq_true rfl) rfl ?_
    refine G_iconst (pc := 17) (v := 1) hC dX0_merge_17 (by decide) ?_
    exact G_iretX (pc := 18) hC rfl hQ dX0_merge_18 hw
  refine G_i2l (pc := 10) hC dX0_merge_10 ?_
  refine G_last (pc := 11) hC dX0_merge_11 hw (fun M4 hw => ?_)
  refine G_goto (pc := 12) (tgt := 19) hC dX0_merge_12 (by decide) ?_
  refine G_iconst (pc := 19) (v := 0) hC dX0_merge_19 (by decide) ?_
  exact G_iretX (pc := 20) hC rfl hQ dX0_merge_20 hw
theorem hd_X1_chunks : yX1_chunks.cls = "MergeWorkbench" ∧ yX1_chunks.cls ≠ "java/lang/invoke/MethodHandle" ∧ yX1_chunks.cls ≠ "java/lang/invoke/VarHandle" ∧ (parseMethodDescriptor yX1_chunks.desc).map (fun d => d.parameters.length) = some 0 := by decide +kernel
abbrev hh_X0_chunks : List (Nat × Nat × Nat × Nat) := [(0, 8, 11, 15)]
def w_X0_chunks (g : gT) (F : Nat) (p0 : Option Nat) (p1 : Option Nat) (M : hM) (Q : Int32 → hM → Prop) (X : String → Nat → hM → Prop) : Prop :=
  gThis M p0 0 fun b2 => w_X1_chunks g F b2  M (fun x3 M1 => sJ M1 p1 (0 : Int32) (x3).toInt64 fun M4 => Q (0 : Int32) M4) (fun E5 q6 M7 => (E5 = "java/lang/IllegalStateException" ∧ Q (1 : Int32) M7))
theorem m_X0_chunks {l : Launch} {g : gT} {F : Nat} {p0 : Option Nat} {p1 : Option Nat} {M : hM} {Q : Int32 → hM → Prop} {X : String → Nat → hM → Prop} (hJ : JOK l g) (hw : w_X0_chunks g F p0 p1 M Q X) : MX l g yX0_chunks (wsW_ yX0_chunks cX0_chunks 3 (some .int) hh_X0_chunks) 42 2040 [va_rf p0, va_rf p1] M (PI Q) X := by
  refine MX_ofH hJ.2.1 (by decide) (cat_r (cat_r cat_e)) (Nat.le_of_ble_eq_true rfl) (fun k hl hg hin htab hQ hC => ?_)
  subst hl hg
  show GW k 3 M 0 [some (va_rf p0), some (va_rf p1), none] []
  refine G_aload_n (pc := 0) (i := 1) hC dX0_chunks_0 rfl rfl ?_
  refine G_iconst (pc := 1) (v := 0) hC dX0_chunks_1 (by decide) ?_
  refine G_aload_n (pc := 2) (i := 0) hC dX0_chunks_2 rfl rfl ?_
  obtain ⟨b2, rfl, hb, hw⟩ := gThis_e hw
  refine GX_callV (pc := 3) (n := 0) (C := "MergeWorkbench") (b := b2) (As := []) (rest := [.int (0 : Int32), va_rf p1]) hC (m_X1_chunks hJ hw) (lw_V q2997 q2998 q2999 q84 q3000) hd_X1_chunks (by decide) (rcv (C := RX1) (T := TX1) (N := 10) hC hb rfl) rfl rfl (st_c (cat_i (cat_r cat_e)) (Nat.le_of_ble_eq_true rfl)) dX0_chunks_3 (fun E5 q6 M7 hx => ?_) (kI fun x3 M1 hw => ?_)
  · obtain ⟨rfl, hw⟩ := hx
    refine GX_catch (pc := 3) (tgt := 11) hJ.1 hC htab [] ⟨0, 8, 11, 15⟩ [] rfl trivial (by decide) (by decide) q1210 (nw_in q1240 rfl) rfl ?_
    refine G_astore_n (pc := 11) (i := 2) (lw := [some (va_rf (some b2)), some (va_rf p1), some (va_rf (some q6))]) hC dX0_chunks_11 rfl (Nat.le_of_ble_eq_true rfl) rfl ?_
    refine G_iconst (pc := 12) (v := 1) hC dX0_chunks_12 (by decide) ?_
    exact G_iretX (pc := 13) hC rfl hQ dX0_chunks_13 hw
  refine G_i2l (pc := 6) hC dX0_chunks_6 ?_
  refine G_last (pc := 7) hC dX0_chunks_7 hw (fun M4 hw => ?_)
  refine G_goto (pc := 8) (tgt := 14) hC dX0_chunks_8 (by decide) ?_
  refine G_iconst (pc := 14) (v := 0) hC dX0_chunks_14 (by decide) ?_
  exact G_iretX (pc := 15) hC rfl hQ dX0_chunks_15 hw
theorem hd_X1_chunk : yX1_chunk.cls = "MergeWorkbench" ∧ yX1_chunk.cls ≠ "java/lang/invoke/MethodHandle" ∧ yX1_chunk.cls ≠ "java/lang/invoke/VarHandle" ∧ (parseMethodDescriptor yX1_chunk.desc).map (fun d => d.parameters.length) = some 2 := by decide +kernel
abbrev hh_X0_chunk : List (Nat × Nat × Nat × Nat) := [(0, 10, 13, 15), (0, 10, 17, 21), (0, 10, 21, 13)]
def w_X0_chunk (g : gT) (F : Nat) (p0 : Option Nat) (p1 : Int32) (p2 : Int32) (p3 : Option Nat) (M : hM) (Q : Int32 → hM → Prop) (X : String → Nat → hM → Prop) : Prop :=
  gThis M p0 0 fun b2 => w_X1_chunk g F b2 p1 p2 M (fun x3 M1 => sJ M1 p3 (0 : Int32) (x3).toInt64 fun M4 => Q (0 : Int32) M4) (fun E5 q6 M7 => (E5 = "java/lang/IllegalStateException" ∧ Q (1 : Int32) M7) ∨ (E5 = "java/lang/IndexOutOfBoundsException" ∧ Q (2 : Int32) M7) ∨ (E5 = "java/lang/IllegalArgumentException" ∧ Q (3 : Int32) M7))
theorem m_X0_chunk {l : Launch} {g : gT} {F : Nat} {p0 : Option Nat} {p1 : Int32} {p2 : Int32} {p3 : Option Nat} {M : hM} {Q : Int32 → hM → Prop} {X : String → Nat → hM → Prop} (hJ : JOK l g) (hw : w_X0_chunk g F p0 p1 p2 p3 M Q X) : MX l g yX0_chunk (wsW_ yX0_chunk cX0_chunk 5 (some .int) hh_X0_chunk) 42 2043 [va_rf p0, .int p1, .int p2, va_rf p3] M (PI Q) X := by
  refine MX_ofH hJ.2.1 (by decide) (cat_r (cat_i (cat_i (cat_r cat_e)))) (Nat.le_of_ble_eq_true rfl) (fun k hl hg hin htab hQ hC => ?_)
  subst hl hg
  show GW k 5 M 0 [some (va_rf p0), some (.int p1), some (.int p2), some (va_rf p3), none] []
  refine G_aload_n (pc := 0) (i := 3) hC dX0_chunk_0 rfl rfl ?_
  refine G_iconst (pc := 1) (v := 0) hC dX0_chunk_1 (by decide) ?_
  refine G_aload_n (pc := 2) (i := 0) hC dX0_chunk_2 rfl rfl ?_
  refine G_iload_n (pc := 3) (i := 1) hC dX0_chunk_3 rfl rfl ?_
  refine G_iload_n (pc := 4) (i := 2) hC dX0_chunk_4 rfl rfl ?_
  obtain ⟨b2, rfl, hb, hw⟩ := gThis_e hw
  refine GX_callV (pc := 5) (n := 2) (C := "MergeWorkbench") (b := b2) (As := [.int p1, .int p2]) (rest := [.int (0 : Int32), va_rf p3]) hC (m_X1_chunk hJ hw) (lw_V q3008 q3009 q3010 q84 q3011) hd_X1_chunk (by decide) (rcv (C := RX1) (T := TX1) (N := 10) hC hb rfl) rfl rfl (st_c (cat_i (cat_r cat_e)) (Nat.le_of_ble_eq_true rfl)) dX0_chunk_5 (fun E5 q6 M7 hx => ?_) (kI fun x3 M1 hw => ?_)
  · rcases hx with ⟨rfl, hw⟩ | ⟨rfl, hw⟩ | ⟨rfl, hw⟩
    · refine GX_catch (pc := 5) (tgt := 13) hJ.1 hC htab [] ⟨0, 10, 13, 15⟩ [⟨0, 10, 17, 21⟩, ⟨0, 10, 21, 13⟩] rfl trivial (by decide) (by decide) q1210 (nw_in q1240 rfl) rfl ?_
      refine G_astore (pc := 13) (i := 4) (lw := [some (va_rf (some b2)), some (.int p1), some (.int p2), some (va_rf p3), some (va_rf (some q6))]) hC dX0_chunk_13 (Nat.le_of_ble_eq_true rfl) rfl ?_
      refine G_iconst (pc := 15) (v := 1) hC dX0_chunk_15 (by decide) ?_
      exact G_iretX (pc := 16) hC rfl hQ dX0_chunk_16 hw
    · refine GX_catch (pc := 5) (tgt := 17) hJ.1 hC htab [⟨0, 10, 13, 15⟩] ⟨0, 10, 17, 21⟩ [⟨0, 10, 21, 13⟩] rfl ⟨Or.inr ⟨by decide, _, q1210, by decide +kernel⟩, trivial⟩ (by decide) (by decide) q1346 (nw_in q380 rfl) rfl ?_
      refine G_astore (pc := 17) (i := 4) (lw := [some (va_rf (some b2)), some (.int p1), some (.int p2), some (va_rf p3), some (va_rf (some q6))]) hC dX0_chunk_17 (Nat.le_of_ble_eq_true rfl) rfl ?_
      refine G_iconst (pc := 19) (v := 2) hC dX0_chunk_19 (by decide) ?_
      exact G_iretX (pc := 20) hC rfl hQ dX0_chunk_20 hw
    · refine GX_catch (pc := 5) (tgt := 21) hJ.1 hC htab [⟨0, 10, 13, 15⟩, ⟨0, 10, 17, 21⟩] ⟨0, 10, 21, 13⟩ [] rfl ⟨Or.inr ⟨by decide, _, q1210, by decide +kernel⟩, ⟨Or.inr ⟨by decide, _, q1346, by decide +kernel⟩, trivial⟩⟩ (by decide) (by decide) q1209 (nw_in q602 rfl) rfl ?_
      refine G_astore (pc := 21) (i := 4) (lw := [some (va_rf (some b2)), some (.int p1), some (.int p2), some (va_rf p3), some (va_rf (some q6))]) hC dX0_chunk_21 (Nat.le_of_ble_eq_true rfl) rfl ?_
      refine G_iconst (pc := 23) (v := 3) hC dX0_chunk_23 (by decide) ?_
      exact G_iretX (pc := 24) hC rfl hQ dX0_chunk_24 hw
  refine G_i2l (pc := 8) hC dX0_chunk_8 ?_
  refine G_last (pc := 9) hC dX0_chunk_9 hw (fun M4 hw => ?_)
  refine G_goto (pc := 10) (tgt := 25) hC dX0_chunk_10 (by decide) ?_
  refine G_iconst (pc := 25) (v := 0) hC dX0_chunk_25 (by decide) ?_
  exact G_iretX (pc := 26) hC rfl hQ dX0_chunk_26 hw
theorem hd_X1_resolve : yX1_resolve.cls = "MergeWorkbench" ∧ yX1_resolve.cls ≠ "java/lang/invoke/MethodHandle" ∧ yX1_resolve.cls ≠ "java/lang/invoke/VarHandle" ∧ (parseMethodDescriptor yX1_resolve.desc).map (fun d => d.parameters.length) = some 2 := by decide +kernel
abbrev hh_X0_resolve : List (Nat × Nat × Nat × Nat) := [(0, 10, 13, 15), (0, 10, 17, 72), (0, 10, 21, 13)]
def w_X0_resolve (g : gT) (F : Nat) (p0 : Option Nat) (p1 : Int32) (p2 : Int32) (p3 : Option Nat) (M : hM) (Q : Int32 → hM → Prop) (X : String → Nat → hM → Prop) : Prop :=
  gThis M p0 0 fun b2 => w_X1_resolve g F b2 p1 p2 M (fun x3 M1 => sJ M1 p3 (0 : Int32) (x3).toInt64 fun M4 => Q (0 : Int32) M4) (fun E5 q6 M7 => (E5 = "java/lang/IllegalStateException" ∧ Q (1 : Int32) M7) ∨ (E5 = "java/util/NoSuchElementException" ∧ Q (2 : Int32) M7) ∨ (E5 = "java/lang/IllegalArgumentException" ∧ Q (3 : Int32) M7))
theorem m_X0_resolve {l : Launch} {g : gT} {F : Nat} {p0 : Option Nat} {p1 : Int32} {p2 : Int32} {p3 : Option Nat} {M : hM} {Q : Int32 → hM → Prop} {X : String → Nat → hM → Prop} (hJ : JOK l g) (hw : w_X0_resolve g F p0 p1 p2 p3 M Q X) : MX l g yX0_resolve (wsW_ yX0_resolve cX0_resolve 5 (some .int) hh_X0_resolve) 44 2088 [va_rf p0, .int p1, .int p2, va_rf p3] M (PI Q) X := by
  refine MX_ofH hJ.2.1 (by decide) (cat_r (cat_i (cat_i (cat_r cat_e)))) (Nat.le_of_ble_eq_true rfl) (fun k hl hg hin htab hQ hC => ?_)
  subst hl hg
  show GW k 5 M 0 [some (va_rf p0), some (.int p1), some (.int p2), some (va_rf p3), none] []
  refine G_aload_n (pc := 0) (i := 3) hC dX0_resolve_0 rfl rfl ?_
  refine G_iconst (pc := 1) (v := 0) hC dX0_resolve_1 (by decide) ?_
  refine G_aload_n (pc := 2) (i := 0) hC dX0_resolve_2 rfl rfl ?_
  refine G_iload_n (pc := 3) (i := 1) hC dX0_resolve_3 rfl rfl ?_
  refine G_iload_n (pc := 4) (i := 2) hC dX0_resolve_4 rfl rfl ?_
  obtain ⟨b2, rfl, hb, hw⟩ := gThis_e hw
  refine GX_callV (pc := 5) (n := 2) (C := "MergeWorkbench") (b := b2) (As := [.int p1, .int p2]) (rest := [.int (0 : Int32), va_rf p3]) hC (m_X1_resolve hJ hw) (lw_V q3020 q3021 q3022 q84 q3023) hd_X1_resolve (by decide) (rcv (C := RX1) (T := TX1) (N := 10) hC hb rfl) rfl rfl (st_c (cat_i (cat_r cat_e)) (Nat.le_of_ble_eq_true rfl)) dX0_resolve_5 (fun E5 q6 M7 hx => ?_) (kI fun x3 M1 hw => ?_)
  · rcases hx with ⟨rfl, hw⟩ | ⟨rfl, hw⟩ | ⟨rfl, hw⟩
    · refine GX_catch (pc := 5) (tgt := 13) hJ.1 hC htab [] ⟨0, 10, 13, 15⟩ [⟨0, 10, 17, 72⟩, ⟨0, 10, 21, 13⟩] rfl trivial (by decide) (by decide) q1210 (nw_in q1240 rfl) rfl ?_
      refine G_astore (pc := 13) (i := 4) (lw := [some (va_rf (some b2)), some (.int p1), some (.int p2), some (va_rf p3), some (va_rf (some q6))]) hC dX0_resolve_13 (Nat.le_of_ble_eq_true rfl) rfl ?_
      refine G_iconst (pc := 15) (v := 1) hC dX0_resolve_15 (by decide) ?_
      exact G_iretX (pc := 16) hC rfl hQ dX0_resolve_16 hw
    · refine GX_catch (pc := 5) (tgt := 17) hJ.1 hC htab [⟨0, 10, 13, 15⟩] ⟨0, 10, 17, 72⟩ [⟨0, 10, 21, 13⟩] rfl ⟨Or.inr ⟨by decide, _, q1210, by decide +kernel⟩, trivial⟩ (by decide) (by decide) q2496 (nw_in q1017 rfl) rfl ?_
      refine G_astore (pc := 17) (i := 4) (lw := [some (va_rf (some b2)), some (.int p1), some (.int p2), some (va_rf p3), some (va_rf (some q6))]) hC dX0_resolve_17 (Nat.le_of_ble_eq_true rfl) rfl ?_
      refine G_iconst (pc := 19) (v := 2) hC dX0_resolve_19 (by decide) ?_
      exact G_iretX (pc := 20) hC rfl hQ dX0_resolve_20 hw
    · refine GX_catch (pc := 5) (tgt := 21) hJ.1 hC htab [⟨0, 10, 13, 15⟩, ⟨0, 10, 17, 72⟩] ⟨0, 10, 21, 13⟩ [] rfl ⟨Or.inr ⟨by decide, _, q1210, by decide +kernel⟩, ⟨Or.inr ⟨by decide, _, q2496, by decide +kernel⟩, trivial⟩⟩ (by decide) (by decide) q1209 (nw_in q602 rfl) rfl ?_
      refine G_astore (pc := 21) (i := 4) (lw := [some (va_rf (some b2)), some (.int p1), some (.int p2), some (va_rf p3), some (va_rf (some q6))]) hC dX0_resolve_21 (Nat.le_of_ble_eq_true rfl) rfl ?_
      refine G_iconst (pc := 23) (v := 3) hC dX0_resolve_23 (by decide) ?_
      exact G_iretX (pc := 24) hC rfl hQ dX0_resolve_24 hw
  refine G_i2l (pc := 8) hC dX0_resolve_8 ?_
  refine G_last (pc := 9) hC dX0_resolve_9 hw (fun M4 hw => ?_)
  refine G_goto (pc := 10) (tgt := 25) hC dX0_resolve_10 (by decide) ?_
  refine G_iconst (pc := 25) (v := 0) hC dX0_resolve_25 (by decide) ?_
  exact G_iretX (pc := 26) hC rfl hQ dX0_resolve_26 hw
theorem hd_X1_unresolved : yX1_unresolved.cls = "MergeWorkbench" ∧ yX1_unresolved.cls ≠ "java/lang/invoke/MethodHandle" ∧ yX1_unresolved.cls ≠ "java/lang/invoke/VarHandle" ∧ (parseMethodDescriptor yX1_unresolved.desc).map (fun d => d.parameters.length) = some 0 := by decide +kernel
abbrev hh_X0_unresolved : List (Nat × Nat × Nat × Nat) := [(0, 8, 11, 15)]
def w_X0_unresolved (g : gT) (F : Nat) (p0 : Option Nat) (p1 : Option Nat) (M : hM) (Q : Int32 → hM → Prop) (X : String → Nat → hM → Prop) : Prop :=
  gThis M p0 0 fun b2 => w_X1_unresolved g F b2  M (fun x3 M1 => sJ M1 p1 (0 : Int32) (x3).toInt64 fun M4 => Q (0 : Int32) M4) (fun E5 q6 M7 => (E5 = "java/lang/IllegalStateException" ∧ Q (1 : Int32) M7))
theorem m_X0_unresolved {l : Launch} {g : gT} {F : Nat} {p0 : Option Nat} {p1 : Option Nat} {M : hM} {Q : Int32 → hM → Prop} {X : String → Nat → hM → Prop} (hJ : JOK l g) (hw : w_X0_unresolved g F p0 p1 M Q X) : MX l g yX0_unresolved (wsW_ yX0_unresolved cX0_unresolved 3 (some .int) hh_X0_unresolved) 43 2065 [va_rf p0, va_rf p1] M (PI Q) X := by
  refine MX_ofH hJ.2.1 (by decide) (cat_r (cat_r cat_e)) (Nat.le_of_ble_eq_true rfl) (fun k hl hg hin htab hQ hC => ?_)
  subst hl hg
  show GW k 3 M 0 [some (va_rf p0), some (va_rf p1), none] []
  refine G_aload_n (pc := 0) (i := 1) hC dX0_unresolved_0 rfl rfl ?_
  refine G_iconst (pc := 1) (v := 0) hC dX0_unresolved_1 (by decide) ?_
  refine G_aload_n (pc := 2) (i := 0) hC dX0_unresolved_2 rfl rfl ?_
  obtain ⟨b2, rfl, hb, hw⟩ := gThis_e hw
  refine GX_callV (pc := 3) (n := 0) (C := "MergeWorkbench") (b := b2) (As := []) (rest := [.int (0 : Int32), va_rf p1]) hC (m_X1_unresolved hJ hw) (lw_V q3040 q3041 q3042 q84 q3043) hd_X1_unresolved (by decide) (rcv (C := RX1) (T := TX1) (N := 10) hC hb rfl) rfl rfl (st_c (cat_i (cat_r cat_e)) (Nat.le_of_ble_eq_true rfl)) dX0_unresolved_3 (fun E5 q6 M7 hx => ?_) (kI fun x3 M1 hw => ?_)
  · obtain ⟨rfl, hw⟩ := hx
    refine GX_catch (pc := 3) (tgt := 11) hJ.1 hC htab [] ⟨0, 8, 11, 15⟩ [] rfl trivial (by decide) (by decide) q1210 (nw_in q1240 rfl) rfl ?_
    refine G_astore_n (pc := 11) (i := 2) (lw := [some (va_rf (some b2)), some (va_rf p1), some (va_rf (some q6))]) hC dX0_unresolved_11 rfl (Nat.le_of_ble_eq_true rfl) rfl ?_
    refine G_iconst (pc := 12) (v := 1) hC dX0_unresolved_12 (by decide) ?_
    exact G_iretX (pc := 13) hC rfl hQ dX0_unresolved_13 hw
  refine G_i2l (pc := 6) hC dX0_unresolved_6 ?_
  refine G_last (pc := 7) hC dX0_unresolved_7 hw (fun M4 hw => ?_)
  refine G_goto (pc := 8) (tgt := 14) hC dX0_unresolved_8 (by decide) ?_
  refine G_iconst (pc := 14) (v := 0) hC dX0_unresolved_14 (by decide) ?_
  exact G_iretX (pc := 15) hC rfl hQ dX0_unresolved_15 hw
theorem hd_X1_mergedLength : yX1_mergedLength.cls = "MergeWorkbench" ∧ yX1_mergedLength.cls ≠ "java/lang/invoke/MethodHandle" ∧ yX1_mergedLength.cls ≠ "java/lang/invoke/VarHandle" ∧ (parseMethodDescriptor yX1_mergedLength.desc).map (fun d => d.parameters.length) = some 0 := by decide +kernel
abbrev hh_X0_mergedLength : List (Nat × Nat × Nat × Nat) := [(0, 8, 11, 15)]
def w_X0_mergedLength (g : gT) (F : Nat) (p0 : Option Nat) (p1 : Option Nat) (M : hM) (Q : Int32 → hM → Prop) (X : String → Nat → hM → Prop) : Prop :=
  gThis M p0 0 fun b2 => w_X1_mergedLength g F b2  M (fun x3 M1 => sJ M1 p1 (0 : Int32) (x3).toInt64 fun M4 => Q (0 : Int32) M4) (fun E5 q6 M7 => (E5 = "java/lang/IllegalStateException" ∧ Q (1 : Int32) M7))
theorem m_X0_mergedLength {l : Launch} {g : gT} {F : Nat} {p0 : Option Nat} {p1 : Option Nat} {M : hM} {Q : Int32 → hM → Prop} {X : String → Nat → hM → Prop} (hJ : JOK l g) (hw : w_X0_mergedLength g F p0 p1 M Q X) : MX l g yX0_mergedLength (wsW_ yX0_mergedLength cX0_mergedLength 3 (some .int) hh_X0_mergedLength) 45 2107 [va_rf p0, va_rf p1] M (PI Q) X := by
  refine MX_ofH hJ.2.1 (by decide) (cat_r (cat_r cat_e)) (Nat.le_of_ble_eq_true rfl) (fun k hl hg hin htab hQ hC => ?_)
  subst hl hg
  show GW k 3 M 0 [some (va_rf p0), some (va_rf p1), none] []
  refine G_aload_n (pc := 0) (i := 1) hC dX0_mergedLength_0 rfl rfl ?_
  refine G_iconst (pc := 1) (v := 0) hC dX0_mergedLength_1 (by decide) ?_
  refine G_aload_n (pc := 2) (i := 0) hC dX0_mergedLength_2 rfl rfl ?_
  obtain ⟨b2, rfl, hb, hw⟩ := gThis_e hw
  refine GX_callV (pc := 3) (n := 0) (C := "MergeWorkbench") (b := b2) (As := []) (rest := [.int (0 : Int32), va_rf p1]) hC (m_X1_mergedLength hJ hw) (lw_V q3061 q3062 q3063 q84 q3064) hd_X1_mergedLength (by decide) (rcv (C := RX1) (T := TX1) (N := 10) hC hb rfl) rfl rfl (st_c (cat_i (cat_r cat_e)) (Nat.le_of_ble_eq_true rfl)) dX0_mergedLength_3 (fun E5 q6 M7 hx => ?_) (kI fun x3 M1 hw => ?_)
  · obtain ⟨rfl, hw⟩ := hx
    refine GX_catch (pc := 3) (tgt := 11) hJ.1 hC htab [] ⟨0, 8, 11, 15⟩ [] rfl trivial (by decide) (by decide) q1210 (nw_in q1240 rfl) rfl ?_
    refine G_astore_n (pc := 11) (i := 2) (lw := [some (va_rf (some b2)), some (va_rf p1), some (va_rf (some q6))]) hC dX0_mergedLength_11 rfl (Nat.le_of_ble_eq_true rfl) rfl ?_
    refine G_iconst (pc := 12) (v := 1) hC dX0_mergedLength_12 (by decide) ?_
    exact G_iretX (pc := 13) hC rfl hQ dX0_mergedLength_13 hw
  refine G_i2l (pc := 6) hC dX0_mergedLength_6 ?_
  refine G_last (pc := 7) hC dX0_mergedLength_7 hw (fun M4 hw => ?_)
  refine G_goto (pc := 8) (tgt := 14) hC dX0_mergedLength_8 (by decide) ?_
  refine G_iconst (pc := 14) (v := 0) hC dX0_mergedLength_14 (by decide) ?_
  exact G_iretX (pc := 15) hC rfl hQ dX0_mergedLength_15 hw
theorem hd_X1_merged : yX1_merged.cls = "MergeWorkbench" ∧ yX1_merged.cls ≠ "java/lang/invoke/MethodHandle" ∧ yX1_merged.cls ≠ "java/lang/invoke/VarHandle" ∧ (parseMethodDescriptor yX1_merged.desc).map (fun d => d.parameters.length) = some 1 := by decide +kernel
abbrev hh_X0_merged : List (Nat × Nat × Nat × Nat) := [(0, 9, 12, 15), (0, 9, 15, 21)]
def w_X0_merged (g : gT) (F : Nat) (p0 : Option Nat) (p1 : Int32) (p2 : Option Nat) (M : hM) (Q : Int32 → hM → Prop) (X : String → Nat → hM → Prop) : Prop :=
  gThis M p0 0 fun b2 => w_X1_merged g F b2 p1 M (fun x3 M1 => sJ M1 p2 (0 : Int32) (x3).toInt64 fun M4 => Q (0 : Int32) M4) (fun E5 q6 M7 => (E5 = "java/lang/IllegalStateException" ∧ Q (1 : Int32) M7) ∨ (E5 = "java/lang/IndexOutOfBoundsException" ∧ Q (2 : Int32) M7))
theorem m_X0_merged {l : Launch} {g : gT} {F : Nat} {p0 : Option Nat} {p1 : Int32} {p2 : Option Nat} {M : hM} {Q : Int32 → hM → Prop} {X : String → Nat → hM → Prop} (hJ : JOK l g) (hw : w_X0_merged g F p0 p1 p2 M Q X) : MX l g yX0_merged (wsW_ yX0_merged cX0_merged 4 (some .int) hh_X0_merged) 45 2109 [va_rf p0, .int p1, va_rf p2] M (PI Q) X := by
  refine MX_ofH hJ.2.1 (by decide) (cat_r (cat_i (cat_r cat_e))) (Nat.le_of_ble_eq_true rfl) (fun k hl hg hin htab hQ hC => ?_)
  subst hl hg
  show GW k 4 M 0 [some (va_rf p0), some (.int p1), some (va_rf p2), none] []
  refine G_aload_n (pc := 0) (i := 2) hC dX0_merged_0 rfl rfl ?_
  refine G_iconst (pc := 1) (v := 0) hC dX0_merged_1 (by decide) ?_
  refine G_aload_n (pc := 2) (i := 0) hC dX0_merged_2 rfl rfl ?_
  refine G_iload_n (pc := 3) (i := 1) hC dX0_merged_3 rfl rfl ?_
  obtain ⟨b2, rfl, hb, hw⟩ := gThis_e hw
  refine GX_callV (pc := 4) (n := 1) (C := "MergeWorkbench") (b := b2) (As := [.int p1]) (rest := [.int (0 : Int32), va_rf p2]) hC (m_X1_merged hJ hw) (lw_V q3073 q3074 q3075 q84 q3076) hd_X1_merged (by decide) (rcv (C := RX1) (T := TX1) (N := 10) hC hb rfl) rfl rfl (st_c (cat_i (cat_r cat_e)) (Nat.le_of_ble_eq_true rfl)) dX0_merged_4 (fun E5 q6 M7 hx => ?_) (kI fun x3 M1 hw => ?_)
  · rcases hx with ⟨rfl, hw⟩ | ⟨rfl, hw⟩
    · refine GX_catch (pc := 4) (tgt := 12) hJ.1 hC htab [] ⟨0, 9, 12, 15⟩ [⟨0, 9, 15, 21⟩] rfl trivial (by decide) (by decide) q1210 (nw_in q1240 rfl) rfl ?_
      refine G_astore_n (pc := 12) (i := 3) (lw := [some (va_rf (some b2)), some (.int p1), some (va_rf p2), some (va_rf (some q6))]) hC dX0_merged_12 rfl (Nat.le_of_ble_eq_true rfl) rfl ?_
      refine G_iconst (pc := 13) (v := 1) hC dX0_merged_13 (by decide) ?_
      exact G_iretX (pc := 14) hC rfl hQ dX0_merged_14 hw
    · refine GX_catch (pc := 4) (tgt := 15) hJ.1 hC htab [⟨0, 9, 12, 15⟩] ⟨0, 9, 15, 21⟩ [] rfl ⟨Or.inr ⟨by decide, _, q1210, by decide +kernel⟩, trivial⟩ (by decide) (by decide) q1346 (nw_in q380 rfl) rfl ?_
      refine G_astore_n (pc := 15) (i := 3) (lw := [some (va_rf (some b2)), some (.int p1), some (va_rf p2), some (va_rf (some q6))]) hC dX0_merged_15 rfl (Nat.le_of_ble_eq_true rfl) rfl ?_
      refine G_iconst (pc := 16) (v := 2) hC dX0_merged_16 (by decide) ?_
      exact G_iretX (pc := 17) hC rfl hQ dX0_merged_17 hw
  refine G_i2l (pc := 7) hC dX0_merged_7 ?_
  refine G_last (pc := 8) hC dX0_merged_8 hw (fun M4 hw => ?_)
  refine G_goto (pc := 9) (tgt := 18) hC dX0_merged_9 (by decide) ?_
  refine G_iconst (pc := 18) (v := 0) hC dX0_merged_18 (by decide) ?_
  exact G_iretX (pc := 19) hC rfl hQ dX0_merged_19 hw
theorem hd_X1_accept : yX1_accept.cls = "MergeWorkbench" ∧ yX1_accept.cls ≠ "java/lang/invoke/MethodHandle" ∧ yX1_accept.cls ≠ "java/lang/invoke/VarHandle" ∧ (parseMethodDescriptor yX1_accept.desc).map (fun d => d.parameters.length) = some 1 := by decide +kernel
abbrev hh_X0_accept : List (Nat × Nat × Nat × Nat) := [(0, 9, 12, 13), (0, 9, 15, 15), (0, 9, 18, 110)]
def w_X0_accept (g : gT) (F : Nat) (p0 : Option Nat) (p1 : Int32) (p2 : Option Nat) (M : hM) (Q : Int32 → hM → Prop) (X : String → Nat → hM → Prop) : Prop :=
  gThis M p0 0 fun b2 => w_X1_accept g F b2 p1 M (fun x3 M1 => sJ M1 p2 (0 : Int32) (x3).toInt64 fun M4 => Q (0 : Int32) M4) (fun E5 q6 M7 => (E5 = "java/lang/IllegalArgumentException" ∧ Q (1 : Int32) M7) ∨ (E5 = "java/lang/IllegalStateException" ∧ Q (2 : Int32) M7) ∨ (E5 = "java/lang/UnsupportedOperationException" ∧ Q (3 : Int32) M7))
theorem m_X0_accept {l : Launch} {g : gT} {F : Nat} {p0 : Option Nat} {p1 : Int32} {p2 : Option Nat} {M : hM} {Q : Int32 → hM → Prop} {X : String → Nat → hM → Prop} (hJ : JOK l g) (hw : w_X0_accept g F p0 p1 p2 M Q X) : MX l g yX0_accept (wsW_ yX0_accept cX0_accept 4 (some .int) hh_X0_accept) 45 2109 [va_rf p0, .int p1, va_rf p2] M (PI Q) X := by
  refine MX_ofH hJ.2.1 (by decide) (cat_r (cat_i (cat_r cat_e))) (Nat.le_of_ble_eq_true rfl) (fun k hl hg hin htab hQ hC => ?_)
  subst hl hg
  show GW k 4 M 0 [some (va_rf p0), some (.int p1), some (va_rf p2), none] []
  refine G_aload_n (pc := 0) (i := 2) hC dX0_accept_0 rfl rfl ?_
  refine G_iconst (pc := 1) (v := 0) hC dX0_accept_1 (by decide) ?_
  refine G_aload_n (pc := 2) (i := 0) hC dX0_accept_2 rfl rfl ?_
  refine G_iload_n (pc := 3) (i := 1) hC dX0_accept_3 rfl rfl ?_
  obtain ⟨b2, rfl, hb, hw⟩ := gThis_e hw
  refine GX_callV (pc := 4) (n := 1) (C := "MergeWorkbench") (b := b2) (As := [.int p1]) (rest := [.int (0 : Int32), va_rf p2]) hC (m_X1_accept hJ hw) (lw_V q3081 q3082 q3083 q84 q3084) hd_X1_accept (by decide) (rcv (C := RX1) (T := TX1) (N := 10) hC hb rfl) rfl rfl (st_c (cat_i (cat_r cat_e)) (Nat.le_of_ble_eq_true rfl)) dX0_accept_4 (fun E5 q6 M7 hx => ?_) (kI fun x3 M1 hw => ?_)
  · rcases hx with ⟨rfl, hw⟩ | ⟨rfl, hw⟩ | ⟨rfl, hw⟩
    · refine GX_catch (pc := 4) (tgt := 12) hJ.1 hC htab [] ⟨0, 9, 12, 13⟩ [⟨0, 9, 15, 15⟩, ⟨0, 9, 18, 110⟩] rfl trivial (by decide) (by decide) q1209 (nw_in q602 rfl) rfl ?_
      refine G_astore_n (pc := 12) (i := 3) (lw := [some (va_rf (some b2)), some (.int p1), some (va_rf p2), some (va_rf (some q6))]) hC dX0_accept_12 rfl (Nat.le_of_ble_eq_true rfl) rfl ?_
      refine G_iconst (pc := 13) (v := 1) hC dX0_accept_13 (by decide) ?_
      exact G_iretX (pc := 14) hC rfl hQ dX0_accept_14 hw
    · refine GX_catch (pc := 4) (tgt := 15) hJ.1 hC htab [⟨0, 9, 12, 13⟩] ⟨0, 9, 15, 15⟩ [⟨0, 9, 18, 110⟩] rfl ⟨Or.inr ⟨by decide, _, q1209, by decide +kernel⟩, trivial⟩ (by decide) (by decide) q1210 (nw_in q1240 rfl) rfl ?_
      refine G_astore_n (pc := 15) (i := 3) (lw := [some (va_rf (some b2)), some (.int p1), some (va_rf p2), some (va_rf (some q6))]) hC dX0_accept_15 rfl (Nat.le_of_ble_eq_true rfl) rfl ?_
      refine G_iconst (pc := 16) (v := 2) hC dX0_accept_16 (by decide) ?_
      exact G_iretX (pc := 17) hC rfl hQ dX0_accept_17 hw
    · refine GX_catch (pc := 4) (tgt := 18) hJ.1 hC htab [⟨0, 9, 12, 13⟩, ⟨0, 9, 15, 15⟩] ⟨0, 9, 18, 110⟩ [] rfl ⟨Or.inr ⟨by decide, _, q1209, by decide +kernel⟩, ⟨Or.inr ⟨by decide, _, q1210, by decide +kernel⟩, trivial⟩⟩ (by decide) (by decide) q3080 (nw_in q675 rfl) rfl ?_
      refine G_astore_n (pc := 18) (i := 3) (lw := [some (va_rf (some b2)), some (.int p1), some (va_rf p2), some (va_rf (some q6))]) hC dX0_accept_18 rfl (Nat.le_of_ble_eq_true rfl) rfl ?_
      refine G_iconst (pc := 19) (v := 3) hC dX0_accept_19 (by decide) ?_
      exact G_iretX (pc := 20) hC rfl hQ dX0_accept_20 hw
  refine G_i2l (pc := 7) hC dX0_accept_7 ?_
  refine G_last (pc := 8) hC dX0_accept_8 hw (fun M4 hw => ?_)
  refine G_goto (pc := 9) (tgt := 21) hC dX0_accept_9 (by decide) ?_
  refine G_iconst (pc := 21) (v := 0) hC dX0_accept_21 (by decide) ?_
  exact G_iretX (pc := 22) hC rfl hQ dX0_accept_22 hw
theorem hd_X1_makePatch : yX1_makePatch.cls = "MergeWorkbench" ∧ yX1_makePatch.cls ≠ "java/lang/invoke/MethodHandle" ∧ yX1_makePatch.cls ≠ "java/lang/invoke/VarHandle" ∧ (parseMethodDescriptor yX1_makePatch.desc).map (fun d => d.parameters.length) = some 1 := by decide +kernel
abbrev hh_X0_makePatch : List (Nat × Nat × Nat × Nat) := [(0, 9, 12, 13), (0, 9, 15, 15)]
def w_X0_makePatch (g : gT) (F : Nat) (p0 : Option Nat) (p1 : Int32) (p2 : Option Nat) (M : hM) (Q : Int32 → hM → Prop) (X : String → Nat → hM → Prop) : Prop :=
  gThis M p0 0 fun b2 => w_X1_makePatch g F b2 p1 M (fun x3 M1 => sJ M1 p2 (0 : Int32) (x3).toInt64 fun M4 => Q (0 : Int32) M4) (fun E5 q6 M7 => (E5 = "java/lang/IllegalArgumentException" ∧ Q (1 : Int32) M7) ∨ (E5 = "java/lang/IllegalStateException" ∧ Q (2 : Int32) M7))
theorem m_X0_makePatch {l : Launch} {g : gT} {F : Nat} {p0 : Option Nat} {p1 : Int32} {p2 : Option Nat} {M : hM} {Q : Int32 → hM → Prop} {X : String → Nat → hM → Prop} (hJ : JOK l g) (hw : w_X0_makePatch g F p0 p1 p2 M Q X) : MX l g yX0_makePatch (wsW_ yX0_makePatch cX0_makePatch 4 (some .int) hh_X0_makePatch) 44 2094 [va_rf p0, .int p1, va_rf p2] M (PI Q) X := by
  refine MX_ofH hJ.2.1 (by decide) (cat_r (cat_i (cat_r cat_e))) (Nat.le_of_ble_eq_true rfl) (fun k hl hg hin htab hQ hC => ?_)
  subst hl hg
  show GW k 4 M 0 [some (va_rf p0), some (.int p1), some (va_rf p2), none] []
  refine G_aload_n (pc := 0) (i := 2) hC dX0_makePatch_0 rfl rfl ?_
  refine G_iconst (pc := 1) (v := 0) hC dX0_makePatch_1 (by decide) ?_
  refine G_aload_n (pc := 2) (i := 0) hC dX0_makePatch_2 rfl rfl ?_
  refine G_iload_n (pc := 3) (i := 1) hC dX0_makePatch_3 rfl rfl ?_
  obtain ⟨b2, rfl, hb, hw⟩ := gThis_e hw
  refine GX_callV (pc := 4) (n := 1) (C := "MergeWorkbench") (b := b2) (As := [.int p1]) (rest := [.int (0 : Int32), va_rf p2]) hC (m_X1_makePatch hJ hw) (lw_V q3090 q3091 q3092 q84 q3093) hd_X1_makePatch (by decide) (rcv (C := RX1) (T := TX1) (N := 10) hC hb rfl) rfl rfl (st_c (cat_i (cat_r cat_e)) (Nat.le_of_ble_eq_true rfl)) dX0_makePatch_4 (fun E5 q6 M7 hx => ?_) (kI fun x3 M1 hw => ?_)
  · rcases hx with ⟨rfl, hw⟩ | ⟨rfl, hw⟩
    · refine GX_catch (pc := 4) (tgt := 12) hJ.1 hC htab [] ⟨0, 9, 12, 13⟩ [⟨0, 9, 15, 15⟩] rfl trivial (by decide) (by decide) q1209 (nw_in q602 rfl) rfl ?_
      refine G_astore_n (pc := 12) (i := 3) (lw := [some (va_rf (some b2)), some (.int p1), some (va_rf p2), some (va_rf (some q6))]) hC dX0_makePatch_12 rfl (Nat.le_of_ble_eq_true rfl) rfl ?_
      refine G_iconst (pc := 13) (v := 1) hC dX0_makePatch_13 (by decide) ?_
      exact G_iretX (pc := 14) hC rfl hQ dX0_makePatch_14 hw
    · refine GX_catch (pc := 4) (tgt := 15) hJ.1 hC htab [⟨0, 9, 12, 13⟩] ⟨0, 9, 15, 15⟩ [] rfl ⟨Or.inr ⟨by decide, _, q1209, by decide +kernel⟩, trivial⟩ (by decide) (by decide) q1210 (nw_in q1240 rfl) rfl ?_
      refine G_astore_n (pc := 15) (i := 3) (lw := [some (va_rf (some b2)), some (.int p1), some (va_rf p2), some (va_rf (some q6))]) hC dX0_makePatch_15 rfl (Nat.le_of_ble_eq_true rfl) rfl ?_
      refine G_iconst (pc := 16) (v := 2) hC dX0_makePatch_16 (by decide) ?_
      exact G_iretX (pc := 17) hC rfl hQ dX0_makePatch_17 hw
  refine G_i2l (pc := 7) hC dX0_makePatch_7 ?_
  refine G_last (pc := 8) hC dX0_makePatch_8 hw (fun M4 hw => ?_)
  refine G_goto (pc := 9) (tgt := 18) hC dX0_makePatch_9 (by decide) ?_
  refine G_iconst (pc := 18) (v := 0) hC dX0_makePatch_18 (by decide) ?_
  exact G_iretX (pc := 19) hC rfl hQ dX0_makePatch_19 hw
theorem hd_X1_hunk : yX1_hunk.cls = "MergeWorkbench" ∧ yX1_hunk.cls ≠ "java/lang/invoke/MethodHandle" ∧ yX1_hunk.cls ≠ "java/lang/invoke/VarHandle" ∧ (parseMethodDescriptor yX1_hunk.desc).map (fun d => d.parameters.length) = some 2 := by decide +kernel
abbrev hh_X0_hunk : List (Nat × Nat × Nat × Nat) := [(0, 10, 13, 15), (0, 10, 17, 21), (0, 10, 21, 13)]
def w_X0_hunk (g : gT) (F : Nat) (p0 : Option Nat) (p1 : Int32) (p2 : Int32) (p3 : Option Nat) (M : hM) (Q : Int32 → hM → Prop) (X : String → Nat → hM → Prop) : Prop :=
  gThis M p0 0 fun b2 => w_X1_hunk g F b2 p1 p2 M (fun x3 M1 => sJ M1 p3 (0 : Int32) (x3).toInt64 fun M4 => Q (0 : Int32) M4) (fun E5 q6 M7 => (E5 = "java/lang/IllegalStateException" ∧ Q (1 : Int32) M7) ∨ (E5 = "java/lang/IndexOutOfBoundsException" ∧ Q (2 : Int32) M7) ∨ (E5 = "java/lang/IllegalArgumentException" ∧ Q (3 : Int32) M7))
theorem m_X0_hunk {l : Launch} {g : gT} {F : Nat} {p0 : Option Nat} {p1 : Int32} {p2 : Int32} {p3 : Option Nat} {M : hM} {Q : Int32 → hM → Prop} {X : String → Nat → hM → Prop} (hJ : JOK l g) (hw : w_X0_hunk g F p0 p1 p2 p3 M Q X) : MX l g yX0_hunk (wsW_ yX0_hunk cX0_hunk 5 (some .int) hh_X0_hunk) 42 2043 [va_rf p0, .int p1, .int p2, va_rf p3] M (PI Q) X := by
  refine MX_ofH hJ.2.1 (by decide) (cat_r (cat_i (cat_i (cat_r cat_e)))) (Nat.le_of_ble_eq_true rfl) (fun k hl hg hin htab hQ hC => ?_)
  subst hl hg
  show GW k 5 M 0 [some (va_rf p0), some (.int p1), some (.int p2), some (va_rf p3), none] []
  refine G_aload_n (pc := 0) (i := 3) hC dX0_hunk_0 rfl rfl ?_
  refine G_iconst (pc := 1) (v := 0) hC dX0_hunk_1 (by decide) ?_
  refine G_aload_n (pc := 2) (i := 0) hC dX0_hunk_2 rfl rfl ?_
  refine G_iload_n (pc := 3) (i := 1) hC dX0_hunk_3 rfl rfl ?_
  refine G_iload_n (pc := 4) (i := 2) hC dX0_hunk_4 rfl rfl ?_
  obtain ⟨b2, rfl, hb, hw⟩ := gThis_e hw
  refine GX_callV (pc := 5) (n := 2) (C := "MergeWorkbench") (b := b2) (As := [.int p1, .int p2]) (rest := [.int (0 : Int32), va_rf p3]) hC (m_X1_hunk hJ hw) (lw_V q3148 q3149 q3150 q84 q3151) hd_X1_hunk (by decide) (rcv (C := RX1) (T := TX1) (N := 10) hC hb rfl) rfl rfl (st_c (cat_i (cat_r cat_e)) (Nat.le_of_ble_eq_true rfl)) dX0_hunk_5 (fun E5 q6 M7 hx => ?_) (kI fun x3 M1 hw => ?_)
  · rcases hx with ⟨rfl, hw⟩ | ⟨rfl, hw⟩ | ⟨rfl, hw⟩
    · refine GX_catch (pc := 5) (tgt := 13) hJ.1 hC htab [] ⟨0, 10, 13, 15⟩ [⟨0, 10, 17, 21⟩, ⟨0, 10, 21, 13⟩] rfl trivial (by decide) (by decide) q1210 (nw_in q1240 rfl) rfl ?_
      refine G_astore (pc := 13) (i := 4) (lw := [some (va_rf (some b2)), some (.int p1), some (.int p2), some (va_rf p3), some (va_rf (some q6))]) hC dX0_hunk_13 (Nat.le_of_ble_eq_true rfl) rfl ?_
      refine G_iconst (pc := 15) (v := 1) hC dX0_hunk_15 (by decide) ?_
      exact G_iretX (pc := 16) hC rfl hQ dX0_hunk_16 hw
    · refine GX_catch (pc := 5) (tgt := 17) hJ.1 hC htab [⟨0, 10, 13, 15⟩] ⟨0, 10, 17, 21⟩ [⟨0, 10, 21, 13⟩] rfl ⟨Or.inr ⟨by decide, _, q1210, by decide +kernel⟩, trivial⟩ (by decide) (by decide) q1346 (nw_in q380 rfl) rfl ?_
      refine G_astore (pc := 17) (i := 4) (lw := [some (va_rf (some b2)), some (.int p1), some (.int p2), some (va_rf p3), some (va_rf (some q6))]) hC dX0_hunk_17 (Nat.le_of_ble_eq_true rfl) rfl ?_
      refine G_iconst (pc := 19) (v := 2) hC dX0_hunk_19 (by decide) ?_
      exact G_iretX (pc := 20) hC rfl hQ dX0_hunk_20 hw
    · refine GX_catch (pc := 5) (tgt := 21) hJ.1 hC htab [⟨0, 10, 13, 15⟩, ⟨0, 10, 17, 21⟩] ⟨0, 10, 21, 13⟩ [] rfl ⟨Or.inr ⟨by decide, _, q1210, by decide +kernel⟩, ⟨Or.inr ⟨by decide, _, q1346, by decide +kernel⟩, trivial⟩⟩ (by decide) (by decide) q1209 (nw_in q602 rfl) rfl ?_
      refine G_astore (pc := 21) (i := 4) (lw := [some (va_rf (some b2)), some (.int p1), some (.int p2), some (va_rf p3), some (va_rf (some q6))]) hC dX0_hunk_21 (Nat.le_of_ble_eq_true rfl) rfl ?_
      refine G_iconst (pc := 23) (v := 3) hC dX0_hunk_23 (by decide) ?_
      exact G_iretX (pc := 24) hC rfl hQ dX0_hunk_24 hw
  refine G_i2l (pc := 8) hC dX0_hunk_8 ?_
  refine G_last (pc := 9) hC dX0_hunk_9 hw (fun M4 hw => ?_)
  refine G_goto (pc := 10) (tgt := 25) hC dX0_hunk_10 (by decide) ?_
  refine G_iconst (pc := 25) (v := 0) hC dX0_hunk_25 (by decide) ?_
  exact G_iretX (pc := 26) hC rfl hQ dX0_hunk_26 hw
theorem hd_X1_apply : yX1_apply.cls = "MergeWorkbench" ∧ yX1_apply.cls ≠ "java/lang/invoke/MethodHandle" ∧ yX1_apply.cls ≠ "java/lang/invoke/VarHandle" ∧ (parseMethodDescriptor yX1_apply.desc).map (fun d => d.parameters.length) = some 3 := by decide +kernel
abbrev hh_X0_apply : List (Nat × Nat × Nat × Nat) := [(0, 12, 15, 13), (0, 12, 19, 15), (0, 12, 23, 110)]
def w_X0_apply (g : gT) (F : Nat) (p0 : Option Nat) (p1 : Int32) (p2 : Int32) (p3 : Int32) (p4 : Option Nat) (M : hM) (Q : Int32 → hM → Prop) (X : String → Nat → hM → Prop) : Prop :=
  gThis M p0 0 fun b2 => w_X1_apply g F b2 p1 p2 p3 M (fun x3 M1 => sJ M1 p4 (0 : Int32) (x3).toInt64 fun M4 => Q (0 : Int32) M4) (fun E5 q6 M7 => (E5 = "java/lang/IllegalArgumentException" ∧ Q (1 : Int32) M7) ∨ (E5 = "java/lang/IllegalStateException" ∧ Q (2 : Int32) M7) ∨ (E5 = "java/lang/UnsupportedOperationException" ∧ Q (3 : Int32) M7))
theorem m_X0_apply {l : Launch} {g : gT} {F : Nat} {p0 : Option Nat} {p1 : Int32} {p2 : Int32} {p3 : Int32} {p4 : Option Nat} {M : hM} {Q : Int32 → hM → Prop} {X : String → Nat → hM → Prop} (hJ : JOK l g) (hw : w_X0_apply g F p0 p1 p2 p3 p4 M Q X) : MX l g yX0_apply (wsW_ yX0_apply cX0_apply 6 (some .int) hh_X0_apply) 50 2228 [va_rf p0, .int p1, .int p2, .int p3, va_rf p4] M (PI Q) X := by
  refine MX_ofH hJ.2.1 (by decide) (cat_r (cat_i (cat_i (cat_i (cat_r cat_e))))) (Nat.le_of_ble_eq_true rfl) (fun k hl hg hin htab hQ hC => ?_)
  subst hl hg
  show GW k 6 M 0 [some (va_rf p0), some (.int p1), some (.int p2), some (.int p3), some (va_rf p4), none] []
  refine G_aload (pc := 0) (i := 4) hC dX0_apply_0 rfl ?_
  refine G_iconst (pc := 2) (v := 0) hC dX0_apply_2 (by decide) ?_
  refine G_aload_n (pc := 3) (i := 0) hC dX0_apply_3 rfl rfl ?_
  refine G_iload_n (pc := 4) (i := 1) hC dX0_apply_4 rfl rfl ?_
  refine G_iload_n (pc := 5) (i := 2) hC dX0_apply_5 rfl rfl ?_
  refine G_iload_n (pc := 6) (i := 3) hC dX0_apply_6 rfl rfl ?_
  obtain ⟨b2, rfl, hb, hw⟩ := gThis_e hw
  refine GX_callV (pc := 7) (n := 3) (C := "MergeWorkbench") (b := b2) (As := [.int p1, .int p2, .int p3]) (rest := [.int (0 : Int32), va_rf p4]) hC (m_X1_apply hJ hw) (lw_V q3165 q3166 q3167 q84 q3168) hd_X1_apply (by decide) (rcv (C := RX1) (T := TX1) (N := 10) hC hb rfl) rfl rfl (st_c (cat_i (cat_r cat_e)) (Nat.le_of_ble_eq_true rfl)) dX0_apply_7 (fun E5 q6 M7 hx => ?_) (kI fun x3 M1 hw => ?_)
  · rcases hx with ⟨rfl, hw⟩ | ⟨rfl, hw⟩ | ⟨rfl, hw⟩
    · refine GX_catch (pc := 7) (tgt := 15) hJ.1 hC htab [] ⟨0, 12, 15, 13⟩ [⟨0, 12, 19, 15⟩, ⟨0, 12, 23, 110⟩] rfl trivial (by decide) (by decide) q1209 (nw_in q602 rfl) rfl ?_
      refine G_astore (pc := 15) (i := 5) (lw := [some (va_rf (some b2)), some (.int p1), some (.int p2), some (.int p3), some (va_rf p4), some (va_rf (some q6))]) hC dX0_apply_15 (Nat.le_of_ble_eq_true rfl) rfl ?_
      refine G_iconst (pc := 17) (v := 1) hC dX0_apply_17 (by decide) ?_
      exact G_iretX (pc := 18) hC rfl hQ dX0_apply_18 hw
    · refine GX_catch (pc := 7) (tgt := 19) hJ.1 hC htab [⟨0, 12, 15, 13⟩] ⟨0, 12, 19, 15⟩ [⟨0, 12, 23, 110⟩] rfl ⟨Or.inr ⟨by decide, _, q1209, by decide +kernel⟩, trivial⟩ (by decide) (by decide) q1210 (nw_in q1240 rfl) rfl ?_
      refine G_astore (pc := 19) (i := 5) (lw := [some (va_rf (some b2)), some (.int p1), some (.int p2), some (.int p3), some (va_rf p4), some (va_rf (some q6))]) hC dX0_apply_19 (Nat.le_of_ble_eq_true rfl) rfl ?_
      refine G_iconst (pc := 21) (v := 2) hC dX0_apply_21 (by decide) ?_
      exact G_iretX (pc := 22) hC rfl hQ dX0_apply_22 hw
    · refine GX_catch (pc := 7) (tgt := 23) hJ.1 hC htab [⟨0, 12, 15, 13⟩, ⟨0, 12, 19, 15⟩] ⟨0, 12, 23, 110⟩ [] rfl ⟨Or.inr ⟨by decide, _, q1209, by decide +kernel⟩, ⟨Or.inr ⟨by decide, _, q1210, by decide +kernel⟩, trivial⟩⟩ (by decide) (by decide) q3080 (nw_in q675 rfl) rfl ?_
      refine G_astore (pc := 23) (i := 5) (lw := [some (va_rf (some b2)), some (.int p1), some (.int p2), some (.int p3), some (va_rf p4), some (va_rf (some q6))]) hC dX0_apply_23 (Nat.le_of_ble_eq_true rfl) rfl ?_
      refine G_iconst (pc := 25) (v := 3) hC dX0_apply_25 (by decide) ?_
      exact G_iretX (pc := 26) hC rfl hQ dX0_apply_26 hw
  refine G_i2l (pc := 10) hC dX0_apply_10 ?_
  refine G_last (pc := 11) hC dX0_apply_11 hw (fun M4 hw => ?_)
  refine G_goto (pc := 12) (tgt := 27) hC dX0_apply_12 (by decide) ?_
  refine G_iconst (pc := 27) (v := 0) hC dX0_apply_27 (by decide) ?_
  exact G_iretX (pc := 28) hC rfl hQ dX0_apply_28 hw
theorem hd_X1_outcome : yX1_outcome.cls = "MergeWorkbench" ∧ yX1_outcome.cls ≠ "java/lang/invoke/MethodHandle" ∧ yX1_outcome.cls ≠ "java/lang/invoke/VarHandle" ∧ (parseMethodDescriptor yX1_outcome.desc).map (fun d => d.parameters.length) = some 2 := by decide +kernel
abbrev hh_X0_outcome : List (Nat × Nat × Nat × Nat) := [(0, 10, 13, 72), (0, 10, 17, 13)]
def w_X0_outcome (g : gT) (F : Nat) (p0 : Option Nat) (p1 : Int32) (p2 : Int32) (p3 : Option Nat) (M : hM) (Q : Int32 → hM → Prop) (X : String → Nat → hM → Prop) : Prop :=
  gThis M p0 0 fun b2 => w_X1_outcome g F b2 p1 p2 M (fun x3 M1 => sJ M1 p3 (0 : Int32) (x3).toInt64 fun M4 => Q (0 : Int32) M4) (fun E5 q6 M7 => (E5 = "java/util/NoSuchElementException" ∧ Q (1 : Int32) M7) ∨ (E5 = "java/lang/IllegalArgumentException" ∧ Q (2 : Int32) M7))
theorem m_X0_outcome {l : Launch} {g : gT} {F : Nat} {p0 : Option Nat} {p1 : Int32} {p2 : Int32} {p3 : Option Nat} {M : hM} {Q : Int32 → hM → Prop} {X : String → Nat → hM → Prop} (hJ : JOK l g) (hw : w_X0_outcome g F p0 p1 p2 p3 M Q X) : MX l g yX0_outcome (wsW_ yX0_outcome cX0_outcome 5 (some .int) hh_X0_outcome) 42 2044 [va_rf p0, .int p1, .int p2, va_rf p3] M (PI Q) X := by
  refine MX_ofH hJ.2.1 (by decide) (cat_r (cat_i (cat_i (cat_r cat_e)))) (Nat.le_of_ble_eq_true rfl) (fun k hl hg hin htab hQ hC => ?_)
  subst hl hg
  show GW k 5 M 0 [some (va_rf p0), some (.int p1), some (.int p2), some (va_rf p3), none] []
  refine G_aload_n (pc := 0) (i := 3) hC dX0_outcome_0 rfl rfl ?_
  refine G_iconst (pc := 1) (v := 0) hC dX0_outcome_1 (by decide) ?_
  refine G_aload_n (pc := 2) (i := 0) hC dX0_outcome_2 rfl rfl ?_
  refine G_iload_n (pc := 3) (i := 1) hC dX0_outcome_3 rfl rfl ?_
  refine G_iload_n (pc := 4) (i := 2) hC dX0_outcome_4 rfl rfl ?_
  obtain ⟨b2, rfl, hb, hw⟩ := gThis_e hw
  refine GX_callV (pc := 5) (n := 2) (C := "MergeWorkbench") (b := b2) (As := [.int p1, .int p2]) (rest := [.int (0 : Int32), va_rf p3]) hC (m_X1_outcome hJ hw) (lw_V q3269 q3270 q3271 q84 q3272) hd_X1_outcome (by decide) (rcv (C := RX1) (T := TX1) (N := 10) hC hb rfl) rfl rfl (st_c (cat_i (cat_r cat_e)) (Nat.le_of_ble_eq_true rfl)) dX0_outcome_5 (fun E5 q6 M7 hx => ?_) (kI fun x3 M1 hw => ?_)
  · rcases hx with ⟨rfl, hw⟩ | ⟨rfl, hw⟩
    · refine GX_catch (pc := 5) (tgt := 13) hJ.1 hC htab [] ⟨0, 10, 13, 72⟩ [⟨0, 10, 17, 13⟩] rfl trivial (by decide) (by decide) q2496 (nw_in q1017 rfl) rfl ?_
      refine G_astore (pc := 13) (i := 4) (lw := [some (va_rf (some b2)), some (.int p1), some (.int p2), some (va_rf p3), some (va_rf (some q6))]) hC dX0_outcome_13 (Nat.le_of_ble_eq_true rfl) rfl ?_
      refine G_iconst (pc := 15) (v := 1) hC dX0_outcome_15 (by decide) ?_
      exact G_iretX (pc := 16) hC rfl hQ dX0_outcome_16 hw
    · refine GX_catch (pc := 5) (tgt := 17) hJ.1 hC htab [⟨0, 10, 13, 72⟩] ⟨0, 10, 17, 13⟩ [] rfl ⟨Or.inr ⟨by decide, _, q2496, by decide +kernel⟩, trivial⟩ (by decide) (by decide) q1209 (nw_in q602 rfl) rfl ?_
      refine G_astore (pc := 17) (i := 4) (lw := [some (va_rf (some b2)), some (.int p1), some (.int p2), some (va_rf p3), some (va_rf (some q6))]) hC dX0_outcome_17 (Nat.le_of_ble_eq_true rfl) rfl ?_
      refine G_iconst (pc := 19) (v := 2) hC dX0_outcome_19 (by decide) ?_
      exact G_iretX (pc := 20) hC rfl hQ dX0_outcome_20 hw
  refine G_i2l (pc := 8) hC dX0_outcome_8 ?_
  refine G_last (pc := 9) hC dX0_outcome_9 hw (fun M4 hw => ?_)
  refine G_goto (pc := 10) (tgt := 21) hC dX0_outcome_10 (by decide) ?_
  refine G_iconst (pc := 21) (v := 0) hC dX0_outcome_21 (by decide) ?_
  exact G_iretX (pc := 22) hC rfl hQ dX0_outcome_22 hw
theorem hd_X1_undo : yX1_undo.cls = "MergeWorkbench" ∧ yX1_undo.cls ≠ "java/lang/invoke/MethodHandle" ∧ yX1_undo.cls ≠ "java/lang/invoke/VarHandle" ∧ (parseMethodDescriptor yX1_undo.desc).map (fun d => d.parameters.length) = some 0 := by decide +kernel
abbrev hh_X0_undo : List (Nat × Nat × Nat × Nat) := [(0, 8, 11, 15)]
def w_X0_undo (g : gT) (F : Nat) (p0 : Option Nat) (p1 : Option Nat) (M : hM) (Q : Int32 → hM → Prop) (X : String → Nat → hM → Prop) : Prop :=
  gThis M p0 0 fun b2 => w_X1_undo g F b2  M (fun x3 M1 => sJ M1 p1 (0 : Int32) (x3).toInt64 fun M4 => Q (0 : Int32) M4) (fun E5 q6 M7 => (E5 = "java/lang/IllegalStateException" ∧ Q (1 : Int32) M7))
theorem m_X0_undo {l : Launch} {g : gT} {F : Nat} {p0 : Option Nat} {p1 : Option Nat} {M : hM} {Q : Int32 → hM → Prop} {X : String → Nat → hM → Prop} (hJ : JOK l g) (hw : w_X0_undo g F p0 p1 M Q X) : MX l g yX0_undo (wsW_ yX0_undo cX0_undo 3 (some .int) hh_X0_undo) 43 2062 [va_rf p0, va_rf p1] M (PI Q) X := by
  refine MX_ofH hJ.2.1 (by decide) (cat_r (cat_r cat_e)) (Nat.le_of_ble_eq_true rfl) (fun k hl hg hin htab hQ hC => ?_)
  subst hl hg
  show GW k 3 M 0 [some (va_rf p0), some (va_rf p1), none] []
  refine G_aload_n (pc := 0) (i := 1) hC dX0_undo_0 rfl rfl ?_
  refine G_iconst (pc := 1) (v := 0) hC dX0_undo_1 (by decide) ?_
  refine G_aload_n (pc := 2) (i := 0) hC dX0_undo_2 rfl rfl ?_
  obtain ⟨b2, rfl, hb, hw⟩ := gThis_e hw
  refine GX_callV (pc := 3) (n := 0) (C := "MergeWorkbench") (b := b2) (As := []) (rest := [.int (0 : Int32), va_rf p1]) hC (m_X1_undo hJ hw) (lw_V q3277 q3278 q3279 q84 q3280) hd_X1_undo (by decide) (rcv (C := RX1) (T := TX1) (N := 10) hC hb rfl) rfl rfl (st_c (cat_i (cat_r cat_e)) (Nat.le_of_ble_eq_true rfl)) dX0_undo_3 (fun E5 q6 M7 hx => ?_) (kI fun x3 M1 hw => ?_)
  · obtain ⟨rfl, hw⟩ := hx
    refine GX_catch (pc := 3) (tgt := 11) hJ.1 hC htab [] ⟨0, 8, 11, 15⟩ [] rfl trivial (by decide) (by decide) q1210 (nw_in q1240 rfl) rfl ?_
    refine G_astore_n (pc := 11) (i := 2) (lw := [some (va_rf (some b2)), some (va_rf p1), some (va_rf (some q6))]) hC dX0_undo_11 rfl (Nat.le_of_ble_eq_true rfl) rfl ?_
    refine G_iconst (pc := 12) (v := 1) hC dX0_undo_12 (by decide) ?_
    exact G_iretX (pc := 13) hC rfl hQ dX0_undo_13 hw
  refine G_i2l (pc := 6) hC dX0_undo_6 ?_
  refine G_last (pc := 7) hC dX0_undo_7 hw (fun M4 hw => ?_)
  refine G_goto (pc := 8) (tgt := 14) hC dX0_undo_8 (by decide) ?_
  refine G_iconst (pc := 14) (v := 0) hC dX0_undo_14 (by decide) ?_
  exact G_iretX (pc := 15) hC rfl hQ dX0_undo_15 hw
theorem hd_X1_restore : yX1_restore.cls = "MergeWorkbench" ∧ yX1_restore.cls ≠ "java/lang/invoke/MethodHandle" ∧ yX1_restore.cls ≠ "java/lang/invoke/VarHandle" ∧ (parseMethodDescriptor yX1_restore.desc).map (fun d => d.parameters.length) = some 0 := by decide +kernel
abbrev hh_X0_restore : List (Nat × Nat × Nat × Nat) := [(0, 8, 11, 15)]
def w_X0_restore (g : gT) (F : Nat) (p0 : Option Nat) (p1 : Option Nat) (M : hM) (Q : Int32 → hM → Prop) (X : String → Nat → hM → Prop) : Prop :=
  gThis M p0 0 fun b2 => w_X1_restore g F b2  M (fun x3 M1 => sJ M1 p1 (0 : Int32) (x3).toInt64 fun M4 => Q (0 : Int32) M4) (fun E5 q6 M7 => (E5 = "java/lang/IllegalStateException" ∧ Q (1 : Int32) M7))
theorem m_X0_restore {l : Launch} {g : gT} {F : Nat} {p0 : Option Nat} {p1 : Option Nat} {M : hM} {Q : Int32 → hM → Prop} {X : String → Nat → hM → Prop} (hJ : JOK l g) (hw : w_X0_restore g F p0 p1 M Q X) : MX l g yX0_restore (wsW_ yX0_restore cX0_restore 3 (some .int) hh_X0_restore) 43 2065 [va_rf p0, va_rf p1] M (PI Q) X := by
  refine MX_ofH hJ.2.1 (by decide) (cat_r (cat_r cat_e)) (Nat.le_of_ble_eq_true rfl) (fun k hl hg hin htab hQ hC => ?_)
  subst hl hg
  show GW k 3 M 0 [some (va_rf p0), some (va_rf p1), none] []
  refine G_aload_n (pc := 0) (i := 1) hC dX0_restore_0 rfl rfl ?_
  refine G_iconst (pc := 1) (v := 0) hC dX0_restore_1 (by decide) ?_
  refine G_aload_n (pc := 2) (i := 0) hC dX0_restore_2 rfl rfl ?_
  obtain ⟨b2, rfl, hb, hw⟩ := gThis_e hw
  refine GX_callV (pc := 3) (n := 0) (C := "MergeWorkbench") (b := b2) (As := []) (rest := [.int (0 : Int32), va_rf p1]) hC (m_X1_restore hJ hw) (lw_V q3304 q3305 q3306 q84 q3307) hd_X1_restore (by decide) (rcv (C := RX1) (T := TX1) (N := 10) hC hb rfl) rfl rfl (st_c (cat_i (cat_r cat_e)) (Nat.le_of_ble_eq_true rfl)) dX0_restore_3 (fun E5 q6 M7 hx => ?_) (kI fun x3 M1 hw => ?_)
  · obtain ⟨rfl, hw⟩ := hx
    refine GX_catch (pc := 3) (tgt := 11) hJ.1 hC htab [] ⟨0, 8, 11, 15⟩ [] rfl trivial (by decide) (by decide) q1210 (nw_in q1240 rfl) rfl ?_
    refine G_astore_n (pc := 11) (i := 2) (lw := [some (va_rf (some b2)), some (va_rf p1), some (va_rf (some q6))]) hC dX0_restore_11 rfl (Nat.le_of_ble_eq_true rfl) rfl ?_
    refine G_iconst (pc := 12) (v := 1) hC dX0_restore_12 (by decide) ?_
    exact G_iretX (pc := 13) hC rfl hQ dX0_restore_13 hw
  refine G_i2l (pc := 6) hC dX0_restore_6 ?_
  refine G_last (pc := 7) hC dX0_restore_7 hw (fun M4 hw => ?_)
  refine G_goto (pc := 8) (tgt := 14) hC dX0_restore_8 (by decide) ?_
  refine G_iconst (pc := 14) (v := 0) hC dX0_restore_14 (by decide) ?_
  exact G_iretX (pc := 15) hC rfl hQ dX0_restore_15 hw
