/-! STAGE 1, printed by wip/D-93524w/genall.py: component, part 1 -/
set_option maxRecDepth 100000
def w_X7_document_25 (g : gT) (F : Nat) (a0 : Nat) (Q : Option Nat → hM → Prop) (X : String → Nat → hM → Prop) (v1 : Option Nat) (s0 : Option Nat) (s1 : Int32) (M : hM) : Prop :=
  gThis M s0 6 fun b2 => w_X7_expect g F b2 s1 M (fun M1 => Q v1 M1) X
def w_X7_document (g : gT) (F : Nat) (a0 : Nat) (M : hM) (Q : Option Nat → hM → Prop) (X : String → Nat → hM → Prop) : Prop :=
  (isC M a0 6 ∧ w_X7_items g F (wR_X7_item g F 5) a0  M (fun x2 M1 => gI M1 (some a0) 6 1 fun x3 => gF M1 (some a0) 6 0 fun x4 => gThis M1 x4 24 fun b6 => S_len g b6  M1 (fun x7 M5 => ((¬ x3 = x7 → w_X7_document_25 g F a0 Q X x2 (some a0) (0 : Int32) M5) ∧ (x3 = x7 → w_X7_document_25 g F a0 Q X x2 (some a0) (1 : Int32) M5)))) X)
theorem g_X7_document_25 {k : kT} {F : Nat} {a0 : Nat} {Q : Option Nat → hM → Prop} {X : String → Nat → hM → Prop} (hJ : JOK (kl k) (kg k)) (hC : CX k 2 cX7_document RX7 (some (.object "java/util/List")) 54 2315) (hQ : isQX k (PR Q) X) (hin : (kt k).name = "document") (hno : ∀ x ∈ (kc k).exceptionTable.toList, False) : ∀ (v1 : Option Nat) (s0 : Option Nat) (s1 : Int32) (M : hM), w_X7_document_25 (kg k) F a0 Q X v1 s0 s1 M → GW k 2 M 25 [some (va_rf (some a0)), some (va_rf v1)] [.int s1, va_rf s0] := by
  intro v1 s0 s1 M hw
  obtain ⟨b2, rfl, hb, hw⟩ := gThis_e hw
  refine GX_callV (pc := 25) (n := 1) (C := "MergeWorkbench$Reader") (b := b2) (As := [.int s1]) (rest := []) hC (m_X7_expect hJ hw) (lw_V q1807 q1809 qs24 q125 q1810) hd_X7_expect (by decide) (rcv (C := RX7) (T := TX7) (N := 3) hC hb rfl) rfl rfl (st_c cat_e (Nat.le_of_ble_eq_true rfl)) dX7_document_25 (fun E q M hx => GX_out hC hno hQ hx) (kU fun M1 hw => ?_)
  refine G_aload_n (pc := 28) (i := 1) hC dX7_document_28 rfl rfl ?_
  exact G_aretX (pc := 29) hC (Or.inl ⟨_, rfl⟩) hQ dX7_document_29 hw
theorem m_X7_document {l : Launch} {g : gT} {F : Nat} {a0 : Nat} {M : hM} {Q : Option Nat → hM → Prop} {X : String → Nat → hM → Prop} (hJ : JOK l g) (hw : w_X7_document g F a0 M Q X) : MX l g yX7_document (ws_ yX7_document cX7_document 2 (some (.object "java/util/List"))) 54 2315 [va_rf (some a0)] M (PR Q) X := by
  refine MX_of hJ.2.1 (by decide) (cat_r cat_e) (Nat.le_of_ble_eq_true rfl) (fun k hl hg hin hno hQ hC => ?_)
  subst hl hg
  show GW k 2 M 0 [some (va_rf (some a0)), none] []
  refine G_aload_n (pc := 0) (i := 0) hC dX7_document_0 rfl rfl ?_
  obtain ⟨hb, hw⟩ := hw
  refine GX_callV (pc := 1) (n := 0) (C := "MergeWorkbench$Reader") (b := a0) (As := []) (rest := []) hC (m_X7_items_r5 hJ hw) (lw_V q1772 q1774 qs20 q125 q1775) hd_X7_items (by decide) (rcv (C := RX7) (T := TX7) (N := 3) hC hb rfl) rfl rfl (st_c cat_e (Nat.le_of_ble_eq_true rfl)) dX7_document_1 (fun E q M hx => GX_out hC hno hQ hx) (kRf fun x2 M1 hw => ?_)
  refine G_astore_n (pc := 4) (i := 1) (lw := [some (va_rf (some a0)), some (va_rf x2)]) hC dX7_document_4 rfl (Nat.le_of_ble_eq_true rfl) rfl ?_
  refine G_aload_n (pc := 5) (i := 0) hC dX7_document_5 rfl rfl ?_
  refine G_aload_n (pc := 6) (i := 0) hC dX7_document_6 rfl rfl ?_
  refine G_getI (pc := 7) (ci := 6) (C := RX7) (T := TX7) (N := 3) (f := 1) hC rfl in_X7 (Nat.le_of_ble_eq_true rfl) q1759 (fun _ h => h) dX7_document_7 hw (fun x3 hw => ?_)
  refine G_aload_n (pc := 10) (i := 0) hC dX7_document_10 rfl rfl ?_
  refine G_getF (pc := 11) (ci := 6) (C := RX7) (T := TX7) (N := 3) (f := 0) hC rfl in_X7 (Nat.le_of_ble_eq_true rfl) q1758 (fun _ h => h) dX7_document_11 hw (fun x4 hw => ?_)
  obtain ⟨b6, rfl, hb, hw⟩ := gThis_e hw
  refine G_callV (pc := 14) (n := 0) (C := "java/lang/String") (b := b6) (As := []) (rest := [.int x3, va_rf (some a0)]) hC (J_S_len hJ hw) (lw_V q1786 q496 q497 q92 q498) hd_J6_length (by decide) (rcv (C := RJ6) (T := TJ6) (N := 4) hC hb rfl) rfl rfl (st_c (cat_i (cat_r cat_e)) (Nat.le_of_ble_eq_true rfl)) dX7_document_14 (kI fun x7 M5 hw => ?_)
  refine G_icmp_ne (pc := 17) (tgt := 24) hC dX7_document_17 (by decide) (fun hc => ?_) (fun hc => ?_)
  · replace hw := hw.1 hc
    refine G_iconst (pc := 24) (v := 0) hC dX7_document_24 (by decide) ?_
    exact g_X7_document_25 hJ hC hQ hin hno  x2 (some a0) (0 : Int32) M5 hw
  · replace hw := hw.2 hc
    refine G_iconst (pc := 20) (v := 1) hC dX7_document_20 (by decide) ?_
    refine G_goto (pc := 21) (tgt := 25) hC dX7_document_21 (by decide) ?_
    exact g_X7_document_25 hJ hC hQ hin hno  x2 (some a0) (1 : Int32) M5 hw
def w_X10_init (g : gT) (F : Nat) (a0 : Nat) (p1 : Option Nat) (p2 : Option Nat) (M : hM) (Q : hM → Prop) : Prop :=
  pV M (some a0) 9 0 (va_rf p1) fun M1 => pV M1 (some a0) 9 1 (va_rf p2) fun M2 => Q M2
theorem m_X10_init {l : Launch} {g : gT} {F : Nat} {a0 : Nat} {p1 : Option Nat} {p2 : Option Nat} {M : hM} {Q : hM → Prop} (hJ : JOK l g) (hw : w_X10_init g F a0 p1 p2 M Q) : MG l g yX10_init (ws_ yX10_init cX10_init 3 none) 1 20 [va_rf (some a0), va_rf p1, va_rf p2] M (PU Q) := by
  refine MG_of hJ.2.1 (by decide) (cat_r (cat_r (cat_r cat_e))) (Nat.le_of_ble_eq_true rfl) (fun k hl hg hin hQ hC => ?_)
  subst hl hg
  show GW k 3 M 0 [some (va_rf (some a0)), some (va_rf p1), some (va_rf p2)] []
  refine G_aload_n (pc := 0) (i := 0) hC dX10_init_0 rfl rfl ?_
  refine G_objInit (pc := 1) hC q2397 q158 q159 rfl rfl (st_c cat_e (Nat.le_of_ble_eq_true rfl)) dX10_init_1 ?_
  refine G_aload_n (pc := 4) (i := 0) hC dX10_init_4 rfl rfl ?_
  refine G_aload_n (pc := 5) (i := 1) hC dX10_init_5 rfl rfl ?_
  refine G_putF (pc := 6) (ci := 9) (C := RX10) (T := TX10) (N := 2) (f := 0) tyX10 hC rfl in_X10 tyX10_ok nmX10 (Nat.le_of_ble_eq_true rfl) q2398 (fun _ h => h) rfl hin rfl (nR_o _ _) (fR_o _ _) dX10_init_6 hw (fun M1 hw => ?_)
  refine G_aload_n (pc := 9) (i := 0) hC dX10_init_9 rfl rfl ?_
  refine G_aload_n (pc := 10) (i := 2) hC dX10_init_10 rfl rfl ?_
  refine G_putF (pc := 11) (ci := 9) (C := RX10) (T := TX10) (N := 2) (f := 1) tyX10 hC rfl in_X10 tyX10_ok nmX10 (Nat.le_of_ble_eq_true rfl) q2401 (fun _ h => h) rfl hin rfl (nR_o _ _) (fR_o _ _) dX10_init_11 hw (fun M2 hw => ?_)
  exact G_ret (pc := 14) hC hQ dX10_init_14 hw
theorem sw_out0_2 {x : Int32} (h0 : ¬ x = (0 : Int32)) (h1 : ¬ x = (1 : Int32)) (h2 : ¬ x = (2 : Int32)) : x.toInt < 0 ∨ 2 < x.toInt := by
  rcases Int.lt_or_le x.toInt (0) with hy | hy
  · exact Or.inl hy
  · rcases Int.lt_or_le (2) x.toInt with hz | hz
    · exact Or.inr hz
    · exfalso
      rcases (show x.toInt = 0 ∨ x.toInt = 1 ∨ x.toInt = 2 by omega) with e | e | e
      · exact h0 (sw_toInt e (by decide))
      · exact h1 (sw_toInt e (by decide))
      · exact h2 (sw_toInt e (by decide))
def w_X10_bound (g : gT) (F : Nat) (a0 : Nat) (p1 : Int32) (M : hM) (Q : Int32 → hM → Prop) : Prop :=
  ((p1 = (0 : Int32) → gF M (some a0) 9 0 fun x1 => gI M x1 10 1 fun x2 => Q x2 M) ∧ (p1 = (1 : Int32) → gF M (some a0) 9 0 fun x3 => gI M x3 10 2 fun x4 => Q x4 M) ∧ (p1 = (2 : Int32) → gF M (some a0) 9 1 fun x5 => gI M x5 10 1 fun x6 => Q x6 M) ∧ (¬ p1 = (0 : Int32) → ¬ p1 = (1 : Int32) → ¬ p1 = (2 : Int32) → gF M (some a0) 9 1 fun x7 => gI M x7 10 2 fun x8 => Q x8 M))
theorem m_X10_bound {l : Launch} {g : gT} {F : Nat} {a0 : Nat} {p1 : Int32} {M : hM} {Q : Int32 → hM → Prop} (hJ : JOK l g) (hw : w_X10_bound g F a0 p1 M Q) : MG l g yX10_bound (ws_ yX10_bound cX10_bound 2 (some .int)) 1 12 [va_rf (some a0), .int p1] M (PI Q) := by
  refine MG_of hJ.2.1 (by decide) (cat_r (cat_i cat_e)) (Nat.le_of_ble_eq_true rfl) (fun k hl hg hin hQ hC => ?_)
  subst hl hg
  show GW k 2 M 0 [some (va_rf (some a0)), some (.int p1)] []
  refine G_iload_n (pc := 0) (i := 1) hC dX10_bound_0 rfl rfl ?_
  by_cases hc0 : p1 = (0 : Int32)
  · replace hw := hw.1 hc0
    refine G_tableIn (pc := 1) (off := 27) (tgt := 28) hC dX10_bound_1 (by rw [hc0]; decide) (by rw [hc0]; decide) (by rw [hc0]; rfl) (by decide) ?_
    refine G_aload_n (pc := 28) (i := 0) hC dX10_bound_28 rfl rfl ?_
    refine G_getF (pc := 29) (ci := 9) (C := RX10) (T := TX10) (N := 2) (f := 0) hC rfl in_X10 (Nat.le_of_ble_eq_true rfl) q2398 (fun _ h => h) dX10_bound_29 hw (fun x1 hw => ?_)
    refine G_getIN (pc := 32) (ci := 10) (C := RX11) (T := TX11) (N := 3) (f := 1) hC rfl in_X11 (Nat.le_of_ble_eq_true rfl) (nw_in q2377 rfl) (fun _ h => h) dX10_bound_32 hw (fun x2 hw => ?_)
    exact G_iret (pc := 35) hC rfl hQ dX10_bound_35 hw
  by_cases hc1 : p1 = (1 : Int32)
  · replace hw := hw.2.1 hc1
    refine G_tableIn (pc := 1) (off := 35) (tgt := 36) hC dX10_bound_1 (by rw [hc1]; decide) (by rw [hc1]; decide) (by rw [hc1]; rfl) (by decide) ?_
    refine G_aload_n (pc := 36) (i := 0) hC dX10_bound_36 rfl rfl ?_
    refine G_getF (pc := 37) (ci := 9) (C := RX10) (T := TX10) (N := 2) (f := 0) hC rfl in_X10 (Nat.le_of_ble_eq_true rfl) q2398 (fun _ h => h) dX10_bound_37 hw (fun x3 hw => ?_)
    refine G_getIN (pc := 40) (ci := 10) (C := RX11) (T := TX11) (N := 3) (f := 2) hC rfl in_X11 (Nat.le_of_ble_eq_true rfl) (nw_in q2385 rfl) (fun _ h => h) dX10_bound_40 hw (fun x4 hw => ?_)
    exact G_iret (pc := 43) hC rfl hQ dX10_bound_43 hw
  by_cases hc2 : p1 = (2 : Int32)
  · replace hw := hw.2.2.1 hc2
    refine G_tableIn (pc := 1) (off := 43) (tgt := 44) hC dX10_bound_1 (by rw [hc2]; decide) (by rw [hc2]; decide) (by rw [hc2]; rfl) (by decide) ?_
    refine G_aload_n (pc := 44) (i := 0) hC dX10_bound_44 rfl rfl ?_
    refine G_getF (pc := 45) (ci := 9) (C := RX10) (T := TX10) (N := 2) (f := 1) hC rfl in_X10 (Nat.le_of_ble_eq_true rfl) q2401 (fun _ h => h) dX10_bound_45 hw (fun x5 hw => ?_)
    refine G_getIN (pc := 48) (ci := 10) (C := RX11) (T := TX11) (N := 3) (f := 1) hC rfl in_X11 (Nat.le_of_ble_eq_true rfl) (nw_in q2377 rfl) (fun _ h => h) dX10_bound_48 hw (fun x6 hw => ?_)
    exact G_iret (pc := 51) hC rfl hQ dX10_bound_51 hw
  replace hw := hw.2.2.2 hc0 hc1 hc2
  refine G_tableOut (pc := 1) (tgt := 52) hC dX10_bound_1 (sw_out0_2 hc0 hc1 hc2) (by decide) ?_
  refine G_aload_n (pc := 52) (i := 0) hC dX10_bound_52 rfl rfl ?_
  refine G_getF (pc := 53) (ci := 9) (C := RX10) (T := TX10) (N := 2) (f := 1) hC rfl in_X10 (Nat.le_of_ble_eq_true rfl) q2401 (fun _ h => h) dX10_bound_53 hw (fun x7 hw => ?_)
  refine G_getIN (pc := 56) (ci := 10) (C := RX11) (T := TX11) (N := 3) (f := 2) hC rfl in_X11 (Nat.le_of_ble_eq_true rfl) (nw_in q2385 rfl) (fun _ h => h) dX10_bound_56 hw (fun x8 hw => ?_)
  exact G_iret (pc := 59) hC rfl hQ dX10_bound_59 hw
def w_X11_init (g : gT) (F : Nat) (a0 : Nat) (p1 : Option Nat) (p2 : Int32) (p3 : Int32) (M : hM) (Q : hM → Prop) : Prop :=
  pV M (some a0) 10 0 (va_rf p1) fun M1 => pV M1 (some a0) 10 1 (.int p2) fun M2 => pV M2 (some a0) 10 2 (.int p3) fun M3 => Q M3
theorem m_X11_init {l : Launch} {g : gT} {F : Nat} {a0 : Nat} {p1 : Option Nat} {p2 : Int32} {p3 : Int32} {M : hM} {Q : hM → Prop} (hJ : JOK l g) (hw : w_X11_init g F a0 p1 p2 p3 M Q) : MG l g yX11_init (ws_ yX11_init cX11_init 4 none) 1 20 [va_rf (some a0), va_rf p1, .int p2, .int p3] M (PU Q) := by
  refine MG_of hJ.2.1 (by decide) (cat_r (cat_r (cat_i (cat_i cat_e)))) (Nat.le_of_ble_eq_true rfl) (fun k hl hg hin hQ hC => ?_)
  subst hl hg
  show GW k 4 M 0 [some (va_rf (some a0)), some (va_rf p1), some (.int p2), some (.int p3)] []
  refine G_aload_n (pc := 0) (i := 0) hC dX11_init_0 rfl rfl ?_
  refine G_objInit (pc := 1) hC q2372 q158 q159 rfl rfl (st_c cat_e (Nat.le_of_ble_eq_true rfl)) dX11_init_1 ?_
  refine G_aload_n (pc := 4) (i := 0) hC dX11_init_4 rfl rfl ?_
  refine G_aload_n (pc := 5) (i := 1) hC dX11_init_5 rfl rfl ?_
  refine G_putF (pc := 6) (ci := 10) (C := RX11) (T := TX11) (N := 3) (f := 0) tyX11 hC rfl in_X11 tyX11_ok nmX11 (Nat.le_of_ble_eq_true rfl) q2373 (fun _ h => h) rfl hin rfl (nR_o _ _) (fR_o _ _) dX11_init_6 hw (fun M1 hw => ?_)
  refine G_aload_n (pc := 9) (i := 0) hC dX11_init_9 rfl rfl ?_
  refine G_iload_n (pc := 10) (i := 2) hC dX11_init_10 rfl rfl ?_
  refine G_putF (pc := 11) (ci := 10) (C := RX11) (T := TX11) (N := 3) (f := 1) tyX11 hC rfl in_X11 tyX11_ok nmX11 (Nat.le_of_ble_eq_true rfl) q2374 (fun _ h => h) rfl hin rfl rfl rfl dX11_init_11 hw (fun M2 hw => ?_)
  refine G_aload_n (pc := 14) (i := 0) hC dX11_init_14 rfl rfl ?_
  refine G_iload_n (pc := 15) (i := 3) hC dX11_init_15 rfl rfl ?_
  refine G_putF (pc := 16) (ci := 10) (C := RX11) (T := TX11) (N := 3) (f := 2) tyX11 hC rfl in_X11 tyX11_ok nmX11 (Nat.le_of_ble_eq_true rfl) q2382 (fun _ h => h) rfl hin rfl rfl rfl dX11_init_16 hw (fun M3 hw => ?_)
  exact G_ret (pc := 19) hC hQ dX11_init_19 hw
def w_X11_isEmpty_16 (g : gT) (F : Nat) (a0 : Nat) (Q : Int32 → hM → Prop) (s0 : Int32) (M : hM) : Prop :=
  ((s0 = 0 ∨ s0 = 1) ∧ Q s0 M)
def w_X11_isEmpty (g : gT) (F : Nat) (a0 : Nat) (M : hM) (Q : Int32 → hM → Prop) : Prop :=
  gI M (some a0) 10 1 fun x1 => gI M (some a0) 10 2 fun x2 => ((¬ x1 = x2 → w_X11_isEmpty_16 g F a0 Q (0 : Int32) M) ∧ (x1 = x2 → w_X11_isEmpty_16 g F a0 Q (1 : Int32) M))
theorem g_X11_isEmpty_16 {k : kT} {F : Nat} {a0 : Nat} {Q : Int32 → hM → Prop} (hJ : JOK (kl k) (kg k)) (hC : CX k 1 cX11_isEmpty RX11 (some .boolean) 1 12) (hQ : isQ k (PI Q)) (hin : (kt k).name = "isEmpty") : ∀ (s0 : Int32) (M : hM), w_X11_isEmpty_16 (kg k) F a0 Q s0 M → GW k 1 M 16 [some (va_rf (some a0))] [.int s0] := by
  intro s0 M hw
  obtain ⟨hz, hw⟩ := hw
  exact G_iret (pc := 16) hC (nz_n hz) hQ dX11_isEmpty_16 hw
theorem m_X11_isEmpty {l : Launch} {g : gT} {F : Nat} {a0 : Nat} {M : hM} {Q : Int32 → hM → Prop} (hJ : JOK l g) (hw : w_X11_isEmpty g F a0 M Q) : MG l g yX11_isEmpty (ws_ yX11_isEmpty cX11_isEmpty 1 (some .boolean)) 1 12 [va_rf (some a0)] M (PI Q) := by
  refine MG_of hJ.2.1 (by decide) (cat_r cat_e) (Nat.le_of_ble_eq_true rfl) (fun k hl hg hin hQ hC => ?_)
  subst hl hg
  show GW k 1 M 0 [some (va_rf (some a0))] []
  refine G_aload_n (pc := 0) (i := 0) hC dX11_isEmpty_0 rfl rfl ?_
  refine G_getI (pc := 1) (ci := 10) (C := RX11) (T := TX11) (N := 3) (f := 1) hC rfl in_X11 (Nat.le_of_ble_eq_true rfl) q2374 (fun _ h => h) dX11_isEmpty_1 hw (fun x1 hw => ?_)
  refine G_aload_n (pc := 4) (i := 0) hC dX11_isEmpty_4 rfl rfl ?_
  refine G_getI (pc := 5) (ci := 10) (C := RX11) (T := TX11) (N := 3) (f := 2) hC rfl in_X11 (Nat.le_of_ble_eq_true rfl) q2382 (fun _ h => h) dX11_isEmpty_5 hw (fun x2 hw => ?_)
  refine G_icmp_ne (pc := 8) (tgt := 15) hC dX11_isEmpty_8 (by decide) (fun hc => ?_) (fun hc => ?_)
  · replace hw := hw.1 hc
    refine G_iconst (pc := 15) (v := 0) hC dX11_isEmpty_15 (by decide) ?_
    exact g_X11_isEmpty_16 hJ hC hQ hin  (0 : Int32) M hw
  · replace hw := hw.2 hc
    refine G_iconst (pc := 11) (v := 1) hC dX11_isEmpty_11 (by decide) ?_
    refine G_goto (pc := 12) (tgt := 16) hC dX11_isEmpty_12 (by decide) ?_
    exact g_X11_isEmpty_16 hJ hC hQ hin  (1 : Int32) M hw
def w_X11_length (g : gT) (F : Nat) (a0 : Nat) (M : hM) (Q : Int32 → hM → Prop) : Prop :=
  gI M (some a0) 10 2 fun x1 => gI M (some a0) 10 1 fun x2 => Q (x1 - x2) M
theorem m_X11_length {l : Launch} {g : gT} {F : Nat} {a0 : Nat} {M : hM} {Q : Int32 → hM → Prop} (hJ : JOK l g) (hw : w_X11_length g F a0 M Q) : MG l g yX11_length (ws_ yX11_length cX11_length 1 (some .int)) 1 12 [va_rf (some a0)] M (PI Q) := by
  refine MG_of hJ.2.1 (by decide) (cat_r cat_e) (Nat.le_of_ble_eq_true rfl) (fun k hl hg hin hQ hC => ?_)
  subst hl hg
  show GW k 1 M 0 [some (va_rf (some a0))] []
  refine G_aload_n (pc := 0) (i := 0) hC dX11_length_0 rfl rfl ?_
  refine G_getI (pc := 1) (ci := 10) (C := RX11) (T := TX11) (N := 3) (f := 2) hC rfl in_X11 (Nat.le_of_ble_eq_true rfl) q2382 (fun _ h => h) dX11_length_1 hw (fun x1 hw => ?_)
  refine G_aload_n (pc := 4) (i := 0) hC dX11_length_4 rfl rfl ?_
  refine G_getI (pc := 5) (ci := 10) (C := RX11) (T := TX11) (N := 3) (f := 1) hC rfl in_X11 (Nat.le_of_ble_eq_true rfl) q2374 (fun _ h => h) dX11_length_5 hw (fun x2 hw => ?_)
  refine G_isub (pc := 8) hC dX11_length_8 ?_
  exact G_iret (pc := 9) hC rfl hQ dX11_length_9 hw
def w_X11_at (g : gT) (F : Nat) (a0 : Nat) (p1 : Int32) (M : hM) (Q : Option Nat → hM → Prop) : Prop :=
  gF M (some a0) 10 0 fun x1 => gI M (some a0) 10 1 fun x2 => gThis M x1 21 fun b4 => L_get g b4 (x2 + p1) M (fun x5 M3 => Q x5 M3)
theorem m_X11_at {l : Launch} {g : gT} {F : Nat} {a0 : Nat} {p1 : Int32} {M : hM} {Q : Option Nat → hM → Prop} (hJ : JOK l g) (hw : w_X11_at g F a0 p1 M Q) : MG l g yX11_at (ws_ yX11_at cX11_at 2 (some (.object "java/lang/Object"))) 41 2021 [va_rf (some a0), .int p1] M (PR Q) := by
  refine MG_of hJ.2.1 (by decide) (cat_r (cat_i cat_e)) (Nat.le_of_ble_eq_true rfl) (fun k hl hg hin hQ hC => ?_)
  subst hl hg
  show GW k 2 M 0 [some (va_rf (some a0)), some (.int p1)] []
  refine G_aload_n (pc := 0) (i := 0) hC dX11_at_0 rfl rfl ?_
  refine G_getF (pc := 1) (ci := 10) (C := RX11) (T := TX11) (N := 3) (f := 0) hC rfl in_X11 (Nat.le_of_ble_eq_true rfl) q2373 (fun _ h => h) dX11_at_1 hw (fun x1 hw => ?_)
  refine G_aload_n (pc := 4) (i := 0) hC dX11_at_4 rfl rfl ?_
  refine G_getI (pc := 5) (ci := 10) (C := RX11) (T := TX11) (N := 3) (f := 1) hC rfl in_X11 (Nat.le_of_ble_eq_true rfl) q2374 (fun _ h => h) dX11_at_5 hw (fun x2 hw => ?_)
  refine G_iload_n (pc := 8) (i := 1) hC dX11_at_8 rfl rfl ?_
  refine G_iadd (pc := 9) hC dX11_at_9 ?_
  obtain ⟨b4, rfl, hb, hw⟩ := gThis_e hw
  refine G_callF (pc := 10) (n := 1) (x := ⟨"java/util/List", "get", "(I)Ljava/lang/Object;"⟩) (C := "java/util/ArrayList") (ci := 21) (T := TJ2) (N := 3) (b := b4) (As := [.int (x2 + p1)]) (rest := []) hC (J_L_get hJ hw) (lw_F q2828 q956 q958 q87 q960) (nw_in q955 rfl) (nw_in q954 rfl) (nw_in q959 rfl) (nw_in q957 rfl) (nw_in q259 rfl) rfl (rcv (C := RJ2) (T := TJ2) (N := 3) hC hb rfl) (by decide +kernel) (by decide) rfl rfl (st_c cat_e (Nat.le_of_ble_eq_true rfl)) dX11_at_10 (kRf fun x5 M3 hw => ?_)
  exact G_aret (pc := 15) hC (Or.inl ⟨_, rfl⟩) hQ dX11_at_15 hw
theorem hd_X11_at : yX11_at.cls = "MergeWorkbench$Part" ∧ yX11_at.cls ≠ "java/lang/invoke/MethodHandle" ∧ yX11_at.cls ≠ "java/lang/invoke/VarHandle" ∧ (parseMethodDescriptor yX11_at.desc).map (fun d => d.parameters.length) = some 1 := by decide +kernel
theorem hd_X11_length : yX11_length.cls = "MergeWorkbench$Part" ∧ yX11_length.cls ≠ "java/lang/invoke/MethodHandle" ∧ yX11_length.cls ≠ "java/lang/invoke/VarHandle" ∧ (parseMethodDescriptor yX11_length.desc).map (fun d => d.parameters.length) = some 0 := by decide +kernel
def w_X11_commonBeginning_40 (g : gT) (F : Nat) (a0 : Nat) (p1 : Option Nat) (Q : Int32 → hM → Prop) (v2 : Int32) (M : hM) : Prop :=
  Q v2 M
def w_X11_commonBeginning_2 (g : gT) (F : Nat) (a0 : Nat) (p1 : Option Nat) (Q : Int32 → hM → Prop) : Nat → Int32 → hM → Prop
  | 0, _, _ => False
  | n + 1, v2, M => (isC M a0 10 ∧ w_X11_length g F a0  M (fun x2 M1 => ((x2 ≤ v2 → w_X11_commonBeginning_40 g F a0 p1 Q v2 M1) ∧ (¬ (x2 ≤ v2) → gThis M1 p1 10 fun b4 => w_X11_length g F b4  M1 (fun x5 M3 => ((x5 ≤ v2 → w_X11_commonBeginning_40 g F a0 p1 Q v2 M3) ∧ (¬ (x5 ≤ v2) → (isC M3 a0 10 ∧ w_X11_at g F a0 v2 M3 (fun x7 M6 => (isC M6 b4 10 ∧ w_X11_at g F b4 v2 M6 (fun x9 M8 => gBx g M8 x7 fun b11 => B_eq g b11 x9 M8 (fun x12 M10 => ((x12 = 0 → w_X11_commonBeginning_40 g F a0 p1 Q v2 M10) ∧ (¬ (x12 = 0) → w_X11_commonBeginning_2 g F a0 p1 Q n (v2 + (1 : Int32)) M10))))))))))))))
def w_X11_commonBeginning (g : gT) (F : Nat) (a0 : Nat) (p1 : Option Nat) (M : hM) (Q : Int32 → hM → Prop) : Prop :=
  w_X11_commonBeginning_2 g F a0 p1 Q F (0 : Int32) M
theorem g_X11_commonBeginning_40 {k : kT} {F : Nat} {a0 : Nat} {p1 : Option Nat} {Q : Int32 → hM → Prop} (hJ : JOK (kl k) (kg k)) (hC : CX k 3 cX11_commonBeginning RX11 (some .int) 42 2042) (hQ : isQ k (PI Q)) (hin : (kt k).name = "commonBeginning") : ∀ (v2 : Int32) (M : hM), w_X11_commonBeginning_40 (kg k) F a0 p1 Q v2 M → GW k 3 M 40 [some (va_rf (some a0)), some (va_rf p1), some (.int v2)] [] := by
  intro v2 M hw
  refine G_iload_n (pc := 40) (i := 2) hC dX11_commonBeginning_40 rfl rfl ?_
  exact G_iret (pc := 41) hC rfl hQ dX11_commonBeginning_41 hw
theorem g_X11_commonBeginning_2 {k : kT} {F : Nat} {a0 : Nat} {p1 : Option Nat} {Q : Int32 → hM → Prop} (hJ : JOK (kl k) (kg k)) (hC : CX k 3 cX11_commonBeginning RX11 (some .int) 42 2042) (hQ : isQ k (PI Q)) (hin : (kt k).name = "commonBeginning") : ∀ (n : Nat) (v2 : Int32) (M : hM), w_X11_commonBeginning_2 (kg k) F a0 p1 Q n v2 M → GW k 3 M 2 [some (va_rf (some a0)), some (va_rf p1), some (.int v2)] [] := by
  intro n
  induction n with
  | zero =>
    intro v2 M hw
    exact hw.elim
  | succ n ih =>
    intro v2 M hw
    refine G_iload_n (pc := 2) (i := 2) hC dX11_commonBeginning_2 rfl rfl ?_
    refine G_aload_n (pc := 3) (i := 0) hC dX11_commonBeginning_3 rfl rfl ?_
    obtain ⟨hb, hw⟩ := hw
    refine G_callV (pc := 4) (n := 0) (C := "MergeWorkbench$Part") (b := a0) (As := []) (rest := [.int v2]) hC (m_X11_length hJ hw) (lw_V q2815 q2816 q2817 q139 q2818) hd_X11_length (by decide) (rcv (C := RX11) (T := TX11) (N := 3) hC hb rfl) rfl rfl (st_c (cat_i cat_e) (Nat.le_of_ble_eq_true rfl)) dX11_commonBeginning_4 (kI fun x2 M1 hw => ?_)
    refine G_icmp_ge (pc := 7) (tgt := 40) hC dX11_commonBeginning_7 (by decide) (fun hc => ?_) (fun hc => ?_)
    · replace hw := hw.1 hc
      exact g_X11_commonBeginning_40 hJ hC hQ hin  v2 M1 hw
    · replace hw := hw.2 hc
      refine G_iload_n (pc := 10) (i := 2) hC dX11_commonBeginning_10 rfl rfl ?_
      refine G_aload_n (pc := 11) (i := 1) hC dX11_commonBeginning_11 rfl rfl ?_
      obtain ⟨b4, rfl, hb, hw⟩ := gThis_e hw
      refine G_callV (pc := 12) (n := 0) (C := "MergeWorkbench$Part") (b := b4) (As := []) (rest := [.int v2]) hC (m_X11_length hJ hw) (lw_V q2815 q2816 q2817 q139 q2818) hd_X11_length (by decide) (rcv (C := RX11) (T := TX11) (N := 3) hC hb rfl) rfl rfl (st_c (cat_i cat_e) (Nat.le_of_ble_eq_true rfl)) dX11_commonBeginning_12 (kI fun x5 M3 hw => ?_)
      refine G_icmp_ge (pc := 15) (tgt := 40) hC dX11_commonBeginning_15 (by decide) (fun hc => ?_) (fun hc => ?_)
      · replace hw := hw.1 hc
        exact g_X11_commonBeginning_40 hJ hC hQ hin  v2 M3 hw
      · replace hw := hw.2 hc
        refine G_aload_n (pc := 18) (i := 0) hC dX11_commonBeginning_18 rfl rfl ?_
        refine G_iload_n (pc := 19) (i := 2) hC dX11_commonBeginning_19 rfl rfl ?_
        obtain ⟨hb, hw⟩ := hw
        refine G_callV (pc := 20) (n := 1) (C := "MergeWorkbench$Part") (b := a0) (As := [.int v2]) (rest := []) hC (m_X11_at hJ hw) (lw_V q2823 q2824 q2825 q139 q2826) hd_X11_at (by decide) (rcv (C := RX11) (T := TX11) (N := 3) hC hb rfl) rfl rfl (st_c cat_e (Nat.le_of_ble_eq_true rfl)) dX11_commonBeginning_20 (kRf fun x7 M6 hw => ?_)
        refine G_aload_n (pc := 23) (i := 1) hC dX11_commonBeginning_23 rfl rfl ?_
        refine G_iload_n (pc := 24) (i := 2) hC dX11_commonBeginning_24 rfl rfl ?_
        obtain ⟨hb, hw⟩ := hw
        refine G_callV (pc := 25) (n := 1) (C := "MergeWorkbench$Part") (b := b4) (As := [.int v2]) (rest := [va_rf x7]) hC (m_X11_at hJ hw) (lw_V q2823 q2824 q2825 q139 q2826) hd_X11_at (by decide) (rcv (C := RX11) (T := TX11) (N := 3) hC hb rfl) rfl rfl (st_c (cat_r cat_e) (Nat.le_of_ble_eq_true rfl)) dX11_commonBeginning_25 (kRf fun x9 M8 hw => ?_)
        obtain ⟨b11, rfl, hb, hw⟩ := gBx_e hw
        refine G_callO (pc := 28) (n := 1) (x := ⟨"java/lang/Object", "equals", "(Ljava/lang/Object;)Z"⟩) (owner := "java/lang/Object") (C := "java/lang/Integer") (b := b11) (As := [va_rf x9]) (rest := []) hC (J_B_eq hJ hw) (lw_O q2829 q1460 q1459 q1487 q1488 q106 q1489) q1502 (rcvB hJ.1 hC hb) (by decide +kernel) (by decide) rfl rfl (st_c cat_e (Nat.le_of_ble_eq_true rfl)) dX11_commonBeginning_28 (kI fun x12 M10 hw => ?_)
        refine G_if_eq (pc := 31) (tgt := 40) hC dX11_commonBeginning_31 (by decide) (fun hc => ?_) (fun hc => ?_)
        · replace hw := hw.1 hc
          exact g_X11_commonBeginning_40 hJ hC hQ hin  v2 M10 hw
        · replace hw := hw.2 hc
          refine G_iinc (pc := 34) (i := 2) (v := (v2 + (1 : Int32))) (lw := [some (va_rf (some a0)), some (va_rf (some b4)), some (.int (v2 + (1 : Int32)))]) hC dX11_commonBeginning_34 rfl (Nat.le_of_ble_eq_true rfl) rfl rfl ?_
          refine G_goto (pc := 37) (tgt := 2) hC dX11_commonBeginning_37 (by decide) ?_
          exact ih (v2 + (1 : Int32)) M10 hw
theorem m_X11_commonBeginning {l : Launch} {g : gT} {F : Nat} {a0 : Nat} {p1 : Option Nat} {M : hM} {Q : Int32 → hM → Prop} (hJ : JOK l g) (hw : w_X11_commonBeginning g F a0 p1 M Q) : MG l g yX11_commonBeginning (ws_ yX11_commonBeginning cX11_commonBeginning 3 (some .int)) 42 2042 [va_rf (some a0), va_rf p1] M (PI Q) := by
  refine MG_of hJ.2.1 (by decide) (cat_r (cat_r cat_e)) (Nat.le_of_ble_eq_true rfl) (fun k hl hg hin hQ hC => ?_)
  subst hl hg
  show GW k 3 M 0 [some (va_rf (some a0)), some (va_rf p1), none] []
  refine G_iconst (pc := 0) (v := 0) hC dX11_commonBeginning_0 (by decide) ?_
  refine G_istore_n (pc := 1) (i := 2) (lw := [some (va_rf (some a0)), some (va_rf p1), some (.int (0 : Int32))]) hC dX11_commonBeginning_1 rfl (Nat.le_of_ble_eq_true rfl) rfl ?_
  exact g_X11_commonBeginning_2 hJ hC hQ hin _ (0 : Int32) M hw
theorem hd_X11_commonBeginning : yX11_commonBeginning.cls = "MergeWorkbench$Part" ∧ yX11_commonBeginning.cls ≠ "java/lang/invoke/MethodHandle" ∧ yX11_commonBeginning.cls ≠ "java/lang/invoke/VarHandle" ∧ (parseMethodDescriptor yX11_commonBeginning.desc).map (fun d => d.parameters.length) = some 1 := by decide +kernel
def w_X11_isLike_28 (g : gT) (F : Nat) (a0 : Nat) (p1 : Option Nat) (Q : Int32 → hM → Prop) (s0 : Int32) (M : hM) : Prop :=
  ((s0 = 0 ∨ s0 = 1) ∧ Q s0 M)
def w_X11_isLike_27 (g : gT) (F : Nat) (a0 : Nat) (p1 : Option Nat) (Q : Int32 → hM → Prop) (M : hM) : Prop :=
  w_X11_isLike_28 g F a0 p1 Q (0 : Int32) M
def w_X11_isLike (g : gT) (F : Nat) (a0 : Nat) (p1 : Option Nat) (M : hM) (Q : Int32 → hM → Prop) : Prop :=
  (isC M a0 10 ∧ w_X11_length g F a0  M (fun x2 M1 => gThis M1 p1 10 fun b4 => w_X11_length g F b4  M1 (fun x5 M3 => ((¬ x2 = x5 → w_X11_isLike_27 g F a0 p1 Q M3) ∧ (x2 = x5 → (isC M3 a0 10 ∧ w_X11_commonBeginning g F a0 (some b4) M3 (fun x7 M6 => (isC M6 a0 10 ∧ w_X11_length g F a0  M6 (fun x9 M8 => ((¬ x7 = x9 → w_X11_isLike_27 g F a0 p1 Q M8) ∧ (x7 = x9 → w_X11_isLike_28 g F a0 p1 Q (1 : Int32) M8)))))))))))
theorem g_X11_isLike_28 {k : kT} {F : Nat} {a0 : Nat} {p1 : Option Nat} {Q : Int32 → hM → Prop} (hJ : JOK (kl k) (kg k)) (hC : CX k 2 cX11_isLike RX11 (some .boolean) 43 2064) (hQ : isQ k (PI Q)) (hin : (kt k).name = "isLike") : ∀ (s0 : Int32) (M : hM), w_X11_isLike_28 (kg k) F a0 p1 Q s0 M → GW k 2 M 28 [some (va_rf (some a0)), some (va_rf p1)] [.int s0] := by
  intro s0 M hw
  obtain ⟨hz, hw⟩ := hw
  exact G_iret (pc := 28) hC (nz_n hz) hQ dX11_isLike_28 hw
theorem g_X11_isLike_27 {k : kT} {F : Nat} {a0 : Nat} {p1 : Option Nat} {Q : Int32 → hM → Prop} (hJ : JOK (kl k) (kg k)) (hC : CX k 2 cX11_isLike RX11 (some .boolean) 43 2064) (hQ : isQ k (PI Q)) (hin : (kt k).name = "isLike") : ∀  (M : hM), w_X11_isLike_27 (kg k) F a0 p1 Q  M → GW k 2 M 27 [some (va_rf (some a0)), some (va_rf p1)] [] := by
  intro  M hw
  refine G_iconst (pc := 27) (v := 0) hC dX11_isLike_27 (by decide) ?_
  exact g_X11_isLike_28 hJ hC hQ hin  (0 : Int32) M hw
theorem m_X11_isLike {l : Launch} {g : gT} {F : Nat} {a0 : Nat} {p1 : Option Nat} {M : hM} {Q : Int32 → hM → Prop} (hJ : JOK l g) (hw : w_X11_isLike g F a0 p1 M Q) : MG l g yX11_isLike (ws_ yX11_isLike cX11_isLike 2 (some .boolean)) 43 2064 [va_rf (some a0), va_rf p1] M (PI Q) := by
  refine MG_of hJ.2.1 (by decide) (cat_r (cat_r cat_e)) (Nat.le_of_ble_eq_true rfl) (fun k hl hg hin hQ hC => ?_)
  subst hl hg
  show GW k 2 M 0 [some (va_rf (some a0)), some (va_rf p1)] []
  refine G_aload_n (pc := 0) (i := 0) hC dX11_isLike_0 rfl rfl ?_
  obtain ⟨hb, hw⟩ := hw
  refine G_callV (pc := 1) (n := 0) (C := "MergeWorkbench$Part") (b := a0) (As := []) (rest := []) hC (m_X11_length hJ hw) (lw_V q2815 q2816 q2817 q139 q2818) hd_X11_length (by decide) (rcv (C := RX11) (T := TX11) (N := 3) hC hb rfl) rfl rfl (st_c cat_e (Nat.le_of_ble_eq_true rfl)) dX11_isLike_1 (kI fun x2 M1 hw => ?_)
  refine G_aload_n (pc := 4) (i := 1) hC dX11_isLike_4 rfl rfl ?_
  obtain ⟨b4, rfl, hb, hw⟩ := gThis_e hw
  refine G_callV (pc := 5) (n := 0) (C := "MergeWorkbench$Part") (b := b4) (As := []) (rest := [.int x2]) hC (m_X11_length hJ hw) (lw_V q2815 q2816 q2817 q139 q2818) hd_X11_length (by decide) (rcv (C := RX11) (T := TX11) (N := 3) hC hb rfl) rfl rfl (st_c (cat_i cat_e) (Nat.le_of_ble_eq_true rfl)) dX11_isLike_5 (kI fun x5 M3 hw => ?_)
  refine G_icmp_ne (pc := 8) (tgt := 27) hC dX11_isLike_8 (by decide) (fun hc => ?_) (fun hc => ?_)
  · replace hw := hw.1 hc
    exact g_X11_isLike_27 hJ hC hQ hin   M3 hw
  · replace hw := hw.2 hc
    refine G_aload_n (pc := 11) (i := 0) hC dX11_isLike_11 rfl rfl ?_
    refine G_aload_n (pc := 12) (i := 1) hC dX11_isLike_12 rfl rfl ?_
    obtain ⟨hb, hw⟩ := hw
    refine G_callV (pc := 13) (n := 1) (C := "MergeWorkbench$Part") (b := a0) (As := [va_rf (some b4)]) (rest := []) hC (m_X11_commonBeginning hJ hw) (lw_V q2819 q2820 q2821 q139 q2822) hd_X11_commonBeginning (by decide) (rcv (C := RX11) (T := TX11) (N := 3) hC hb rfl) rfl rfl (st_c cat_e (Nat.le_of_ble_eq_true rfl)) dX11_isLike_13 (kI fun x7 M6 hw => ?_)
    refine G_aload_n (pc := 16) (i := 0) hC dX11_isLike_16 rfl rfl ?_
    obtain ⟨hb, hw⟩ := hw
    refine G_callV (pc := 17) (n := 0) (C := "MergeWorkbench$Part") (b := a0) (As := []) (rest := [.int x7]) hC (m_X11_length hJ hw) (lw_V q2815 q2816 q2817 q139 q2818) hd_X11_length (by decide) (rcv (C := RX11) (T := TX11) (N := 3) hC hb rfl) rfl rfl (st_c (cat_i cat_e) (Nat.le_of_ble_eq_true rfl)) dX11_isLike_17 (kI fun x9 M8 hw => ?_)
    refine G_icmp_ne (pc := 20) (tgt := 27) hC dX11_isLike_20 (by decide) (fun hc => ?_) (fun hc => ?_)
    · replace hw := hw.1 hc
      exact g_X11_isLike_27 hJ hC hQ hin   M8 hw
    · replace hw := hw.2 hc
      refine G_iconst (pc := 23) (v := 1) hC dX11_isLike_23 (by decide) ?_
      refine G_goto (pc := 24) (tgt := 28) hC dX11_isLike_24 (by decide) ?_
      exact g_X11_isLike_28 hJ hC hQ hin  (1 : Int32) M8 hw
theorem hd_X11_init : yX11_init.cls = "MergeWorkbench$Part" ∧ yX11_init.cls ≠ "java/lang/invoke/MethodHandle" ∧ yX11_init.cls ≠ "java/lang/invoke/VarHandle" ∧ (parseMethodDescriptor yX11_init.desc).map (fun d => d.parameters.length) = some 3 := by decide +kernel
def w_X11_without (g : gT) (F : Nat) (a0 : Nat) (p1 : Int32) (p2 : Int32) (M : hM) (Q : Option Nat → hM → Prop) : Prop :=
  nW M 10 fsX11 fun q1 M2 => gF M2 (some a0) 10 0 fun x3 => gI M2 (some a0) 10 1 fun x4 => gI M2 (some a0) 10 2 fun x5 => (isC M2 q1 10 ∧ w_X11_init g F q1 x3 (x4 + p1) (x5 - p2) M2 (fun M6 => Q (some q1) M6))
theorem m_X11_without {l : Launch} {g : gT} {F : Nat} {a0 : Nat} {p1 : Int32} {p2 : Int32} {M : hM} {Q : Option Nat → hM → Prop} (hJ : JOK l g) (hw : w_X11_without g F a0 p1 p2 M Q) : MG l g yX11_without (ws_ yX11_without cX11_without 3 (some (.object "MergeWorkbench$Part"))) 2 43 [va_rf (some a0), .int p1, .int p2] M (PR Q) := by
  refine MG_of hJ.2.1 (by decide) (cat_r (cat_i (cat_i cat_e))) (Nat.le_of_ble_eq_true rfl) (fun k hl hg hin hQ hC => ?_)
  subst hl hg
  show GW k 3 M 0 [some (va_rf (some a0)), some (.int p1), some (.int p2)] []
  refine G_new (pc := 0) (ci := 10) (C := RX11) (T := TX11) (N := 3) (fs := fsX11) tyX11 hC rfl in_X11 tyX11_ok q2942 q2368 q139 dfX11 rfl dX11_without_0 hw (fun q1 M2 hw => ?_)
  refine G_dup (pc := 3) hC dX11_without_3 (rf_cat _) ?_
  refine G_aload_n (pc := 4) (i := 0) hC dX11_without_4 rfl rfl ?_
  refine G_getF (pc := 5) (ci := 10) (C := RX11) (T := TX11) (N := 3) (f := 0) hC rfl in_X11 (Nat.le_of_ble_eq_true rfl) q2373 (fun _ h => h) dX11_without_5 hw (fun x3 hw => ?_)
  refine G_aload_n (pc := 8) (i := 0) hC dX11_without_8 rfl rfl ?_
  refine G_getI (pc := 9) (ci := 10) (C := RX11) (T := TX11) (N := 3) (f := 1) hC rfl in_X11 (Nat.le_of_ble_eq_true rfl) q2374 (fun _ h => h) dX11_without_9 hw (fun x4 hw => ?_)
  refine G_iload_n (pc := 12) (i := 1) hC dX11_without_12 rfl rfl ?_
  refine G_iadd (pc := 13) hC dX11_without_13 ?_
  refine G_aload_n (pc := 14) (i := 0) hC dX11_without_14 rfl rfl ?_
  refine G_getI (pc := 15) (ci := 10) (C := RX11) (T := TX11) (N := 3) (f := 2) hC rfl in_X11 (Nat.le_of_ble_eq_true rfl) q2382 (fun _ h => h) dX11_without_15 hw (fun x5 hw => ?_)
  refine G_iload_n (pc := 18) (i := 2) hC dX11_without_18 rfl rfl ?_
  refine G_isub (pc := 19) hC dX11_without_19 ?_
  obtain ⟨hb, hw⟩ := hw
  refine G_callI (pc := 20) (n := 3) (b := q1) (As := [va_rf x3, .int (x4 + p1), .int (x5 - p2)]) (rest := [va_rf (some q1)]) hC (m_X11_init hJ hw) (lw_meth q2371) q139 q2943 q2370 rfl hd_X11_init.2 (by decide) rfl rfl (st_c (cat_r cat_e) (Nat.le_of_ble_eq_true rfl)) dX11_without_20 (kU fun M6 hw => ?_)
  exact G_aret (pc := 23) hC (Or.inl ⟨_, rfl⟩) hQ dX11_without_23 hw
def w_X11_commonEnd_54 (g : gT) (F : Nat) (a0 : Nat) (p1 : Option Nat) (Q : Int32 → hM → Prop) (v2 : Int32) (M : hM) : Prop :=
  Q v2 M
def w_X11_commonEnd_2 (g : gT) (F : Nat) (a0 : Nat) (p1 : Option Nat) (Q : Int32 → hM → Prop) : Nat → Int32 → hM → Prop
  | 0, _, _ => False
  | n + 1, v2, M => (isC M a0 10 ∧ w_X11_length g F a0  M (fun x2 M1 => ((x2 ≤ v2 → w_X11_commonEnd_54 g F a0 p1 Q v2 M1) ∧ (¬ (x2 ≤ v2) → gThis M1 p1 10 fun b4 => w_X11_length g F b4  M1 (fun x5 M3 => ((x5 ≤ v2 → w_X11_commonEnd_54 g F a0 p1 Q v2 M3) ∧ (¬ (x5 ≤ v2) → (isC M3 a0 10 ∧ w_X11_length g F a0  M3 (fun x7 M6 => (isC M6 a0 10 ∧ w_X11_at g F a0 ((x7 - (1 : Int32)) - v2) M6 (fun x9 M8 => (isC M8 b4 10 ∧ w_X11_length g F b4  M8 (fun x11 M10 => (isC M10 b4 10 ∧ w_X11_at g F b4 ((x11 - (1 : Int32)) - v2) M10 (fun x13 M12 => gBx g M12 x9 fun b15 => B_eq g b15 x13 M12 (fun x16 M14 => ((x16 = 0 → w_X11_commonEnd_54 g F a0 p1 Q v2 M14) ∧ (¬ (x16 = 0) → w_X11_commonEnd_2 g F a0 p1 Q n (v2 + (1 : Int32)) M14))))))))))))))))))
def w_X11_commonEnd (g : gT) (F : Nat) (a0 : Nat) (p1 : Option Nat) (M : hM) (Q : Int32 → hM → Prop) : Prop :=
  w_X11_commonEnd_2 g F a0 p1 Q F (0 : Int32) M
theorem g_X11_commonEnd_54 {k : kT} {F : Nat} {a0 : Nat} {p1 : Option Nat} {Q : Int32 → hM → Prop} (hJ : JOK (kl k) (kg k)) (hC : CX k 3 cX11_commonEnd RX11 (some .int) 42 2042) (hQ : isQ k (PI Q)) (hin : (kt k).name = "commonEnd") : ∀ (v2 : Int32) (M : hM), w_X11_commonEnd_54 (kg k) F a0 p1 Q v2 M → GW k 3 M 54 [some (va_rf (some a0)), some (va_rf p1), some (.int v2)] [] := by
  intro v2 M hw
  refine G_iload_n (pc := 54) (i := 2) hC dX11_commonEnd_54 rfl rfl ?_
  exact G_iret (pc := 55) hC rfl hQ dX11_commonEnd_55 hw
theorem g_X11_commonEnd_2 {k : kT} {F : Nat} {a0 : Nat} {p1 : Option Nat} {Q : Int32 → hM → Prop} (hJ : JOK (kl k) (kg k)) (hC : CX k 3 cX11_commonEnd RX11 (some .int) 42 2042) (hQ : isQ k (PI Q)) (hin : (kt k).name = "commonEnd") : ∀ (n : Nat) (v2 : Int32) (M : hM), w_X11_commonEnd_2 (kg k) F a0 p1 Q n v2 M → GW k 3 M 2 [some (va_rf (some a0)), some (va_rf p1), some (.int v2)] [] := by
  intro n
  induction n with
  | zero =>
    intro v2 M hw
    exact hw.elim
  | succ n ih =>
    intro v2 M hw
    refine G_iload_n (pc := 2) (i := 2) hC dX11_commonEnd_2 rfl rfl ?_
    refine G_aload_n (pc := 3) (i := 0) hC dX11_commonEnd_3 rfl rfl ?_
    obtain ⟨hb, hw⟩ := hw
    refine G_callV (pc := 4) (n := 0) (C := "MergeWorkbench$Part") (b := a0) (As := []) (rest := [.int v2]) hC (m_X11_length hJ hw) (lw_V q2815 q2816 q2817 q139 q2818) hd_X11_length (by decide) (rcv (C := RX11) (T := TX11) (N := 3) hC hb rfl) rfl rfl (st_c (cat_i cat_e) (Nat.le_of_ble_eq_true rfl)) dX11_commonEnd_4 (kI fun x2 M1 hw => ?_)
    refine G_icmp_ge (pc := 7) (tgt := 54) hC dX11_commonEnd_7 (by decide) (fun hc => ?_) (fun hc => ?_)
    · replace hw := hw.1 hc
      exact g_X11_commonEnd_54 hJ hC hQ hin  v2 M1 hw
    · replace hw := hw.2 hc
      refine G_iload_n (pc := 10) (i := 2) hC dX11_commonEnd_10 rfl rfl ?_
      refine G_aload_n (pc := 11) (i := 1) hC dX11_commonEnd_11 rfl rfl ?_
      obtain ⟨b4, rfl, hb, hw⟩ := gThis_e hw
      refine G_callV (pc := 12) (n := 0) (C := "MergeWorkbench$Part") (b := b4) (As := []) (rest := [.int v2]) hC (m_X11_length hJ hw) (lw_V q2815 q2816 q2817 q139 q2818) hd_X11_length (by decide) (rcv (C := RX11) (T := TX11) (N := 3) hC hb rfl) rfl rfl (st_c (cat_i cat_e) (Nat.le_of_ble_eq_true rfl)) dX11_commonEnd_12 (kI fun x5 M3 hw => ?_)
      refine G_icmp_ge (pc := 15) (tgt := 54) hC dX11_commonEnd_15 (by decide) (fun hc => ?_) (fun hc => ?_)
      · replace hw := hw.1 hc
        exact g_X11_commonEnd_54 hJ hC hQ hin  v2 M3 hw
      · replace hw := hw.2 hc
        refine G_aload_n (pc := 18) (i := 0) hC dX11_commonEnd_18 rfl rfl ?_
        refine G_aload_n (pc := 19) (i := 0) hC dX11_commonEnd_19 rfl rfl ?_
        obtain ⟨hb, hw⟩ := hw
        refine G_callV (pc := 20) (n := 0) (C := "MergeWorkbench$Part") (b := a0) (As := []) (rest := [va_rf (some a0)]) hC (m_X11_length hJ hw) (lw_V q2815 q2816 q2817 q139 q2818) hd_X11_length (by decide) (rcv (C := RX11) (T := TX11) (N := 3) hC hb rfl) rfl rfl (st_c (cat_r cat_e) (Nat.le_of_ble_eq_true rfl)) dX11_commonEnd_20 (kI fun x7 M6 hw => ?_)
        refine G_iconst (pc := 23) (v := 1) hC dX11_commonEnd_23 (by decide) ?_
        refine G_isub (pc := 24) hC dX11_commonEnd_24 ?_
        refine G_iload_n (pc := 25) (i := 2) hC dX11_commonEnd_25 rfl rfl ?_
        refine G_isub (pc := 26) hC dX11_commonEnd_26 ?_
        obtain ⟨hb, hw⟩ := hw
        refine G_callV (pc := 27) (n := 1) (C := "MergeWorkbench$Part") (b := a0) (As := [.int ((x7 - (1 : Int32)) - v2)]) (rest := []) hC (m_X11_at hJ hw) (lw_V q2823 q2824 q2825 q139 q2826) hd_X11_at (by decide) (rcv (C := RX11) (T := TX11) (N := 3) hC hb rfl) rfl rfl (st_c cat_e (Nat.le_of_ble_eq_true rfl)) dX11_commonEnd_27 (kRf fun x9 M8 hw => ?_)
        refine G_aload_n (pc := 30) (i := 1) hC dX11_commonEnd_30 rfl rfl ?_
        refine G_aload_n (pc := 31) (i := 1) hC dX11_commonEnd_31 rfl rfl ?_
        obtain ⟨hb, hw⟩ := hw
        refine G_callV (pc := 32) (n := 0) (C := "MergeWorkbench$Part") (b := b4) (As := []) (rest := [va_rf (some b4), va_rf x9]) hC (m_X11_length hJ hw) (lw_V q2815 q2816 q2817 q139 q2818) hd_X11_length (by decide) (rcv (C := RX11) (T := TX11) (N := 3) hC hb rfl) rfl rfl (st_c (cat_r (cat_r cat_e)) (Nat.le_of_ble_eq_true rfl)) dX11_commonEnd_32 (kI fun x11 M10 hw => ?_)
        refine G_iconst (pc := 35) (v := 1) hC dX11_commonEnd_35 (by decide) ?_
        refine G_isub (pc := 36) hC dX11_commonEnd_36 ?_
        refine G_iload_n (pc := 37) (i := 2) hC dX11_commonEnd_37 rfl rfl ?_
        refine G_isub (pc := 38) hC dX11_commonEnd_38 ?_
        obtain ⟨hb, hw⟩ := hw
        refine G_callV (pc := 39) (n := 1) (C := "MergeWorkbench$Part") (b := b4) (As := [.int ((x11 - (1 : Int32)) - v2)]) (rest := [va_rf x9]) hC (m_X11_at hJ hw) (lw_V q2823 q2824 q2825 q139 q2826) hd_X11_at (by decide) (rcv (C := RX11) (T := TX11) (N := 3) hC hb rfl) rfl rfl (st_c (cat_r cat_e) (Nat.le_of_ble_eq_true rfl)) dX11_commonEnd_39 (kRf fun x13 M12 hw => ?_)
        obtain ⟨b15, rfl, hb, hw⟩ := gBx_e hw
        refine G_callO (pc := 42) (n := 1) (x := ⟨"java/lang/Object", "equals", "(Ljava/lang/Object;)Z"⟩) (owner := "java/lang/Object") (C := "java/lang/Integer") (b := b15) (As := [va_rf x13]) (rest := []) hC (J_B_eq hJ hw) (lw_O q2829 q1460 q1459 q1487 q1488 q106 q1489) q1502 (rcvB hJ.1 hC hb) (by decide +kernel) (by decide) rfl rfl (st_c cat_e (Nat.le_of_ble_eq_true rfl)) dX11_commonEnd_42 (kI fun x16 M14 hw => ?_)
        refine G_if_eq (pc := 45) (tgt := 54) hC dX11_commonEnd_45 (by decide) (fun hc => ?_) (fun hc => ?_)
        · replace hw := hw.1 hc
          exact g_X11_commonEnd_54 hJ hC hQ hin  v2 M14 hw
        · replace hw := hw.2 hc
          refine G_iinc (pc := 48) (i := 2) (v := (v2 + (1 : Int32))) (lw := [some (va_rf (some a0)), some (va_rf (some b4)), some (.int (v2 + (1 : Int32)))]) hC dX11_commonEnd_48 rfl (Nat.le_of_ble_eq_true rfl) rfl rfl ?_
          refine G_goto (pc := 51) (tgt := 2) hC dX11_commonEnd_51 (by decide) ?_
          exact ih (v2 + (1 : Int32)) M14 hw
theorem m_X11_commonEnd {l : Launch} {g : gT} {F : Nat} {a0 : Nat} {p1 : Option Nat} {M : hM} {Q : Int32 → hM → Prop} (hJ : JOK l g) (hw : w_X11_commonEnd g F a0 p1 M Q) : MG l g yX11_commonEnd (ws_ yX11_commonEnd cX11_commonEnd 3 (some .int)) 42 2042 [va_rf (some a0), va_rf p1] M (PI Q) := by
  refine MG_of hJ.2.1 (by decide) (cat_r (cat_r cat_e)) (Nat.le_of_ble_eq_true rfl) (fun k hl hg hin hQ hC => ?_)
  subst hl hg
  show GW k 3 M 0 [some (va_rf (some a0)), some (va_rf p1), none] []
  refine G_iconst (pc := 0) (v := 0) hC dX11_commonEnd_0 (by decide) ?_
  refine G_istore_n (pc := 1) (i := 2) (lw := [some (va_rf (some a0)), some (va_rf p1), some (.int (0 : Int32))]) hC dX11_commonEnd_1 rfl (Nat.le_of_ble_eq_true rfl) rfl ?_
  exact g_X11_commonEnd_2 hJ hC hQ hin _ (0 : Int32) M hw
def w_X11_first (g : gT) (F : Nat) (a0 : Nat) (p1 : Int32) (M : hM) (Q : Option Nat → hM → Prop) : Prop :=
  nW M 10 fsX11 fun q1 M2 => gF M2 (some a0) 10 0 fun x3 => gI M2 (some a0) 10 1 fun x4 => gI M2 (some a0) 10 1 fun x5 => (isC M2 q1 10 ∧ w_X11_init g F q1 x3 x4 (x5 + p1) M2 (fun M6 => Q (some q1) M6))
theorem m_X11_first {l : Launch} {g : gT} {F : Nat} {a0 : Nat} {p1 : Int32} {M : hM} {Q : Option Nat → hM → Prop} (hJ : JOK l g) (hw : w_X11_first g F a0 p1 M Q) : MG l g yX11_first (ws_ yX11_first cX11_first 2 (some (.object "MergeWorkbench$Part"))) 2 43 [va_rf (some a0), .int p1] M (PR Q) := by
  refine MG_of hJ.2.1 (by decide) (cat_r (cat_i cat_e)) (Nat.le_of_ble_eq_true rfl) (fun k hl hg hin hQ hC => ?_)
  subst hl hg
  show GW k 2 M 0 [some (va_rf (some a0)), some (.int p1)] []
  refine G_new (pc := 0) (ci := 10) (C := RX11) (T := TX11) (N := 3) (fs := fsX11) tyX11 hC rfl in_X11 tyX11_ok q2942 q2368 q139 dfX11 rfl dX11_first_0 hw (fun q1 M2 hw => ?_)
  refine G_dup (pc := 3) hC dX11_first_3 (rf_cat _) ?_
  refine G_aload_n (pc := 4) (i := 0) hC dX11_first_4 rfl rfl ?_
  refine G_getF (pc := 5) (ci := 10) (C := RX11) (T := TX11) (N := 3) (f := 0) hC rfl in_X11 (Nat.le_of_ble_eq_true rfl) q2373 (fun _ h => h) dX11_first_5 hw (fun x3 hw => ?_)
  refine G_aload_n (pc := 8) (i := 0) hC dX11_first_8 rfl rfl ?_
  refine G_getI (pc := 9) (ci := 10) (C := RX11) (T := TX11) (N := 3) (f := 1) hC rfl in_X11 (Nat.le_of_ble_eq_true rfl) q2374 (fun _ h => h) dX11_first_9 hw (fun x4 hw => ?_)
  refine G_aload_n (pc := 12) (i := 0) hC dX11_first_12 rfl rfl ?_
  refine G_getI (pc := 13) (ci := 10) (C := RX11) (T := TX11) (N := 3) (f := 1) hC rfl in_X11 (Nat.le_of_ble_eq_true rfl) q2374 (fun _ h => h) dX11_first_13 hw (fun x5 hw => ?_)
  refine G_iload_n (pc := 16) (i := 1) hC dX11_first_16 rfl rfl ?_
  refine G_iadd (pc := 17) hC dX11_first_17 ?_
  obtain ⟨hb, hw⟩ := hw
  refine G_callI (pc := 18) (n := 3) (b := q1) (As := [va_rf x3, .int x4, .int (x5 + p1)]) (rest := [va_rf (some q1)]) hC (m_X11_init hJ hw) (lw_meth q2371) q139 q2943 q2370 rfl hd_X11_init.2 (by decide) rfl rfl (st_c (cat_r cat_e) (Nat.le_of_ble_eq_true rfl)) dX11_first_18 (kU fun M6 hw => ?_)
  exact G_aret (pc := 21) hC (Or.inl ⟨_, rfl⟩) hQ dX11_first_21 hw
def w_X11_last (g : gT) (F : Nat) (a0 : Nat) (p1 : Int32) (M : hM) (Q : Option Nat → hM → Prop) : Prop :=
  nW M 10 fsX11 fun q1 M2 => gF M2 (some a0) 10 0 fun x3 => gI M2 (some a0) 10 2 fun x4 => gI M2 (some a0) 10 2 fun x5 => (isC M2 q1 10 ∧ w_X11_init g F q1 x3 (x4 - p1) x5 M2 (fun M6 => Q (some q1) M6))
theorem m_X11_last {l : Launch} {g : gT} {F : Nat} {a0 : Nat} {p1 : Int32} {M : hM} {Q : Option Nat → hM → Prop} (hJ : JOK l g) (hw : w_X11_last g F a0 p1 M Q) : MG l g yX11_last (ws_ yX11_last cX11_last 2 (some (.object "MergeWorkbench$Part"))) 2 43 [va_rf (some a0), .int p1] M (PR Q) := by
  refine MG_of hJ.2.1 (by decide) (cat_r (cat_i cat_e)) (Nat.le_of_ble_eq_true rfl) (fun k hl hg hin hQ hC => ?_)
  subst hl hg
  show GW k 2 M 0 [some (va_rf (some a0)), some (.int p1)] []
  refine G_new (pc := 0) (ci := 10) (C := RX11) (T := TX11) (N := 3) (fs := fsX11) tyX11 hC rfl in_X11 tyX11_ok q2942 q2368 q139 dfX11 rfl dX11_last_0 hw (fun q1 M2 hw => ?_)
  refine G_dup (pc := 3) hC dX11_last_3 (rf_cat _) ?_
  refine G_aload_n (pc := 4) (i := 0) hC dX11_last_4 rfl rfl ?_
  refine G_getF (pc := 5) (ci := 10) (C := RX11) (T := TX11) (N := 3) (f := 0) hC rfl in_X11 (Nat.le_of_ble_eq_true rfl) q2373 (fun _ h => h) dX11_last_5 hw (fun x3 hw => ?_)
  refine G_aload_n (pc := 8) (i := 0) hC dX11_last_8 rfl rfl ?_
  refine G_getI (pc := 9) (ci := 10) (C := RX11) (T := TX11) (N := 3) (f := 2) hC rfl in_X11 (Nat.le_of_ble_eq_true rfl) q2382 (fun _ h => h) dX11_last_9 hw (fun x4 hw => ?_)
  refine G_iload_n (pc := 12) (i := 1) hC dX11_last_12 rfl rfl ?_
  refine G_isub (pc := 13) hC dX11_last_13 ?_
  refine G_aload_n (pc := 14) (i := 0) hC dX11_last_14 rfl rfl ?_
  refine G_getI (pc := 15) (ci := 10) (C := RX11) (T := TX11) (N := 3) (f := 2) hC rfl in_X11 (Nat.le_of_ble_eq_true rfl) q2382 (fun _ h => h) dX11_last_15 hw (fun x5 hw => ?_)
  obtain ⟨hb, hw⟩ := hw
  refine G_callI (pc := 18) (n := 3) (b := q1) (As := [va_rf x3, .int (x4 - p1), .int x5]) (rest := [va_rf (some q1)]) hC (m_X11_init hJ hw) (lw_meth q2371) q139 q2943 q2370 rfl hd_X11_init.2 (by decide) rfl rfl (st_c (cat_r cat_e) (Nat.le_of_ble_eq_true rfl)) dX11_last_18 (kU fun M6 hw => ?_)
  exact G_aret (pc := 21) hC (Or.inl ⟨_, rfl⟩) hQ dX11_last_21 hw
def w_X11_addTo_5 (g : gT) (F : Nat) (a0 : Nat) (p1 : Option Nat) (Q : hM → Prop) : Nat → Int32 → hM → Prop
  | 0, _, _ => False
  | n + 1, v2, M => gI M (some a0) 10 2 fun x1 => ((x1 ≤ v2 → Q M) ∧ (¬ (x1 ≤ v2) → gF M (some a0) 10 0 fun x2 => gThis M x2 21 fun b4 => L_get g b4 v2 M (fun x5 M3 => gThis M3 p1 21 fun b7 => L_add g b7 x5 M3 (fun x8 M6 => w_X11_addTo_5 g F a0 p1 Q n (v2 + (1 : Int32)) M6))))
def w_X11_addTo (g : gT) (F : Nat) (a0 : Nat) (p1 : Option Nat) (M : hM) (Q : hM → Prop) : Prop :=
  gI M (some a0) 10 1 fun x1 => w_X11_addTo_5 g F a0 p1 Q F x1 M
theorem g_X11_addTo_5 {k : kT} {F : Nat} {a0 : Nat} {p1 : Option Nat} {Q : hM → Prop} (hJ : JOK (kl k) (kg k)) (hC : CX k 3 cX11_addTo RX11 none 41 2021) (hQ : isQ k (PU Q)) (hin : (kt k).name = "addTo") : ∀ (n : Nat) (v2 : Int32) (M : hM), w_X11_addTo_5 (kg k) F a0 p1 Q n v2 M → GW k 3 M 5 [some (va_rf (some a0)), some (va_rf p1), some (.int v2)] [] := by
  intro n
  induction n with
  | zero =>
    intro v2 M hw
    exact hw.elim
  | succ n ih =>
    intro v2 M hw
    refine G_iload_n (pc := 5) (i := 2) hC dX11_addTo_5 rfl rfl ?_
    refine G_aload_n (pc := 6) (i := 0) hC dX11_addTo_6 rfl rfl ?_
    refine G_getI (pc := 7) (ci := 10) (C := RX11) (T := TX11) (N := 3) (f := 2) hC rfl in_X11 (Nat.le_of_ble_eq_true rfl) q2382 (fun _ h => h) dX11_addTo_7 hw (fun x1 hw => ?_)
    refine G_icmp_ge (pc := 10) (tgt := 36) hC dX11_addTo_10 (by decide) (fun hc => ?_) (fun hc => ?_)
    · replace hw := hw.1 hc
      exact G_ret (pc := 36) hC hQ dX11_addTo_36 hw
    · replace hw := hw.2 hc
      refine G_aload_n (pc := 13) (i := 1) hC dX11_addTo_13 rfl rfl ?_
      refine G_aload_n (pc := 14) (i := 0) hC dX11_addTo_14 rfl rfl ?_
      refine G_getF (pc := 15) (ci := 10) (C := RX11) (T := TX11) (N := 3) (f := 0) hC rfl in_X11 (Nat.le_of_ble_eq_true rfl) q2373 (fun _ h => h) dX11_addTo_15 hw (fun x2 hw => ?_)
      refine G_iload_n (pc := 18) (i := 2) hC dX11_addTo_18 rfl rfl ?_
      obtain ⟨b4, rfl, hb, hw⟩ := gThis_e hw
      refine G_callF (pc := 19) (n := 1) (x := ⟨"java/util/List", "get", "(I)Ljava/lang/Object;"⟩) (C := "java/util/ArrayList") (ci := 21) (T := TJ2) (N := 3) (b := b4) (As := [.int v2]) (rest := [va_rf p1]) hC (J_L_get hJ hw) (lw_F q2828 q956 q958 q87 q960) (nw_in q955 rfl) (nw_in q954 rfl) (nw_in q959 rfl) (nw_in q957 rfl) (nw_in q259 rfl) rfl (rcv (C := RJ2) (T := TJ2) (N := 3) hC hb rfl) (by decide +kernel) (by decide) rfl rfl (st_c (cat_r cat_e) (Nat.le_of_ble_eq_true rfl)) dX11_addTo_19 (kRf fun x5 M3 hw => ?_)
      obtain ⟨b7, rfl, hb, hw⟩ := gThis_e hw
      refine G_callF (pc := 24) (n := 1) (x := ⟨"java/util/List", "add", "(Ljava/lang/Object;)Z"⟩) (C := "java/util/ArrayList") (ci := 21) (T := TJ2) (N := 3) (b := b7) (As := [va_rf x5]) (rest := []) hC (J_L_add hJ hw) (lw_F q3033 q260 q262 q87 q264) (nw_in q258 rfl) (nw_in q257 rfl) (nw_in q263 rfl) (nw_in q261 rfl) (nw_in q259 rfl) rfl (rcv (C := RJ2) (T := TJ2) (N := 3) hC hb rfl) (by decide +kernel) (by decide) rfl rfl (st_c cat_e (Nat.le_of_ble_eq_true rfl)) dX11_addTo_24 (kI fun x8 M6 hw => ?_)
      refine G_pop (pc := 29) hC dX11_addTo_29 rfl ?_
      refine G_iinc (pc := 30) (i := 2) (v := (v2 + (1 : Int32))) (lw := [some (va_rf (some a0)), some (va_rf (some b7)), some (.int (v2 + (1 : Int32)))]) hC dX11_addTo_30 rfl (Nat.le_of_ble_eq_true rfl) rfl rfl ?_
      refine G_goto (pc := 33) (tgt := 5) hC dX11_addTo_33 (by decide) ?_
      exact ih (v2 + (1 : Int32)) M6 hw
theorem m_X11_addTo {l : Launch} {g : gT} {F : Nat} {a0 : Nat} {p1 : Option Nat} {M : hM} {Q : hM → Prop} (hJ : JOK l g) (hw : w_X11_addTo g F a0 p1 M Q) : MG l g yX11_addTo (ws_ yX11_addTo cX11_addTo 3 none) 41 2021 [va_rf (some a0), va_rf p1] M (PU Q) := by
  refine MG_of hJ.2.1 (by decide) (cat_r (cat_r cat_e)) (Nat.le_of_ble_eq_true rfl) (fun k hl hg hin hQ hC => ?_)
  subst hl hg
  show GW k 3 M 0 [some (va_rf (some a0)), some (va_rf p1), none] []
  refine G_aload_n (pc := 0) (i := 0) hC dX11_addTo_0 rfl rfl ?_
  refine G_getI (pc := 1) (ci := 10) (C := RX11) (T := TX11) (N := 3) (f := 1) hC rfl in_X11 (Nat.le_of_ble_eq_true rfl) q2374 (fun _ h => h) dX11_addTo_1 hw (fun x1 hw => ?_)
  refine G_istore_n (pc := 4) (i := 2) (lw := [some (va_rf (some a0)), some (va_rf p1), some (.int x1)]) hC dX11_addTo_4 rfl (Nat.le_of_ble_eq_true rfl) rfl ?_
  exact g_X11_addTo_5 hJ hC hQ hin _ x1 M hw
def w_X12_hasNext_43 (g : gT) (F : Nat) (a0 : Nat) (Q : Int32 → hM → Prop) (s0 : Int32) (M : hM) : Prop :=
  ((s0 = 0 ∨ s0 = 1) ∧ Q s0 M)
def w_X12_hasNext_38 (g : gT) (F : Nat) (a0 : Nat) (Q : Int32 → hM → Prop) (M : hM) : Prop :=
  w_X12_hasNext_43 g F a0 Q (1 : Int32) M
def w_X12_hasNext (g : gT) (F : Nat) (a0 : Nat) (M : hM) (Q : Int32 → hM → Prop) : Prop :=
  gI M (some a0) 11 0 fun x1 => gF M (some a0) 11 3 fun x2 => gF M x2 8 0 fun x3 => gThis M x3 21 fun b5 => L_size g b5  M (fun x6 M4 => ((x1 < x6 → w_X12_hasNext_38 g F a0 Q M4) ∧ (¬ (x1 < x6) → gI M4 (some a0) 11 1 fun x7 => gF M4 (some a0) 11 3 fun x8 => gF M4 x8 8 1 fun x9 => gThis M4 x9 21 fun b11 => L_size g b11  M4 (fun x12 M10 => ((x12 ≤ x7 → w_X12_hasNext_43 g F a0 Q (0 : Int32) M10) ∧ (¬ (x12 ≤ x7) → w_X12_hasNext_38 g F a0 Q M10))))))
theorem g_X12_hasNext_43 {k : kT} {F : Nat} {a0 : Nat} {Q : Int32 → hM → Prop} (hJ : JOK (kl k) (kg k)) (hC : CX k 1 cX12_hasNext RX12 (some .boolean) 41 2020) (hQ : isQ k (PI Q)) (hin : (kt k).name = "hasNext") : ∀ (s0 : Int32) (M : hM), w_X12_hasNext_43 (kg k) F a0 Q s0 M → GW k 1 M 43 [some (va_rf (some a0))] [.int s0] := by
  intro s0 M hw
  obtain ⟨hz, hw⟩ := hw
  exact G_iret (pc := 43) hC (nz_n hz) hQ dX12_hasNext_43 hw
theorem g_X12_hasNext_38 {k : kT} {F : Nat} {a0 : Nat} {Q : Int32 → hM → Prop} (hJ : JOK (kl k) (kg k)) (hC : CX k 1 cX12_hasNext RX12 (some .boolean) 41 2020) (hQ : isQ k (PI Q)) (hin : (kt k).name = "hasNext") : ∀  (M : hM), w_X12_hasNext_38 (kg k) F a0 Q  M → GW k 1 M 38 [some (va_rf (some a0))] [] := by
  intro  M hw
  refine G_iconst (pc := 38) (v := 1) hC dX12_hasNext_38 (by decide) ?_
  refine G_goto (pc := 39) (tgt := 43) hC dX12_hasNext_39 (by decide) ?_
  exact g_X12_hasNext_43 hJ hC hQ hin  (1 : Int32) M hw
theorem m_X12_hasNext {l : Launch} {g : gT} {F : Nat} {a0 : Nat} {M : hM} {Q : Int32 → hM → Prop} (hJ : JOK l g) (hw : w_X12_hasNext g F a0 M Q) : MG l g yX12_hasNext (ws_ yX12_hasNext cX12_hasNext 1 (some .boolean)) 41 2020 [va_rf (some a0)] M (PI Q) := by
  refine MG_of hJ.2.1 (by decide) (cat_r cat_e) (Nat.le_of_ble_eq_true rfl) (fun k hl hg hin hQ hC => ?_)
  subst hl hg
  show GW k 1 M 0 [some (va_rf (some a0))] []
  refine G_aload_n (pc := 0) (i := 0) hC dX12_hasNext_0 rfl rfl ?_
  refine G_getI (pc := 1) (ci := 11) (C := RX12) (T := TX12) (N := 4) (f := 0) hC rfl in_X12 (Nat.le_of_ble_eq_true rfl) q2510 (fun _ h => h) dX12_hasNext_1 hw (fun x1 hw => ?_)
  refine G_aload_n (pc := 4) (i := 0) hC dX12_hasNext_4 rfl rfl ?_
  refine G_getF (pc := 5) (ci := 11) (C := RX12) (T := TX12) (N := 4) (f := 3) hC rfl in_X12 (Nat.le_of_ble_eq_true rfl) q2513 (fun _ h => h) dX12_hasNext_5 hw (fun x2 hw => ?_)
  refine G_getFN (pc := 8) (ci := 8) (C := RX9) (T := TX9) (N := 6) (f := 0) hC rfl in_X9 (Nat.le_of_ble_eq_true rfl) (nw_in q2417 rfl) (fun _ h => h) dX12_hasNext_8 hw (fun x3 hw => ?_)
  obtain ⟨b5, rfl, hb, hw⟩ := gThis_e hw
  refine G_callF (pc := 11) (n := 0) (x := ⟨"java/util/List", "size", "()I"⟩) (C := "java/util/ArrayList") (ci := 21) (T := TJ2) (N := 3) (b := b5) (As := []) (rest := [.int x1]) hC (J_L_size hJ hw) (lw_F q886 q889 q363 q87 q364) (nw_in q888 rfl) (nw_in q887 rfl) (nw_in q891 rfl) (nw_in q890 rfl) (nw_in q259 rfl) rfl (rcv (C := RJ2) (T := TJ2) (N := 3) hC hb rfl) (by decide +kernel) (by decide) rfl rfl (st_c (cat_i cat_e) (Nat.le_of_ble_eq_true rfl)) dX12_hasNext_11 (kI fun x6 M4 hw => ?_)
  refine G_icmp_lt (pc := 16) (tgt := 38) hC dX12_hasNext_16 (by decide) (fun hc => ?_) (fun hc => ?_)
  · replace hw := hw.1 hc
    exact g_X12_hasNext_38 hJ hC hQ hin   M4 hw
  · replace hw := hw.2 hc
    refine G_aload_n (pc := 19) (i := 0) hC dX12_hasNext_19 rfl rfl ?_
    refine G_getI (pc := 20) (ci := 11) (C := RX12) (T := TX12) (N := 4) (f := 1) hC rfl in_X12 (Nat.le_of_ble_eq_true rfl) q2511 (fun _ h => h) dX12_hasNext_20 hw (fun x7 hw => ?_)
    refine G_aload_n (pc := 23) (i := 0) hC dX12_hasNext_23 rfl rfl ?_
    refine G_getF (pc := 24) (ci := 11) (C := RX12) (T := TX12) (N := 4) (f := 3) hC rfl in_X12 (Nat.le_of_ble_eq_true rfl) q2513 (fun _ h => h) dX12_hasNext_24 hw (fun x8 hw => ?_)
    refine G_getFN (pc := 27) (ci := 8) (C := RX9) (T := TX9) (N := 6) (f := 1) hC rfl in_X9 (Nat.le_of_ble_eq_true rfl) (nw_in q2423 rfl) (fun _ h => h) dX12_hasNext_27 hw (fun x9 hw => ?_)
    obtain ⟨b11, rfl, hb, hw⟩ := gThis_e hw
    refine G_callF (pc := 30) (n := 0) (x := ⟨"java/util/List", "size", "()I"⟩) (C := "java/util/ArrayList") (ci := 21) (T := TJ2) (N := 3) (b := b11) (As := []) (rest := [.int x7]) hC (J_L_size hJ hw) (lw_F q886 q889 q363 q87 q364) (nw_in q888 rfl) (nw_in q887 rfl) (nw_in q891 rfl) (nw_in q890 rfl) (nw_in q259 rfl) rfl (rcv (C := RJ2) (T := TJ2) (N := 3) hC hb rfl) (by decide +kernel) (by decide) rfl rfl (st_c (cat_i cat_e) (Nat.le_of_ble_eq_true rfl)) dX12_hasNext_30 (kI fun x12 M10 hw => ?_)
    refine G_icmp_ge (pc := 35) (tgt := 42) hC dX12_hasNext_35 (by decide) (fun hc => ?_) (fun hc => ?_)
    · replace hw := hw.1 hc
      refine G_iconst (pc := 42) (v := 0) hC dX12_hasNext_42 (by decide) ?_
      exact g_X12_hasNext_43 hJ hC hQ hin  (0 : Int32) M10 hw
    · replace hw := hw.2 hc
      exact g_X12_hasNext_38 hJ hC hQ hin   M10 hw
def w_X12_endA_56 (g : gT) (F : Nat) (a0 : Nat) (Q : Int32 → hM → Prop) (s0 : Int32) (M : hM) : Prop :=
  Q s0 M
def w_X12_endA (g : gT) (F : Nat) (a0 : Nat) (M : hM) (Q : Int32 → hM → Prop) : Prop :=
  gI M (some a0) 11 2 fun x1 => gF M (some a0) 11 3 fun x2 => gF M x2 8 2 fun x3 => gThis M x3 21 fun b5 => L_size g b5  M (fun x6 M4 => ((x6 ≤ x1 → gF M4 (some a0) 11 3 fun x7 => gF M4 x7 8 0 fun x8 => gThis M4 x8 21 fun b10 => L_size g b10  M4 (fun x11 M9 => w_X12_endA_56 g F a0 Q x11 M9)) ∧ (¬ (x6 ≤ x1) → gF M4 (some a0) 11 3 fun x12 => gF M4 x12 8 2 fun x13 => gI M4 (some a0) 11 2 fun x14 => gThis M4 x13 21 fun b16 => L_get g b16 x14 M4 (fun x17 M15 => ckC M15 x17 5 (gI M15 x17 5 0 fun x18 => w_X12_endA_56 g F a0 Q x18 M15)))))
theorem g_X12_endA_56 {k : kT} {F : Nat} {a0 : Nat} {Q : Int32 → hM → Prop} (hJ : JOK (kl k) (kg k)) (hC : CX k 1 cX12_endA RX12 (some .int) 41 2021) (hQ : isQ k (PI Q)) (hin : (kt k).name = "endA") : ∀ (s0 : Int32) (M : hM), w_X12_endA_56 (kg k) F a0 Q s0 M → GW k 1 M 56 [some (va_rf (some a0))] [.int s0] := by
  intro s0 M hw
  exact G_iret (pc := 56) hC rfl hQ dX12_endA_56 hw
theorem m_X12_endA {l : Launch} {g : gT} {F : Nat} {a0 : Nat} {M : hM} {Q : Int32 → hM → Prop} (hJ : JOK l g) (hw : w_X12_endA g F a0 M Q) : MG l g yX12_endA (ws_ yX12_endA cX12_endA 1 (some .int)) 41 2021 [va_rf (some a0)] M (PI Q) := by
  refine MG_of hJ.2.1 (by decide) (cat_r cat_e) (Nat.le_of_ble_eq_true rfl) (fun k hl hg hin hQ hC => ?_)
  subst hl hg
  show GW k 1 M 0 [some (va_rf (some a0))] []
  refine G_aload_n (pc := 0) (i := 0) hC dX12_endA_0 rfl rfl ?_
  refine G_getI (pc := 1) (ci := 11) (C := RX12) (T := TX12) (N := 4) (f := 2) hC rfl in_X12 (Nat.le_of_ble_eq_true rfl) q2512 (fun _ h => h) dX12_endA_1 hw (fun x1 hw => ?_)
  refine G_aload_n (pc := 4) (i := 0) hC dX12_endA_4 rfl rfl ?_
  refine G_getF (pc := 5) (ci := 11) (C := RX12) (T := TX12) (N := 4) (f := 3) hC rfl in_X12 (Nat.le_of_ble_eq_true rfl) q2513 (fun _ h => h) dX12_endA_5 hw (fun x2 hw => ?_)
  refine G_getFN (pc := 8) (ci := 8) (C := RX9) (T := TX9) (N := 6) (f := 2) hC rfl in_X9 (Nat.le_of_ble_eq_true rfl) (nw_in q2426 rfl) (fun _ h => h) dX12_endA_8 hw (fun x3 hw => ?_)
  obtain ⟨b5, rfl, hb, hw⟩ := gThis_e hw
  refine G_callF (pc := 11) (n := 0) (x := ⟨"java/util/List", "size", "()I"⟩) (C := "java/util/ArrayList") (ci := 21) (T := TJ2) (N := 3) (b := b5) (As := []) (rest := [.int x1]) hC (J_L_size hJ hw) (lw_F q886 q889 q363 q87 q364) (nw_in q888 rfl) (nw_in q887 rfl) (nw_in q891 rfl) (nw_in q890 rfl) (nw_in q259 rfl) rfl (rcv (C := RJ2) (T := TJ2) (N := 3) hC hb rfl) (by decide +kernel) (by decide) rfl rfl (st_c (cat_i cat_e) (Nat.le_of_ble_eq_true rfl)) dX12_endA_11 (kI fun x6 M4 hw => ?_)
  refine G_icmp_ge (pc := 16) (tgt := 44) hC dX12_endA_16 (by decide) (fun hc => ?_) (fun hc => ?_)
  · replace hw := hw.1 hc
    refine G_aload_n (pc := 44) (i := 0) hC dX12_endA_44 rfl rfl ?_
    refine G_getF (pc := 45) (ci := 11) (C := RX12) (T := TX12) (N := 4) (f := 3) hC rfl in_X12 (Nat.le_of_ble_eq_true rfl) q2513 (fun _ h => h) dX12_endA_45 hw (fun x7 hw => ?_)
    refine G_getFN (pc := 48) (ci := 8) (C := RX9) (T := TX9) (N := 6) (f := 0) hC rfl in_X9 (Nat.le_of_ble_eq_true rfl) (nw_in q2417 rfl) (fun _ h => h) dX12_endA_48 hw (fun x8 hw => ?_)
    obtain ⟨b10, rfl, hb, hw⟩ := gThis_e hw
    refine G_callF (pc := 51) (n := 0) (x := ⟨"java/util/List", "size", "()I"⟩) (C := "java/util/ArrayList") (ci := 21) (T := TJ2) (N := 3) (b := b10) (As := []) (rest := []) hC (J_L_size hJ hw) (lw_F q886 q889 q363 q87 q364) (nw_in q888 rfl) (nw_in q887 rfl) (nw_in q891 rfl) (nw_in q890 rfl) (nw_in q259 rfl) rfl (rcv (C := RJ2) (T := TJ2) (N := 3) hC hb rfl) (by decide +kernel) (by decide) rfl rfl (st_c cat_e (Nat.le_of_ble_eq_true rfl)) dX12_endA_51 (kI fun x11 M9 hw => ?_)
    exact g_X12_endA_56 hJ hC hQ hin  x11 M9 hw
  · replace hw := hw.2 hc
    refine G_aload_n (pc := 19) (i := 0) hC dX12_endA_19 rfl rfl ?_
    refine G_getF (pc := 20) (ci := 11) (C := RX12) (T := TX12) (N := 4) (f := 3) hC rfl in_X12 (Nat.le_of_ble_eq_true rfl) q2513 (fun _ h => h) dX12_endA_20 hw (fun x12 hw => ?_)
    refine G_getFN (pc := 23) (ci := 8) (C := RX9) (T := TX9) (N := 6) (f := 2) hC rfl in_X9 (Nat.le_of_ble_eq_true rfl) (nw_in q2426 rfl) (fun _ h => h) dX12_endA_23 hw (fun x13 hw => ?_)
    refine G_aload_n (pc := 26) (i := 0) hC dX12_endA_26 rfl rfl ?_
    refine G_getI (pc := 27) (ci := 11) (C := RX12) (T := TX12) (N := 4) (f := 2) hC rfl in_X12 (Nat.le_of_ble_eq_true rfl) q2512 (fun _ h => h) dX12_endA_27 hw (fun x14 hw => ?_)
    obtain ⟨b16, rfl, hb, hw⟩ := gThis_e hw
    refine G_callF (pc := 30) (n := 1) (x := ⟨"java/util/List", "get", "(I)Ljava/lang/Object;"⟩) (C := "java/util/ArrayList") (ci := 21) (T := TJ2) (N := 3) (b := b16) (As := [.int x14]) (rest := []) hC (J_L_get hJ hw) (lw_F q953 q956 q958 q87 q960) (nw_in q955 rfl) (nw_in q954 rfl) (nw_in q959 rfl) (nw_in q957 rfl) (nw_in q259 rfl) rfl (rcv (C := RJ2) (T := TJ2) (N := 3) hC hb rfl) (by decide +kernel) (by decide) rfl rfl (st_c cat_e (Nat.le_of_ble_eq_true rfl)) dX12_endA_30 (kRf fun x17 M15 hw => ?_)
    obtain ⟨hb, hw⟩ := hw
    refine G_castCS (pc := 35) (C := RX6) (T := TX6) (N := 2) hC rfl q985 hb dX12_endA_35 ?_
    refine G_getIN (pc := 38) (ci := 5) (C := RX6) (T := TX6) (N := 2) (f := 0) hC rfl in_X6 (Nat.le_of_ble_eq_true rfl) (nw_in q1701 rfl) (fun _ h => h) dX12_endA_38 hw (fun x18 hw => ?_)
    refine G_goto (pc := 41) (tgt := 56) hC dX12_endA_41 (by decide) ?_
    exact g_X12_endA_56 hJ hC hQ hin  x18 M15 hw
def w_X12_endB_56 (g : gT) (F : Nat) (a0 : Nat) (Q : Int32 → hM → Prop) (s0 : Int32) (M : hM) : Prop :=
  Q s0 M
def w_X12_endB (g : gT) (F : Nat) (a0 : Nat) (M : hM) (Q : Int32 → hM → Prop) : Prop :=
  gI M (some a0) 11 2 fun x1 => gF M (some a0) 11 3 fun x2 => gF M x2 8 2 fun x3 => gThis M x3 21 fun b5 => L_size g b5  M (fun x6 M4 => ((x6 ≤ x1 → gF M4 (some a0) 11 3 fun x7 => gF M4 x7 8 1 fun x8 => gThis M4 x8 21 fun b10 => L_size g b10  M4 (fun x11 M9 => w_X12_endB_56 g F a0 Q x11 M9)) ∧ (¬ (x6 ≤ x1) → gF M4 (some a0) 11 3 fun x12 => gF M4 x12 8 2 fun x13 => gI M4 (some a0) 11 2 fun x14 => gThis M4 x13 21 fun b16 => L_get g b16 x14 M4 (fun x17 M15 => ckC M15 x17 5 (gI M15 x17 5 1 fun x18 => w_X12_endB_56 g F a0 Q x18 M15)))))
theorem g_X12_endB_56 {k : kT} {F : Nat} {a0 : Nat} {Q : Int32 → hM → Prop} (hJ : JOK (kl k) (kg k)) (hC : CX k 1 cX12_endB RX12 (some .int) 41 2021) (hQ : isQ k (PI Q)) (hin : (kt k).name = "endB") : ∀ (s0 : Int32) (M : hM), w_X12_endB_56 (kg k) F a0 Q s0 M → GW k 1 M 56 [some (va_rf (some a0))] [.int s0] := by
  intro s0 M hw
  exact G_iret (pc := 56) hC rfl hQ dX12_endB_56 hw
theorem m_X12_endB {l : Launch} {g : gT} {F : Nat} {a0 : Nat} {M : hM} {Q : Int32 → hM → Prop} (hJ : JOK l g) (hw : w_X12_endB g F a0 M Q) : MG l g yX12_endB (ws_ yX12_endB cX12_endB 1 (some .int)) 41 2021 [va_rf (some a0)] M (PI Q) := by
  refine MG_of hJ.2.1 (by decide) (cat_r cat_e) (Nat.le_of_ble_eq_true rfl) (fun k hl hg hin hQ hC => ?_)
  subst hl hg
  show GW k 1 M 0 [some (va_rf (some a0))] []
  refine G_aload_n (pc := 0) (i := 0) hC dX12_endB_0 rfl rfl ?_
  refine G_getI (pc := 1) (ci := 11) (C := RX12) (T := TX12) (N := 4) (f := 2) hC rfl in_X12 (Nat.le_of_ble_eq_true rfl) q2512 (fun _ h => h) dX12_endB_1 hw (fun x1 hw => ?_)
  refine G_aload_n (pc := 4) (i := 0) hC dX12_endB_4 rfl rfl ?_
  refine G_getF (pc := 5) (ci := 11) (C := RX12) (T := TX12) (N := 4) (f := 3) hC rfl in_X12 (Nat.le_of_ble_eq_true rfl) q2513 (fun _ h => h) dX12_endB_5 hw (fun x2 hw => ?_)
  refine G_getFN (pc := 8) (ci := 8) (C := RX9) (T := TX9) (N := 6) (f := 2) hC rfl in_X9 (Nat.le_of_ble_eq_true rfl) (nw_in q2426 rfl) (fun _ h => h) dX12_endB_8 hw (fun x3 hw => ?_)
  obtain ⟨b5, rfl, hb, hw⟩ := gThis_e hw
  refine G_callF (pc := 11) (n := 0) (x := ⟨"java/util/List", "size", "()I"⟩) (C := "java/util/ArrayList") (ci := 21) (T := TJ2) (N := 3) (b := b5) (As := []) (rest := [.int x1]) hC (J_L_size hJ hw) (lw_F q886 q889 q363 q87 q364) (nw_in q888 rfl) (nw_in q887 rfl) (nw_in q891 rfl) (nw_in q890 rfl) (nw_in q259 rfl) rfl (rcv (C := RJ2) (T := TJ2) (N := 3) hC hb rfl) (by decide +kernel) (by decide) rfl rfl (st_c (cat_i cat_e) (Nat.le_of_ble_eq_true rfl)) dX12_endB_11 (kI fun x6 M4 hw => ?_)
  refine G_icmp_ge (pc := 16) (tgt := 44) hC dX12_endB_16 (by decide) (fun hc => ?_) (fun hc => ?_)
  · replace hw := hw.1 hc
    refine G_aload_n (pc := 44) (i := 0) hC dX12_endB_44 rfl rfl ?_
    refine G_getF (pc := 45) (ci := 11) (C := RX12) (T := TX12) (N := 4) (f := 3) hC rfl in_X12 (Nat.le_of_ble_eq_true rfl) q2513 (fun _ h => h) dX12_endB_45 hw (fun x7 hw => ?_)
    refine G_getFN (pc := 48) (ci := 8) (C := RX9) (T := TX9) (N := 6) (f := 1) hC rfl in_X9 (Nat.le_of_ble_eq_true rfl) (nw_in q2423 rfl) (fun _ h => h) dX12_endB_48 hw (fun x8 hw => ?_)
    obtain ⟨b10, rfl, hb, hw⟩ := gThis_e hw
    refine G_callF (pc := 51) (n := 0) (x := ⟨"java/util/List", "size", "()I"⟩) (C := "java/util/ArrayList") (ci := 21) (T := TJ2) (N := 3) (b := b10) (As := []) (rest := []) hC (J_L_size hJ hw) (lw_F q886 q889 q363 q87 q364) (nw_in q888 rfl) (nw_in q887 rfl) (nw_in q891 rfl) (nw_in q890 rfl) (nw_in q259 rfl) rfl (rcv (C := RJ2) (T := TJ2) (N := 3) hC hb rfl) (by decide +kernel) (by decide) rfl rfl (st_c cat_e (Nat.le_of_ble_eq_true rfl)) dX12_endB_51 (kI fun x11 M9 hw => ?_)
    exact g_X12_endB_56 hJ hC hQ hin  x11 M9 hw
  · replace hw := hw.2 hc
    refine G_aload_n (pc := 19) (i := 0) hC dX12_endB_19 rfl rfl ?_
    refine G_getF (pc := 20) (ci := 11) (C := RX12) (T := TX12) (N := 4) (f := 3) hC rfl in_X12 (Nat.le_of_ble_eq_true rfl) q2513 (fun _ h => h) dX12_endB_20 hw (fun x12 hw => ?_)
    refine G_getFN (pc := 23) (ci := 8) (C := RX9) (T := TX9) (N := 6) (f := 2) hC rfl in_X9 (Nat.le_of_ble_eq_true rfl) (nw_in q2426 rfl) (fun _ h => h) dX12_endB_23 hw (fun x13 hw => ?_)
    refine G_aload_n (pc := 26) (i := 0) hC dX12_endB_26 rfl rfl ?_
    refine G_getI (pc := 27) (ci := 11) (C := RX12) (T := TX12) (N := 4) (f := 2) hC rfl in_X12 (Nat.le_of_ble_eq_true rfl) q2512 (fun _ h => h) dX12_endB_27 hw (fun x14 hw => ?_)
    obtain ⟨b16, rfl, hb, hw⟩ := gThis_e hw
    refine G_callF (pc := 30) (n := 1) (x := ⟨"java/util/List", "get", "(I)Ljava/lang/Object;"⟩) (C := "java/util/ArrayList") (ci := 21) (T := TJ2) (N := 3) (b := b16) (As := [.int x14]) (rest := []) hC (J_L_get hJ hw) (lw_F q953 q956 q958 q87 q960) (nw_in q955 rfl) (nw_in q954 rfl) (nw_in q959 rfl) (nw_in q957 rfl) (nw_in q259 rfl) rfl (rcv (C := RJ2) (T := TJ2) (N := 3) hC hb rfl) (by decide +kernel) (by decide) rfl rfl (st_c cat_e (Nat.le_of_ble_eq_true rfl)) dX12_endB_30 (kRf fun x17 M15 hw => ?_)
    obtain ⟨hb, hw⟩ := hw
    refine G_castCS (pc := 35) (C := RX6) (T := TX6) (N := 2) hC rfl q985 hb dX12_endB_35 ?_
    refine G_getIN (pc := 38) (ci := 5) (C := RX6) (T := TX6) (N := 2) (f := 1) hC rfl in_X6 (Nat.le_of_ble_eq_true rfl) (nw_in q1705 rfl) (fun _ h => h) dX12_endB_38 hw (fun x18 hw => ?_)
    refine G_goto (pc := 41) (tgt := 56) hC dX12_endB_41 (by decide) ?_
    exact g_X12_endB_56 hJ hC hQ hin  x18 M15 hw
theorem hd_X12_endA : yX12_endA.cls = "MergeWorkbench$Comparison$1" ∧ yX12_endA.cls ≠ "java/lang/invoke/MethodHandle" ∧ yX12_endA.cls ≠ "java/lang/invoke/VarHandle" ∧ (parseMethodDescriptor yX12_endA.desc).map (fun d => d.parameters.length) = some 0 := by decide +kernel
theorem hd_X12_endB : yX12_endB.cls = "MergeWorkbench$Comparison$1" ∧ yX12_endB.cls ≠ "java/lang/invoke/MethodHandle" ∧ yX12_endB.cls ≠ "java/lang/invoke/VarHandle" ∧ (parseMethodDescriptor yX12_endB.desc).map (fun d => d.parameters.length) = some 0 := by decide +kernel
theorem at_X12_next_2_124 : ∀ w ∈ vx_at0 RX12 68 "java/util/NoSuchElementException" nmE, w ∈ lw_all ∨ w ∈ nwAll := at_in [98, 400, 409, 420, 423, 425, 401, 402, 158, 159, 403, 408, 421, 629, 390, 630, 392, 631, 394, 404, 406, 396, 1025, 1026, 1027, 686, 686, 687, 688, 689, 689, 690, 691, 401, 1024, 1016, 1018, 419, 1019, 1020, 1021, 1022, 399, 398, 1023] [381, 383, 385, 1017] (by decide +kernel) (by decide +kernel) (by decide +kernel)
theorem ag_X12_next_2_124 : (Cond.classLink RX12 66 "java/util/NoSuchElementException" :: Cond.initialized "java/util/NoSuchElementException" :: vx_at0 RX12 68 "java/util/NoSuchElementException" nmE).all vx_ot = true := by decide +kernel
def w_X12_next_2 (g : gT) (F : Nat) (a0 : Nat) (M : hM) (Q : Option Nat → hM → Prop) (X : String → Nat → hM → Prop) : Prop :=
  gI M (some a0) 11 0 fun x1 => (isC M a0 11 ∧ w_X12_endA g F a0  M (fun x3 M2 => ((x3 ≤ x1 → gI M2 (some a0) 11 1 fun x4 => (isC M2 a0 11 ∧ w_X12_endB g F a0  M2 (fun x6 M5 => ((x6 ≤ x4 → gI M5 (some a0) 11 2 fun x7 => gF M5 (some a0) 11 3 fun x8 => gF M5 x8 8 2 fun x9 => gThis M5 x9 21 fun b11 => L_size g b11  M5 (fun x12 M10 => ((¬ x7 = x12 → gI M10 (some a0) 11 2 fun x13 => pV M10 (some a0) 11 2 (.int (x13 + (1 : Int32))) fun M14 => gI M14 (some a0) 11 0 fun x15 => pV M14 (some a0) 11 0 (.int (x15 + (1 : Int32))) fun M16 => gI M16 (some a0) 11 1 fun x17 => pV M16 (some a0) 11 1 (.int (x17 + (1 : Int32))) fun M18 => gF M18 (some a0) 11 3 fun x19 => gF M18 x19 8 0 fun x20 => gI M18 (some a0) 11 0 fun x21 => gThis M18 x20 21 fun b23 => L_get g b23 (x21 - (1 : Int32)) M18 (fun x24 M22 => ckB g M22 x24 (Q x24 M22))) ∧ (x7 = x12 → thr M10 "java/util/NoSuchElementException" X)))) ∧ (¬ (x6 ≤ x4) → gI M5 (some a0) 11 1 fun x25 => pV M5 (some a0) 11 1 (.int (x25 + (1 : Int32))) fun M26 => gF M26 (some a0) 11 3 fun x27 => gF M26 x27 8 1 fun x28 => gI M26 (some a0) 11 1 fun x29 => gThis M26 x28 21 fun b31 => L_get g b31 (x29 - (1 : Int32)) M26 (fun x32 M30 => ckB g M30 x32 (gBx g M30 x32 fun b34 => B_val g b34  M30 (fun x35 M33 => B_of g ((200 : Int32) + x35) M33 (fun x37 M36 => Q x37 M36))))))))) ∧ (¬ (x3 ≤ x1) → gI M2 (some a0) 11 0 fun x38 => pV M2 (some a0) 11 0 (.int (x38 + (1 : Int32))) fun M39 => gF M39 (some a0) 11 3 fun x40 => gF M39 x40 8 0 fun x41 => gI M39 (some a0) 11 0 fun x42 => gThis M39 x41 21 fun b44 => L_get g b44 (x42 - (1 : Int32)) M39 (fun x45 M43 => ckB g M43 x45 (gBx g M43 x45 fun b47 => B_val g b47  M43 (fun x48 M46 => B_of g ((100 : Int32) + x48) M46 (fun x50 M49 => Q x50 M49))))))))
theorem m_X12_next_2 {l : Launch} {g : gT} {F : Nat} {a0 : Nat} {M : hM} {Q : Option Nat → hM → Prop} {X : String → Nat → hM → Prop} (hJ : JOK l g) (hw : w_X12_next_2 g F a0 M Q X) : MX l g yX12_next_2 (ws_ yX12_next_2 cX12_next_2 1 (some (.object "java/lang/Integer"))) 42 2041 [va_rf (some a0)] M (PR Q) X := by
  refine MX_of hJ.2.1 (by decide) (cat_r cat_e) (Nat.le_of_ble_eq_true rfl) (fun k hl hg hin hno hQ hC => ?_)
  subst hl hg
  show GW k 1 M 0 [some (va_rf (some a0))] []
  refine G_aload_n (pc := 0) (i := 0) hC dX12_next_2_0 rfl rfl ?_
  refine G_getI (pc := 1) (ci := 11) (C := RX12) (T := TX12) (N := 4) (f := 0) hC rfl in_X12 (Nat.le_of_ble_eq_true rfl) q2510 (fun _ h => h) dX12_next_2_1 hw (fun x1 hw => ?_)
  refine G_aload_n (pc := 4) (i := 0) hC dX12_next_2_4 rfl rfl ?_
  obtain ⟨hb, hw⟩ := hw
  refine G_callV (pc := 5) (n := 0) (C := "MergeWorkbench$Comparison$1") (b := a0) (As := []) (rest := [.int x1]) hC (m_X12_endA hJ hw) (lw_V q947 q949 qs7 q140 q951) hd_X12_endA (by decide) (rcv (C := RX12) (T := TX12) (N := 4) hC hb rfl) rfl rfl (st_c (cat_i cat_e) (Nat.le_of_ble_eq_true rfl)) dX12_next_2_5 (kI fun x3 M2 hw => ?_)
  refine G_icmp_ge (pc := 8) (tgt := 52) hC dX12_next_2_8 (by decide) (fun hc => ?_) (fun hc => ?_)
  · replace hw := hw.1 hc
    refine G_aload_n (pc := 52) (i := 0) hC dX12_next_2_52 rfl rfl ?_
    refine G_getI (pc := 53) (ci := 11) (C := RX12) (T := TX12) (N := 4) (f := 1) hC rfl in_X12 (Nat.le_of_ble_eq_true rfl) q2511 (fun _ h => h) dX12_next_2_53 hw (fun x4 hw => ?_)
    refine G_aload_n (pc := 56) (i := 0) hC dX12_next_2_56 rfl rfl ?_
    obtain ⟨hb, hw⟩ := hw
    refine G_callV (pc := 57) (n := 0) (C := "MergeWorkbench$Comparison$1") (b := a0) (As := []) (rest := [.int x4]) hC (m_X12_endB hJ hw) (lw_V q1011 q1013 qs8 q140 q1014) hd_X12_endB (by decide) (rcv (C := RX12) (T := TX12) (N := 4) hC hb rfl) rfl rfl (st_c (cat_i cat_e) (Nat.le_of_ble_eq_true rfl)) dX12_next_2_57 (kI fun x6 M5 hw => ?_)
    refine G_icmp_ge (pc := 60) (tgt := 105) hC dX12_next_2_60 (by decide) (fun hc => ?_) (fun hc => ?_)
    · replace hw := hw.1 hc
      refine G_aload_n (pc := 105) (i := 0) hC dX12_next_2_105 rfl rfl ?_
      refine G_getI (pc := 106) (ci := 11) (C := RX12) (T := TX12) (N := 4) (f := 2) hC rfl in_X12 (Nat.le_of_ble_eq_true rfl) q2512 (fun _ h => h) dX12_next_2_106 hw (fun x7 hw => ?_)
      refine G_aload_n (pc := 109) (i := 0) hC dX12_next_2_109 rfl rfl ?_
      refine G_getF (pc := 110) (ci := 11) (C := RX12) (T := TX12) (N := 4) (f := 3) hC rfl in_X12 (Nat.le_of_ble_eq_true rfl) q2513 (fun _ h => h) dX12_next_2_110 hw (fun x8 hw => ?_)
      refine G_getFN (pc := 113) (ci := 8) (C := RX9) (T := TX9) (N := 6) (f := 2) hC rfl in_X9 (Nat.le_of_ble_eq_true rfl) (nw_in q2426 rfl) (fun _ h => h) dX12_next_2_113 hw (fun x9 hw => ?_)
      obtain ⟨b11, rfl, hb, hw⟩ := gThis_e hw
      refine G_callF (pc := 116) (n := 0) (x := ⟨"java/util/List", "size", "()I"⟩) (C := "java/util/ArrayList") (ci := 21) (T := TJ2) (N := 3) (b := b11) (As := []) (rest := [.int x7]) hC (J_L_size hJ hw) (lw_F q886 q889 q363 q87 q364) (nw_in q888 rfl) (nw_in q887 rfl) (nw_in q891 rfl) (nw_in q890 rfl) (nw_in q259 rfl) rfl (rcv (C := RJ2) (T := TJ2) (N := 3) hC hb rfl) (by decide +kernel) (by decide) rfl rfl (st_c (cat_i cat_e) (Nat.le_of_ble_eq_true rfl)) dX12_next_2_116 (kI fun x12 M10 hw => ?_)
      refine G_icmp_ne (pc := 121) (tgt := 132) hC dX12_next_2_121 (by decide) (fun hc => ?_) (fun hc => ?_)
      · replace hw := hw.1 hc
        refine G_aload_n (pc := 132) (i := 0) hC dX12_next_2_132 rfl rfl ?_
        refine G_dup (pc := 133) hC dX12_next_2_133 (rf_cat _) ?_
        refine G_getI (pc := 134) (ci := 11) (C := RX12) (T := TX12) (N := 4) (f := 2) hC rfl in_X12 (Nat.le_of_ble_eq_true rfl) q2512 (fun _ h => h) dX12_next_2_134 hw (fun x13 hw => ?_)
        refine G_iconst (pc := 137) (v := 1) hC dX12_next_2_137 (by decide) ?_
        refine G_iadd (pc := 138) hC dX12_next_2_138 ?_
        refine G_put (pc := 139) (ci := 11) (C := RX12) (T := TX12) (N := 4) (f := 2) tyX12 hC rfl in_X12 tyX12_ok nmX12 (Nat.le_of_ble_eq_true rfl) q2512 (fun _ h => h) rfl rfl rfl dX12_next_2_139 hw (fun M14 hw => ?_)
        refine G_aload_n (pc := 142) (i := 0) hC dX12_next_2_142 rfl rfl ?_
        refine G_dup (pc := 143) hC dX12_next_2_143 (rf_cat _) ?_
        refine G_getI (pc := 144) (ci := 11) (C := RX12) (T := TX12) (N := 4) (f := 0) hC rfl in_X12 (Nat.le_of_ble_eq_true rfl) q2510 (fun _ h => h) dX12_next_2_144 hw (fun x15 hw => ?_)
        refine G_iconst (pc := 147) (v := 1) hC dX12_next_2_147 (by decide) ?_
        refine G_iadd (pc := 148) hC dX12_next_2_148 ?_
        refine G_put (pc := 149) (ci := 11) (C := RX12) (T := TX12) (N := 4) (f := 0) tyX12 hC rfl in_X12 tyX12_ok nmX12 (Nat.le_of_ble_eq_true rfl) q2510 (fun _ h => h) rfl rfl rfl dX12_next_2_149 hw (fun M16 hw => ?_)
        refine G_aload_n (pc := 152) (i := 0) hC dX12_next_2_152 rfl rfl ?_
        refine G_dup (pc := 153) hC dX12_next_2_153 (rf_cat _) ?_
        refine G_getI (pc := 154) (ci := 11) (C := RX12) (T := TX12) (N := 4) (f := 1) hC rfl in_X12 (Nat.le_of_ble_eq_true rfl) q2511 (fun _ h => h) dX12_next_2_154 hw (fun x17 hw => ?_)
        refine G_iconst (pc := 157) (v := 1) hC dX12_next_2_157 (by decide) ?_
        refine G_iadd (pc := 158) hC dX12_next_2_158 ?_
        refine G_put (pc := 159) (ci := 11) (C := RX12) (T := TX12) (N := 4) (f := 1) tyX12 hC rfl in_X12 tyX12_ok nmX12 (Nat.le_of_ble_eq_true rfl) q2511 (fun _ h => h) rfl rfl rfl dX12_next_2_159 hw (fun M18 hw => ?_)
        refine G_aload_n (pc := 162) (i := 0) hC dX12_next_2_162 rfl rfl ?_
        refine G_getF (pc := 163) (ci := 11) (C := RX12) (T := TX12) (N := 4) (f := 3) hC rfl in_X12 (Nat.le_of_ble_eq_true rfl) q2513 (fun _ h => h) dX12_next_2_163 hw (fun x19 hw => ?_)
        refine G_getFN (pc := 166) (ci := 8) (C := RX9) (T := TX9) (N := 6) (f := 0) hC rfl in_X9 (Nat.le_of_ble_eq_true rfl) (nw_in q2417 rfl) (fun _ h => h) dX12_next_2_166 hw (fun x20 hw => ?_)
        refine G_aload_n (pc := 169) (i := 0) hC dX12_next_2_169 rfl rfl ?_
        refine G_getI (pc := 170) (ci := 11) (C := RX12) (T := TX12) (N := 4) (f := 0) hC rfl in_X12 (Nat.le_of_ble_eq_true rfl) q2510 (fun _ h => h) dX12_next_2_170 hw (fun x21 hw => ?_)
        refine G_iconst (pc := 173) (v := 1) hC dX12_next_2_173 (by decide) ?_
        refine G_isub (pc := 174) hC dX12_next_2_174 ?_
        obtain ⟨b23, rfl, hb, hw⟩ := gThis_e hw
        refine G_callF (pc := 175) (n := 1) (x := ⟨"java/util/List", "get", "(I)Ljava/lang/Object;"⟩) (C := "java/util/ArrayList") (ci := 21) (T := TJ2) (N := 3) (b := b23) (As := [.int (x21 - (1 : Int32))]) (rest := []) hC (J_L_get hJ hw) (lw_F q953 q956 q958 q87 q960) (nw_in q955 rfl) (nw_in q954 rfl) (nw_in q959 rfl) (nw_in q957 rfl) (nw_in q259 rfl) rfl (rcv (C := RJ2) (T := TJ2) (N := 3) hC hb rfl) (by decide +kernel) (by decide) rfl rfl (st_c cat_e (Nat.le_of_ble_eq_true rfl)) dX12_next_2_175 (kRf fun x24 M22 hw => ?_)
        obtain ⟨hb, hw⟩ := hw
        refine G_castBS (pc := 180) hJ.1 hC q986 hb dX12_next_2_180 ?_
        exact G_aretX (pc := 183) hC (Or.inl ⟨_, rfl⟩) hQ dX12_next_2_183 hw
      · replace hw := hw.2 hc
        exact G_throw0 (pc := 124) (cls := "java/util/NoSuchElementException") (names := nmE) (ik := 66) (ic := 68) hJ.1 hC hno hQ (by decide +kernel) nmE_fit q1015 q117 at_X12_next_2_124 ag_X12_next_2_124 dX12_next_2_124 dX12_next_2_127 dX12_next_2_128 dX12_next_2_131 rfl rfl (st_c cat_e (Nat.le_of_ble_eq_true rfl)) hw
    · replace hw := hw.2 hc
      refine G_aload_n (pc := 63) (i := 0) hC dX12_next_2_63 rfl rfl ?_
      refine G_dup (pc := 64) hC dX12_next_2_64 (rf_cat _) ?_
      refine G_getI (pc := 65) (ci := 11) (C := RX12) (T := TX12) (N := 4) (f := 1) hC rfl in_X12 (Nat.le_of_ble_eq_true rfl) q2511 (fun _ h => h) dX12_next_2_65 hw (fun x25 hw => ?_)
      refine G_iconst (pc := 68) (v := 1) hC dX12_next_2_68 (by decide) ?_
      refine G_iadd (pc := 69) hC dX12_next_2_69 ?_
      refine G_put (pc := 70) (ci := 11) (C := RX12) (T := TX12) (N := 4) (f := 1) tyX12 hC rfl in_X12 tyX12_ok nmX12 (Nat.le_of_ble_eq_true rfl) q2511 (fun _ h => h) rfl rfl rfl dX12_next_2_70 hw (fun M26 hw => ?_)
      refine G_sipush (pc := 73) (v := 200) hC dX12_next_2_73 (by decide) ?_
      refine G_aload_n (pc := 76) (i := 0) hC dX12_next_2_76 rfl rfl ?_
      refine G_getF (pc := 77) (ci := 11) (C := RX12) (T := TX12) (N := 4) (f := 3) hC rfl in_X12 (Nat.le_of_ble_eq_true rfl) q2513 (fun _ h => h) dX12_next_2_77 hw (fun x27 hw => ?_)
      refine G_getFN (pc := 80) (ci := 8) (C := RX9) (T := TX9) (N := 6) (f := 1) hC rfl in_X9 (Nat.le_of_ble_eq_true rfl) (nw_in q2423 rfl) (fun _ h => h) dX12_next_2_80 hw (fun x28 hw => ?_)
      refine G_aload_n (pc := 83) (i := 0) hC dX12_next_2_83 rfl rfl ?_
      refine G_getI (pc := 84) (ci := 11) (C := RX12) (T := TX12) (N := 4) (f := 1) hC rfl in_X12 (Nat.le_of_ble_eq_true rfl) q2511 (fun _ h => h) dX12_next_2_84 hw (fun x29 hw => ?_)
      refine G_iconst (pc := 87) (v := 1) hC dX12_next_2_87 (by decide) ?_
      refine G_isub (pc := 88) hC dX12_next_2_88 ?_
      obtain ⟨b31, rfl, hb, hw⟩ := gThis_e hw
      refine G_callF (pc := 89) (n := 1) (x := ⟨"java/util/List", "get", "(I)Ljava/lang/Object;"⟩) (C := "java/util/ArrayList") (ci := 21) (T := TJ2) (N := 3) (b := b31) (As := [.int (x29 - (1 : Int32))]) (rest := [.int (200 : Int32)]) hC (J_L_get hJ hw) (lw_F q953 q956 q958 q87 q960) (nw_in q955 rfl) (nw_in q954 rfl) (nw_in q959 rfl) (nw_in q957 rfl) (nw_in q259 rfl) rfl (rcv (C := RJ2) (T := TJ2) (N := 3) hC hb rfl) (by decide +kernel) (by decide) rfl rfl (st_c (cat_i cat_e) (Nat.le_of_ble_eq_true rfl)) dX12_next_2_89 (kRf fun x32 M30 hw => ?_)
      obtain ⟨hb, hw⟩ := hw
      refine G_castBS (pc := 94) hJ.1 hC q986 hb dX12_next_2_94 ?_
      obtain ⟨b34, rfl, hb, hw⟩ := gBx_e hw
      refine G_callV (pc := 97) (n := 0) (C := "java/lang/Integer") (b := b34) (As := []) (rest := [.int (200 : Int32)]) hC (J_B_val hJ hw) (lw_V q987 q988 q989 q106 q990) hd_J19_intValue (by decide) (rcvB hJ.1 hC hb) rfl rfl (st_c (cat_i cat_e) (Nat.le_of_ble_eq_true rfl)) dX12_next_2_97 (kI fun x35 M33 hw => ?_)
      refine G_iadd (pc := 100) hC dX12_next_2_100 ?_
      refine G_callS (pc := 101) (n := 1) (As := [.int ((200 : Int32) + x35)]) (rest := []) hC (J_B_of hJ hw) (lw_S q991 q992 q106 q993) hd_J19_valueOf.2 (by decide) rfl rfl (st_c cat_e (Nat.le_of_ble_eq_true rfl)) dX12_next_2_101 (kRf fun x37 M36 hw => ?_)
      exact G_aretX (pc := 104) hC (Or.inl ⟨_, rfl⟩) hQ dX12_next_2_104 hw
  · replace hw := hw.2 hc
    refine G_aload_n (pc := 11) (i := 0) hC dX12_next_2_11 rfl rfl ?_
    refine G_dup (pc := 12) hC dX12_next_2_12 (rf_cat _) ?_
    refine G_getI (pc := 13) (ci := 11) (C := RX12) (T := TX12) (N := 4) (f := 0) hC rfl in_X12 (Nat.le_of_ble_eq_true rfl) q2510 (fun _ h => h) dX12_next_2_13 hw (fun x38 hw => ?_)
    refine G_iconst (pc := 16) (v := 1) hC dX12_next_2_16 (by decide) ?_
    refine G_iadd (pc := 17) hC dX12_next_2_17 ?_
    refine G_put (pc := 18) (ci := 11) (C := RX12) (T := TX12) (N := 4) (f := 0) tyX12 hC rfl in_X12 tyX12_ok nmX12 (Nat.le_of_ble_eq_true rfl) q2510 (fun _ h => h) rfl rfl rfl dX12_next_2_18 hw (fun M39 hw => ?_)
    refine G_bipush (pc := 21) (v := 100) hC dX12_next_2_21 (by decide) ?_
    refine G_aload_n (pc := 23) (i := 0) hC dX12_next_2_23 rfl rfl ?_
    refine G_getF (pc := 24) (ci := 11) (C := RX12) (T := TX12) (N := 4) (f := 3) hC rfl in_X12 (Nat.le_of_ble_eq_true rfl) q2513 (fun _ h => h) dX12_next_2_24 hw (fun x40 hw => ?_)
    refine G_getFN (pc := 27) (ci := 8) (C := RX9) (T := TX9) (N := 6) (f := 0) hC rfl in_X9 (Nat.le_of_ble_eq_true rfl) (nw_in q2417 rfl) (fun _ h => h) dX12_next_2_27 hw (fun x41 hw => ?_)
    refine G_aload_n (pc := 30) (i := 0) hC dX12_next_2_30 rfl rfl ?_
    refine G_getI (pc := 31) (ci := 11) (C := RX12) (T := TX12) (N := 4) (f := 0) hC rfl in_X12 (Nat.le_of_ble_eq_true rfl) q2510 (fun _ h => h) dX12_next_2_31 hw (fun x42 hw => ?_)
    refine G_iconst (pc := 34) (v := 1) hC dX12_next_2_34 (by decide) ?_
    refine G_isub (pc := 35) hC dX12_next_2_35 ?_
    obtain ⟨b44, rfl, hb, hw⟩ := gThis_e hw
    refine G_callF (pc := 36) (n := 1) (x := ⟨"java/util/List", "get", "(I)Ljava/lang/Object;"⟩) (C := "java/util/ArrayList") (ci := 21) (T := TJ2) (N := 3) (b := b44) (As := [.int (x42 - (1 : Int32))]) (rest := [.int (100 : Int32)]) hC (J_L_get hJ hw) (lw_F q953 q956 q958 q87 q960) (nw_in q955 rfl) (nw_in q954 rfl) (nw_in q959 rfl) (nw_in q957 rfl) (nw_in q259 rfl) rfl (rcv (C := RJ2) (T := TJ2) (N := 3) hC hb rfl) (by decide +kernel) (by decide) rfl rfl (st_c (cat_i cat_e) (Nat.le_of_ble_eq_true rfl)) dX12_next_2_36 (kRf fun x45 M43 hw => ?_)
    obtain ⟨hb, hw⟩ := hw
    refine G_castBS (pc := 41) hJ.1 hC q986 hb dX12_next_2_41 ?_
    obtain ⟨b47, rfl, hb, hw⟩ := gBx_e hw
    refine G_callV (pc := 44) (n := 0) (C := "java/lang/Integer") (b := b47) (As := []) (rest := [.int (100 : Int32)]) hC (J_B_val hJ hw) (lw_V q987 q988 q989 q106 q990) hd_J19_intValue (by decide) (rcvB hJ.1 hC hb) rfl rfl (st_c (cat_i cat_e) (Nat.le_of_ble_eq_true rfl)) dX12_next_2_44 (kI fun x48 M46 hw => ?_)
    refine G_iadd (pc := 47) hC dX12_next_2_47 ?_
    refine G_callS (pc := 48) (n := 1) (As := [.int ((100 : Int32) + x48)]) (rest := []) hC (J_B_of hJ hw) (lw_S q991 q992 q106 q993) hd_J19_valueOf.2 (by decide) rfl rfl (st_c cat_e (Nat.le_of_ble_eq_true rfl)) dX12_next_2_48 (kRf fun x50 M49 hw => ?_)
    exact G_aretX (pc := 51) hC (Or.inl ⟨_, rfl⟩) hQ dX12_next_2_51 hw
theorem hd_X12_next_2 : yX12_next_2.cls = "MergeWorkbench$Comparison$1" ∧ yX12_next_2.cls ≠ "java/lang/invoke/MethodHandle" ∧ yX12_next_2.cls ≠ "java/lang/invoke/VarHandle" ∧ (parseMethodDescriptor yX12_next_2.desc).map (fun d => d.parameters.length) = some 0 := by decide +kernel
def w_X12_next (g : gT) (F : Nat) (a0 : Nat) (M : hM) (Q : Option Nat → hM → Prop) (X : String → Nat → hM → Prop) : Prop :=
  (isC M a0 11 ∧ w_X12_next_2 g F a0  M (fun x2 M1 => Q x2 M1) X)
theorem m_X12_next {l : Launch} {g : gT} {F : Nat} {a0 : Nat} {M : hM} {Q : Option Nat → hM → Prop} {X : String → Nat → hM → Prop} (hJ : JOK l g) (hw : w_X12_next g F a0 M Q X) : MX l g yX12_next (ws_ yX12_next cX12_next 1 (some (.object "java/lang/Object"))) 43 2061 [va_rf (some a0)] M (PR Q) X := by
  refine MX_of hJ.2.1 (by decide) (cat_r cat_e) (Nat.le_of_ble_eq_true rfl) (fun k hl hg hin hno hQ hC => ?_)
  subst hl hg
  show GW k 1 M 0 [some (va_rf (some a0))] []
  refine G_aload_n (pc := 0) (i := 0) hC dX12_next_0 rfl rfl ?_
  obtain ⟨hb, hw⟩ := hw
  refine GX_callV (pc := 1) (n := 0) (C := "MergeWorkbench$Comparison$1") (b := a0) (As := []) (rest := []) hC (m_X12_next_2 hJ hw) (lw_V q943 q944 q945 q140 q946) hd_X12_next_2 (by decide) (rcv (C := RX12) (T := TX12) (N := 4) hC hb rfl) rfl rfl (st_c cat_e (Nat.le_of_ble_eq_true rfl)) dX12_next_1 (fun E q M hx => GX_out hC hno hQ hx) (kRf fun x2 M1 hw => ?_)
  exact G_aretX (pc := 4) hC (Or.inl ⟨_, rfl⟩) hQ dX12_next_4 hw
def w_X12_init (g : gT) (F : Nat) (a0 : Nat) (p1 : Option Nat) (M : hM) (Q : hM → Prop) : Prop :=
  pV M (some a0) 11 3 (va_rf p1) fun M1 => Q M1
theorem m_X12_init {l : Launch} {g : gT} {F : Nat} {a0 : Nat} {p1 : Option Nat} {M : hM} {Q : hM → Prop} (hJ : JOK l g) (hw : w_X12_init g F a0 p1 M Q) : MG l g yX12_init (ws_ yX12_init cX12_init 2 none) 1 20 [va_rf (some a0), va_rf p1] M (PU Q) := by
  refine MG_of hJ.2.1 (by decide) (cat_r (cat_r cat_e)) (Nat.le_of_ble_eq_true rfl) (fun k hl hg hin hQ hC => ?_)
  subst hl hg
  show GW k 2 M 0 [some (va_rf (some a0)), some (va_rf p1)] []
  refine G_aload_n (pc := 0) (i := 0) hC dX12_init_0 rfl rfl ?_
  refine G_aload_n (pc := 1) (i := 1) hC dX12_init_1 rfl rfl ?_
  refine G_putF (pc := 2) (ci := 11) (C := RX12) (T := TX12) (N := 4) (f := 3) tyX12 hC rfl in_X12 tyX12_ok nmX12 (Nat.le_of_ble_eq_true rfl) q2513 (fun _ h => h) rfl hin rfl (nR_o _ _) (fR_o _ _) dX12_init_2 hw (fun M1 hw => ?_)
  refine G_aload_n (pc := 5) (i := 0) hC dX12_init_5 rfl rfl ?_
  refine G_objInit (pc := 6) hC q2509 q158 q159 rfl rfl (st_c cat_e (Nat.le_of_ble_eq_true rfl)) dX12_init_6 ?_
  exact G_ret (pc := 9) hC hQ dX12_init_9 hw
def w_X13_free_5 (g : gT) (F : Nat) (a0 : Nat) (p1 : Option Nat) (p2 : Option Nat) (Q : hM → Prop) : Nat → Int32 → hM → Prop
  | 0, _, _ => False
  | n + 1, v3, M => gI M p1 10 2 fun x1 => ((x1 ≤ v3 → Q M) ∧ (¬ (x1 ≤ v3) → sI M p2 3 v3 (vp_nar .boolean (1 : Int32)) fun M2 => w_X13_free_5 g F a0 p1 p2 Q n (v3 + (1 : Int32)) M2))
def w_X13_free (g : gT) (F : Nat) (a0 : Nat) (p1 : Option Nat) (p2 : Option Nat) (M : hM) (Q : hM → Prop) : Prop :=
  gI M p1 10 1 fun x1 => w_X13_free_5 g F a0 p1 p2 Q F x1 M
theorem g_X13_free_5 {k : kT} {F : Nat} {a0 : Nat} {p1 : Option Nat} {p2 : Option Nat} {Q : hM → Prop} (hJ : JOK (kl k) (kg k)) (hC : CX k 4 cX13_free RX13 none 1 12) (hQ : isQ k (PU Q)) (hin : (kt k).name = "free") : ∀ (n : Nat) (v3 : Int32) (M : hM), w_X13_free_5 (kg k) F a0 p1 p2 Q n v3 M → GW k 4 M 5 [some (va_rf (some a0)), some (va_rf p1), some (va_rf p2), some (.int v3)] [] := by
  intro n
  induction n with
  | zero =>
    intro v3 M hw
    exact hw.elim
  | succ n ih =>
    intro v3 M hw
    refine G_iload_n (pc := 5) (i := 3) hC dX13_free_5 rfl rfl ?_
    refine G_aload_n (pc := 6) (i := 1) hC dX13_free_6 rfl rfl ?_
    refine G_getIN (pc := 7) (ci := 10) (C := RX11) (T := TX11) (N := 3) (f := 2) hC rfl in_X11 (Nat.le_of_ble_eq_true rfl) (nw_in q2384 rfl) (fun _ h => h) dX13_free_7 hw (fun x1 hw => ?_)
    refine G_icmp_ge (pc := 10) (tgt := 23) hC dX13_free_10 (by decide) (fun hc => ?_) (fun hc => ?_)
    · replace hw := hw.1 hc
      exact G_ret (pc := 23) hC hQ dX13_free_23 hw
    · replace hw := hw.2 hc
      refine G_aload_n (pc := 13) (i := 2) hC dX13_free_13 rfl rfl ?_
      refine G_iload_n (pc := 14) (i := 3) hC dX13_free_14 rfl rfl ?_
      refine G_iconst (pc := 15) (v := 1) hC dX13_free_15 (by decide) ?_
      refine G_zast (pc := 16) hC dX13_free_16 hw (fun M2 hw => ?_)
      refine G_iinc (pc := 17) (i := 3) (v := (v3 + (1 : Int32))) (lw := [some (va_rf (some a0)), some (va_rf p1), some (va_rf p2), some (.int (v3 + (1 : Int32)))]) hC dX13_free_17 rfl (Nat.le_of_ble_eq_true rfl) rfl rfl ?_
      refine G_goto (pc := 20) (tgt := 5) hC dX13_free_20 (by decide) ?_
      exact ih (v3 + (1 : Int32)) M2 hw
theorem m_X13_free {l : Launch} {g : gT} {F : Nat} {a0 : Nat} {p1 : Option Nat} {p2 : Option Nat} {M : hM} {Q : hM → Prop} (hJ : JOK l g) (hw : w_X13_free g F a0 p1 p2 M Q) : MG l g yX13_free (ws_ yX13_free cX13_free 4 none) 1 12 [va_rf (some a0), va_rf p1, va_rf p2] M (PU Q) := by
  refine MG_of hJ.2.1 (by decide) (cat_r (cat_r (cat_r cat_e))) (Nat.le_of_ble_eq_true rfl) (fun k hl hg hin hQ hC => ?_)
  subst hl hg
  show GW k 4 M 0 [some (va_rf (some a0)), some (va_rf p1), some (va_rf p2), none] []
  refine G_aload_n (pc := 0) (i := 1) hC dX13_free_0 rfl rfl ?_
  refine G_getIN (pc := 1) (ci := 10) (C := RX11) (T := TX11) (N := 3) (f := 1) hC rfl in_X11 (Nat.le_of_ble_eq_true rfl) (nw_in q2376 rfl) (fun _ h => h) dX13_free_1 hw (fun x1 hw => ?_)
  refine G_istore_n (pc := 4) (i := 3) (lw := [some (va_rf (some a0)), some (va_rf p1), some (va_rf p2), some (.int x1)]) hC dX13_free_4 rfl (Nat.le_of_ble_eq_true rfl) rfl ?_
  exact g_X13_free_5 hJ hC hQ hin _ x1 M hw
theorem hd_J2_clear : yJ2_clear.cls = "java/util/ArrayList" ∧ yJ2_clear.cls ≠ "java/lang/invoke/MethodHandle" ∧ yJ2_clear.cls ≠ "java/lang/invoke/VarHandle" ∧ (parseMethodDescriptor yJ2_clear.desc).map (fun d => d.parameters.length) = some 0 := by decide +kernel
theorem hd_X13_free : yX13_free.cls = "MergeWorkbench$Comparison$MoveFinder" ∧ yX13_free.cls ≠ "java/lang/invoke/MethodHandle" ∧ yX13_free.cls ≠ "java/lang/invoke/VarHandle" ∧ (parseMethodDescriptor yX13_free.desc).map (fun d => d.parameters.length) = some 2 := by decide +kernel
def w_X13_init_55 (g : gT) (F : Nat) (a0 : Nat) (p1 : Option Nat) (Q : hM → Prop) : Nat → (Option Nat) → hM → Prop
  | 0, _, _ => False
  | n + 1, v2, M => gThis M v2 26 fun b2 => T_has g b2  M (fun x3 M1 => ((x3 = 0 → gF M1 p1 8 5 fun x4 => gThis M1 x4 21 fun b6 => L_clr g b6  M1 (fun M5 => Q M5)) ∧ (¬ (x3 = 0) → (isC M1 b2 26 ∧ T_next g b2  M1 (fun x8 M7 => ckC M7 x8 9 (gF M7 x8 9 0 fun x9 => gF M7 (some a0) 12 0 fun x10 => (isC M7 a0 12 ∧ w_X13_free g F a0 x9 x10 M7 (fun M11 => gF M11 x8 9 1 fun x12 => gF M11 (some a0) 12 1 fun x13 => (isC M11 a0 12 ∧ w_X13_free g F a0 x12 x13 M11 (fun M14 => w_X13_init_55 g F a0 p1 Q n (some b2) M14))))))))))
def w_X13_init (g : gT) (F : Nat) (a0 : Nat) (p1 : Option Nat) (M : hM) (Q : hM → Prop) : Prop :=
  pV M (some a0) 12 2 (va_rf p1) fun M1 => gF M1 (some a0) 12 2 fun x2 => gF M1 x2 8 0 fun x3 => gThis M1 x3 21 fun b5 => L_size g b5  M1 (fun x6 M4 => nA M4 3 x6 (.inl (fun _ => 0)) fun q7 M8 => pV M8 (some a0) 12 0 (va_rf (some q7)) fun M9 => gF M9 (some a0) 12 2 fun x10 => gF M9 x10 8 1 fun x11 => gThis M9 x11 21 fun b13 => L_size g b13  M9 (fun x14 M12 => nA M12 3 x14 (.inl (fun _ => 0)) fun q15 M16 => pV M16 (some a0) 12 1 (va_rf (some q15)) fun M17 => gF M17 p1 8 4 fun x18 => gThis M17 x18 21 fun b20 => L_itr g b20  M17 (fun x21 M19 => w_X13_init_55 g F a0 p1 Q F x21 M19)))
theorem g_X13_init_55 {k : kT} {F : Nat} {a0 : Nat} {p1 : Option Nat} {Q : hM → Prop} (hJ : JOK (kl k) (kg k)) (hC : CX k 4 cX13_init RX13 none 41 2023) (hQ : isQ k (PU Q)) (hin : (kt k).name = "<init>") : ∀ (n : Nat) (v2 : Option Nat) (M : hM), w_X13_init_55 (kg k) F a0 p1 Q n v2 M → GW k 4 M 55 [some (va_rf (some a0)), some (va_rf p1), some (va_rf v2), none] [] := by
  intro n
  induction n with
  | zero =>
    intro v2 M hw
    exact hw.elim
  | succ n ih =>
    intro v2 M hw
    refine G_aload_n (pc := 55) (i := 2) hC dX13_init_55 rfl rfl ?_
    obtain ⟨b2, rfl, hb, hw⟩ := gThis_e hw
    refine G_callF (pc := 56) (n := 0) (x := ⟨"java/util/Iterator", "hasNext", "()Z"⟩) (C := "java/util/ArrayList$Itr") (ci := 26) (T := TJ24) (N := 4) (b := b2) (As := []) (rest := []) hC (J_T_has hJ hw) (lw_F q2573 q909 q911 q112 q913) (nw_in q878 rfl) (nw_in q877 rfl) (nw_in q912 rfl) (nw_in q910 rfl) (nw_in q908 rfl) rfl (rcv (C := RJ24) (T := TJ24) (N := 4) hC hb rfl) (by decide +kernel) (by decide) rfl rfl (st_c cat_e (Nat.le_of_ble_eq_true rfl)) dX13_init_56 (kI fun x3 M1 hw => ?_)
    refine G_if_eq (pc := 61) (tgt := 101) hC dX13_init_61 (by decide) (fun hc => ?_) (fun hc => ?_)
    · replace hw := hw.1 hc
      refine G_aload_n (pc := 101) (i := 1) hC dX13_init_101 rfl rfl ?_
      refine G_getFN (pc := 102) (ci := 8) (C := RX9) (T := TX9) (N := 6) (f := 5) hC rfl in_X9 (Nat.le_of_ble_eq_true rfl) (nw_in q2435 rfl) (fun _ h => h) dX13_init_102 hw (fun x4 hw => ?_)
      obtain ⟨b6, rfl, hb, hw⟩ := gThis_e hw
      refine G_callF (pc := 105) (n := 0) (x := ⟨"java/util/List", "clear", "()V"⟩) (C := "java/util/ArrayList") (ci := 21) (T := TJ2) (N := 3) (b := b6) (As := []) (rest := []) hC (J_L_clr hJ hw) (lw_F q2582 q2585 q2587 q87 q2589) (nw_in q2584 rfl) (nw_in q2583 rfl) (nw_in q2588 rfl) (nw_in q2586 rfl) (nw_in q259 rfl) rfl (rcv (C := RJ2) (T := TJ2) (N := 3) hC hb rfl) (by decide +kernel) (by decide) rfl rfl (st_c cat_e (Nat.le_of_ble_eq_true rfl)) dX13_init_105 (kU fun M5 hw => ?_)
      exact G_ret (pc := 110) hC hQ dX13_init_110 hw
    · replace hw := hw.2 hc
      refine G_aload_n (pc := 64) (i := 2) hC dX13_init_64 rfl rfl ?_
      obtain ⟨hb, hw⟩ := hw
      refine G_callF (pc := 65) (n := 0) (x := ⟨"java/util/Iterator", "next", "()Ljava/lang/Object;"⟩) (C := "java/util/ArrayList$Itr") (ci := 26) (T := TJ24) (N := 4) (b := b2) (As := []) (rest := []) hC (J_T_next hJ hw) (lw_F q2575 q1119 q1121 q112 q1123) (nw_in q937 rfl) (nw_in q936 rfl) (nw_in q1122 rfl) (nw_in q1120 rfl) (nw_in q908 rfl) rfl (rcv (C := RJ24) (T := TJ24) (N := 4) hC hb rfl) (by decide +kernel) (by decide) rfl rfl (st_c cat_e (Nat.le_of_ble_eq_true rfl)) dX13_init_65 (kRf fun x8 M7 hw => ?_)
      obtain ⟨hb, hw⟩ := hw
      refine G_castCS (pc := 70) (C := RX10) (T := TX10) (N := 2) hC rfl q2576 hb dX13_init_70 ?_
      refine G_astore_n (pc := 73) (i := 3) (lw := [some (va_rf (some a0)), some (va_rf p1), some (va_rf (some b2)), some (va_rf x8)]) hC dX13_init_73 rfl (Nat.le_of_ble_eq_true rfl) rfl ?_
      refine G_aload_n (pc := 74) (i := 0) hC dX13_init_74 rfl rfl ?_
      refine G_aload_n (pc := 75) (i := 3) hC dX13_init_75 rfl rfl ?_
      refine G_getFN (pc := 76) (ci := 9) (C := RX10) (T := TX10) (N := 2) (f := 0) hC rfl in_X10 (Nat.le_of_ble_eq_true rfl) (nw_in q2400 rfl) (fun _ h => h) dX13_init_76 hw (fun x9 hw => ?_)
      refine G_aload_n (pc := 79) (i := 0) hC dX13_init_79 rfl rfl ?_
      refine G_getF (pc := 80) (ci := 12) (C := RX13) (T := TX13) (N := 3) (f := 0) hC rfl in_X13 (Nat.le_of_ble_eq_true rfl) q2650 (fun _ h => h) dX13_init_80 hw (fun x10 hw => ?_)
      obtain ⟨hb, hw⟩ := hw
      refine G_callV (pc := 83) (n := 2) (C := "MergeWorkbench$Comparison$MoveFinder") (b := a0) (As := [va_rf x9, va_rf x10]) (rest := []) hC (m_X13_free hJ hw) (lw_V q2577 q2579 qs38 q142 q2580) hd_X13_free (by decide) (rcv (C := RX13) (T := TX13) (N := 3) hC hb rfl) rfl rfl (st_c cat_e (Nat.le_of_ble_eq_true rfl)) dX13_init_83 (kU fun M11 hw => ?_)
      refine G_aload_n (pc := 86) (i := 0) hC dX13_init_86 rfl rfl ?_
      refine G_aload_n (pc := 87) (i := 3) hC dX13_init_87 rfl rfl ?_
      refine G_getFN (pc := 88) (ci := 9) (C := RX10) (T := TX10) (N := 2) (f := 1) hC rfl in_X10 (Nat.le_of_ble_eq_true rfl) (nw_in q2402 rfl) (fun _ h => h) dX13_init_88 hw (fun x12 hw => ?_)
      refine G_aload_n (pc := 91) (i := 0) hC dX13_init_91 rfl rfl ?_
      refine G_getF (pc := 92) (ci := 12) (C := RX13) (T := TX13) (N := 3) (f := 1) hC rfl in_X13 (Nat.le_of_ble_eq_true rfl) q2651 (fun _ h => h) dX13_init_92 hw (fun x13 hw => ?_)
      obtain ⟨hb, hw⟩ := hw
      refine G_callV (pc := 95) (n := 2) (C := "MergeWorkbench$Comparison$MoveFinder") (b := a0) (As := [va_rf x12, va_rf x13]) (rest := []) hC (m_X13_free hJ hw) (lw_V q2577 q2579 qs38 q142 q2580) hd_X13_free (by decide) (rcv (C := RX13) (T := TX13) (N := 3) hC hb rfl) rfl rfl (st_c cat_e (Nat.le_of_ble_eq_true rfl)) dX13_init_95 (kU fun M14 hw => ?_)
      refine G_goto (pc := 98) (tgt := 55) hC dX13_init_98 (by decide) ?_
      refine G_loc (lv' := [some (va_rf (some a0)), some (va_rf p1), some (va_rf (some b2)), none]) ⟨Or.inr rfl, Or.inr rfl, Or.inr rfl, Or.inl rfl, trivial⟩ ?_
      exact ih (some b2) M14 hw
theorem m_X13_init {l : Launch} {g : gT} {F : Nat} {a0 : Nat} {p1 : Option Nat} {M : hM} {Q : hM → Prop} (hJ : JOK l g) (hw : w_X13_init g F a0 p1 M Q) : MG l g yX13_init (ws_ yX13_init cX13_init 4 none) 41 2023 [va_rf (some a0), va_rf p1] M (PU Q) := by
  refine MG_of hJ.2.1 (by decide) (cat_r (cat_r cat_e)) (Nat.le_of_ble_eq_true rfl) (fun k hl hg hin hQ hC => ?_)
  subst hl hg
  show GW k 4 M 0 [some (va_rf (some a0)), some (va_rf p1), none, none] []
  refine G_aload_n (pc := 0) (i := 0) hC dX13_init_0 rfl rfl ?_
  refine G_aload_n (pc := 1) (i := 1) hC dX13_init_1 rfl rfl ?_
  refine G_putF (pc := 2) (ci := 12) (C := RX13) (T := TX13) (N := 3) (f := 2) tyX13 hC rfl in_X13 tyX13_ok nmX13 (Nat.le_of_ble_eq_true rfl) q2652 (fun _ h => h) rfl hin rfl (nR_o _ _) (fR_o _ _) dX13_init_2 hw (fun M1 hw => ?_)
  refine G_aload_n (pc := 5) (i := 0) hC dX13_init_5 rfl rfl ?_
  refine G_objInit (pc := 6) hC q2567 q158 q159 rfl rfl (st_c cat_e (Nat.le_of_ble_eq_true rfl)) dX13_init_6 ?_
  refine G_aload_n (pc := 9) (i := 0) hC dX13_init_9 rfl rfl ?_
  refine G_aload_n (pc := 10) (i := 0) hC dX13_init_10 rfl rfl ?_
  refine G_getF (pc := 11) (ci := 12) (C := RX13) (T := TX13) (N := 3) (f := 2) hC rfl in_X13 (Nat.le_of_ble_eq_true rfl) q2652 (fun _ h => h) dX13_init_11 hw (fun x2 hw => ?_)
  refine G_getFN (pc := 14) (ci := 8) (C := RX9) (T := TX9) (N := 6) (f := 0) hC rfl in_X9 (Nat.le_of_ble_eq_true rfl) (nw_in q2413 rfl) (fun _ h => h) dX13_init_14 hw (fun x3 hw => ?_)
  obtain ⟨b5, rfl, hb, hw⟩ := gThis_e hw
  refine G_callF (pc := 17) (n := 0) (x := ⟨"java/util/List", "size", "()I"⟩) (C := "java/util/ArrayList") (ci := 21) (T := TJ2) (N := 3) (b := b5) (As := []) (rest := [va_rf (some a0)]) hC (J_L_size hJ hw) (lw_F q2569 q889 q363 q87 q364) (nw_in q888 rfl) (nw_in q887 rfl) (nw_in q891 rfl) (nw_in q890 rfl) (nw_in q259 rfl) rfl (rcv (C := RJ2) (T := TJ2) (N := 3) hC hb rfl) (by decide +kernel) (by decide) rfl rfl (st_c (cat_r cat_e) (Nat.le_of_ble_eq_true rfl)) dX13_init_17 (kI fun x6 M4 hw => ?_)
  refine G_newZ (pc := 22) hC q2639 dX13_init_22 hw (fun q7 M8 hw => ?_)
  refine G_putF (pc := 24) (ci := 12) (C := RX13) (T := TX13) (N := 3) (f := 0) tyX13 hC rfl in_X13 tyX13_ok nmX13 (Nat.le_of_ble_eq_true rfl) q2650 (fun _ h => h) rfl hin rfl (nR_a _ _) (fR_a _ _) dX13_init_24 hw (fun M9 hw => ?_)
  refine G_aload_n (pc := 27) (i := 0) hC dX13_init_27 rfl rfl ?_
  refine G_aload_n (pc := 28) (i := 0) hC dX13_init_28 rfl rfl ?_
  refine G_getF (pc := 29) (ci := 12) (C := RX13) (T := TX13) (N := 3) (f := 2) hC rfl in_X13 (Nat.le_of_ble_eq_true rfl) q2652 (fun _ h => h) dX13_init_29 hw (fun x10 hw => ?_)
  refine G_getFN (pc := 32) (ci := 8) (C := RX9) (T := TX9) (N := 6) (f := 1) hC rfl in_X9 (Nat.le_of_ble_eq_true rfl) (nw_in q2419 rfl) (fun _ h => h) dX13_init_32 hw (fun x11 hw => ?_)
  obtain ⟨b13, rfl, hb, hw⟩ := gThis_e hw
  refine G_callF (pc := 35) (n := 0) (x := ⟨"java/util/List", "size", "()I"⟩) (C := "java/util/ArrayList") (ci := 21) (T := TJ2) (N := 3) (b := b13) (As := []) (rest := [va_rf (some a0)]) hC (J_L_size hJ hw) (lw_F q2569 q889 q363 q87 q364) (nw_in q888 rfl) (nw_in q887 rfl) (nw_in q891 rfl) (nw_in q890 rfl) (nw_in q259 rfl) rfl (rcv (C := RJ2) (T := TJ2) (N := 3) hC hb rfl) (by decide +kernel) (by decide) rfl rfl (st_c (cat_r cat_e) (Nat.le_of_ble_eq_true rfl)) dX13_init_35 (kI fun x14 M12 hw => ?_)
  refine G_newZ (pc := 40) hC q2639 dX13_init_40 hw (fun q15 M16 hw => ?_)
  refine G_putF (pc := 42) (ci := 12) (C := RX13) (T := TX13) (N := 3) (f := 1) tyX13 hC rfl in_X13 tyX13_ok nmX13 (Nat.le_of_ble_eq_true rfl) q2651 (fun _ h => h) rfl hin rfl (nR_a _ _) (fR_a _ _) dX13_init_42 hw (fun M17 hw => ?_)
  refine G_aload_n (pc := 45) (i := 1) hC dX13_init_45 rfl rfl ?_
  refine G_getFN (pc := 46) (ci := 8) (C := RX9) (T := TX9) (N := 6) (f := 4) hC rfl in_X9 (Nat.le_of_ble_eq_true rfl) (nw_in q2432 rfl) (fun _ h => h) dX13_init_46 hw (fun x18 hw => ?_)
  obtain ⟨b20, rfl, hb, hw⟩ := gThis_e hw
  refine G_callF (pc := 49) (n := 0) (x := ⟨"java/util/List", "iterator", "()Ljava/util/Iterator;"⟩) (C := "java/util/ArrayList") (ci := 21) (T := TJ2) (N := 3) (b := b20) (As := []) (rest := []) hC (J_L_itr hJ hw) (lw_F q2571 q1193 q803 q87 q804) (nw_in q1192 rfl) (nw_in q1191 rfl) (nw_in q1195 rfl) (nw_in q1194 rfl) (nw_in q259 rfl) rfl (rcv (C := RJ2) (T := TJ2) (N := 3) hC hb rfl) (by decide +kernel) (by decide) rfl rfl (st_c cat_e (Nat.le_of_ble_eq_true rfl)) dX13_init_49 (kRf fun x21 M19 hw => ?_)
  refine G_astore_n (pc := 54) (i := 2) (lw := [some (va_rf (some a0)), some (va_rf p1), some (va_rf x21), none]) hC dX13_init_54 rfl (Nat.le_of_ble_eq_true rfl) rfl ?_
  exact g_X13_init_55 hJ hC hQ hin _ x21 M19 hw
def w_X14_init (g : gT) (F : Nat) (a0 : Nat) (M : hM) (Q : hM → Prop) : Prop :=
  Q M
theorem m_X14_init {l : Launch} {g : gT} {F : Nat} {a0 : Nat} {M : hM} {Q : hM → Prop} (hJ : JOK l g) (hw : w_X14_init g F a0 M Q) : MG l g yX14_init (ws_ yX14_init cX14_init 1 none) 1 20 [va_rf (some a0)] M (PU Q) := by
  refine MG_of hJ.2.1 (by decide) (cat_r cat_e) (Nat.le_of_ble_eq_true rfl) (fun k hl hg hin hQ hC => ?_)
  subst hl hg
  show GW k 1 M 0 [some (va_rf (some a0))] []
  refine G_aload_n (pc := 0) (i := 0) hC dX14_init_0 rfl rfl ?_
  refine G_objInit (pc := 1) hC q2674 q158 q159 rfl rfl (st_c cat_e (Nat.le_of_ble_eq_true rfl)) dX14_init_1 ?_
  exact G_ret (pc := 4) hC hQ dX14_init_4 hw
def w_X13_lengthAt_105 (g : gT) (F : Nat) (a0 : Nat) (p1 : Int32) (p2 : Int32) (Q : Int32 → hM → Prop) (v3 : Int32) (M : hM) : Prop :=
  Q v3 M
def w_X13_lengthAt_2 (g : gT) (F : Nat) (a0 : Nat) (p1 : Int32) (p2 : Int32) (Q : Int32 → hM → Prop) : Nat → Int32 → hM → Prop
  | 0, _, _ => False
  | n + 1, v3, M => gF M (some a0) 12 2 fun x1 => gF M x1 8 0 fun x2 => gThis M x2 21 fun b4 => L_size g b4  M (fun x5 M3 => ((x5 ≤ (p1 + v3) → w_X13_lengthAt_105 g F a0 p1 p2 Q v3 M3) ∧ (¬ (x5 ≤ (p1 + v3)) → gF M3 (some a0) 12 2 fun x6 => gF M3 x6 8 1 fun x7 => gThis M3 x7 21 fun b9 => L_size g b9  M3 (fun x10 M8 => ((x10 ≤ (p2 + v3) → w_X13_lengthAt_105 g F a0 p1 p2 Q v3 M8) ∧ (¬ (x10 ≤ (p2 + v3)) → gF M8 (some a0) 12 0 fun x11 => aI M8 x11 3 (p1 + v3) fun x12 => ((x12 = 0 → w_X13_lengthAt_105 g F a0 p1 p2 Q v3 M8) ∧ (¬ (x12 = 0) → gF M8 (some a0) 12 1 fun x13 => aI M8 x13 3 (p2 + v3) fun x14 => ((x14 = 0 → w_X13_lengthAt_105 g F a0 p1 p2 Q v3 M8) ∧ (¬ (x14 = 0) → gF M8 (some a0) 12 2 fun x15 => gF M8 x15 8 0 fun x16 => gThis M8 x16 21 fun b18 => L_get g b18 (p1 + v3) M8 (fun x19 M17 => ckB g M17 x19 (gF M17 (some a0) 12 2 fun x20 => gF M17 x20 8 1 fun x21 => gThis M17 x21 21 fun b23 => L_get g b23 (p2 + v3) M17 (fun x24 M22 => gBx g M22 x19 fun b26 => B_eq g b26 x24 M22 (fun x27 M25 => ((x27 = 0 → w_X13_lengthAt_105 g F a0 p1 p2 Q v3 M25) ∧ (¬ (x27 = 0) → w_X13_lengthAt_2 g F a0 p1 p2 Q n (v3 + (1 : Int32)) M25))))))))))))))))
def w_X13_lengthAt (g : gT) (F : Nat) (a0 : Nat) (p1 : Int32) (p2 : Int32) (M : hM) (Q : Int32 → hM → Prop) : Prop :=
  w_X13_lengthAt_2 g F a0 p1 p2 Q F (0 : Int32) M
theorem g_X13_lengthAt_105 {k : kT} {F : Nat} {a0 : Nat} {p1 : Int32} {p2 : Int32} {Q : Int32 → hM → Prop} (hJ : JOK (kl k) (kg k)) (hC : CX k 4 cX13_lengthAt RX13 (some .int) 41 2021) (hQ : isQ k (PI Q)) (hin : (kt k).name = "lengthAt") : ∀ (v3 : Int32) (M : hM), w_X13_lengthAt_105 (kg k) F a0 p1 p2 Q v3 M → GW k 4 M 105 [some (va_rf (some a0)), some (.int p1), some (.int p2), some (.int v3)] [] := by
  intro v3 M hw
  refine G_iload_n (pc := 105) (i := 3) hC dX13_lengthAt_105 rfl rfl ?_
  exact G_iret (pc := 106) hC rfl hQ dX13_lengthAt_106 hw
theorem g_X13_lengthAt_2 {k : kT} {F : Nat} {a0 : Nat} {p1 : Int32} {p2 : Int32} {Q : Int32 → hM → Prop} (hJ : JOK (kl k) (kg k)) (hC : CX k 4 cX13_lengthAt RX13 (some .int) 41 2021) (hQ : isQ k (PI Q)) (hin : (kt k).name = "lengthAt") : ∀ (n : Nat) (v3 : Int32) (M : hM), w_X13_lengthAt_2 (kg k) F a0 p1 p2 Q n v3 M → GW k 4 M 2 [some (va_rf (some a0)), some (.int p1), some (.int p2), some (.int v3)] [] := by
  intro n
  induction n with
  | zero =>
    intro v3 M hw
    exact hw.elim
  | succ n ih =>
    intro v3 M hw
    refine G_iload_n (pc := 2) (i := 1) hC dX13_lengthAt_2 rfl rfl ?_
    refine G_iload_n (pc := 3) (i := 3) hC dX13_lengthAt_3 rfl rfl ?_
    refine G_iadd (pc := 4) hC dX13_lengthAt_4 ?_
    refine G_aload_n (pc := 5) (i := 0) hC dX13_lengthAt_5 rfl rfl ?_
    refine G_getF (pc := 6) (ci := 12) (C := RX13) (T := TX13) (N := 3) (f := 2) hC rfl in_X13 (Nat.le_of_ble_eq_true rfl) q2652 (fun _ h => h) dX13_lengthAt_6 hw (fun x1 hw => ?_)
    refine G_getFN (pc := 9) (ci := 8) (C := RX9) (T := TX9) (N := 6) (f := 0) hC rfl in_X9 (Nat.le_of_ble_eq_true rfl) (nw_in q2413 rfl) (fun _ h => h) dX13_lengthAt_9 hw (fun x2 hw => ?_)
    obtain ⟨b4, rfl, hb, hw⟩ := gThis_e hw
    refine G_callF (pc := 12) (n := 0) (x := ⟨"java/util/List", "size", "()I"⟩) (C := "java/util/ArrayList") (ci := 21) (T := TJ2) (N := 3) (b := b4) (As := []) (rest := [.int (p1 + v3)]) hC (J_L_size hJ hw) (lw_F q2569 q889 q363 q87 q364) (nw_in q888 rfl) (nw_in q887 rfl) (nw_in q891 rfl) (nw_in q890 rfl) (nw_in q259 rfl) rfl (rcv (C := RJ2) (T := TJ2) (N := 3) hC hb rfl) (by decide +kernel) (by decide) rfl rfl (st_c (cat_i cat_e) (Nat.le_of_ble_eq_true rfl)) dX13_lengthAt_12 (kI fun x5 M3 hw => ?_)
    refine G_icmp_ge (pc := 17) (tgt := 105) hC dX13_lengthAt_17 (by decide) (fun hc => ?_) (fun hc => ?_)
    · replace hw := hw.1 hc
      exact g_X13_lengthAt_105 hJ hC hQ hin  v3 M3 hw
    · replace hw := hw.2 hc
      refine G_iload_n (pc := 20) (i := 2) hC dX13_lengthAt_20 rfl rfl ?_
      refine G_iload_n (pc := 21) (i := 3) hC dX13_lengthAt_21 rfl rfl ?_
      refine G_iadd (pc := 22) hC dX13_lengthAt_22 ?_
      refine G_aload_n (pc := 23) (i := 0) hC dX13_lengthAt_23 rfl rfl ?_
      refine G_getF (pc := 24) (ci := 12) (C := RX13) (T := TX13) (N := 3) (f := 2) hC rfl in_X13 (Nat.le_of_ble_eq_true rfl) q2652 (fun _ h => h) dX13_lengthAt_24 hw (fun x6 hw => ?_)
      refine G_getFN (pc := 27) (ci := 8) (C := RX9) (T := TX9) (N := 6) (f := 1) hC rfl in_X9 (Nat.le_of_ble_eq_true rfl) (nw_in q2419 rfl) (fun _ h => h) dX13_lengthAt_27 hw (fun x7 hw => ?_)
      obtain ⟨b9, rfl, hb, hw⟩ := gThis_e hw
      refine G_callF (pc := 30) (n := 0) (x := ⟨"java/util/List", "size", "()I"⟩) (C := "java/util/ArrayList") (ci := 21) (T := TJ2) (N := 3) (b := b9) (As := []) (rest := [.int (p2 + v3)]) hC (J_L_size hJ hw) (lw_F q2569 q889 q363 q87 q364) (nw_in q888 rfl) (nw_in q887 rfl) (nw_in q891 rfl) (nw_in q890 rfl) (nw_in q259 rfl) rfl (rcv (C := RJ2) (T := TJ2) (N := 3) hC hb rfl) (by decide +kernel) (by decide) rfl rfl (st_c (cat_i cat_e) (Nat.le_of_ble_eq_true rfl)) dX13_lengthAt_30 (kI fun x10 M8 hw => ?_)
      refine G_icmp_ge (pc := 35) (tgt := 105) hC dX13_lengthAt_35 (by decide) (fun hc => ?_) (fun hc => ?_)
      · replace hw := hw.1 hc
        exact g_X13_lengthAt_105 hJ hC hQ hin  v3 M8 hw
      · replace hw := hw.2 hc
        refine G_aload_n (pc := 38) (i := 0) hC dX13_lengthAt_38 rfl rfl ?_
        refine G_getF (pc := 39) (ci := 12) (C := RX13) (T := TX13) (N := 3) (f := 0) hC rfl in_X13 (Nat.le_of_ble_eq_true rfl) q2650 (fun _ h => h) dX13_lengthAt_39 hw (fun x11 hw => ?_)
        refine G_iload_n (pc := 42) (i := 1) hC dX13_lengthAt_42 rfl rfl ?_
        refine G_iload_n (pc := 43) (i := 3) hC dX13_lengthAt_43 rfl rfl ?_
        refine G_iadd (pc := 44) hC dX13_lengthAt_44 ?_
        refine G_zald (pc := 45) hC dX13_lengthAt_45 hw (fun x12 hw => ?_)
        refine G_if_eq (pc := 46) (tgt := 105) hC dX13_lengthAt_46 (by decide) (fun hc => ?_) (fun hc => ?_)
        · replace hw := hw.1 hc
          exact g_X13_lengthAt_105 hJ hC hQ hin  v3 M8 hw
        · replace hw := hw.2 hc
          refine G_aload_n (pc := 49) (i := 0) hC dX13_lengthAt_49 rfl rfl ?_
          refine G_getF (pc := 50) (ci := 12) (C := RX13) (T := TX13) (N := 3) (f := 1) hC rfl in_X13 (Nat.le_of_ble_eq_true rfl) q2651 (fun _ h => h) dX13_lengthAt_50 hw (fun x13 hw => ?_)
          refine G_iload_n (pc := 53) (i := 2) hC dX13_lengthAt_53 rfl rfl ?_
          refine G_iload_n (pc := 54) (i := 3) hC dX13_lengthAt_54 rfl rfl ?_
          refine G_iadd (pc := 55) hC dX13_lengthAt_55 ?_
          refine G_zald (pc := 56) hC dX13_lengthAt_56 hw (fun x14 hw => ?_)
          refine G_if_eq (pc := 57) (tgt := 105) hC dX13_lengthAt_57 (by decide) (fun hc => ?_) (fun hc => ?_)
          · replace hw := hw.1 hc
            exact g_X13_lengthAt_105 hJ hC hQ hin  v3 M8 hw
          · replace hw := hw.2 hc
            refine G_aload_n (pc := 60) (i := 0) hC dX13_lengthAt_60 rfl rfl ?_
            refine G_getF (pc := 61) (ci := 12) (C := RX13) (T := TX13) (N := 3) (f := 2) hC rfl in_X13 (Nat.le_of_ble_eq_true rfl) q2652 (fun _ h => h) dX13_lengthAt_61 hw (fun x15 hw => ?_)
            refine G_getFN (pc := 64) (ci := 8) (C := RX9) (T := TX9) (N := 6) (f := 0) hC rfl in_X9 (Nat.le_of_ble_eq_true rfl) (nw_in q2413 rfl) (fun _ h => h) dX13_lengthAt_64 hw (fun x16 hw => ?_)
            refine G_iload_n (pc := 67) (i := 1) hC dX13_lengthAt_67 rfl rfl ?_
            refine G_iload_n (pc := 68) (i := 3) hC dX13_lengthAt_68 rfl rfl ?_
            refine G_iadd (pc := 69) hC dX13_lengthAt_69 ?_
            obtain ⟨b18, rfl, hb, hw⟩ := gThis_e hw
            refine G_callF (pc := 70) (n := 1) (x := ⟨"java/util/List", "get", "(I)Ljava/lang/Object;"⟩) (C := "java/util/ArrayList") (ci := 21) (T := TJ2) (N := 3) (b := b18) (As := [.int (p1 + v3)]) (rest := []) hC (J_L_get hJ hw) (lw_F q2710 q956 q958 q87 q960) (nw_in q955 rfl) (nw_in q954 rfl) (nw_in q959 rfl) (nw_in q957 rfl) (nw_in q259 rfl) rfl (rcv (C := RJ2) (T := TJ2) (N := 3) hC hb rfl) (by decide +kernel) (by decide) rfl rfl (st_c cat_e (Nat.le_of_ble_eq_true rfl)) dX13_lengthAt_70 (kRf fun x19 M17 hw => ?_)
            obtain ⟨hb, hw⟩ := hw
            refine G_castBS (pc := 75) hJ.1 hC q2711 hb dX13_lengthAt_75 ?_
            refine G_aload_n (pc := 78) (i := 0) hC dX13_lengthAt_78 rfl rfl ?_
            refine G_getF (pc := 79) (ci := 12) (C := RX13) (T := TX13) (N := 3) (f := 2) hC rfl in_X13 (Nat.le_of_ble_eq_true rfl) q2652 (fun _ h => h) dX13_lengthAt_79 hw (fun x20 hw => ?_)
            refine G_getFN (pc := 82) (ci := 8) (C := RX9) (T := TX9) (N := 6) (f := 1) hC rfl in_X9 (Nat.le_of_ble_eq_true rfl) (nw_in q2419 rfl) (fun _ h => h) dX13_lengthAt_82 hw (fun x21 hw => ?_)
            refine G_iload_n (pc := 85) (i := 2) hC dX13_lengthAt_85 rfl rfl ?_
            refine G_iload_n (pc := 86) (i := 3) hC dX13_lengthAt_86 rfl rfl ?_
            refine G_iadd (pc := 87) hC dX13_lengthAt_87 ?_
            obtain ⟨b23, rfl, hb, hw⟩ := gThis_e hw
            refine G_callF (pc := 88) (n := 1) (x := ⟨"java/util/List", "get", "(I)Ljava/lang/Object;"⟩) (C := "java/util/ArrayList") (ci := 21) (T := TJ2) (N := 3) (b := b23) (As := [.int (p2 + v3)]) (rest := [va_rf x19]) hC (J_L_get hJ hw) (lw_F q2710 q956 q958 q87 q960) (nw_in q955 rfl) (nw_in q954 rfl) (nw_in q959 rfl) (nw_in q957 rfl) (nw_in q259 rfl) rfl (rcv (C := RJ2) (T := TJ2) (N := 3) hC hb rfl) (by decide +kernel) (by decide) rfl rfl (st_c (cat_r cat_e) (Nat.le_of_ble_eq_true rfl)) dX13_lengthAt_88 (kRf fun x24 M22 hw => ?_)
            obtain ⟨b26, rfl, hb, hw⟩ := gBx_e hw
            refine G_callV (pc := 93) (n := 1) (C := "java/lang/Integer") (b := b26) (As := [va_rf x24]) (rest := []) hC (J_B_eq hJ hw) (lw_V q2712 q1488 q3879 q106 q1489) hd_J19_equals (by decide) (rcvB hJ.1 hC hb) rfl rfl (st_c cat_e (Nat.le_of_ble_eq_true rfl)) dX13_lengthAt_93 (kI fun x27 M25 hw => ?_)
            refine G_if_eq (pc := 96) (tgt := 105) hC dX13_lengthAt_96 (by decide) (fun hc => ?_) (fun hc => ?_)
            · replace hw := hw.1 hc
              exact g_X13_lengthAt_105 hJ hC hQ hin  v3 M25 hw
            · replace hw := hw.2 hc
              refine G_iinc (pc := 99) (i := 3) (v := (v3 + (1 : Int32))) (lw := [some (va_rf (some a0)), some (.int p1), some (.int p2), some (.int (v3 + (1 : Int32)))]) hC dX13_lengthAt_99 rfl (Nat.le_of_ble_eq_true rfl) rfl rfl ?_
              refine G_goto (pc := 102) (tgt := 2) hC dX13_lengthAt_102 (by decide) ?_
              exact ih (v3 + (1 : Int32)) M25 hw
theorem m_X13_lengthAt {l : Launch} {g : gT} {F : Nat} {a0 : Nat} {p1 : Int32} {p2 : Int32} {M : hM} {Q : Int32 → hM → Prop} (hJ : JOK l g) (hw : w_X13_lengthAt g F a0 p1 p2 M Q) : MG l g yX13_lengthAt (ws_ yX13_lengthAt cX13_lengthAt 4 (some .int)) 41 2021 [va_rf (some a0), .int p1, .int p2] M (PI Q) := by
  refine MG_of hJ.2.1 (by decide) (cat_r (cat_i (cat_i cat_e))) (Nat.le_of_ble_eq_true rfl) (fun k hl hg hin hQ hC => ?_)
  subst hl hg
  show GW k 4 M 0 [some (va_rf (some a0)), some (.int p1), some (.int p2), none] []
  refine G_iconst (pc := 0) (v := 0) hC dX13_lengthAt_0 (by decide) ?_
  refine G_istore_n (pc := 1) (i := 3) (lw := [some (va_rf (some a0)), some (.int p1), some (.int p2), some (.int (0 : Int32))]) hC dX13_lengthAt_1 rfl (Nat.le_of_ble_eq_true rfl) rfl ?_
  exact g_X13_lengthAt_2 hJ hC hQ hin _ (0 : Int32) M hw
theorem hd_X13_lengthAt : yX13_lengthAt.cls = "MergeWorkbench$Comparison$MoveFinder" ∧ yX13_lengthAt.cls ≠ "java/lang/invoke/MethodHandle" ∧ yX13_lengthAt.cls ≠ "java/lang/invoke/VarHandle" ∧ (parseMethodDescriptor yX13_lengthAt.desc).map (fun d => d.parameters.length) = some 2 := by decide +kernel
def w_X13_isBehindOther_26 (g : gT) (F : Nat) (a0 : Nat) (p1 : Int32) (p2 : Int32) (Q : Int32 → hM → Prop) (s0 : Int32) (M : hM) : Prop :=
  ((s0 = 0 ∨ s0 = 1) ∧ Q s0 M)
def w_X13_isBehindOther_25 (g : gT) (F : Nat) (a0 : Nat) (p1 : Int32) (p2 : Int32) (Q : Int32 → hM → Prop) (M : hM) : Prop :=
  w_X13_isBehindOther_26 g F a0 p1 p2 Q (0 : Int32) M
def w_X13_isBehindOther (g : gT) (F : Nat) (a0 : Nat) (p1 : Int32) (p2 : Int32) (M : hM) (Q : Int32 → hM → Prop) : Prop :=
  ((p1 ≤ 0 → w_X13_isBehindOther_25 g F a0 p1 p2 Q M) ∧ (¬ (p1 ≤ 0) → ((p2 ≤ 0 → w_X13_isBehindOther_25 g F a0 p1 p2 Q M) ∧ (¬ (p2 ≤ 0) → (isC M a0 12 ∧ w_X13_lengthAt g F a0 (p1 - (1 : Int32)) (p2 - (1 : Int32)) M (fun x2 M1 => ((x2 ≤ 0 → w_X13_isBehindOther_25 g F a0 p1 p2 Q M1) ∧ (¬ (x2 ≤ 0) → w_X13_isBehindOther_26 g F a0 p1 p2 Q (1 : Int32) M1))))))))
theorem g_X13_isBehindOther_26 {k : kT} {F : Nat} {a0 : Nat} {p1 : Int32} {p2 : Int32} {Q : Int32 → hM → Prop} (hJ : JOK (kl k) (kg k)) (hC : CX k 3 cX13_isBehindOther RX13 (some .boolean) 42 2044) (hQ : isQ k (PI Q)) (hin : (kt k).name = "isBehindOther") : ∀ (s0 : Int32) (M : hM), w_X13_isBehindOther_26 (kg k) F a0 p1 p2 Q s0 M → GW k 3 M 26 [some (va_rf (some a0)), some (.int p1), some (.int p2)] [.int s0] := by
  intro s0 M hw
  obtain ⟨hz, hw⟩ := hw
  exact G_iret (pc := 26) hC (nz_n hz) hQ dX13_isBehindOther_26 hw
theorem g_X13_isBehindOther_25 {k : kT} {F : Nat} {a0 : Nat} {p1 : Int32} {p2 : Int32} {Q : Int32 → hM → Prop} (hJ : JOK (kl k) (kg k)) (hC : CX k 3 cX13_isBehindOther RX13 (some .boolean) 42 2044) (hQ : isQ k (PI Q)) (hin : (kt k).name = "isBehindOther") : ∀  (M : hM), w_X13_isBehindOther_25 (kg k) F a0 p1 p2 Q  M → GW k 3 M 25 [some (va_rf (some a0)), some (.int p1), some (.int p2)] [] := by
  intro  M hw
  refine G_iconst (pc := 25) (v := 0) hC dX13_isBehindOther_25 (by decide) ?_
  exact g_X13_isBehindOther_26 hJ hC hQ hin  (0 : Int32) M hw
theorem m_X13_isBehindOther {l : Launch} {g : gT} {F : Nat} {a0 : Nat} {p1 : Int32} {p2 : Int32} {M : hM} {Q : Int32 → hM → Prop} (hJ : JOK l g) (hw : w_X13_isBehindOther g F a0 p1 p2 M Q) : MG l g yX13_isBehindOther (ws_ yX13_isBehindOther cX13_isBehindOther 3 (some .boolean)) 42 2044 [va_rf (some a0), .int p1, .int p2] M (PI Q) := by
  refine MG_of hJ.2.1 (by decide) (cat_r (cat_i (cat_i cat_e))) (Nat.le_of_ble_eq_true rfl) (fun k hl hg hin hQ hC => ?_)
  subst hl hg
  show GW k 3 M 0 [some (va_rf (some a0)), some (.int p1), some (.int p2)] []
  refine G_iload_n (pc := 0) (i := 1) hC dX13_isBehindOther_0 rfl rfl ?_
  refine G_if_le (pc := 1) (tgt := 25) hC dX13_isBehindOther_1 (by decide) (fun hc => ?_) (fun hc => ?_)
  · replace hw := hw.1 hc
    exact g_X13_isBehindOther_25 hJ hC hQ hin   M hw
  · replace hw := hw.2 hc
    refine G_iload_n (pc := 4) (i := 2) hC dX13_isBehindOther_4 rfl rfl ?_
    refine G_if_le (pc := 5) (tgt := 25) hC dX13_isBehindOther_5 (by decide) (fun hc => ?_) (fun hc => ?_)
    · replace hw := hw.1 hc
      exact g_X13_isBehindOther_25 hJ hC hQ hin   M hw
    · replace hw := hw.2 hc
      refine G_aload_n (pc := 8) (i := 0) hC dX13_isBehindOther_8 rfl rfl ?_
      refine G_iload_n (pc := 9) (i := 1) hC dX13_isBehindOther_9 rfl rfl ?_
      refine G_iconst (pc := 10) (v := 1) hC dX13_isBehindOther_10 (by decide) ?_
      refine G_isub (pc := 11) hC dX13_isBehindOther_11 ?_
      refine G_iload_n (pc := 12) (i := 2) hC dX13_isBehindOther_12 rfl rfl ?_
      refine G_iconst (pc := 13) (v := 1) hC dX13_isBehindOther_13 (by decide) ?_
      refine G_isub (pc := 14) hC dX13_isBehindOther_14 ?_
      obtain ⟨hb, hw⟩ := hw
      refine G_callV (pc := 15) (n := 2) (C := "MergeWorkbench$Comparison$MoveFinder") (b := a0) (As := [.int (p1 - (1 : Int32)), .int (p2 - (1 : Int32))]) (rest := []) hC (m_X13_lengthAt hJ hw) (lw_V q2705 q2707 qs41 q142 q2708) hd_X13_lengthAt (by decide) (rcv (C := RX13) (T := TX13) (N := 3) hC hb rfl) rfl rfl (st_c cat_e (Nat.le_of_ble_eq_true rfl)) dX13_isBehindOther_15 (kI fun x2 M1 hw => ?_)
      refine G_if_le (pc := 18) (tgt := 25) hC dX13_isBehindOther_18 (by decide) (fun hc => ?_) (fun hc => ?_)
      · replace hw := hw.1 hc
        exact g_X13_isBehindOther_25 hJ hC hQ hin   M1 hw
      · replace hw := hw.2 hc
        refine G_iconst (pc := 21) (v := 1) hC dX13_isBehindOther_21 (by decide) ?_
        refine G_goto (pc := 22) (tgt := 26) hC dX13_isBehindOther_22 (by decide) ?_
        exact g_X13_isBehindOther_26 hJ hC hQ hin  (1 : Int32) M1 hw
def w_X15_init (g : gT) (F : Nat) (a0 : Nat) (p1 : Int32) (p2 : Int32) (p3 : Int32) (M : hM) (Q : hM → Prop) : Prop :=
  pV M (some a0) 14 0 (.int p1) fun M1 => pV M1 (some a0) 14 1 (.int p2) fun M2 => pV M2 (some a0) 14 2 (.int p3) fun M3 => Q M3
theorem m_X15_init {l : Launch} {g : gT} {F : Nat} {a0 : Nat} {p1 : Int32} {p2 : Int32} {p3 : Int32} {M : hM} {Q : hM → Prop} (hJ : JOK l g) (hw : w_X15_init g F a0 p1 p2 p3 M Q) : MG l g yX15_init (ws_ yX15_init cX15_init 4 none) 1 20 [va_rf (some a0), .int p1, .int p2, .int p3] M (PU Q) := by
  refine MG_of hJ.2.1 (by decide) (cat_r (cat_i (cat_i (cat_i cat_e)))) (Nat.le_of_ble_eq_true rfl) (fun k hl hg hin hQ hC => ?_)
  subst hl hg
  show GW k 4 M 0 [some (va_rf (some a0)), some (.int p1), some (.int p2), some (.int p3)] []
  refine G_aload_n (pc := 0) (i := 0) hC dX15_init_0 rfl rfl ?_
  refine G_objInit (pc := 1) hC q2722 q158 q159 rfl rfl (st_c cat_e (Nat.le_of_ble_eq_true rfl)) dX15_init_1 ?_
  refine G_aload_n (pc := 4) (i := 0) hC dX15_init_4 rfl rfl ?_
  refine G_iload_n (pc := 5) (i := 1) hC dX15_init_5 rfl rfl ?_
  refine G_putF (pc := 6) (ci := 14) (C := RX15) (T := TX15) (N := 3) (f := 0) tyX15 hC rfl in_X15 tyX15_ok nmX15 (Nat.le_of_ble_eq_true rfl) q2723 (fun _ h => h) rfl hin rfl rfl rfl dX15_init_6 hw (fun M1 hw => ?_)
  refine G_aload_n (pc := 9) (i := 0) hC dX15_init_9 rfl rfl ?_
  refine G_iload_n (pc := 10) (i := 2) hC dX15_init_10 rfl rfl ?_
  refine G_putF (pc := 11) (ci := 14) (C := RX15) (T := TX15) (N := 3) (f := 1) tyX15 hC rfl in_X15 tyX15_ok nmX15 (Nat.le_of_ble_eq_true rfl) q2726 (fun _ h => h) rfl hin rfl rfl rfl dX15_init_11 hw (fun M2 hw => ?_)
  refine G_aload_n (pc := 14) (i := 0) hC dX15_init_14 rfl rfl ?_
  refine G_iload_n (pc := 15) (i := 3) hC dX15_init_15 rfl rfl ?_
  refine G_putF (pc := 16) (ci := 14) (C := RX15) (T := TX15) (N := 3) (f := 2) tyX15 hC rfl in_X15 tyX15_ok nmX15 (Nat.le_of_ble_eq_true rfl) q2729 (fun _ h => h) rfl hin rfl rfl rfl dX15_init_16 hw (fun M3 hw => ?_)
  exact G_ret (pc := 19) hC hQ dX15_init_19 hw
theorem hd_J35_add : yJ35_add.cls = "java/util/PriorityQueue" ∧ yJ35_add.cls ≠ "java/lang/invoke/MethodHandle" ∧ yJ35_add.cls ≠ "java/lang/invoke/VarHandle" ∧ (parseMethodDescriptor yJ35_add.desc).map (fun d => d.parameters.length) = some 1 := by decide +kernel
theorem hd_J35_init : yJ35_init.cls = "java/util/PriorityQueue" ∧ yJ35_init.cls ≠ "java/lang/invoke/MethodHandle" ∧ yJ35_init.cls ≠ "java/lang/invoke/VarHandle" ∧ (parseMethodDescriptor yJ35_init.desc).map (fun d => d.parameters.length) = some 1 := by decide +kernel
theorem hd_X13_isBehindOther : yX13_isBehindOther.cls = "MergeWorkbench$Comparison$MoveFinder" ∧ yX13_isBehindOther.cls ≠ "java/lang/invoke/MethodHandle" ∧ yX13_isBehindOther.cls ≠ "java/lang/invoke/VarHandle" ∧ (parseMethodDescriptor yX13_isBehindOther.desc).map (fun d => d.parameters.length) = some 2 := by decide +kernel
theorem hd_X14_init : yX14_init.cls = "MergeWorkbench$MoveOrder" ∧ yX14_init.cls ≠ "java/lang/invoke/MethodHandle" ∧ yX14_init.cls ≠ "java/lang/invoke/VarHandle" ∧ (parseMethodDescriptor yX14_init.desc).map (fun d => d.parameters.length) = some 0 := by decide +kernel
theorem hd_X15_init : yX15_init.cls = "MergeWorkbench$Move" ∧ yX15_init.cls ≠ "java/lang/invoke/MethodHandle" ∧ yX15_init.cls ≠ "java/lang/invoke/VarHandle" ∧ (parseMethodDescriptor yX15_init.desc).map (fun d => d.parameters.length) = some 3 := by decide +kernel
def w_X13_possible_95 (g : gT) (F : Nat) (a0 : Nat) (p1 : Int32) (Q : Option Nat → hM → Prop) (K36 : (Option Nat) → Int32 → Int32 → hM → Prop) (v2 : Option Nat) (v3 : Int32) (v4 : Int32) (M : hM) : Prop :=
  K36 v2 v3 (v4 + (1 : Int32)) M
def w_X13_possible_36 (g : gT) (F : Nat) (a0 : Nat) (p1 : Int32) (Q : Option Nat → hM → Prop) (K17 : (Option Nat) → Int32 → hM → Prop) : Nat → (Option Nat) → Int32 → Int32 → hM → Prop
  | 0, _, _, _, _ => False
  | n + 1, v2, v3, v4, M => gF M (some a0) 12 2 fun x1 => gF M x1 8 1 fun x2 => gThis M x2 21 fun b4 => L_size g b4  M (fun x5 M3 => ((x5 ≤ v4 → K17 v2 (v3 + (1 : Int32)) M3) ∧ (¬ (x5 ≤ v4) → (isC M3 a0 12 ∧ w_X13_lengthAt g F a0 v3 v4 M3 (fun x7 M6 => ((x7 < p1 → w_X13_possible_95 g F a0 p1 Q (fun v2 v3 v4 M => w_X13_possible_36 g F a0 p1 Q K17 n v2 v3 v4 M) v2 v3 v4 M6) ∧ (¬ (x7 < p1) → (isC M6 a0 12 ∧ w_X13_isBehindOther g F a0 v3 v4 M6 (fun x9 M8 => ((¬ x9 = 0 → w_X13_possible_95 g F a0 p1 Q (fun v2 v3 v4 M => w_X13_possible_36 g F a0 p1 Q K17 n v2 v3 v4 M) v2 v3 v4 M8) ∧ (x9 = 0 → nW M8 14 fsX15 fun q10 M11 => (isC M11 q10 14 ∧ w_X15_init g F q10 v3 v4 x7 M11 (fun M12 => gThis M12 v2 29 fun b14 => Q_add g b14 (some q10) M12 (fun x15 M13 => w_X13_possible_95 g F a0 p1 Q (fun v2 v3 v4 M => w_X13_possible_36 g F a0 p1 Q K17 n v2 v3 v4 M) (some b14) v3 v4 M13))))))))))))))
def w_X13_possible_17 (g : gT) (F : Nat) (a0 : Nat) (p1 : Int32) (Q : Option Nat → hM → Prop) : Nat → (Option Nat) → Int32 → hM → Prop
  | 0, _, _, _ => False
  | n + 1, v2, v3, M => gF M (some a0) 12 2 fun x1 => gF M x1 8 0 fun x2 => gThis M x2 21 fun b4 => L_size g b4  M (fun x5 M3 => ((x5 ≤ v3 → Q v2 M3) ∧ (¬ (x5 ≤ v3) → w_X13_possible_36 g F a0 p1 Q (fun v2 v3 M => w_X13_possible_17 g F a0 p1 Q n v2 v3 M) F v2 v3 (0 : Int32) M3)))
def w_X13_possible (g : gT) (F : Nat) (a0 : Nat) (p1 : Int32) (M : hM) (Q : Option Nat → hM → Prop) : Prop :=
  nW M 29 fsJ35 fun q1 M2 => nW M2 13 fsX14 fun q3 M4 => (isC M4 q3 13 ∧ w_X14_init g F q3  M4 (fun M5 => (isC M5 q1 29 ∧ Q_new g q1 (some q3) M5 (fun M6 => w_X13_possible_17 g F a0 p1 Q F (some q1) (0 : Int32) M6))))
theorem g_X13_possible_95 {k : kT} {F : Nat} {a0 : Nat} {p1 : Int32} {Q : Option Nat → hM → Prop} {K36 : (Option Nat) → Int32 → Int32 → hM → Prop} (hJ : JOK (kl k) (kg k)) (hC : CX k 6 cX13_possible RX13 (some (.object "java/util/PriorityQueue")) 43 2066) (hQ : isQ k (PR Q)) (hin : (kt k).name = "possible") (hK36 : ∀ (v2 : Option Nat) (v3 : Int32) (v4 : Int32) (M : hM), K36 v2 v3 v4 M → GW k 6 M 36 [some (va_rf (some a0)), some (.int p1), some (va_rf v2), some (.int v3), some (.int v4), none] []) : ∀ (v2 : Option Nat) (v3 : Int32) (v4 : Int32) (M : hM), w_X13_possible_95 (kg k) F a0 p1 Q K36 v2 v3 v4 M → GW k 6 M 95 [some (va_rf (some a0)), some (.int p1), some (va_rf v2), some (.int v3), some (.int v4), none] [] := by
  intro v2 v3 v4 M hw
  refine G_iinc (pc := 95) (i := 4) (v := (v4 + (1 : Int32))) (lw := [some (va_rf (some a0)), some (.int p1), some (va_rf v2), some (.int v3), some (.int (v4 + (1 : Int32))), none]) hC dX13_possible_95 rfl (Nat.le_of_ble_eq_true rfl) rfl rfl ?_
  refine G_goto (pc := 98) (tgt := 36) hC dX13_possible_98 (by decide) ?_
  exact hK36 v2 v3 (v4 + (1 : Int32)) M hw
theorem g_X13_possible_36 {k : kT} {F : Nat} {a0 : Nat} {p1 : Int32} {Q : Option Nat → hM → Prop} {K17 : (Option Nat) → Int32 → hM → Prop} (hJ : JOK (kl k) (kg k)) (hC : CX k 6 cX13_possible RX13 (some (.object "java/util/PriorityQueue")) 43 2066) (hQ : isQ k (PR Q)) (hin : (kt k).name = "possible") (hK17 : ∀ (v2 : Option Nat) (v3 : Int32) (M : hM), K17 v2 v3 M → GW k 6 M 17 [some (va_rf (some a0)), some (.int p1), some (va_rf v2), some (.int v3), none, none] []) : ∀ (n : Nat) (v2 : Option Nat) (v3 : Int32) (v4 : Int32) (M : hM), w_X13_possible_36 (kg k) F a0 p1 Q K17 n v2 v3 v4 M → GW k 6 M 36 [some (va_rf (some a0)), some (.int p1), some (va_rf v2), some (.int v3), some (.int v4), none] [] := by
  intro n
  induction n with
  | zero =>
    intro v2 v3 v4 M hw
    exact hw.elim
  | succ n ih =>
    intro v2 v3 v4 M hw
    refine G_iload (pc := 36) (i := 4) hC dX13_possible_36 rfl ?_
    refine G_aload_n (pc := 38) (i := 0) hC dX13_possible_38 rfl rfl ?_
    refine G_getF (pc := 39) (ci := 12) (C := RX13) (T := TX13) (N := 3) (f := 2) hC rfl in_X13 (Nat.le_of_ble_eq_true rfl) q2652 (fun _ h => h) dX13_possible_39 hw (fun x1 hw => ?_)
    refine G_getFN (pc := 42) (ci := 8) (C := RX9) (T := TX9) (N := 6) (f := 1) hC rfl in_X9 (Nat.le_of_ble_eq_true rfl) (nw_in q2419 rfl) (fun _ h => h) dX13_possible_42 hw (fun x2 hw => ?_)
    obtain ⟨b4, rfl, hb, hw⟩ := gThis_e hw
    refine G_callF (pc := 45) (n := 0) (x := ⟨"java/util/List", "size", "()I"⟩) (C := "java/util/ArrayList") (ci := 21) (T := TJ2) (N := 3) (b := b4) (As := []) (rest := [.int v4]) hC (J_L_size hJ hw) (lw_F q2569 q889 q363 q87 q364) (nw_in q888 rfl) (nw_in q887 rfl) (nw_in q891 rfl) (nw_in q890 rfl) (nw_in q259 rfl) rfl (rcv (C := RJ2) (T := TJ2) (N := 3) hC hb rfl) (by decide +kernel) (by decide) rfl rfl (st_c (cat_i cat_e) (Nat.le_of_ble_eq_true rfl)) dX13_possible_45 (kI fun x5 M3 hw => ?_)
    refine G_icmp_ge (pc := 50) (tgt := 101) hC dX13_possible_50 (by decide) (fun hc => ?_) (fun hc => ?_)
    · replace hw := hw.1 hc
      refine G_iinc (pc := 101) (i := 3) (v := (v3 + (1 : Int32))) (lw := [some (va_rf (some a0)), some (.int p1), some (va_rf v2), some (.int (v3 + (1 : Int32))), some (.int v4), none]) hC dX13_possible_101 rfl (Nat.le_of_ble_eq_true rfl) rfl rfl ?_
      refine G_goto (pc := 104) (tgt := 17) hC dX13_possible_104 (by decide) ?_
      refine G_loc (lv' := [some (va_rf (some a0)), some (.int p1), some (va_rf v2), some (.int (v3 + (1 : Int32))), none, none]) ⟨Or.inr rfl, Or.inr rfl, Or.inr rfl, Or.inr rfl, Or.inl rfl, Or.inr rfl, trivial⟩ ?_
      exact hK17 v2 (v3 + (1 : Int32)) M3 hw
    · replace hw := hw.2 hc
      refine G_aload_n (pc := 53) (i := 0) hC dX13_possible_53 rfl rfl ?_
      refine G_iload_n (pc := 54) (i := 3) hC dX13_possible_54 rfl rfl ?_
      refine G_iload (pc := 55) (i := 4) hC dX13_possible_55 rfl ?_
      obtain ⟨hb, hw⟩ := hw
      refine G_callV (pc := 57) (n := 2) (C := "MergeWorkbench$Comparison$MoveFinder") (b := a0) (As := [.int v3, .int v4]) (rest := []) hC (m_X13_lengthAt hJ hw) (lw_V q2705 q2707 qs41 q142 q2708) hd_X13_lengthAt (by decide) (rcv (C := RX13) (T := TX13) (N := 3) hC hb rfl) rfl rfl (st_c cat_e (Nat.le_of_ble_eq_true rfl)) dX13_possible_57 (kI fun x7 M6 hw => ?_)
      refine G_istore (pc := 60) (i := 5) (lw := [some (va_rf (some a0)), some (.int p1), some (va_rf v2), some (.int v3), some (.int v4), some (.int x7)]) hC dX13_possible_60 (Nat.le_of_ble_eq_true rfl) rfl ?_
      refine G_iload (pc := 62) (i := 5) hC dX13_possible_62 rfl ?_
      refine G_iload_n (pc := 64) (i := 1) hC dX13_possible_64 rfl rfl ?_
      refine G_icmp_lt (pc := 65) (tgt := 95) hC dX13_possible_65 (by decide) (fun hc => ?_) (fun hc => ?_)
      · replace hw := hw.1 hc
        refine G_loc (lv' := [some (va_rf (some a0)), some (.int p1), some (va_rf v2), some (.int v3), some (.int v4), none]) ⟨Or.inr rfl, Or.inr rfl, Or.inr rfl, Or.inr rfl, Or.inr rfl, Or.inl rfl, trivial⟩ ?_
        exact g_X13_possible_95 hJ hC hQ hin ih  v2 v3 v4 M6 hw
      · replace hw := hw.2 hc
        refine G_aload_n (pc := 68) (i := 0) hC dX13_possible_68 rfl rfl ?_
        refine G_iload_n (pc := 69) (i := 3) hC dX13_possible_69 rfl rfl ?_
        refine G_iload (pc := 70) (i := 4) hC dX13_possible_70 rfl ?_
        obtain ⟨hb, hw⟩ := hw
        refine G_callV (pc := 72) (n := 2) (C := "MergeWorkbench$Comparison$MoveFinder") (b := a0) (As := [.int v3, .int v4]) (rest := []) hC (m_X13_isBehindOther hJ hw) (lw_V q2713 q2715 qs42 q142 q2716) hd_X13_isBehindOther (by decide) (rcv (C := RX13) (T := TX13) (N := 3) hC hb rfl) rfl rfl (st_c cat_e (Nat.le_of_ble_eq_true rfl)) dX13_possible_72 (kI fun x9 M8 hw => ?_)
        refine G_if_ne (pc := 75) (tgt := 95) hC dX13_possible_75 (by decide) (fun hc => ?_) (fun hc => ?_)
        · replace hw := hw.1 hc
          refine G_loc (lv' := [some (va_rf (some a0)), some (.int p1), some (va_rf v2), some (.int v3), some (.int v4), none]) ⟨Or.inr rfl, Or.inr rfl, Or.inr rfl, Or.inr rfl, Or.inr rfl, Or.inl rfl, trivial⟩ ?_
          exact g_X13_possible_95 hJ hC hQ hin ih  v2 v3 v4 M8 hw
        · replace hw := hw.2 hc
          refine G_aload_n (pc := 78) (i := 2) hC dX13_possible_78 rfl rfl ?_
          refine G_new (pc := 79) (ci := 14) (C := RX15) (T := TX15) (N := 3) (fs := fsX15) tyX15 hC rfl in_X15 tyX15_ok q2717 q2718 q145 dfX15 rfl dX13_possible_79 hw (fun q10 M11 hw => ?_)
          refine G_dup (pc := 82) hC dX13_possible_82 (rf_cat _) ?_
          refine G_iload_n (pc := 83) (i := 3) hC dX13_possible_83 rfl rfl ?_
          refine G_iload (pc := 84) (i := 4) hC dX13_possible_84 rfl ?_
          refine G_iload (pc := 86) (i := 5) hC dX13_possible_86 rfl ?_
          obtain ⟨hb, hw⟩ := hw
          refine G_callI (pc := 88) (n := 3) (b := q10) (As := [.int v3, .int v4, .int x7]) (rest := [va_rf (some q10), va_rf v2]) hC (m_X15_init hJ hw) (lw_meth q2721) q145 q2719 q2720 rfl hd_X15_init.2 (by decide) rfl rfl (st_c (cat_r (cat_r cat_e)) (Nat.le_of_ble_eq_true rfl)) dX13_possible_88 (kU fun M12 hw => ?_)
          obtain ⟨b14, rfl, hb, hw⟩ := gThis_e hw
          refine G_callV (pc := 91) (n := 1) (C := "java/util/PriorityQueue") (b := b14) (As := [va_rf (some q10)]) (rest := []) hC (J_Q_add hJ hw) (lw_V q2739 q1886 q3880 q129 q1887) hd_J35_add (by decide) (rcv (C := RJ35) (T := TJ35) (N := 4) hC hb rfl) rfl rfl (st_c cat_e (Nat.le_of_ble_eq_true rfl)) dX13_possible_91 (kI fun x15 M13 hw => ?_)
          refine G_pop (pc := 94) hC dX13_possible_94 rfl ?_
          refine G_loc (lv' := [some (va_rf (some a0)), some (.int p1), some (va_rf (some b14)), some (.int v3), some (.int v4), none]) ⟨Or.inr rfl, Or.inr rfl, Or.inr rfl, Or.inr rfl, Or.inr rfl, Or.inl rfl, trivial⟩ ?_
          exact g_X13_possible_95 hJ hC hQ hin ih  (some b14) v3 v4 M13 hw
theorem g_X13_possible_17 {k : kT} {F : Nat} {a0 : Nat} {p1 : Int32} {Q : Option Nat → hM → Prop} (hJ : JOK (kl k) (kg k)) (hC : CX k 6 cX13_possible RX13 (some (.object "java/util/PriorityQueue")) 43 2066) (hQ : isQ k (PR Q)) (hin : (kt k).name = "possible") : ∀ (n : Nat) (v2 : Option Nat) (v3 : Int32) (M : hM), w_X13_possible_17 (kg k) F a0 p1 Q n v2 v3 M → GW k 6 M 17 [some (va_rf (some a0)), some (.int p1), some (va_rf v2), some (.int v3), none, none] [] := by
  intro n
  induction n with
  | zero =>
    intro v2 v3 M hw
    exact hw.elim
  | succ n ih =>
    intro v2 v3 M hw
    refine G_iload_n (pc := 17) (i := 3) hC dX13_possible_17 rfl rfl ?_
    refine G_aload_n (pc := 18) (i := 0) hC dX13_possible_18 rfl rfl ?_
    refine G_getF (pc := 19) (ci := 12) (C := RX13) (T := TX13) (N := 3) (f := 2) hC rfl in_X13 (Nat.le_of_ble_eq_true rfl) q2652 (fun _ h => h) dX13_possible_19 hw (fun x1 hw => ?_)
    refine G_getFN (pc := 22) (ci := 8) (C := RX9) (T := TX9) (N := 6) (f := 0) hC rfl in_X9 (Nat.le_of_ble_eq_true rfl) (nw_in q2413 rfl) (fun _ h => h) dX13_possible_22 hw (fun x2 hw => ?_)
    obtain ⟨b4, rfl, hb, hw⟩ := gThis_e hw
    refine G_callF (pc := 25) (n := 0) (x := ⟨"java/util/List", "size", "()I"⟩) (C := "java/util/ArrayList") (ci := 21) (T := TJ2) (N := 3) (b := b4) (As := []) (rest := [.int v3]) hC (J_L_size hJ hw) (lw_F q2569 q889 q363 q87 q364) (nw_in q888 rfl) (nw_in q887 rfl) (nw_in q891 rfl) (nw_in q890 rfl) (nw_in q259 rfl) rfl (rcv (C := RJ2) (T := TJ2) (N := 3) hC hb rfl) (by decide +kernel) (by decide) rfl rfl (st_c (cat_i cat_e) (Nat.le_of_ble_eq_true rfl)) dX13_possible_25 (kI fun x5 M3 hw => ?_)
    refine G_icmp_ge (pc := 30) (tgt := 107) hC dX13_possible_30 (by decide) (fun hc => ?_) (fun hc => ?_)
    · replace hw := hw.1 hc
      refine G_aload_n (pc := 107) (i := 2) hC dX13_possible_107 rfl rfl ?_
      exact G_aret (pc := 108) hC (Or.inl ⟨_, rfl⟩) hQ dX13_possible_108 hw
    · replace hw := hw.2 hc
      refine G_iconst (pc := 33) (v := 0) hC dX13_possible_33 (by decide) ?_
      refine G_istore (pc := 34) (i := 4) (lw := [some (va_rf (some a0)), some (.int p1), some (va_rf v2), some (.int v3), some (.int (0 : Int32)), none]) hC dX13_possible_34 (Nat.le_of_ble_eq_true rfl) rfl ?_
      exact g_X13_possible_36 hJ hC hQ hin ih _ v2 v3 (0 : Int32) M3 hw
theorem m_X13_possible {l : Launch} {g : gT} {F : Nat} {a0 : Nat} {p1 : Int32} {M : hM} {Q : Option Nat → hM → Prop} (hJ : JOK l g) (hw : w_X13_possible g F a0 p1 M Q) : MG l g yX13_possible (ws_ yX13_possible cX13_possible 6 (some (.object "java/util/PriorityQueue"))) 43 2066 [va_rf (some a0), .int p1] M (PR Q) := by
  refine MG_of hJ.2.1 (by decide) (cat_r (cat_i cat_e)) (Nat.le_of_ble_eq_true rfl) (fun k hl hg hin hQ hC => ?_)
  subst hl hg
  show GW k 6 M 0 [some (va_rf (some a0)), some (.int p1), none, none, none, none] []
  refine G_new (pc := 0) (ci := 29) (C := RJ35) (T := TJ35) (N := 4) (fs := fsJ35) tyJ35 hC rfl in_J35 tyJ35_ok q2668 q1895 q129 dfJ35 rfl dX13_possible_0 hw (fun q1 M2 hw => ?_)
  refine G_dup (pc := 3) hC dX13_possible_3 (rf_cat _) ?_
  refine G_new (pc := 4) (ci := 13) (C := RX14) (T := TX14) (N := 0) (fs := fsX14) tyX14 hC rfl in_X14 tyX14_ok q2669 q2670 q144 dfX14 rfl dX13_possible_4 hw (fun q3 M4 hw => ?_)
  refine G_dup (pc := 7) hC dX13_possible_7 (rf_cat _) ?_
  obtain ⟨hb, hw⟩ := hw
  refine G_callIN (pc := 8) (n := 0) (b := q3) (As := []) (rest := [va_rf (some q3), va_rf (some q1), va_rf (some q1)]) hC (m_X14_init hJ hw) (lw_meth q2673) (nw_in q2671 rfl) q144 q2672 rfl hd_X14_init.2 (by decide) rfl rfl (st_c (cat_r (cat_r (cat_r cat_e))) (Nat.le_of_ble_eq_true rfl)) dX13_possible_8 (kU fun M5 hw => ?_)
  obtain ⟨hb, hw⟩ := hw
  refine G_callI (pc := 11) (n := 1) (b := q1) (As := [va_rf (some q3)]) (rest := [va_rf (some q1)]) hC (J_Q_new hJ hw) (lw_meth q2678) q129 q2676 q2677 rfl hd_J35_init.2 (by decide) rfl rfl (st_c (cat_r cat_e) (Nat.le_of_ble_eq_true rfl)) dX13_possible_11 (kU fun M6 hw => ?_)
  refine G_astore_n (pc := 14) (i := 2) (lw := [some (va_rf (some a0)), some (.int p1), some (va_rf (some q1)), none, none, none]) hC dX13_possible_14 rfl (Nat.le_of_ble_eq_true rfl) rfl ?_
  refine G_iconst (pc := 15) (v := 0) hC dX13_possible_15 (by decide) ?_
  refine G_istore_n (pc := 16) (i := 3) (lw := [some (va_rf (some a0)), some (.int p1), some (va_rf (some q1)), some (.int (0 : Int32)), none, none]) hC dX13_possible_16 rfl (Nat.le_of_ble_eq_true rfl) rfl ?_
  exact g_X13_possible_17 hJ hC hQ hin _ (some q1) (0 : Int32) M6 hw
theorem hd_J0_isEmpty : yJ0_isEmpty.cls = "java/util/AbstractCollection" ∧ yJ0_isEmpty.cls ≠ "java/lang/invoke/MethodHandle" ∧ yJ0_isEmpty.cls ≠ "java/lang/invoke/VarHandle" ∧ (parseMethodDescriptor yJ0_isEmpty.desc).map (fun d => d.parameters.length) = some 0 := by decide +kernel
theorem hd_J34_remove : yJ34_remove.cls = "java/util/AbstractQueue" ∧ yJ34_remove.cls ≠ "java/lang/invoke/MethodHandle" ∧ yJ34_remove.cls ≠ "java/lang/invoke/VarHandle" ∧ (parseMethodDescriptor yJ34_remove.desc).map (fun d => d.parameters.length) = some 0 := by decide +kernel
theorem hd_X13_possible : yX13_possible.cls = "MergeWorkbench$Comparison$MoveFinder" ∧ yX13_possible.cls ≠ "java/lang/invoke/MethodHandle" ∧ yX13_possible.cls ≠ "java/lang/invoke/VarHandle" ∧ (parseMethodDescriptor yX13_possible.desc).map (fun d => d.parameters.length) = some 1 := by decide +kernel
def w_X13_find_38 (g : gT) (F : Nat) (a0 : Nat) (p1 : Int32) (Q : hM → Prop) (K6 : (Option Nat) → hM → Prop) : Nat → (Option Nat) → Int32 → hM → Prop
  | 0, _, _, _ => False
  | n + 1, v3, v4, M => gI M v3 14 2 fun x1 => ((x1 ≤ v4 → (isC M a0 12 ∧ w_X13_possible g F a0 p1 M (fun x3 M2 => K6 x3 M2))) ∧ (¬ (x1 ≤ v4) → gF M (some a0) 12 0 fun x4 => gI M v3 14 0 fun x5 => sI M x4 3 (x5 + v4) (vp_nar .boolean (0 : Int32)) fun M6 => gF M6 (some a0) 12 1 fun x7 => gI M6 v3 14 1 fun x8 => sI M6 x7 3 (x8 + v4) (vp_nar .boolean (0 : Int32)) fun M9 => w_X13_find_38 g F a0 p1 Q K6 n v3 (v4 + (1 : Int32)) M9))
def w_X13_find_6 (g : gT) (F : Nat) (a0 : Nat) (p1 : Int32) (Q : hM → Prop) : Nat → (Option Nat) → hM → Prop
  | 0, _, _ => False
  | n + 1, v2, M => gThis M v2 29 fun b2 => Q_emp g b2  M (fun x3 M1 => ((¬ x3 = 0 → Q M1) ∧ (x3 = 0 → (isC M1 b2 29 ∧ Q_rem g b2  M1 (fun x5 M4 => ckC M4 x5 14 (gF M4 (some a0) 12 2 fun x6 => gF M4 x6 8 5 fun x7 => gThis M4 x7 21 fun b9 => L_add g b9 x5 M4 (fun x10 M8 => w_X13_find_38 g F a0 p1 Q (fun v2 M => w_X13_find_6 g F a0 p1 Q n v2 M) F x5 (0 : Int32) M8)))))))
def w_X13_find (g : gT) (F : Nat) (a0 : Nat) (p1 : Int32) (M : hM) (Q : hM → Prop) : Prop :=
  (isC M a0 12 ∧ w_X13_possible g F a0 p1 M (fun x2 M1 => w_X13_find_6 g F a0 p1 Q F x2 M1))
theorem g_X13_find_38 {k : kT} {F : Nat} {a0 : Nat} {p1 : Int32} {Q : hM → Prop} {K6 : (Option Nat) → hM → Prop} (hJ : JOK (kl k) (kg k)) (hC : CX k 5 cX13_find RX13 none 44 2091) (hQ : isQ k (PU Q)) (hin : (kt k).name = "find") (hK6 : ∀ (v2 : Option Nat) (M : hM), K6 v2 M → GW k 5 M 6 [some (va_rf (some a0)), some (.int p1), some (va_rf v2), none, none] []) : ∀ (n : Nat) (v3 : Option Nat) (v4 : Int32) (M : hM), w_X13_find_38 (kg k) F a0 p1 Q K6 n v3 v4 M → GW k 5 M 38 [some (va_rf (some a0)), some (.int p1), none, some (va_rf v3), some (.int v4)] [] := by
  intro n
  induction n with
  | zero =>
    intro v3 v4 M hw
    exact hw.elim
  | succ n ih =>
    intro v3 v4 M hw
    refine G_iload (pc := 38) (i := 4) hC dX13_find_38 rfl ?_
    refine G_aload_n (pc := 40) (i := 3) hC dX13_find_40 rfl rfl ?_
    refine G_getIN (pc := 41) (ci := 14) (C := RX15) (T := TX15) (N := 3) (f := 2) hC rfl in_X15 (Nat.le_of_ble_eq_true rfl) (nw_in q2731 rfl) (fun _ h => h) dX13_find_41 hw (fun x1 hw => ?_)
    refine G_icmp_ge (pc := 44) (tgt := 79) hC dX13_find_44 (by decide) (fun hc => ?_) (fun hc => ?_)
    · replace hw := hw.1 hc
      refine G_aload_n (pc := 79) (i := 0) hC dX13_find_79 rfl rfl ?_
      refine G_iload_n (pc := 80) (i := 1) hC dX13_find_80 rfl rfl ?_
      obtain ⟨hb, hw⟩ := hw
      refine G_callV (pc := 81) (n := 1) (C := "MergeWorkbench$Comparison$MoveFinder") (b := a0) (As := [.int p1]) (rest := []) hC (m_X13_possible hJ hw) (lw_V q2664 q2666 qs40 q142 q2667) hd_X13_possible (by decide) (rcv (C := RX13) (T := TX13) (N := 3) hC hb rfl) rfl rfl (st_c cat_e (Nat.le_of_ble_eq_true rfl)) dX13_find_81 (kRf fun x3 M2 hw => ?_)
      refine G_astore_n (pc := 84) (i := 2) (lw := [some (va_rf (some a0)), some (.int p1), some (va_rf x3), some (va_rf v3), some (.int v4)]) hC dX13_find_84 rfl (Nat.le_of_ble_eq_true rfl) rfl ?_
      refine G_goto (pc := 85) (tgt := 6) hC dX13_find_85 (by decide) ?_
      refine G_loc (lv' := [some (va_rf (some a0)), some (.int p1), some (va_rf x3), none, none]) ⟨Or.inr rfl, Or.inr rfl, Or.inr rfl, Or.inl rfl, Or.inl rfl, trivial⟩ ?_
      exact hK6 x3 M2 hw
    · replace hw := hw.2 hc
      refine G_aload_n (pc := 47) (i := 0) hC dX13_find_47 rfl rfl ?_
      refine G_getF (pc := 48) (ci := 12) (C := RX13) (T := TX13) (N := 3) (f := 0) hC rfl in_X13 (Nat.le_of_ble_eq_true rfl) q2650 (fun _ h => h) dX13_find_48 hw (fun x4 hw => ?_)
      refine G_aload_n (pc := 51) (i := 3) hC dX13_find_51 rfl rfl ?_
      refine G_getIN (pc := 52) (ci := 14) (C := RX15) (T := TX15) (N := 3) (f := 0) hC rfl in_X15 (Nat.le_of_ble_eq_true rfl) (nw_in q2725 rfl) (fun _ h => h) dX13_find_52 hw (fun x5 hw => ?_)
      refine G_iload (pc := 55) (i := 4) hC dX13_find_55 rfl ?_
      refine G_iadd (pc := 57) hC dX13_find_57 ?_
      refine G_iconst (pc := 58) (v := 0) hC dX13_find_58 (by decide) ?_
      refine G_zast (pc := 59) hC dX13_find_59 hw (fun M6 hw => ?_)
      refine G_aload_n (pc := 60) (i := 0) hC dX13_find_60 rfl rfl ?_
      refine G_getF (pc := 61) (ci := 12) (C := RX13) (T := TX13) (N := 3) (f := 1) hC rfl in_X13 (Nat.le_of_ble_eq_true rfl) q2651 (fun _ h => h) dX13_find_61 hw (fun x7 hw => ?_)
      refine G_aload_n (pc := 64) (i := 3) hC dX13_find_64 rfl rfl ?_
      refine G_getIN (pc := 65) (ci := 14) (C := RX15) (T := TX15) (N := 3) (f := 1) hC rfl in_X15 (Nat.le_of_ble_eq_true rfl) (nw_in q2728 rfl) (fun _ h => h) dX13_find_65 hw (fun x8 hw => ?_)
      refine G_iload (pc := 68) (i := 4) hC dX13_find_68 rfl ?_
      refine G_iadd (pc := 70) hC dX13_find_70 ?_
      refine G_iconst (pc := 71) (v := 0) hC dX13_find_71 (by decide) ?_
      refine G_zast (pc := 72) hC dX13_find_72 hw (fun M9 hw => ?_)
      refine G_iinc (pc := 73) (i := 4) (v := (v4 + (1 : Int32))) (lw := [some (va_rf (some a0)), some (.int p1), none, some (va_rf v3), some (.int (v4 + (1 : Int32)))]) hC dX13_find_73 rfl (Nat.le_of_ble_eq_true rfl) rfl rfl ?_
      refine G_goto (pc := 76) (tgt := 38) hC dX13_find_76 (by decide) ?_
      exact ih v3 (v4 + (1 : Int32)) M9 hw
theorem g_X13_find_6 {k : kT} {F : Nat} {a0 : Nat} {p1 : Int32} {Q : hM → Prop} (hJ : JOK (kl k) (kg k)) (hC : CX k 5 cX13_find RX13 none 44 2091) (hQ : isQ k (PU Q)) (hin : (kt k).name = "find") : ∀ (n : Nat) (v2 : Option Nat) (M : hM), w_X13_find_6 (kg k) F a0 p1 Q n v2 M → GW k 5 M 6 [some (va_rf (some a0)), some (.int p1), some (va_rf v2), none, none] [] := by
  intro n
  induction n with
  | zero =>
    intro v2 M hw
    exact hw.elim
  | succ n ih =>
    intro v2 M hw
    refine G_aload_n (pc := 6) (i := 2) hC dX13_find_6 rfl rfl ?_
    obtain ⟨b2, rfl, hb, hw⟩ := gThis_e hw
    refine G_callU (pc := 7) (n := 0) (x := ⟨"java/util/PriorityQueue", "isEmpty", "()Z"⟩) (owner := "java/util/AbstractCollection") (C := "java/util/PriorityQueue") (b := b2) (As := []) (rest := []) hC (J_Q_emp hJ hw) (lw_U q2740 q2741 q2743 q2744 q85 q2745) rfl (rcv (C := RJ35) (T := TJ35) (N := 4) hC hb rfl) hd_J0_isEmpty.2 (by decide) rfl rfl (st_c cat_e (Nat.le_of_ble_eq_true rfl)) dX13_find_7 (kI fun x3 M1 hw => ?_)
    refine G_if_ne (pc := 10) (tgt := 88) hC dX13_find_10 (by decide) (fun hc => ?_) (fun hc => ?_)
    · replace hw := hw.1 hc
      exact G_ret (pc := 88) hC hQ dX13_find_88 hw
    · replace hw := hw.2 hc
      refine G_aload_n (pc := 13) (i := 2) hC dX13_find_13 rfl rfl ?_
      obtain ⟨hb, hw⟩ := hw
      refine G_callU (pc := 14) (n := 0) (x := ⟨"java/util/PriorityQueue", "remove", "()Ljava/lang/Object;"⟩) (owner := "java/util/AbstractQueue") (C := "java/util/PriorityQueue") (b := b2) (As := []) (rest := []) hC (J_Q_rem hJ hw) (lw_U q2746 q2747 q2749 q2750 q128 q2751) rfl (rcv (C := RJ35) (T := TJ35) (N := 4) hC hb rfl) hd_J34_remove.2 (by decide) rfl rfl (st_c cat_e (Nat.le_of_ble_eq_true rfl)) dX13_find_14 (kRf fun x5 M4 hw => ?_)
      obtain ⟨hb, hw⟩ := hw
      refine G_castCS (pc := 17) (C := RX15) (T := TX15) (N := 3) hC rfl q2717 hb dX13_find_17 ?_
      refine G_astore_n (pc := 20) (i := 3) (lw := [some (va_rf (some a0)), some (.int p1), some (va_rf (some b2)), some (va_rf x5), none]) hC dX13_find_20 rfl (Nat.le_of_ble_eq_true rfl) rfl ?_
      refine G_aload_n (pc := 21) (i := 0) hC dX13_find_21 rfl rfl ?_
      refine G_getF (pc := 22) (ci := 12) (C := RX13) (T := TX13) (N := 3) (f := 2) hC rfl in_X13 (Nat.le_of_ble_eq_true rfl) q2652 (fun _ h => h) dX13_find_22 hw (fun x6 hw => ?_)
      refine G_getFN (pc := 25) (ci := 8) (C := RX9) (T := TX9) (N := 6) (f := 5) hC rfl in_X9 (Nat.le_of_ble_eq_true rfl) (nw_in q2435 rfl) (fun _ h => h) dX13_find_25 hw (fun x7 hw => ?_)
      refine G_aload_n (pc := 28) (i := 3) hC dX13_find_28 rfl rfl ?_
      obtain ⟨b9, rfl, hb, hw⟩ := gThis_e hw
      refine G_callF (pc := 29) (n := 1) (x := ⟨"java/util/List", "add", "(Ljava/lang/Object;)Z"⟩) (C := "java/util/ArrayList") (ci := 21) (T := TJ2) (N := 3) (b := b9) (As := [va_rf x5]) (rest := []) hC (J_L_add hJ hw) (lw_F q2766 q260 q262 q87 q264) (nw_in q258 rfl) (nw_in q257 rfl) (nw_in q263 rfl) (nw_in q261 rfl) (nw_in q259 rfl) rfl (rcv (C := RJ2) (T := TJ2) (N := 3) hC hb rfl) (by decide +kernel) (by decide) rfl rfl (st_c cat_e (Nat.le_of_ble_eq_true rfl)) dX13_find_29 (kI fun x10 M8 hw => ?_)
      refine G_pop (pc := 34) hC dX13_find_34 rfl ?_
      refine G_iconst (pc := 35) (v := 0) hC dX13_find_35 (by decide) ?_
      refine G_istore (pc := 36) (i := 4) (lw := [some (va_rf (some a0)), some (.int p1), some (va_rf (some b2)), some (va_rf x5), some (.int (0 : Int32))]) hC dX13_find_36 (Nat.le_of_ble_eq_true rfl) rfl ?_
      refine G_loc (lv' := [some (va_rf (some a0)), some (.int p1), none, some (va_rf x5), some (.int (0 : Int32))]) ⟨Or.inr rfl, Or.inr rfl, Or.inl rfl, Or.inr rfl, Or.inr rfl, trivial⟩ ?_
      exact g_X13_find_38 hJ hC hQ hin ih _ x5 (0 : Int32) M8 hw
theorem m_X13_find {l : Launch} {g : gT} {F : Nat} {a0 : Nat} {p1 : Int32} {M : hM} {Q : hM → Prop} (hJ : JOK l g) (hw : w_X13_find g F a0 p1 M Q) : MG l g yX13_find (ws_ yX13_find cX13_find 5 none) 44 2091 [va_rf (some a0), .int p1] M (PU Q) := by
  refine MG_of hJ.2.1 (by decide) (cat_r (cat_i cat_e)) (Nat.le_of_ble_eq_true rfl) (fun k hl hg hin hQ hC => ?_)
  subst hl hg
  show GW k 5 M 0 [some (va_rf (some a0)), some (.int p1), none, none, none] []
  refine G_aload_n (pc := 0) (i := 0) hC dX13_find_0 rfl rfl ?_
  refine G_iload_n (pc := 1) (i := 1) hC dX13_find_1 rfl rfl ?_
  obtain ⟨hb, hw⟩ := hw
  refine G_callV (pc := 2) (n := 1) (C := "MergeWorkbench$Comparison$MoveFinder") (b := a0) (As := [.int p1]) (rest := []) hC (m_X13_possible hJ hw) (lw_V q2664 q2666 qs40 q142 q2667) hd_X13_possible (by decide) (rcv (C := RX13) (T := TX13) (N := 3) hC hb rfl) rfl rfl (st_c cat_e (Nat.le_of_ble_eq_true rfl)) dX13_find_2 (kRf fun x2 M1 hw => ?_)
  refine G_astore_n (pc := 5) (i := 2) (lw := [some (va_rf (some a0)), some (.int p1), some (va_rf x2), none, none]) hC dX13_find_5 rfl (Nat.le_of_ble_eq_true rfl) rfl ?_
  exact g_X13_find_6 hJ hC hQ hin _ x2 M1 hw
theorem hd_J19_compare : yJ19_compare.cls = "java/lang/Integer" ∧ yJ19_compare.cls ≠ "java/lang/invoke/MethodHandle" ∧ yJ19_compare.cls ≠ "java/lang/invoke/VarHandle" ∧ (parseMethodDescriptor yJ19_compare.desc).map (fun d => d.parameters.length) = some 2 := by decide +kernel
def w_X14_compare_2_59 (g : gT) (F : Nat) (a0 : Nat) (p1 : Option Nat) (p2 : Option Nat) (Q : Int32 → hM → Prop) (s0 : Int32) (M : hM) : Prop :=
  Q s0 M
def w_X14_compare_2 (g : gT) (F : Nat) (a0 : Nat) (p1 : Option Nat) (p2 : Option Nat) (M : hM) (Q : Int32 → hM → Prop) : Prop :=
  gI M p1 14 2 fun x1 => gI M p2 14 2 fun x2 => ((x1 = x2 → gI M p1 14 0 fun x3 => gI M p2 14 0 fun x4 => ((x3 = x4 → gI M p1 14 1 fun x5 => gI M p2 14 1 fun x6 => B_cmp g x5 x6 M (fun x8 M7 => w_X14_compare_2_59 g F a0 p1 p2 Q x8 M7)) ∧ (¬ (x3 = x4) → gI M p1 14 0 fun x9 => gI M p2 14 0 fun x10 => B_cmp g x9 x10 M (fun x12 M11 => w_X14_compare_2_59 g F a0 p1 p2 Q x12 M11)))) ∧ (¬ (x1 = x2) → gI M p2 14 2 fun x13 => gI M p1 14 2 fun x14 => B_cmp g x13 x14 M (fun x16 M15 => Q x16 M15)))
theorem g_X14_compare_2_59 {k : kT} {F : Nat} {a0 : Nat} {p1 : Option Nat} {p2 : Option Nat} {Q : Int32 → hM → Prop} (hJ : JOK (kl k) (kg k)) (hC : CX k 3 cX14_compare_2 RX14 (some .int) 41 2021) (hQ : isQ k (PI Q)) (hin : (kt k).name = "compare") : ∀ (s0 : Int32) (M : hM), w_X14_compare_2_59 (kg k) F a0 p1 p2 Q s0 M → GW k 3 M 59 [some (va_rf (some a0)), some (va_rf p1), some (va_rf p2)] [.int s0] := by
  intro s0 M hw
  exact G_iret (pc := 59) hC rfl hQ dX14_compare_2_59 hw
theorem m_X14_compare_2 {l : Launch} {g : gT} {F : Nat} {a0 : Nat} {p1 : Option Nat} {p2 : Option Nat} {M : hM} {Q : Int32 → hM → Prop} (hJ : JOK l g) (hw : w_X14_compare_2 g F a0 p1 p2 M Q) : MG l g yX14_compare_2 (ws_ yX14_compare_2 cX14_compare_2 3 (some .int)) 41 2021 [va_rf (some a0), va_rf p1, va_rf p2] M (PI Q) := by
  refine MG_of hJ.2.1 (by decide) (cat_r (cat_r (cat_r cat_e))) (Nat.le_of_ble_eq_true rfl) (fun k hl hg hin hQ hC => ?_)
  subst hl hg
  show GW k 3 M 0 [some (va_rf (some a0)), some (va_rf p1), some (va_rf p2)] []
  refine G_aload_n (pc := 0) (i := 1) hC dX14_compare_2_0 rfl rfl ?_
  refine G_getIN (pc := 1) (ci := 14) (C := RX15) (T := TX15) (N := 3) (f := 2) hC rfl in_X15 (Nat.le_of_ble_eq_true rfl) (nw_in q2730 rfl) (fun _ h => h) dX14_compare_2_1 hw (fun x1 hw => ?_)
  refine G_aload_n (pc := 4) (i := 2) hC dX14_compare_2_4 rfl rfl ?_
  refine G_getIN (pc := 5) (ci := 14) (C := RX15) (T := TX15) (N := 3) (f := 2) hC rfl in_X15 (Nat.le_of_ble_eq_true rfl) (nw_in q2730 rfl) (fun _ h => h) dX14_compare_2_5 hw (fun x2 hw => ?_)
  refine G_icmp_eq (pc := 8) (tgt := 23) hC dX14_compare_2_8 (by decide) (fun hc => ?_) (fun hc => ?_)
  · replace hw := hw.1 hc
    refine G_aload_n (pc := 23) (i := 1) hC dX14_compare_2_23 rfl rfl ?_
    refine G_getIN (pc := 24) (ci := 14) (C := RX15) (T := TX15) (N := 3) (f := 0) hC rfl in_X15 (Nat.le_of_ble_eq_true rfl) (nw_in q2724 rfl) (fun _ h => h) dX14_compare_2_24 hw (fun x3 hw => ?_)
    refine G_aload_n (pc := 27) (i := 2) hC dX14_compare_2_27 rfl rfl ?_
    refine G_getIN (pc := 28) (ci := 14) (C := RX15) (T := TX15) (N := 3) (f := 0) hC rfl in_X15 (Nat.le_of_ble_eq_true rfl) (nw_in q2724 rfl) (fun _ h => h) dX14_compare_2_28 hw (fun x4 hw => ?_)
    refine G_icmp_eq (pc := 31) (tgt := 48) hC dX14_compare_2_31 (by decide) (fun hc => ?_) (fun hc => ?_)
    · replace hw := hw.1 hc
      refine G_aload_n (pc := 48) (i := 1) hC dX14_compare_2_48 rfl rfl ?_
      refine G_getIN (pc := 49) (ci := 14) (C := RX15) (T := TX15) (N := 3) (f := 1) hC rfl in_X15 (Nat.le_of_ble_eq_true rfl) (nw_in q2727 rfl) (fun _ h => h) dX14_compare_2_49 hw (fun x5 hw => ?_)
      refine G_aload_n (pc := 52) (i := 2) hC dX14_compare_2_52 rfl rfl ?_
      refine G_getIN (pc := 53) (ci := 14) (C := RX15) (T := TX15) (N := 3) (f := 1) hC rfl in_X15 (Nat.le_of_ble_eq_true rfl) (nw_in q2727 rfl) (fun _ h => h) dX14_compare_2_53 hw (fun x6 hw => ?_)
      refine G_callS (pc := 56) (n := 2) (As := [.int x5, .int x6]) (rest := []) hC (J_B_cmp hJ hw) (lw_S q1920 q1921 q106 q1922) hd_J19_compare.2 (by decide) rfl rfl (st_c cat_e (Nat.le_of_ble_eq_true rfl)) dX14_compare_2_56 (kI fun x8 M7 hw => ?_)
      exact g_X14_compare_2_59 hJ hC hQ hin  x8 M7 hw
    · replace hw := hw.2 hc
      refine G_aload_n (pc := 34) (i := 1) hC dX14_compare_2_34 rfl rfl ?_
      refine G_getIN (pc := 35) (ci := 14) (C := RX15) (T := TX15) (N := 3) (f := 0) hC rfl in_X15 (Nat.le_of_ble_eq_true rfl) (nw_in q2724 rfl) (fun _ h => h) dX14_compare_2_35 hw (fun x9 hw => ?_)
      refine G_aload_n (pc := 38) (i := 2) hC dX14_compare_2_38 rfl rfl ?_
      refine G_getIN (pc := 39) (ci := 14) (C := RX15) (T := TX15) (N := 3) (f := 0) hC rfl in_X15 (Nat.le_of_ble_eq_true rfl) (nw_in q2724 rfl) (fun _ h => h) dX14_compare_2_39 hw (fun x10 hw => ?_)
      refine G_callS (pc := 42) (n := 2) (As := [.int x9, .int x10]) (rest := []) hC (J_B_cmp hJ hw) (lw_S q1920 q1921 q106 q1922) hd_J19_compare.2 (by decide) rfl rfl (st_c cat_e (Nat.le_of_ble_eq_true rfl)) dX14_compare_2_42 (kI fun x12 M11 hw => ?_)
      refine G_goto (pc := 45) (tgt := 59) hC dX14_compare_2_45 (by decide) ?_
      exact g_X14_compare_2_59 hJ hC hQ hin  x12 M11 hw
  · replace hw := hw.2 hc
    refine G_aload_n (pc := 11) (i := 2) hC dX14_compare_2_11 rfl rfl ?_
    refine G_getIN (pc := 12) (ci := 14) (C := RX15) (T := TX15) (N := 3) (f := 2) hC rfl in_X15 (Nat.le_of_ble_eq_true rfl) (nw_in q2730 rfl) (fun _ h => h) dX14_compare_2_12 hw (fun x13 hw => ?_)
    refine G_aload_n (pc := 15) (i := 1) hC dX14_compare_2_15 rfl rfl ?_
    refine G_getIN (pc := 16) (ci := 14) (C := RX15) (T := TX15) (N := 3) (f := 2) hC rfl in_X15 (Nat.le_of_ble_eq_true rfl) (nw_in q2730 rfl) (fun _ h => h) dX14_compare_2_16 hw (fun x14 hw => ?_)
    refine G_callS (pc := 19) (n := 2) (As := [.int x13, .int x14]) (rest := []) hC (J_B_cmp hJ hw) (lw_S q1920 q1921 q106 q1922) hd_J19_compare.2 (by decide) rfl rfl (st_c cat_e (Nat.le_of_ble_eq_true rfl)) dX14_compare_2_19 (kI fun x16 M15 hw => ?_)
    exact G_iret (pc := 22) hC rfl hQ dX14_compare_2_22 hw
theorem hd_X14_compare_2 : yX14_compare_2.cls = "MergeWorkbench$MoveOrder" ∧ yX14_compare_2.cls ≠ "java/lang/invoke/MethodHandle" ∧ yX14_compare_2.cls ≠ "java/lang/invoke/VarHandle" ∧ (parseMethodDescriptor yX14_compare_2.desc).map (fun d => d.parameters.length) = some 2 := by decide +kernel
def w_X14_compare (g : gT) (F : Nat) (a0 : Nat) (p1 : Option Nat) (p2 : Option Nat) (M : hM) (Q : Int32 → hM → Prop) : Prop :=
  ckC M p1 14 (ckC M p2 14 ((isC M a0 13 ∧ w_X14_compare_2 g F a0 p1 p2 M (fun x2 M1 => Q x2 M1))))
theorem m_X14_compare {l : Launch} {g : gT} {F : Nat} {a0 : Nat} {p1 : Option Nat} {p2 : Option Nat} {M : hM} {Q : Int32 → hM → Prop} (hJ : JOK l g) (hw : w_X14_compare g F a0 p1 p2 M Q) : MG l g yX14_compare (ws_ yX14_compare cX14_compare 3 (some .int)) 42 2043 [va_rf (some a0), va_rf p1, va_rf p2] M (PI Q) := by
  refine MG_of hJ.2.1 (by decide) (cat_r (cat_r (cat_r cat_e))) (Nat.le_of_ble_eq_true rfl) (fun k hl hg hin hQ hC => ?_)
  subst hl hg
  show GW k 3 M 0 [some (va_rf (some a0)), some (va_rf p1), some (va_rf p2)] []
  refine G_aload_n (pc := 0) (i := 0) hC dX14_compare_0 rfl rfl ?_
  refine G_aload_n (pc := 1) (i := 1) hC dX14_compare_1 rfl rfl ?_
  obtain ⟨hb, hw⟩ := hw
  refine G_castCS (pc := 2) (C := RX15) (T := TX15) (N := 3) hC rfl q1915 hb dX14_compare_2 ?_
  refine G_aload_n (pc := 5) (i := 2) hC dX14_compare_5 rfl rfl ?_
  obtain ⟨hb, hw⟩ := hw
  refine G_castCS (pc := 6) (C := RX15) (T := TX15) (N := 3) hC rfl q1915 hb dX14_compare_6 ?_
  obtain ⟨hb, hw⟩ := hw
  refine G_callV (pc := 9) (n := 2) (C := "MergeWorkbench$MoveOrder") (b := a0) (As := [va_rf p1, va_rf p2]) (rest := []) hC (m_X14_compare_2 hJ hw) (lw_V q1916 q1917 q1918 q144 q1919) hd_X14_compare_2 (by decide) (rcv (C := RX14) (T := TX14) (N := 0) hC hb rfl) rfl rfl (st_c cat_e (Nat.le_of_ble_eq_true rfl)) dX14_compare_9 (kI fun x2 M1 hw => ?_)
  exact G_iret (pc := 12) hC rfl hQ dX14_compare_12 hw
def w_X15_property_27 (g : gT) (F : Nat) (a0 : Nat) (p1 : Int32) (Q : Int32 → hM → Prop) (s0 : Int32) (M : hM) : Prop :=
  Q s0 M
def w_X15_property (g : gT) (F : Nat) (a0 : Nat) (p1 : Int32) (M : hM) (Q : Int32 → hM → Prop) : Prop :=
  ((¬ p1 = 0 → ((¬ p1 = (1 : Int32) → gI M (some a0) 14 2 fun x1 => w_X15_property_27 g F a0 p1 Q x1 M) ∧ (p1 = (1 : Int32) → gI M (some a0) 14 1 fun x2 => w_X15_property_27 g F a0 p1 Q x2 M))) ∧ (p1 = 0 → gI M (some a0) 14 0 fun x3 => w_X15_property_27 g F a0 p1 Q x3 M))
theorem g_X15_property_27 {k : kT} {F : Nat} {a0 : Nat} {p1 : Int32} {Q : Int32 → hM → Prop} (hJ : JOK (kl k) (kg k)) (hC : CX k 2 cX15_property RX15 (some .int) 1 12) (hQ : isQ k (PI Q)) (hin : (kt k).name = "property") : ∀ (s0 : Int32) (M : hM), w_X15_property_27 (kg k) F a0 p1 Q s0 M → GW k 2 M 27 [some (va_rf (some a0)), some (.int p1)] [.int s0] := by
  intro s0 M hw
  exact G_iret (pc := 27) hC rfl hQ dX15_property_27 hw
theorem m_X15_property {l : Launch} {g : gT} {F : Nat} {a0 : Nat} {p1 : Int32} {M : hM} {Q : Int32 → hM → Prop} (hJ : JOK l g) (hw : w_X15_property g F a0 p1 M Q) : MG l g yX15_property (ws_ yX15_property cX15_property 2 (some .int)) 1 12 [va_rf (some a0), .int p1] M (PI Q) := by
  refine MG_of hJ.2.1 (by decide) (cat_r (cat_i cat_e)) (Nat.le_of_ble_eq_true rfl) (fun k hl hg hin hQ hC => ?_)
  subst hl hg
  show GW k 2 M 0 [some (va_rf (some a0)), some (.int p1)] []
  refine G_iload_n (pc := 0) (i := 1) hC dX15_property_0 rfl rfl ?_
  refine G_if_ne (pc := 1) (tgt := 11) hC dX15_property_1 (by decide) (fun hc => ?_) (fun hc => ?_)
  · replace hw := hw.1 hc
    refine G_iload_n (pc := 11) (i := 1) hC dX15_property_11 rfl rfl ?_
    refine G_iconst (pc := 12) (v := 1) hC dX15_property_12 (by decide) ?_
    refine G_icmp_ne (pc := 13) (tgt := 23) hC dX15_property_13 (by decide) (fun hc => ?_) (fun hc => ?_)
    · replace hw := hw.1 hc
      refine G_aload_n (pc := 23) (i := 0) hC dX15_property_23 rfl rfl ?_
      refine G_getI (pc := 24) (ci := 14) (C := RX15) (T := TX15) (N := 3) (f := 2) hC rfl in_X15 (Nat.le_of_ble_eq_true rfl) q2729 (fun _ h => h) dX15_property_24 hw (fun x1 hw => ?_)
      exact g_X15_property_27 hJ hC hQ hin  x1 M hw
    · replace hw := hw.2 hc
      refine G_aload_n (pc := 16) (i := 0) hC dX15_property_16 rfl rfl ?_
      refine G_getI (pc := 17) (ci := 14) (C := RX15) (T := TX15) (N := 3) (f := 1) hC rfl in_X15 (Nat.le_of_ble_eq_true rfl) q2726 (fun _ h => h) dX15_property_17 hw (fun x2 hw => ?_)
      refine G_goto (pc := 20) (tgt := 27) hC dX15_property_20 (by decide) ?_
      exact g_X15_property_27 hJ hC hQ hin  x2 M hw
  · replace hw := hw.2 hc
    refine G_aload_n (pc := 4) (i := 0) hC dX15_property_4 rfl rfl ?_
    refine G_getI (pc := 5) (ci := 14) (C := RX15) (T := TX15) (N := 3) (f := 0) hC rfl in_X15 (Nat.le_of_ble_eq_true rfl) q2723 (fun _ h => h) dX15_property_5 hw (fun x3 hw => ?_)
    refine G_goto (pc := 8) (tgt := 27) hC dX15_property_8 (by decide) ?_
    exact g_X15_property_27 hJ hC hQ hin  x3 M hw
def w_X9_partner_2 (g : gT) (F : Nat) (a0 : Nat) (p1 : Int32) (Q : Int32 → hM → Prop) : Nat → Int32 → hM → Prop
  | 0, _, _ => False
  | n + 1, v2, M => gF M (some a0) 8 2 fun x1 => gThis M x1 21 fun b3 => L_size g b3  M (fun x4 M2 => ((x4 ≤ v2 → Q (-1 : Int32) M2) ∧ (¬ (x4 ≤ v2) → gF M2 (some a0) 8 2 fun x5 => gThis M2 x5 21 fun b7 => L_get g b7 v2 M2 (fun x8 M6 => ckC M6 x8 5 (gI M6 x8 5 0 fun x9 => ((¬ x9 = p1 → w_X9_partner_2 g F a0 p1 Q n (v2 + (1 : Int32)) M6) ∧ (x9 = p1 → gF M6 (some a0) 8 2 fun x10 => gThis M6 x10 21 fun b12 => L_get g b12 v2 M6 (fun x13 M11 => ckC M11 x13 5 (gI M11 x13 5 1 fun x14 => Q x14 M11)))))))))
def w_X9_partner (g : gT) (F : Nat) (a0 : Nat) (p1 : Int32) (M : hM) (Q : Int32 → hM → Prop) : Prop :=
  w_X9_partner_2 g F a0 p1 Q F (0 : Int32) M
theorem g_X9_partner_2 {k : kT} {F : Nat} {a0 : Nat} {p1 : Int32} {Q : Int32 → hM → Prop} (hJ : JOK (kl k) (kg k)) (hC : CX k 3 cX9_partner RX9 (some .int) 41 2021) (hQ : isQ k (PI Q)) (hin : (kt k).name = "partner") : ∀ (n : Nat) (v2 : Int32) (M : hM), w_X9_partner_2 (kg k) F a0 p1 Q n v2 M → GW k 3 M 2 [some (va_rf (some a0)), some (.int p1), some (.int v2)] [] := by
  intro n
  induction n with
  | zero =>
    intro v2 M hw
    exact hw.elim
  | succ n ih =>
    intro v2 M hw
    refine G_iload_n (pc := 2) (i := 2) hC dX9_partner_2 rfl rfl ?_
    refine G_aload_n (pc := 3) (i := 0) hC dX9_partner_3 rfl rfl ?_
    refine G_getF (pc := 4) (ci := 8) (C := RX9) (T := TX9) (N := 6) (f := 2) hC rfl in_X9 (Nat.le_of_ble_eq_true rfl) q2425 (fun _ h => h) dX9_partner_4 hw (fun x1 hw => ?_)
    obtain ⟨b3, rfl, hb, hw⟩ := gThis_e hw
    refine G_callF (pc := 7) (n := 0) (x := ⟨"java/util/List", "size", "()I"⟩) (C := "java/util/ArrayList") (ci := 21) (T := TJ2) (N := 3) (b := b3) (As := []) (rest := [.int v2]) hC (J_L_size hJ hw) (lw_F q2412 q889 q363 q87 q364) (nw_in q888 rfl) (nw_in q887 rfl) (nw_in q891 rfl) (nw_in q890 rfl) (nw_in q259 rfl) rfl (rcv (C := RJ2) (T := TJ2) (N := 3) hC hb rfl) (by decide +kernel) (by decide) rfl rfl (st_c (cat_i cat_e) (Nat.le_of_ble_eq_true rfl)) dX9_partner_7 (kI fun x4 M2 hw => ?_)
    refine G_icmp_ge (pc := 12) (tgt := 58) hC dX9_partner_12 (by decide) (fun hc => ?_) (fun hc => ?_)
    · replace hw := hw.1 hc
      refine G_iconst (pc := 58) (v := -1) hC dX9_partner_58 (by decide) ?_
      exact G_iret (pc := 59) hC rfl hQ dX9_partner_59 hw
    · replace hw := hw.2 hc
      refine G_aload_n (pc := 15) (i := 0) hC dX9_partner_15 rfl rfl ?_
      refine G_getF (pc := 16) (ci := 8) (C := RX9) (T := TX9) (N := 6) (f := 2) hC rfl in_X9 (Nat.le_of_ble_eq_true rfl) q2425 (fun _ h => h) dX9_partner_16 hw (fun x5 hw => ?_)
      refine G_iload_n (pc := 19) (i := 2) hC dX9_partner_19 rfl rfl ?_
      obtain ⟨b7, rfl, hb, hw⟩ := gThis_e hw
      refine G_callF (pc := 20) (n := 1) (x := ⟨"java/util/List", "get", "(I)Ljava/lang/Object;"⟩) (C := "java/util/ArrayList") (ci := 21) (T := TJ2) (N := 3) (b := b7) (As := [.int v2]) (rest := []) hC (J_L_get hJ hw) (lw_F q2466 q956 q958 q87 q960) (nw_in q955 rfl) (nw_in q954 rfl) (nw_in q959 rfl) (nw_in q957 rfl) (nw_in q259 rfl) rfl (rcv (C := RJ2) (T := TJ2) (N := 3) hC hb rfl) (by decide +kernel) (by decide) rfl rfl (st_c cat_e (Nat.le_of_ble_eq_true rfl)) dX9_partner_20 (kRf fun x8 M6 hw => ?_)
      obtain ⟨hb, hw⟩ := hw
      refine G_castCS (pc := 25) (C := RX6) (T := TX6) (N := 2) hC rfl q2360 hb dX9_partner_25 ?_
      refine G_getIN (pc := 28) (ci := 5) (C := RX6) (T := TX6) (N := 2) (f := 0) hC rfl in_X6 (Nat.le_of_ble_eq_true rfl) (nw_in q1700 rfl) (fun _ h => h) dX9_partner_28 hw (fun x9 hw => ?_)
      refine G_iload_n (pc := 31) (i := 1) hC dX9_partner_31 rfl rfl ?_
      refine G_icmp_ne (pc := 32) (tgt := 52) hC dX9_partner_32 (by decide) (fun hc => ?_) (fun hc => ?_)
      · replace hw := hw.1 hc
        refine G_iinc (pc := 52) (i := 2) (v := (v2 + (1 : Int32))) (lw := [some (va_rf (some a0)), some (.int p1), some (.int (v2 + (1 : Int32)))]) hC dX9_partner_52 rfl (Nat.le_of_ble_eq_true rfl) rfl rfl ?_
        refine G_goto (pc := 55) (tgt := 2) hC dX9_partner_55 (by decide) ?_
        exact ih (v2 + (1 : Int32)) M6 hw
      · replace hw := hw.2 hc
        refine G_aload_n (pc := 35) (i := 0) hC dX9_partner_35 rfl rfl ?_
        refine G_getF (pc := 36) (ci := 8) (C := RX9) (T := TX9) (N := 6) (f := 2) hC rfl in_X9 (Nat.le_of_ble_eq_true rfl) q2425 (fun _ h => h) dX9_partner_36 hw (fun x10 hw => ?_)
        refine G_iload_n (pc := 39) (i := 2) hC dX9_partner_39 rfl rfl ?_
        obtain ⟨b12, rfl, hb, hw⟩ := gThis_e hw
        refine G_callF (pc := 40) (n := 1) (x := ⟨"java/util/List", "get", "(I)Ljava/lang/Object;"⟩) (C := "java/util/ArrayList") (ci := 21) (T := TJ2) (N := 3) (b := b12) (As := [.int v2]) (rest := []) hC (J_L_get hJ hw) (lw_F q2466 q956 q958 q87 q960) (nw_in q955 rfl) (nw_in q954 rfl) (nw_in q959 rfl) (nw_in q957 rfl) (nw_in q259 rfl) rfl (rcv (C := RJ2) (T := TJ2) (N := 3) hC hb rfl) (by decide +kernel) (by decide) rfl rfl (st_c cat_e (Nat.le_of_ble_eq_true rfl)) dX9_partner_40 (kRf fun x13 M11 hw => ?_)
        obtain ⟨hb, hw⟩ := hw
        refine G_castCS (pc := 45) (C := RX6) (T := TX6) (N := 2) hC rfl q2360 hb dX9_partner_45 ?_
        refine G_getIN (pc := 48) (ci := 5) (C := RX6) (T := TX6) (N := 2) (f := 1) hC rfl in_X6 (Nat.le_of_ble_eq_true rfl) (nw_in q1704 rfl) (fun _ h => h) dX9_partner_48 hw (fun x14 hw => ?_)
        exact G_iret (pc := 51) hC rfl hQ dX9_partner_51 hw
theorem m_X9_partner {l : Launch} {g : gT} {F : Nat} {a0 : Nat} {p1 : Int32} {M : hM} {Q : Int32 → hM → Prop} (hJ : JOK l g) (hw : w_X9_partner g F a0 p1 M Q) : MG l g yX9_partner (ws_ yX9_partner cX9_partner 3 (some .int)) 41 2021 [va_rf (some a0), .int p1] M (PI Q) := by
  refine MG_of hJ.2.1 (by decide) (cat_r (cat_i cat_e)) (Nat.le_of_ble_eq_true rfl) (fun k hl hg hin hQ hC => ?_)
  subst hl hg
  show GW k 3 M 0 [some (va_rf (some a0)), some (.int p1), none] []
  refine G_iconst (pc := 0) (v := 0) hC dX9_partner_0 (by decide) ?_
  refine G_istore_n (pc := 1) (i := 2) (lw := [some (va_rf (some a0)), some (.int p1), some (.int (0 : Int32))]) hC dX9_partner_1 rfl (Nat.le_of_ble_eq_true rfl) rfl ?_
  exact g_X9_partner_2 hJ hC hQ hin _ (0 : Int32) M hw
def w_X16_baseOf (g : gT) (F : Nat) (a0 : Nat) (p1 : Int32) (p2 : Int32) (M : hM) (Q : Option Nat → hM → Prop) : Prop :=
  nW M 10 fsX11 fun q1 M2 => gF M2 (some a0) 15 0 fun x3 => gF M2 x3 8 0 fun x4 => (isC M2 q1 10 ∧ w_X11_init g F q1 x4 p1 p2 M2 (fun M5 => Q (some q1) M5))
theorem m_X16_baseOf {l : Launch} {g : gT} {F : Nat} {a0 : Nat} {p1 : Int32} {p2 : Int32} {M : hM} {Q : Option Nat → hM → Prop} (hJ : JOK l g) (hw : w_X16_baseOf g F a0 p1 p2 M Q) : MG l g yX16_baseOf (ws_ yX16_baseOf cX16_baseOf 3 (some (.object "MergeWorkbench$Part"))) 2 43 [va_rf (some a0), .int p1, .int p2] M (PR Q) := by
  refine MG_of hJ.2.1 (by decide) (cat_r (cat_i (cat_i cat_e))) (Nat.le_of_ble_eq_true rfl) (fun k hl hg hin hQ hC => ?_)
  subst hl hg
  show GW k 3 M 0 [some (va_rf (some a0)), some (.int p1), some (.int p2)] []
  refine G_new (pc := 0) (ci := 10) (C := RX11) (T := TX11) (N := 3) (fs := fsX11) tyX11 hC rfl in_X11 tyX11_ok q2801 q2368 q139 dfX11 rfl dX16_baseOf_0 hw (fun q1 M2 hw => ?_)
  refine G_dup (pc := 3) hC dX16_baseOf_3 (rf_cat _) ?_
  refine G_aload_n (pc := 4) (i := 0) hC dX16_baseOf_4 rfl rfl ?_
  refine G_getF (pc := 5) (ci := 15) (C := RX16) (T := TX16) (N := 5) (f := 0) hC rfl in_X16 (Nat.le_of_ble_eq_true rfl) q2976 (fun _ h => h) dX16_baseOf_5 hw (fun x3 hw => ?_)
  refine G_getFN (pc := 8) (ci := 8) (C := RX9) (T := TX9) (N := 6) (f := 0) hC rfl in_X9 (Nat.le_of_ble_eq_true rfl) (nw_in q2415 rfl) (fun _ h => h) dX16_baseOf_8 hw (fun x4 hw => ?_)
  refine G_iload_n (pc := 11) (i := 1) hC dX16_baseOf_11 rfl rfl ?_
  refine G_iload_n (pc := 12) (i := 2) hC dX16_baseOf_12 rfl rfl ?_
  obtain ⟨hb, hw⟩ := hw
  refine G_callI (pc := 13) (n := 3) (b := q1) (As := [va_rf x4, .int p1, .int p2]) (rest := [va_rf (some q1)]) hC (m_X11_init hJ hw) (lw_meth q2371) q139 q2802 q2370 rfl hd_X11_init.2 (by decide) rfl rfl (st_c (cat_r cat_e) (Nat.le_of_ble_eq_true rfl)) dX16_baseOf_13 (kU fun M5 hw => ?_)
  exact G_aret (pc := 16) hC (Or.inl ⟨_, rfl⟩) hQ dX16_baseOf_16 hw
def w_X17_init (g : gT) (F : Nat) (a0 : Nat) (p1 : Int32) (p2 : Option Nat) (p3 : Option Nat) (p4 : Option Nat) (M : hM) (Q : hM → Prop) : Prop :=
  pV M (some a0) 16 4 (.int (-1 : Int32)) fun M1 => pV M1 (some a0) 16 0 (.int p1) fun M2 => pV M2 (some a0) 16 1 (va_rf p2) fun M3 => pV M3 (some a0) 16 2 (va_rf p3) fun M4 => pV M4 (some a0) 16 3 (va_rf p4) fun M5 => Q M5
theorem m_X17_init {l : Launch} {g : gT} {F : Nat} {a0 : Nat} {p1 : Int32} {p2 : Option Nat} {p3 : Option Nat} {p4 : Option Nat} {M : hM} {Q : hM → Prop} (hJ : JOK l g) (hw : w_X17_init g F a0 p1 p2 p3 p4 M Q) : MG l g yX17_init (ws_ yX17_init cX17_init 5 none) 1 20 [va_rf (some a0), .int p1, va_rf p2, va_rf p3, va_rf p4] M (PU Q) := by
  refine MG_of hJ.2.1 (by decide) (cat_r (cat_i (cat_r (cat_r (cat_r cat_e))))) (Nat.le_of_ble_eq_true rfl) (fun k hl hg hin hQ hC => ?_)
  subst hl hg
  show GW k 5 M 0 [some (va_rf (some a0)), some (.int p1), some (va_rf p2), some (va_rf p3), some (va_rf p4)] []
  refine G_aload_n (pc := 0) (i := 0) hC dX17_init_0 rfl rfl ?_
  refine G_objInit (pc := 1) hC q2909 q158 q159 rfl rfl (st_c cat_e (Nat.le_of_ble_eq_true rfl)) dX17_init_1 ?_
  refine G_aload_n (pc := 4) (i := 0) hC dX17_init_4 rfl rfl ?_
  refine G_iconst (pc := 5) (v := -1) hC dX17_init_5 (by decide) ?_
  refine G_put (pc := 6) (ci := 16) (C := RX17) (T := TX17) (N := 5) (f := 4) tyX17 hC rfl in_X17 tyX17_ok nmX17 (Nat.le_of_ble_eq_true rfl) q2918 (fun _ h => h) rfl rfl rfl dX17_init_6 hw (fun M1 hw => ?_)
  refine G_aload_n (pc := 9) (i := 0) hC dX17_init_9 rfl rfl ?_
  refine G_iload_n (pc := 10) (i := 1) hC dX17_init_10 rfl rfl ?_
  refine G_putF (pc := 11) (ci := 16) (C := RX17) (T := TX17) (N := 5) (f := 0) tyX17 hC rfl in_X17 tyX17_ok nmX17 (Nat.le_of_ble_eq_true rfl) q2910 (fun _ h => h) rfl hin rfl rfl rfl dX17_init_11 hw (fun M2 hw => ?_)
  refine G_aload_n (pc := 14) (i := 0) hC dX17_init_14 rfl rfl ?_
  refine G_aload_n (pc := 15) (i := 2) hC dX17_init_15 rfl rfl ?_
  refine G_putF (pc := 16) (ci := 16) (C := RX17) (T := TX17) (N := 5) (f := 1) tyX17 hC rfl in_X17 tyX17_ok nmX17 (Nat.le_of_ble_eq_true rfl) q2912 (fun _ h => h) rfl hin rfl (nR_o _ _) (fR_o _ _) dX17_init_16 hw (fun M3 hw => ?_)
  refine G_aload_n (pc := 19) (i := 0) hC dX17_init_19 rfl rfl ?_
  refine G_aload_n (pc := 20) (i := 3) hC dX17_init_20 rfl rfl ?_
  refine G_putF (pc := 21) (ci := 16) (C := RX17) (T := TX17) (N := 5) (f := 2) tyX17 hC rfl in_X17 tyX17_ok nmX17 (Nat.le_of_ble_eq_true rfl) q2914 (fun _ h => h) rfl hin rfl (nR_o _ _) (fR_o _ _) dX17_init_21 hw (fun M4 hw => ?_)
  refine G_aload_n (pc := 24) (i := 0) hC dX17_init_24 rfl rfl ?_
  refine G_aload (pc := 25) (i := 4) hC dX17_init_25 rfl ?_
  refine G_putF (pc := 27) (ci := 16) (C := RX17) (T := TX17) (N := 5) (f := 3) tyX17 hC rfl in_X17 tyX17_ok nmX17 (Nat.le_of_ble_eq_true rfl) q2916 (fun _ h => h) rfl hin rfl (nR_o _ _) (fR_o _ _) dX17_init_27 hw (fun M5 hw => ?_)
  exact G_ret (pc := 30) hC hQ dX17_init_30 hw
theorem hd_X11_commonEnd : yX11_commonEnd.cls = "MergeWorkbench$Part" ∧ yX11_commonEnd.cls ≠ "java/lang/invoke/MethodHandle" ∧ yX11_commonEnd.cls ≠ "java/lang/invoke/VarHandle" ∧ (parseMethodDescriptor yX11_commonEnd.desc).map (fun d => d.parameters.length) = some 1 := by decide +kernel
theorem hd_X11_first : yX11_first.cls = "MergeWorkbench$Part" ∧ yX11_first.cls ≠ "java/lang/invoke/MethodHandle" ∧ yX11_first.cls ≠ "java/lang/invoke/VarHandle" ∧ (parseMethodDescriptor yX11_first.desc).map (fun d => d.parameters.length) = some 1 := by decide +kernel
theorem hd_X11_last : yX11_last.cls = "MergeWorkbench$Part" ∧ yX11_last.cls ≠ "java/lang/invoke/MethodHandle" ∧ yX11_last.cls ≠ "java/lang/invoke/VarHandle" ∧ (parseMethodDescriptor yX11_last.desc).map (fun d => d.parameters.length) = some 1 := by decide +kernel
theorem hd_X11_without : yX11_without.cls = "MergeWorkbench$Part" ∧ yX11_without.cls ≠ "java/lang/invoke/MethodHandle" ∧ yX11_without.cls ≠ "java/lang/invoke/VarHandle" ∧ (parseMethodDescriptor yX11_without.desc).map (fun d => d.parameters.length) = some 2 := by decide +kernel
theorem hd_X17_init : yX17_init.cls = "MergeWorkbench$Chunk" ∧ yX17_init.cls ≠ "java/lang/invoke/MethodHandle" ∧ yX17_init.cls ≠ "java/lang/invoke/VarHandle" ∧ (parseMethodDescriptor yX17_init.desc).map (fun d => d.parameters.length) = some 4 := by decide +kernel
def w_X16_addConflict_187 (g : gT) (F : Nat) (a0 : Nat) (p1 : Option Nat) (p2 : Option Nat) (p3 : Option Nat) (Q : hM → Prop) (M : hM) : Prop :=
  Q M
def w_X16_addConflict_96 (g : gT) (F : Nat) (a0 : Nat) (p1 : Option Nat) (p2 : Option Nat) (p3 : Option Nat) (Q : hM → Prop) (v5 : Option Nat) (v6 : Option Nat) (v7 : Int32) (M : hM) : Prop :=
  nW M 16 fsX17 fun q1 M2 => gThis M2 v5 10 fun b4 => w_X11_without g F b4 (0 : Int32) v7 M2 (fun x5 M3 => gThis M3 v6 10 fun b7 => w_X11_without g F b7 (0 : Int32) v7 M3 (fun x8 M6 => (isC M6 q1 16 ∧ w_X17_init g F q1 (4 : Int32) p1 x5 x8 M6 (fun M9 => gF M9 (some a0) 15 3 fun x10 => gThis M9 x10 21 fun b12 => L_add g b12 (some q1) M9 (fun x13 M11 => gF M11 (some a0) 15 4 fun x14 => gThis M11 x14 21 fun b16 => L_add g b16 (some q1) M11 (fun x17 M15 => ((v7 ≤ 0 → w_X16_addConflict_187 g F a0 p1 p2 p3 Q M15) ∧ (¬ (v7 ≤ 0) → gF M15 (some a0) 15 3 fun x18 => nW M15 16 fsX17 fun q19 M20 => gThis M20 p1 10 fun b22 => w_X11_last g F b22 (0 : Int32) M20 (fun x23 M21 => gThis M21 p2 10 fun b25 => w_X11_last g F b25 v7 M21 (fun x26 M24 => gThis M24 p3 10 fun b28 => w_X11_last g F b28 v7 M24 (fun x29 M27 => (isC M27 q19 16 ∧ w_X17_init g F q19 (3 : Int32) x23 x26 x29 M27 (fun M30 => gThis M30 x18 21 fun b32 => L_add g b32 (some q19) M30 (fun x33 M31 => w_X16_addConflict_187 g F a0 p1 p2 p3 Q M31))))))))))))))
def w_X16_addConflict_54 (g : gT) (F : Nat) (a0 : Nat) (p1 : Option Nat) (p2 : Option Nat) (p3 : Option Nat) (Q : hM → Prop) (v4 : Int32) (v5 : Option Nat) (v6 : Option Nat) (s0 : Int32) (M : hM) : Prop :=
  ((v4 ≤ 0 → w_X16_addConflict_96 g F a0 p1 p2 p3 Q v5 v6 s0 M) ∧ (¬ (v4 ≤ 0) → gF M (some a0) 15 3 fun x1 => nW M 16 fsX17 fun q2 M3 => gThis M3 p1 10 fun b5 => w_X11_first g F b5 (0 : Int32) M3 (fun x6 M4 => gThis M4 p2 10 fun b8 => w_X11_first g F b8 v4 M4 (fun x9 M7 => gThis M7 p3 10 fun b11 => w_X11_first g F b11 v4 M7 (fun x12 M10 => (isC M10 q2 16 ∧ w_X17_init g F q2 (3 : Int32) x6 x9 x12 M10 (fun M13 => gThis M13 x1 21 fun b15 => L_add g b15 (some q2) M13 (fun x16 M14 => w_X16_addConflict_96 g F a0 p1 p2 p3 Q v5 v6 s0 M14))))))))
def w_X16_addConflict_16 (g : gT) (F : Nat) (a0 : Nat) (p1 : Option Nat) (p2 : Option Nat) (p3 : Option Nat) (Q : hM → Prop) (s0 : Int32) (M : hM) : Prop :=
  gThis M p2 10 fun b2 => w_X11_without g F b2 s0 (0 : Int32) M (fun x3 M1 => gThis M1 p3 10 fun b5 => w_X11_without g F b5 s0 (0 : Int32) M1 (fun x6 M4 => gI M4 (some a0) 15 2 fun x7 => ((x7 = 0 → w_X16_addConflict_54 g F a0 p1 p2 p3 Q s0 x3 x6 (0 : Int32) M4) ∧ (¬ (x7 = 0) → gThis M4 x3 10 fun b9 => w_X11_commonEnd g F b9 x6 M4 (fun x10 M8 => w_X16_addConflict_54 g F a0 p1 p2 p3 Q s0 (some b9) x6 x10 M8)))))
def w_X16_addConflict (g : gT) (F : Nat) (a0 : Nat) (p1 : Option Nat) (p2 : Option Nat) (p3 : Option Nat) (M : hM) (Q : hM → Prop) : Prop :=
  gI M (some a0) 15 2 fun x1 => ((x1 = 0 → w_X16_addConflict_16 g F a0 p1 p2 p3 Q (0 : Int32) M) ∧ (¬ (x1 = 0) → gThis M p2 10 fun b3 => w_X11_commonBeginning g F b3 p3 M (fun x4 M2 => w_X16_addConflict_16 g F a0 p1 p2 p3 Q x4 M2)))
theorem g_X16_addConflict_187 {k : kT} {F : Nat} {a0 : Nat} {p1 : Option Nat} {p2 : Option Nat} {p3 : Option Nat} {Q : hM → Prop} (hJ : JOK (kl k) (kg k)) (hC : CX k 9 cX16_addConflict RX16 none 43 2064) (hQ : isQ k (PU Q)) (hin : (kt k).name = "addConflict") : ∀  (M : hM), w_X16_addConflict_187 (kg k) F a0 p1 p2 p3 Q  M → GW k 9 M 187 [some (va_rf (some a0)), some (va_rf p1), some (va_rf p2), some (va_rf p3), none, none, none, none, none] [] := by
  intro  M hw
  exact G_ret (pc := 187) hC hQ dX16_addConflict_187 hw
theorem g_X16_addConflict_96 {k : kT} {F : Nat} {a0 : Nat} {p1 : Option Nat} {p2 : Option Nat} {p3 : Option Nat} {Q : hM → Prop} (hJ : JOK (kl k) (kg k)) (hC : CX k 9 cX16_addConflict RX16 none 43 2064) (hQ : isQ k (PU Q)) (hin : (kt k).name = "addConflict") : ∀ (v5 : Option Nat) (v6 : Option Nat) (v7 : Int32) (M : hM), w_X16_addConflict_96 (kg k) F a0 p1 p2 p3 Q v5 v6 v7 M → GW k 9 M 96 [some (va_rf (some a0)), some (va_rf p1), some (va_rf p2), some (va_rf p3), none, some (va_rf v5), some (va_rf v6), some (.int v7), none] [] := by
  intro v5 v6 v7 M hw
  refine G_new (pc := 96) (ci := 16) (C := RX17) (T := TX17) (N := 5) (fs := fsX17) tyX17 hC rfl in_X17 tyX17_ok q2904 q2905 q147 dfX17 rfl dX16_addConflict_96 hw (fun q1 M2 hw => ?_)
  refine G_dup (pc := 99) hC dX16_addConflict_99 (rf_cat _) ?_
  refine G_iconst (pc := 100) (v := 4) hC dX16_addConflict_100 (by decide) ?_
  refine G_aload_n (pc := 101) (i := 1) hC dX16_addConflict_101 rfl rfl ?_
  refine G_aload (pc := 102) (i := 5) hC dX16_addConflict_102 rfl ?_
  refine G_iconst (pc := 104) (v := 0) hC dX16_addConflict_104 (by decide) ?_
  refine G_iload (pc := 105) (i := 7) hC dX16_addConflict_105 rfl ?_
  obtain ⟨b4, rfl, hb, hw⟩ := gThis_e hw
  refine G_callV (pc := 107) (n := 2) (C := "MergeWorkbench$Part") (b := b4) (As := [.int (0 : Int32), .int v7]) (rest := [va_rf p1, .int (4 : Int32), va_rf (some q1), va_rf (some q1)]) hC (m_X11_without hJ hw) (lw_V q2938 q2939 q2940 q139 q2941) hd_X11_without (by decide) (rcv (C := RX11) (T := TX11) (N := 3) hC hb rfl) rfl rfl (st_c (cat_r (cat_i (cat_r (cat_r cat_e)))) (Nat.le_of_ble_eq_true rfl)) dX16_addConflict_107 (kRf fun x5 M3 hw => ?_)
  refine G_aload (pc := 110) (i := 6) hC dX16_addConflict_110 rfl ?_
  refine G_iconst (pc := 112) (v := 0) hC dX16_addConflict_112 (by decide) ?_
  refine G_iload (pc := 113) (i := 7) hC dX16_addConflict_113 rfl ?_
  obtain ⟨b7, rfl, hb, hw⟩ := gThis_e hw
  refine G_callV (pc := 115) (n := 2) (C := "MergeWorkbench$Part") (b := b7) (As := [.int (0 : Int32), .int v7]) (rest := [va_rf x5, va_rf p1, .int (4 : Int32), va_rf (some q1), va_rf (some q1)]) hC (m_X11_without hJ hw) (lw_V q2938 q2939 q2940 q139 q2941) hd_X11_without (by decide) (rcv (C := RX11) (T := TX11) (N := 3) hC hb rfl) rfl rfl (st_c (cat_r (cat_r (cat_i (cat_r (cat_r cat_e))))) (Nat.le_of_ble_eq_true rfl)) dX16_addConflict_115 (kRf fun x8 M6 hw => ?_)
  obtain ⟨hb, hw⟩ := hw
  refine G_callI (pc := 118) (n := 4) (b := q1) (As := [.int (4 : Int32), va_rf p1, va_rf x5, va_rf x8]) (rest := [va_rf (some q1)]) hC (m_X17_init hJ hw) (lw_meth q2908) q147 q2906 q2907 rfl hd_X17_init.2 (by decide) rfl rfl (st_c (cat_r cat_e) (Nat.le_of_ble_eq_true rfl)) dX16_addConflict_118 (kU fun M9 hw => ?_)
  refine G_astore (pc := 121) (i := 8) (lw := [some (va_rf (some a0)), some (va_rf p1), some (va_rf p2), some (va_rf p3), none, some (va_rf (some b4)), some (va_rf (some b7)), some (.int v7), some (va_rf (some q1))]) hC dX16_addConflict_121 (Nat.le_of_ble_eq_true rfl) rfl ?_
  refine G_aload_n (pc := 123) (i := 0) hC dX16_addConflict_123 rfl rfl ?_
  refine G_getF (pc := 124) (ci := 15) (C := RX16) (T := TX16) (N := 5) (f := 3) hC rfl in_X16 (Nat.le_of_ble_eq_true rfl) q2979 (fun _ h => h) dX16_addConflict_124 hw (fun x10 hw => ?_)
  refine G_aload (pc := 127) (i := 8) hC dX16_addConflict_127 rfl ?_
  obtain ⟨b12, rfl, hb, hw⟩ := gThis_e hw
  refine G_callF (pc := 129) (n := 1) (x := ⟨"java/util/List", "add", "(Ljava/lang/Object;)Z"⟩) (C := "java/util/ArrayList") (ci := 21) (T := TJ2) (N := 3) (b := b12) (As := [va_rf (some q1)]) (rest := []) hC (J_L_add hJ hw) (lw_F q2932 q260 q262 q87 q264) (nw_in q258 rfl) (nw_in q257 rfl) (nw_in q263 rfl) (nw_in q261 rfl) (nw_in q259 rfl) rfl (rcv (C := RJ2) (T := TJ2) (N := 3) hC hb rfl) (by decide +kernel) (by decide) rfl rfl (st_c cat_e (Nat.le_of_ble_eq_true rfl)) dX16_addConflict_129 (kI fun x13 M11 hw => ?_)
  refine G_pop (pc := 134) hC dX16_addConflict_134 rfl ?_
  refine G_aload_n (pc := 135) (i := 0) hC dX16_addConflict_135 rfl rfl ?_
  refine G_getF (pc := 136) (ci := 15) (C := RX16) (T := TX16) (N := 5) (f := 4) hC rfl in_X16 (Nat.le_of_ble_eq_true rfl) q2981 (fun _ h => h) dX16_addConflict_136 hw (fun x14 hw => ?_)
  refine G_aload (pc := 139) (i := 8) hC dX16_addConflict_139 rfl ?_
  obtain ⟨b16, rfl, hb, hw⟩ := gThis_e hw
  refine G_callF (pc := 141) (n := 1) (x := ⟨"java/util/List", "add", "(Ljava/lang/Object;)Z"⟩) (C := "java/util/ArrayList") (ci := 21) (T := TJ2) (N := 3) (b := b16) (As := [va_rf (some q1)]) (rest := []) hC (J_L_add hJ hw) (lw_F q2932 q260 q262 q87 q264) (nw_in q258 rfl) (nw_in q257 rfl) (nw_in q263 rfl) (nw_in q261 rfl) (nw_in q259 rfl) rfl (rcv (C := RJ2) (T := TJ2) (N := 3) hC hb rfl) (by decide +kernel) (by decide) rfl rfl (st_c cat_e (Nat.le_of_ble_eq_true rfl)) dX16_addConflict_141 (kI fun x17 M15 hw => ?_)
  refine G_pop (pc := 146) hC dX16_addConflict_146 rfl ?_
  refine G_iload (pc := 147) (i := 7) hC dX16_addConflict_147 rfl ?_
  refine G_if_le (pc := 149) (tgt := 187) hC dX16_addConflict_149 (by decide) (fun hc => ?_) (fun hc => ?_)
  · replace hw := hw.1 hc
    refine G_loc (lv' := [some (va_rf (some a0)), some (va_rf p1), some (va_rf p2), some (va_rf p3), none, none, none, none, none]) ⟨Or.inr rfl, Or.inr rfl, Or.inr rfl, Or.inr rfl, Or.inr rfl, Or.inl rfl, Or.inl rfl, Or.inl rfl, Or.inl rfl, trivial⟩ ?_
    exact g_X16_addConflict_187 hJ hC hQ hin   M15 hw
  · replace hw := hw.2 hc
    refine G_aload_n (pc := 152) (i := 0) hC dX16_addConflict_152 rfl rfl ?_
    refine G_getF (pc := 153) (ci := 15) (C := RX16) (T := TX16) (N := 5) (f := 3) hC rfl in_X16 (Nat.le_of_ble_eq_true rfl) q2979 (fun _ h => h) dX16_addConflict_153 hw (fun x18 hw => ?_)
    refine G_new (pc := 156) (ci := 16) (C := RX17) (T := TX17) (N := 5) (fs := fsX17) tyX17 hC rfl in_X17 tyX17_ok q2904 q2905 q147 dfX17 rfl dX16_addConflict_156 hw (fun q19 M20 hw => ?_)
    refine G_dup (pc := 159) hC dX16_addConflict_159 (rf_cat _) ?_
    refine G_iconst (pc := 160) (v := 3) hC dX16_addConflict_160 (by decide) ?_
    refine G_aload_n (pc := 161) (i := 1) hC dX16_addConflict_161 rfl rfl ?_
    refine G_iconst (pc := 162) (v := 0) hC dX16_addConflict_162 (by decide) ?_
    obtain ⟨b22, rfl, hb, hw⟩ := gThis_e hw
    refine G_callV (pc := 163) (n := 1) (C := "MergeWorkbench$Part") (b := b22) (As := [.int (0 : Int32)]) (rest := [.int (3 : Int32), va_rf (some q19), va_rf (some q19), va_rf x18]) hC (m_X11_last hJ hw) (lw_V q2952 q2953 q2954 q139 q2955) hd_X11_last (by decide) (rcv (C := RX11) (T := TX11) (N := 3) hC hb rfl) rfl rfl (st_c (cat_i (cat_r (cat_r (cat_r cat_e)))) (Nat.le_of_ble_eq_true rfl)) dX16_addConflict_163 (kRf fun x23 M21 hw => ?_)
    refine G_aload_n (pc := 166) (i := 2) hC dX16_addConflict_166 rfl rfl ?_
    refine G_iload (pc := 167) (i := 7) hC dX16_addConflict_167 rfl ?_
    obtain ⟨b25, rfl, hb, hw⟩ := gThis_e hw
    refine G_callV (pc := 169) (n := 1) (C := "MergeWorkbench$Part") (b := b25) (As := [.int v7]) (rest := [va_rf x23, .int (3 : Int32), va_rf (some q19), va_rf (some q19), va_rf x18]) hC (m_X11_last hJ hw) (lw_V q2952 q2953 q2954 q139 q2955) hd_X11_last (by decide) (rcv (C := RX11) (T := TX11) (N := 3) hC hb rfl) rfl rfl (st_c (cat_r (cat_i (cat_r (cat_r (cat_r cat_e))))) (Nat.le_of_ble_eq_true rfl)) dX16_addConflict_169 (kRf fun x26 M24 hw => ?_)
    refine G_aload_n (pc := 172) (i := 3) hC dX16_addConflict_172 rfl rfl ?_
    refine G_iload (pc := 173) (i := 7) hC dX16_addConflict_173 rfl ?_
    obtain ⟨b28, rfl, hb, hw⟩ := gThis_e hw
    refine G_callV (pc := 175) (n := 1) (C := "MergeWorkbench$Part") (b := b28) (As := [.int v7]) (rest := [va_rf x26, va_rf x23, .int (3 : Int32), va_rf (some q19), va_rf (some q19), va_rf x18]) hC (m_X11_last hJ hw) (lw_V q2952 q2953 q2954 q139 q2955) hd_X11_last (by decide) (rcv (C := RX11) (T := TX11) (N := 3) hC hb rfl) rfl rfl (st_c (cat_r (cat_r (cat_i (cat_r (cat_r (cat_r cat_e)))))) (Nat.le_of_ble_eq_true rfl)) dX16_addConflict_175 (kRf fun x29 M27 hw => ?_)
    obtain ⟨hb, hw⟩ := hw
    refine G_callI (pc := 178) (n := 4) (b := q19) (As := [.int (3 : Int32), va_rf x23, va_rf x26, va_rf x29]) (rest := [va_rf (some q19), va_rf x18]) hC (m_X17_init hJ hw) (lw_meth q2908) q147 q2906 q2907 rfl hd_X17_init.2 (by decide) rfl rfl (st_c (cat_r (cat_r cat_e)) (Nat.le_of_ble_eq_true rfl)) dX16_addConflict_178 (kU fun M30 hw => ?_)
    obtain ⟨b32, rfl, hb, hw⟩ := gThis_e hw
    refine G_callF (pc := 181) (n := 1) (x := ⟨"java/util/List", "add", "(Ljava/lang/Object;)Z"⟩) (C := "java/util/ArrayList") (ci := 21) (T := TJ2) (N := 3) (b := b32) (As := [va_rf (some q19)]) (rest := []) hC (J_L_add hJ hw) (lw_F q2932 q260 q262 q87 q264) (nw_in q258 rfl) (nw_in q257 rfl) (nw_in q263 rfl) (nw_in q261 rfl) (nw_in q259 rfl) rfl (rcv (C := RJ2) (T := TJ2) (N := 3) hC hb rfl) (by decide +kernel) (by decide) rfl rfl (st_c cat_e (Nat.le_of_ble_eq_true rfl)) dX16_addConflict_181 (kI fun x33 M31 hw => ?_)
    refine G_pop (pc := 186) hC dX16_addConflict_186 rfl ?_
    refine G_loc (lv' := [some (va_rf (some a0)), some (va_rf (some b22)), some (va_rf (some b25)), some (va_rf (some b28)), none, none, none, none, none]) ⟨Or.inr rfl, Or.inr rfl, Or.inr rfl, Or.inr rfl, Or.inr rfl, Or.inl rfl, Or.inl rfl, Or.inl rfl, Or.inl rfl, trivial⟩ ?_
    exact g_X16_addConflict_187 hJ hC hQ hin   M31 hw
theorem g_X16_addConflict_54 {k : kT} {F : Nat} {a0 : Nat} {p1 : Option Nat} {p2 : Option Nat} {p3 : Option Nat} {Q : hM → Prop} (hJ : JOK (kl k) (kg k)) (hC : CX k 9 cX16_addConflict RX16 none 43 2064) (hQ : isQ k (PU Q)) (hin : (kt k).name = "addConflict") : ∀ (v4 : Int32) (v5 : Option Nat) (v6 : Option Nat) (s0 : Int32) (M : hM), w_X16_addConflict_54 (kg k) F a0 p1 p2 p3 Q v4 v5 v6 s0 M → GW k 9 M 54 [some (va_rf (some a0)), some (va_rf p1), some (va_rf p2), some (va_rf p3), some (.int v4), some (va_rf v5), some (va_rf v6), none, none] [.int s0] := by
  intro v4 v5 v6 s0 M hw
  refine G_istore (pc := 54) (i := 7) (lw := [some (va_rf (some a0)), some (va_rf p1), some (va_rf p2), some (va_rf p3), some (.int v4), some (va_rf v5), some (va_rf v6), some (.int s0), none]) hC dX16_addConflict_54 (Nat.le_of_ble_eq_true rfl) rfl ?_
  refine G_iload (pc := 56) (i := 4) hC dX16_addConflict_56 rfl ?_
  refine G_if_le (pc := 58) (tgt := 96) hC dX16_addConflict_58 (by decide) (fun hc => ?_) (fun hc => ?_)
  · replace hw := hw.1 hc
    refine G_loc (lv' := [some (va_rf (some a0)), some (va_rf p1), some (va_rf p2), some (va_rf p3), none, some (va_rf v5), some (va_rf v6), some (.int s0), none]) ⟨Or.inr rfl, Or.inr rfl, Or.inr rfl, Or.inr rfl, Or.inl rfl, Or.inr rfl, Or.inr rfl, Or.inr rfl, Or.inr rfl, trivial⟩ ?_
    exact g_X16_addConflict_96 hJ hC hQ hin  v5 v6 s0 M hw
  · replace hw := hw.2 hc
    refine G_aload_n (pc := 61) (i := 0) hC dX16_addConflict_61 rfl rfl ?_
    refine G_getF (pc := 62) (ci := 15) (C := RX16) (T := TX16) (N := 5) (f := 3) hC rfl in_X16 (Nat.le_of_ble_eq_true rfl) q2979 (fun _ h => h) dX16_addConflict_62 hw (fun x1 hw => ?_)
    refine G_new (pc := 65) (ci := 16) (C := RX17) (T := TX17) (N := 5) (fs := fsX17) tyX17 hC rfl in_X17 tyX17_ok q2904 q2905 q147 dfX17 rfl dX16_addConflict_65 hw (fun q2 M3 hw => ?_)
    refine G_dup (pc := 68) hC dX16_addConflict_68 (rf_cat _) ?_
    refine G_iconst (pc := 69) (v := 3) hC dX16_addConflict_69 (by decide) ?_
    refine G_aload_n (pc := 70) (i := 1) hC dX16_addConflict_70 rfl rfl ?_
    refine G_iconst (pc := 71) (v := 0) hC dX16_addConflict_71 (by decide) ?_
    obtain ⟨b5, rfl, hb, hw⟩ := gThis_e hw
    refine G_callV (pc := 72) (n := 1) (C := "MergeWorkbench$Part") (b := b5) (As := [.int (0 : Int32)]) (rest := [.int (3 : Int32), va_rf (some q2), va_rf (some q2), va_rf x1]) hC (m_X11_first hJ hw) (lw_V q2948 q2949 q2950 q139 q2951) hd_X11_first (by decide) (rcv (C := RX11) (T := TX11) (N := 3) hC hb rfl) rfl rfl (st_c (cat_i (cat_r (cat_r (cat_r cat_e)))) (Nat.le_of_ble_eq_true rfl)) dX16_addConflict_72 (kRf fun x6 M4 hw => ?_)
    refine G_aload_n (pc := 75) (i := 2) hC dX16_addConflict_75 rfl rfl ?_
    refine G_iload (pc := 76) (i := 4) hC dX16_addConflict_76 rfl ?_
    obtain ⟨b8, rfl, hb, hw⟩ := gThis_e hw
    refine G_callV (pc := 78) (n := 1) (C := "MergeWorkbench$Part") (b := b8) (As := [.int v4]) (rest := [va_rf x6, .int (3 : Int32), va_rf (some q2), va_rf (some q2), va_rf x1]) hC (m_X11_first hJ hw) (lw_V q2948 q2949 q2950 q139 q2951) hd_X11_first (by decide) (rcv (C := RX11) (T := TX11) (N := 3) hC hb rfl) rfl rfl (st_c (cat_r (cat_i (cat_r (cat_r (cat_r cat_e))))) (Nat.le_of_ble_eq_true rfl)) dX16_addConflict_78 (kRf fun x9 M7 hw => ?_)
    refine G_aload_n (pc := 81) (i := 3) hC dX16_addConflict_81 rfl rfl ?_
    refine G_iload (pc := 82) (i := 4) hC dX16_addConflict_82 rfl ?_
    obtain ⟨b11, rfl, hb, hw⟩ := gThis_e hw
    refine G_callV (pc := 84) (n := 1) (C := "MergeWorkbench$Part") (b := b11) (As := [.int v4]) (rest := [va_rf x9, va_rf x6, .int (3 : Int32), va_rf (some q2), va_rf (some q2), va_rf x1]) hC (m_X11_first hJ hw) (lw_V q2948 q2949 q2950 q139 q2951) hd_X11_first (by decide) (rcv (C := RX11) (T := TX11) (N := 3) hC hb rfl) rfl rfl (st_c (cat_r (cat_r (cat_i (cat_r (cat_r (cat_r cat_e)))))) (Nat.le_of_ble_eq_true rfl)) dX16_addConflict_84 (kRf fun x12 M10 hw => ?_)
    obtain ⟨hb, hw⟩ := hw
    refine G_callI (pc := 87) (n := 4) (b := q2) (As := [.int (3 : Int32), va_rf x6, va_rf x9, va_rf x12]) (rest := [va_rf (some q2), va_rf x1]) hC (m_X17_init hJ hw) (lw_meth q2908) q147 q2906 q2907 rfl hd_X17_init.2 (by decide) rfl rfl (st_c (cat_r (cat_r cat_e)) (Nat.le_of_ble_eq_true rfl)) dX16_addConflict_87 (kU fun M13 hw => ?_)
    obtain ⟨b15, rfl, hb, hw⟩ := gThis_e hw
    refine G_callF (pc := 90) (n := 1) (x := ⟨"java/util/List", "add", "(Ljava/lang/Object;)Z"⟩) (C := "java/util/ArrayList") (ci := 21) (T := TJ2) (N := 3) (b := b15) (As := [va_rf (some q2)]) (rest := []) hC (J_L_add hJ hw) (lw_F q2932 q260 q262 q87 q264) (nw_in q258 rfl) (nw_in q257 rfl) (nw_in q263 rfl) (nw_in q261 rfl) (nw_in q259 rfl) rfl (rcv (C := RJ2) (T := TJ2) (N := 3) hC hb rfl) (by decide +kernel) (by decide) rfl rfl (st_c cat_e (Nat.le_of_ble_eq_true rfl)) dX16_addConflict_90 (kI fun x16 M14 hw => ?_)
    refine G_pop (pc := 95) hC dX16_addConflict_95 rfl ?_
    refine G_loc (lv' := [some (va_rf (some a0)), some (va_rf (some b5)), some (va_rf (some b8)), some (va_rf (some b11)), none, some (va_rf v5), some (va_rf v6), some (.int s0), none]) ⟨Or.inr rfl, Or.inr rfl, Or.inr rfl, Or.inr rfl, Or.inl rfl, Or.inr rfl, Or.inr rfl, Or.inr rfl, Or.inr rfl, trivial⟩ ?_
    exact g_X16_addConflict_96 hJ hC hQ hin  v5 v6 s0 M14 hw
theorem g_X16_addConflict_16 {k : kT} {F : Nat} {a0 : Nat} {p1 : Option Nat} {p2 : Option Nat} {p3 : Option Nat} {Q : hM → Prop} (hJ : JOK (kl k) (kg k)) (hC : CX k 9 cX16_addConflict RX16 none 43 2064) (hQ : isQ k (PU Q)) (hin : (kt k).name = "addConflict") : ∀ (s0 : Int32) (M : hM), w_X16_addConflict_16 (kg k) F a0 p1 p2 p3 Q s0 M → GW k 9 M 16 [some (va_rf (some a0)), some (va_rf p1), some (va_rf p2), some (va_rf p3), none, none, none, none, none] [.int s0] := by
  intro s0 M hw
  refine G_istore (pc := 16) (i := 4) (lw := [some (va_rf (some a0)), some (va_rf p1), some (va_rf p2), some (va_rf p3), some (.int s0), none, none, none, none]) hC dX16_addConflict_16 (Nat.le_of_ble_eq_true rfl) rfl ?_
  refine G_aload_n (pc := 18) (i := 2) hC dX16_addConflict_18 rfl rfl ?_
  refine G_iload (pc := 19) (i := 4) hC dX16_addConflict_19 rfl ?_
  refine G_iconst (pc := 21) (v := 0) hC dX16_addConflict_21 (by decide) ?_
  obtain ⟨b2, rfl, hb, hw⟩ := gThis_e hw
  refine G_callV (pc := 22) (n := 2) (C := "MergeWorkbench$Part") (b := b2) (As := [.int s0, .int (0 : Int32)]) (rest := []) hC (m_X11_without hJ hw) (lw_V q2938 q2939 q2940 q139 q2941) hd_X11_without (by decide) (rcv (C := RX11) (T := TX11) (N := 3) hC hb rfl) rfl rfl (st_c cat_e (Nat.le_of_ble_eq_true rfl)) dX16_addConflict_22 (kRf fun x3 M1 hw => ?_)
  refine G_astore (pc := 25) (i := 5) (lw := [some (va_rf (some a0)), some (va_rf p1), some (va_rf (some b2)), some (va_rf p3), some (.int s0), some (va_rf x3), none, none, none]) hC dX16_addConflict_25 (Nat.le_of_ble_eq_true rfl) rfl ?_
  refine G_aload_n (pc := 27) (i := 3) hC dX16_addConflict_27 rfl rfl ?_
  refine G_iload (pc := 28) (i := 4) hC dX16_addConflict_28 rfl ?_
  refine G_iconst (pc := 30) (v := 0) hC dX16_addConflict_30 (by decide) ?_
  obtain ⟨b5, rfl, hb, hw⟩ := gThis_e hw
  refine G_callV (pc := 31) (n := 2) (C := "MergeWorkbench$Part") (b := b5) (As := [.int s0, .int (0 : Int32)]) (rest := []) hC (m_X11_without hJ hw) (lw_V q2938 q2939 q2940 q139 q2941) hd_X11_without (by decide) (rcv (C := RX11) (T := TX11) (N := 3) hC hb rfl) rfl rfl (st_c cat_e (Nat.le_of_ble_eq_true rfl)) dX16_addConflict_31 (kRf fun x6 M4 hw => ?_)
  refine G_astore (pc := 34) (i := 6) (lw := [some (va_rf (some a0)), some (va_rf p1), some (va_rf (some b2)), some (va_rf (some b5)), some (.int s0), some (va_rf x3), some (va_rf x6), none, none]) hC dX16_addConflict_34 (Nat.le_of_ble_eq_true rfl) rfl ?_
  refine G_aload_n (pc := 36) (i := 0) hC dX16_addConflict_36 rfl rfl ?_
  refine G_getI (pc := 37) (ci := 15) (C := RX16) (T := TX16) (N := 5) (f := 2) hC rfl in_X16 (Nat.le_of_ble_eq_true rfl) q2978 (fun _ h => h) dX16_addConflict_37 hw (fun x7 hw => ?_)
  refine G_if_eq (pc := 40) (tgt := 53) hC dX16_addConflict_40 (by decide) (fun hc => ?_) (fun hc => ?_)
  · replace hw := hw.1 hc
    refine G_iconst (pc := 53) (v := 0) hC dX16_addConflict_53 (by decide) ?_
    exact g_X16_addConflict_54 hJ hC hQ hin  s0 x3 x6 (0 : Int32) M4 hw
  · replace hw := hw.2 hc
    refine G_aload (pc := 43) (i := 5) hC dX16_addConflict_43 rfl ?_
    refine G_aload (pc := 45) (i := 6) hC dX16_addConflict_45 rfl ?_
    obtain ⟨b9, rfl, hb, hw⟩ := gThis_e hw
    refine G_callV (pc := 47) (n := 1) (C := "MergeWorkbench$Part") (b := b9) (As := [va_rf x6]) (rest := []) hC (m_X11_commonEnd hJ hw) (lw_V q2944 q2945 q2946 q139 q2947) hd_X11_commonEnd (by decide) (rcv (C := RX11) (T := TX11) (N := 3) hC hb rfl) rfl rfl (st_c cat_e (Nat.le_of_ble_eq_true rfl)) dX16_addConflict_47 (kI fun x10 M8 hw => ?_)
    refine G_goto (pc := 50) (tgt := 54) hC dX16_addConflict_50 (by decide) ?_
    exact g_X16_addConflict_54 hJ hC hQ hin  s0 (some b9) x6 x10 M8 hw
theorem m_X16_addConflict {l : Launch} {g : gT} {F : Nat} {a0 : Nat} {p1 : Option Nat} {p2 : Option Nat} {p3 : Option Nat} {M : hM} {Q : hM → Prop} (hJ : JOK l g) (hw : w_X16_addConflict g F a0 p1 p2 p3 M Q) : MG l g yX16_addConflict (ws_ yX16_addConflict cX16_addConflict 9 none) 43 2064 [va_rf (some a0), va_rf p1, va_rf p2, va_rf p3] M (PU Q) := by
  refine MG_of hJ.2.1 (by decide) (cat_r (cat_r (cat_r (cat_r cat_e)))) (Nat.le_of_ble_eq_true rfl) (fun k hl hg hin hQ hC => ?_)
  subst hl hg
  show GW k 9 M 0 [some (va_rf (some a0)), some (va_rf p1), some (va_rf p2), some (va_rf p3), none, none, none, none, none] []
  refine G_aload_n (pc := 0) (i := 0) hC dX16_addConflict_0 rfl rfl ?_
  refine G_getI (pc := 1) (ci := 15) (C := RX16) (T := TX16) (N := 5) (f := 2) hC rfl in_X16 (Nat.le_of_ble_eq_true rfl) q2978 (fun _ h => h) dX16_addConflict_1 hw (fun x1 hw => ?_)
  refine G_if_eq (pc := 4) (tgt := 15) hC dX16_addConflict_4 (by decide) (fun hc => ?_) (fun hc => ?_)
  · replace hw := hw.1 hc
    refine G_iconst (pc := 15) (v := 0) hC dX16_addConflict_15 (by decide) ?_
    exact g_X16_addConflict_16 hJ hC hQ hin  (0 : Int32) M hw
  · replace hw := hw.2 hc
    refine G_aload_n (pc := 7) (i := 2) hC dX16_addConflict_7 rfl rfl ?_
    refine G_aload_n (pc := 8) (i := 3) hC dX16_addConflict_8 rfl rfl ?_
    obtain ⟨b3, rfl, hb, hw⟩ := gThis_e hw
    refine G_callV (pc := 9) (n := 1) (C := "MergeWorkbench$Part") (b := b3) (As := [va_rf p3]) (rest := []) hC (m_X11_commonBeginning hJ hw) (lw_V q2937 q2820 q2821 q139 q2822) hd_X11_commonBeginning (by decide) (rcv (C := RX11) (T := TX11) (N := 3) hC hb rfl) rfl rfl (st_c cat_e (Nat.le_of_ble_eq_true rfl)) dX16_addConflict_9 (kI fun x4 M2 hw => ?_)
    refine G_goto (pc := 12) (tgt := 16) hC dX16_addConflict_12 (by decide) ?_
    exact g_X16_addConflict_16 hJ hC hQ hin  x4 M2 hw
theorem hd_X11_isEmpty : yX11_isEmpty.cls = "MergeWorkbench$Part" ∧ yX11_isEmpty.cls ≠ "java/lang/invoke/MethodHandle" ∧ yX11_isEmpty.cls ≠ "java/lang/invoke/VarHandle" ∧ (parseMethodDescriptor yX11_isEmpty.desc).map (fun d => d.parameters.length) = some 0 := by decide +kernel
theorem hd_X11_isLike : yX11_isLike.cls = "MergeWorkbench$Part" ∧ yX11_isLike.cls ≠ "java/lang/invoke/MethodHandle" ∧ yX11_isLike.cls ≠ "java/lang/invoke/VarHandle" ∧ (parseMethodDescriptor yX11_isLike.desc).map (fun d => d.parameters.length) = some 1 := by decide +kernel
theorem hd_X16_addConflict : yX16_addConflict.cls = "MergeWorkbench$Merge" ∧ yX16_addConflict.cls ≠ "java/lang/invoke/MethodHandle" ∧ yX16_addConflict.cls ≠ "java/lang/invoke/VarHandle" ∧ (parseMethodDescriptor yX16_addConflict.desc).map (fun d => d.parameters.length) = some 3 := by decide +kernel
def w_X16_addRegion_125 (g : gT) (F : Nat) (a0 : Nat) (p1 : Option Nat) (p2 : Option Nat) (p3 : Option Nat) (Q : hM → Prop) (M : hM) : Prop :=
  Q M
def w_X16_addRegion_22 (g : gT) (F : Nat) (a0 : Nat) (p1 : Option Nat) (p2 : Option Nat) (p3 : Option Nat) (Q : hM → Prop) (M : hM) : Prop :=
  gThis M p2 10 fun b2 => w_X11_isLike g F b2 p1 M (fun x3 M1 => ((x3 = 0 → gThis M1 p3 10 fun b5 => w_X11_isLike g F b5 p1 M1 (fun x6 M4 => ((x6 = 0 → (isC M4 b2 10 ∧ w_X11_isLike g F b2 (some b5) M4 (fun x8 M7 => ((x8 = 0 → (isC M7 a0 15 ∧ w_X16_addConflict g F a0 p1 (some b2) (some b5) M7 (fun M9 => w_X16_addRegion_125 g F a0 p1 p2 p3 Q M9))) ∧ (¬ (x8 = 0) → gF M7 (some a0) 15 3 fun x10 => nW M7 16 fsX17 fun q11 M12 => (isC M12 q11 16 ∧ w_X17_init g F q11 (3 : Int32) p1 (some b2) (some b5) M12 (fun M13 => gThis M13 x10 21 fun b15 => L_add g b15 (some q11) M13 (fun x16 M14 => w_X16_addRegion_125 g F a0 p1 p2 p3 Q M14)))))))) ∧ (¬ (x6 = 0) → gF M4 (some a0) 15 3 fun x17 => nW M4 16 fsX17 fun q18 M19 => (isC M19 q18 16 ∧ w_X17_init g F q18 (1 : Int32) p1 (some b2) (some b5) M19 (fun M20 => gThis M20 x17 21 fun b22 => L_add g b22 (some q18) M20 (fun x23 M21 => w_X16_addRegion_125 g F a0 p1 p2 p3 Q M21))))))) ∧ (¬ (x3 = 0) → gF M1 (some a0) 15 3 fun x24 => nW M1 16 fsX17 fun q25 M26 => (isC M26 q25 16 ∧ w_X17_init g F q25 (2 : Int32) p1 (some b2) p3 M26 (fun M27 => gThis M27 x24 21 fun b29 => L_add g b29 (some q25) M27 (fun x30 M28 => w_X16_addRegion_125 g F a0 p1 p2 p3 Q M28))))))
def w_X16_addRegion (g : gT) (F : Nat) (a0 : Nat) (p1 : Option Nat) (p2 : Option Nat) (p3 : Option Nat) (M : hM) (Q : hM → Prop) : Prop :=
  gThis M p1 10 fun b2 => w_X11_isEmpty g F b2  M (fun x3 M1 => ((x3 = 0 → w_X16_addRegion_22 g F a0 p1 p2 p3 Q M1) ∧ (¬ (x3 = 0) → gThis M1 p2 10 fun b5 => w_X11_isEmpty g F b5  M1 (fun x6 M4 => ((x6 = 0 → w_X16_addRegion_22 g F a0 p1 p2 p3 Q M4) ∧ (¬ (x6 = 0) → gThis M4 p3 10 fun b8 => w_X11_isEmpty g F b8  M4 (fun x9 M7 => ((x9 = 0 → w_X16_addRegion_22 g F a0 p1 p2 p3 Q M7) ∧ (¬ (x9 = 0) → Q M7)))))))))
theorem g_X16_addRegion_125 {k : kT} {F : Nat} {a0 : Nat} {p1 : Option Nat} {p2 : Option Nat} {p3 : Option Nat} {Q : hM → Prop} (hJ : JOK (kl k) (kg k)) (hC : CX k 4 cX16_addRegion RX16 none 44 2092) (hQ : isQ k (PU Q)) (hin : (kt k).name = "addRegion") : ∀  (M : hM), w_X16_addRegion_125 (kg k) F a0 p1 p2 p3 Q  M → GW k 4 M 125 [some (va_rf (some a0)), some (va_rf p1), some (va_rf p2), some (va_rf p3)] [] := by
  intro  M hw
  exact G_ret (pc := 125) hC hQ dX16_addRegion_125 hw
theorem g_X16_addRegion_22 {k : kT} {F : Nat} {a0 : Nat} {p1 : Option Nat} {p2 : Option Nat} {p3 : Option Nat} {Q : hM → Prop} (hJ : JOK (kl k) (kg k)) (hC : CX k 4 cX16_addRegion RX16 none 44 2092) (hQ : isQ k (PU Q)) (hin : (kt k).name = "addRegion") : ∀  (M : hM), w_X16_addRegion_22 (kg k) F a0 p1 p2 p3 Q  M → GW k 4 M 22 [some (va_rf (some a0)), some (va_rf p1), some (va_rf p2), some (va_rf p3)] [] := by
  intro  M hw
  refine G_aload_n (pc := 22) (i := 2) hC dX16_addRegion_22 rfl rfl ?_
  refine G_aload_n (pc := 23) (i := 1) hC dX16_addRegion_23 rfl rfl ?_
  obtain ⟨b2, rfl, hb, hw⟩ := gThis_e hw
  refine G_callV (pc := 24) (n := 1) (C := "MergeWorkbench$Part") (b := b2) (As := [va_rf p1]) (rest := []) hC (m_X11_isLike hJ hw) (lw_V q2811 q2812 q2813 q139 q2814) hd_X11_isLike (by decide) (rcv (C := RX11) (T := TX11) (N := 3) hC hb rfl) rfl rfl (st_c cat_e (Nat.le_of_ble_eq_true rfl)) dX16_addRegion_24 (kI fun x3 M1 hw => ?_)
  refine G_if_eq (pc := 27) (tgt := 54) hC dX16_addRegion_27 (by decide) (fun hc => ?_) (fun hc => ?_)
  · replace hw := hw.1 hc
    refine G_aload_n (pc := 54) (i := 3) hC dX16_addRegion_54 rfl rfl ?_
    refine G_aload_n (pc := 55) (i := 1) hC dX16_addRegion_55 rfl rfl ?_
    obtain ⟨b5, rfl, hb, hw⟩ := gThis_e hw
    refine G_callV (pc := 56) (n := 1) (C := "MergeWorkbench$Part") (b := b5) (As := [va_rf p1]) (rest := []) hC (m_X11_isLike hJ hw) (lw_V q2811 q2812 q2813 q139 q2814) hd_X11_isLike (by decide) (rcv (C := RX11) (T := TX11) (N := 3) hC hb rfl) rfl rfl (st_c cat_e (Nat.le_of_ble_eq_true rfl)) dX16_addRegion_56 (kI fun x6 M4 hw => ?_)
    refine G_if_eq (pc := 59) (tgt := 86) hC dX16_addRegion_59 (by decide) (fun hc => ?_) (fun hc => ?_)
    · replace hw := hw.1 hc
      refine G_aload_n (pc := 86) (i := 2) hC dX16_addRegion_86 rfl rfl ?_
      refine G_aload_n (pc := 87) (i := 3) hC dX16_addRegion_87 rfl rfl ?_
      obtain ⟨hb, hw⟩ := hw
      refine G_callV (pc := 88) (n := 1) (C := "MergeWorkbench$Part") (b := b2) (As := [va_rf (some b5)]) (rest := []) hC (m_X11_isLike hJ hw) (lw_V q2811 q2812 q2813 q139 q2814) hd_X11_isLike (by decide) (rcv (C := RX11) (T := TX11) (N := 3) hC hb rfl) rfl rfl (st_c cat_e (Nat.le_of_ble_eq_true rfl)) dX16_addRegion_88 (kI fun x8 M7 hw => ?_)
      refine G_if_eq (pc := 91) (tgt := 118) hC dX16_addRegion_91 (by decide) (fun hc => ?_) (fun hc => ?_)
      · replace hw := hw.1 hc
        refine G_aload_n (pc := 118) (i := 0) hC dX16_addRegion_118 rfl rfl ?_
        refine G_aload_n (pc := 119) (i := 1) hC dX16_addRegion_119 rfl rfl ?_
        refine G_aload_n (pc := 120) (i := 2) hC dX16_addRegion_120 rfl rfl ?_
        refine G_aload_n (pc := 121) (i := 3) hC dX16_addRegion_121 rfl rfl ?_
        obtain ⟨hb, hw⟩ := hw
        refine G_callV (pc := 122) (n := 3) (C := "MergeWorkbench$Merge") (b := a0) (As := [va_rf p1, va_rf (some b2), va_rf (some b5)]) (rest := []) hC (m_X16_addConflict hJ hw) (lw_V q2933 q2935 qs45 q146 q2936) hd_X16_addConflict (by decide) (rcv (C := RX16) (T := TX16) (N := 5) hC hb rfl) rfl rfl (st_c cat_e (Nat.le_of_ble_eq_true rfl)) dX16_addRegion_122 (kU fun M9 hw => ?_)
        exact g_X16_addRegion_125 hJ hC hQ hin   M9 hw
      · replace hw := hw.2 hc
        refine G_aload_n (pc := 94) (i := 0) hC dX16_addRegion_94 rfl rfl ?_
        refine G_getF (pc := 95) (ci := 15) (C := RX16) (T := TX16) (N := 5) (f := 3) hC rfl in_X16 (Nat.le_of_ble_eq_true rfl) q2979 (fun _ h => h) dX16_addRegion_95 hw (fun x10 hw => ?_)
        refine G_new (pc := 98) (ci := 16) (C := RX17) (T := TX17) (N := 5) (fs := fsX17) tyX17 hC rfl in_X17 tyX17_ok q2904 q2905 q147 dfX17 rfl dX16_addRegion_98 hw (fun q11 M12 hw => ?_)
        refine G_dup (pc := 101) hC dX16_addRegion_101 (rf_cat _) ?_
        refine G_iconst (pc := 102) (v := 3) hC dX16_addRegion_102 (by decide) ?_
        refine G_aload_n (pc := 103) (i := 1) hC dX16_addRegion_103 rfl rfl ?_
        refine G_aload_n (pc := 104) (i := 2) hC dX16_addRegion_104 rfl rfl ?_
        refine G_aload_n (pc := 105) (i := 3) hC dX16_addRegion_105 rfl rfl ?_
        obtain ⟨hb, hw⟩ := hw
        refine G_callI (pc := 106) (n := 4) (b := q11) (As := [.int (3 : Int32), va_rf p1, va_rf (some b2), va_rf (some b5)]) (rest := [va_rf (some q11), va_rf x10]) hC (m_X17_init hJ hw) (lw_meth q2908) q147 q2906 q2907 rfl hd_X17_init.2 (by decide) rfl rfl (st_c (cat_r (cat_r cat_e)) (Nat.le_of_ble_eq_true rfl)) dX16_addRegion_106 (kU fun M13 hw => ?_)
        obtain ⟨b15, rfl, hb, hw⟩ := gThis_e hw
        refine G_callF (pc := 109) (n := 1) (x := ⟨"java/util/List", "add", "(Ljava/lang/Object;)Z"⟩) (C := "java/util/ArrayList") (ci := 21) (T := TJ2) (N := 3) (b := b15) (As := [va_rf (some q11)]) (rest := []) hC (J_L_add hJ hw) (lw_F q2932 q260 q262 q87 q264) (nw_in q258 rfl) (nw_in q257 rfl) (nw_in q263 rfl) (nw_in q261 rfl) (nw_in q259 rfl) rfl (rcv (C := RJ2) (T := TJ2) (N := 3) hC hb rfl) (by decide +kernel) (by decide) rfl rfl (st_c cat_e (Nat.le_of_ble_eq_true rfl)) dX16_addRegion_109 (kI fun x16 M14 hw => ?_)
        refine G_pop (pc := 114) hC dX16_addRegion_114 rfl ?_
        refine G_goto (pc := 115) (tgt := 125) hC dX16_addRegion_115 (by decide) ?_
        exact g_X16_addRegion_125 hJ hC hQ hin   M14 hw
    · replace hw := hw.2 hc
      refine G_aload_n (pc := 62) (i := 0) hC dX16_addRegion_62 rfl rfl ?_
      refine G_getF (pc := 63) (ci := 15) (C := RX16) (T := TX16) (N := 5) (f := 3) hC rfl in_X16 (Nat.le_of_ble_eq_true rfl) q2979 (fun _ h => h) dX16_addRegion_63 hw (fun x17 hw => ?_)
      refine G_new (pc := 66) (ci := 16) (C := RX17) (T := TX17) (N := 5) (fs := fsX17) tyX17 hC rfl in_X17 tyX17_ok q2904 q2905 q147 dfX17 rfl dX16_addRegion_66 hw (fun q18 M19 hw => ?_)
      refine G_dup (pc := 69) hC dX16_addRegion_69 (rf_cat _) ?_
      refine G_iconst (pc := 70) (v := 1) hC dX16_addRegion_70 (by decide) ?_
      refine G_aload_n (pc := 71) (i := 1) hC dX16_addRegion_71 rfl rfl ?_
      refine G_aload_n (pc := 72) (i := 2) hC dX16_addRegion_72 rfl rfl ?_
      refine G_aload_n (pc := 73) (i := 3) hC dX16_addRegion_73 rfl rfl ?_
      obtain ⟨hb, hw⟩ := hw
      refine G_callI (pc := 74) (n := 4) (b := q18) (As := [.int (1 : Int32), va_rf p1, va_rf (some b2), va_rf (some b5)]) (rest := [va_rf (some q18), va_rf x17]) hC (m_X17_init hJ hw) (lw_meth q2908) q147 q2906 q2907 rfl hd_X17_init.2 (by decide) rfl rfl (st_c (cat_r (cat_r cat_e)) (Nat.le_of_ble_eq_true rfl)) dX16_addRegion_74 (kU fun M20 hw => ?_)
      obtain ⟨b22, rfl, hb, hw⟩ := gThis_e hw
      refine G_callF (pc := 77) (n := 1) (x := ⟨"java/util/List", "add", "(Ljava/lang/Object;)Z"⟩) (C := "java/util/ArrayList") (ci := 21) (T := TJ2) (N := 3) (b := b22) (As := [va_rf (some q18)]) (rest := []) hC (J_L_add hJ hw) (lw_F q2932 q260 q262 q87 q264) (nw_in q258 rfl) (nw_in q257 rfl) (nw_in q263 rfl) (nw_in q261 rfl) (nw_in q259 rfl) rfl (rcv (C := RJ2) (T := TJ2) (N := 3) hC hb rfl) (by decide +kernel) (by decide) rfl rfl (st_c cat_e (Nat.le_of_ble_eq_true rfl)) dX16_addRegion_77 (kI fun x23 M21 hw => ?_)
      refine G_pop (pc := 82) hC dX16_addRegion_82 rfl ?_
      refine G_goto (pc := 83) (tgt := 125) hC dX16_addRegion_83 (by decide) ?_
      exact g_X16_addRegion_125 hJ hC hQ hin   M21 hw
  · replace hw := hw.2 hc
    refine G_aload_n (pc := 30) (i := 0) hC dX16_addRegion_30 rfl rfl ?_
    refine G_getF (pc := 31) (ci := 15) (C := RX16) (T := TX16) (N := 5) (f := 3) hC rfl in_X16 (Nat.le_of_ble_eq_true rfl) q2979 (fun _ h => h) dX16_addRegion_31 hw (fun x24 hw => ?_)
    refine G_new (pc := 34) (ci := 16) (C := RX17) (T := TX17) (N := 5) (fs := fsX17) tyX17 hC rfl in_X17 tyX17_ok q2904 q2905 q147 dfX17 rfl dX16_addRegion_34 hw (fun q25 M26 hw => ?_)
    refine G_dup (pc := 37) hC dX16_addRegion_37 (rf_cat _) ?_
    refine G_iconst (pc := 38) (v := 2) hC dX16_addRegion_38 (by decide) ?_
    refine G_aload_n (pc := 39) (i := 1) hC dX16_addRegion_39 rfl rfl ?_
    refine G_aload_n (pc := 40) (i := 2) hC dX16_addRegion_40 rfl rfl ?_
    refine G_aload_n (pc := 41) (i := 3) hC dX16_addRegion_41 rfl rfl ?_
    obtain ⟨hb, hw⟩ := hw
    refine G_callI (pc := 42) (n := 4) (b := q25) (As := [.int (2 : Int32), va_rf p1, va_rf (some b2), va_rf p3]) (rest := [va_rf (some q25), va_rf x24]) hC (m_X17_init hJ hw) (lw_meth q2908) q147 q2906 q2907 rfl hd_X17_init.2 (by decide) rfl rfl (st_c (cat_r (cat_r cat_e)) (Nat.le_of_ble_eq_true rfl)) dX16_addRegion_42 (kU fun M27 hw => ?_)
    obtain ⟨b29, rfl, hb, hw⟩ := gThis_e hw
    refine G_callF (pc := 45) (n := 1) (x := ⟨"java/util/List", "add", "(Ljava/lang/Object;)Z"⟩) (C := "java/util/ArrayList") (ci := 21) (T := TJ2) (N := 3) (b := b29) (As := [va_rf (some q25)]) (rest := []) hC (J_L_add hJ hw) (lw_F q2932 q260 q262 q87 q264) (nw_in q258 rfl) (nw_in q257 rfl) (nw_in q263 rfl) (nw_in q261 rfl) (nw_in q259 rfl) rfl (rcv (C := RJ2) (T := TJ2) (N := 3) hC hb rfl) (by decide +kernel) (by decide) rfl rfl (st_c cat_e (Nat.le_of_ble_eq_true rfl)) dX16_addRegion_45 (kI fun x30 M28 hw => ?_)
    refine G_pop (pc := 50) hC dX16_addRegion_50 rfl ?_
    refine G_goto (pc := 51) (tgt := 125) hC dX16_addRegion_51 (by decide) ?_
    exact g_X16_addRegion_125 hJ hC hQ hin   M28 hw
theorem m_X16_addRegion {l : Launch} {g : gT} {F : Nat} {a0 : Nat} {p1 : Option Nat} {p2 : Option Nat} {p3 : Option Nat} {M : hM} {Q : hM → Prop} (hJ : JOK l g) (hw : w_X16_addRegion g F a0 p1 p2 p3 M Q) : MG l g yX16_addRegion (ws_ yX16_addRegion cX16_addRegion 4 none) 44 2092 [va_rf (some a0), va_rf p1, va_rf p2, va_rf p3] M (PU Q) := by
  refine MG_of hJ.2.1 (by decide) (cat_r (cat_r (cat_r (cat_r cat_e)))) (Nat.le_of_ble_eq_true rfl) (fun k hl hg hin hQ hC => ?_)
  subst hl hg
  show GW k 4 M 0 [some (va_rf (some a0)), some (va_rf p1), some (va_rf p2), some (va_rf p3)] []
  refine G_aload_n (pc := 0) (i := 1) hC dX16_addRegion_0 rfl rfl ?_
  obtain ⟨b2, rfl, hb, hw⟩ := gThis_e hw
  refine G_callV (pc := 1) (n := 0) (C := "MergeWorkbench$Part") (b := b2) (As := []) (rest := []) hC (m_X11_isEmpty hJ hw) (lw_V q2807 q2808 q2809 q139 q2810) hd_X11_isEmpty (by decide) (rcv (C := RX11) (T := TX11) (N := 3) hC hb rfl) rfl rfl (st_c cat_e (Nat.le_of_ble_eq_true rfl)) dX16_addRegion_1 (kI fun x3 M1 hw => ?_)
  refine G_if_eq (pc := 4) (tgt := 22) hC dX16_addRegion_4 (by decide) (fun hc => ?_) (fun hc => ?_)
  · replace hw := hw.1 hc
    exact g_X16_addRegion_22 hJ hC hQ hin   M1 hw
  · replace hw := hw.2 hc
    refine G_aload_n (pc := 7) (i := 2) hC dX16_addRegion_7 rfl rfl ?_
    obtain ⟨b5, rfl, hb, hw⟩ := gThis_e hw
    refine G_callV (pc := 8) (n := 0) (C := "MergeWorkbench$Part") (b := b5) (As := []) (rest := []) hC (m_X11_isEmpty hJ hw) (lw_V q2807 q2808 q2809 q139 q2810) hd_X11_isEmpty (by decide) (rcv (C := RX11) (T := TX11) (N := 3) hC hb rfl) rfl rfl (st_c cat_e (Nat.le_of_ble_eq_true rfl)) dX16_addRegion_8 (kI fun x6 M4 hw => ?_)
    refine G_if_eq (pc := 11) (tgt := 22) hC dX16_addRegion_11 (by decide) (fun hc => ?_) (fun hc => ?_)
    · replace hw := hw.1 hc
      exact g_X16_addRegion_22 hJ hC hQ hin   M4 hw
    · replace hw := hw.2 hc
      refine G_aload_n (pc := 14) (i := 3) hC dX16_addRegion_14 rfl rfl ?_
      obtain ⟨b8, rfl, hb, hw⟩ := gThis_e hw
      refine G_callV (pc := 15) (n := 0) (C := "MergeWorkbench$Part") (b := b8) (As := []) (rest := []) hC (m_X11_isEmpty hJ hw) (lw_V q2807 q2808 q2809 q139 q2810) hd_X11_isEmpty (by decide) (rcv (C := RX11) (T := TX11) (N := 3) hC hb rfl) rfl rfl (st_c cat_e (Nat.le_of_ble_eq_true rfl)) dX16_addRegion_15 (kI fun x9 M7 hw => ?_)
      refine G_if_eq (pc := 18) (tgt := 22) hC dX16_addRegion_18 (by decide) (fun hc => ?_) (fun hc => ?_)
      · replace hw := hw.1 hc
        exact g_X16_addRegion_22 hJ hC hQ hin   M7 hw
      · replace hw := hw.2 hc
        exact G_ret (pc := 21) hC hQ dX16_addRegion_21 hw
theorem hd_J2_isEmpty : yJ2_isEmpty.cls = "java/util/ArrayList" ∧ yJ2_isEmpty.cls ≠ "java/lang/invoke/MethodHandle" ∧ yJ2_isEmpty.cls ≠ "java/lang/invoke/VarHandle" ∧ (parseMethodDescriptor yJ2_isEmpty.desc).map (fun d => d.parameters.length) = some 0 := by decide +kernel
theorem hd_J2_remove : yJ2_remove.cls = "java/util/ArrayList" ∧ yJ2_remove.cls ≠ "java/lang/invoke/MethodHandle" ∧ yJ2_remove.cls ≠ "java/lang/invoke/VarHandle" ∧ (parseMethodDescriptor yJ2_remove.desc).map (fun d => d.parameters.length) = some 1 := by decide +kernel
theorem hd_X16_baseOf : yX16_baseOf.cls = "MergeWorkbench$Merge" ∧ yX16_baseOf.cls ≠ "java/lang/invoke/MethodHandle" ∧ yX16_baseOf.cls ≠ "java/lang/invoke/VarHandle" ∧ (parseMethodDescriptor yX16_baseOf.desc).map (fun d => d.parameters.length) = some 2 := by decide +kernel
def w_X16_addStable_190 (g : gT) (F : Nat) (a0 : Nat) (p1 : Int32) (p2 : Int32) (p3 : Int32) (Q : hM → Prop) (s0 : Option Nat) (s1 : Option Nat) (s2 : Option Nat) (s3 : Int32) (s4 : Option Nat) (s5 : Option Nat) (s6 : Option Nat) (s7 : Option Nat) (s8 : Option Nat) (s9 : Int32) (M : hM) : Prop :=
  gThis M s7 10 fun b2 => w_X11_init g F b2 s8 s9 (p3 + (1 : Int32)) M (fun M1 => gThis M1 s2 16 fun b4 => w_X17_init g F b4 s3 s4 s5 s6 M1 (fun M3 => gThis M3 s0 21 fun b6 => L_add g b6 s1 M3 (fun x7 M5 => Q M5)))
def w_X16_addStable_141 (g : gT) (F : Nat) (a0 : Nat) (p1 : Int32) (p2 : Int32) (p3 : Int32) (Q : hM → Prop) (v4 : Option Nat) (v5 : Int32) (v6 : Option Nat) (s0 : Option Nat) (s1 : Option Nat) (s2 : Option Nat) (s3 : Int32) (M : hM) : Prop :=
  gThis M s1 10 fun b2 => w_X11_init g F b2 s2 s3 (p2 + (1 : Int32)) M (fun M1 => gF M1 (some a0) 15 3 fun x3 => nW M1 16 fsX17 fun q4 M5 => nW M5 10 fsX11 fun q6 M7 => gF M7 (some a0) 15 1 fun x8 => gF M7 x8 8 1 fun x9 => ((v5 = 0 → w_X16_addStable_190 g F a0 p1 p2 p3 Q x3 (some q4) (some q4) (0 : Int32) v6 s0 (some q6) (some q6) x9 p3 M7) ∧ (¬ (v5 = 0) → gF M7 v4 16 3 fun x10 => gI M7 x10 10 1 fun x11 => w_X16_addStable_190 g F a0 p1 p2 p3 Q x3 (some q4) (some q4) (0 : Int32) v6 s0 (some q6) (some q6) x9 x11 M7)))
def w_X16_addStable_105 (g : gT) (F : Nat) (a0 : Nat) (p1 : Int32) (p2 : Int32) (p3 : Int32) (Q : hM → Prop) (v4 : Option Nat) (v5 : Int32) (s0 : Option Nat) (s1 : Int32) (M : hM) : Prop :=
  gThis M s0 15 fun b2 => w_X16_baseOf g F b2 s1 (p1 + (1 : Int32)) M (fun x3 M1 => nW M1 10 fsX11 fun q4 M5 => gF M5 (some a0) 15 0 fun x6 => gF M5 x6 8 1 fun x7 => ((v5 = 0 → w_X16_addStable_141 g F a0 p1 p2 p3 Q v4 v5 x3 (some q4) (some q4) x7 p2 M5) ∧ (¬ (v5 = 0) → gF M5 v4 16 2 fun x8 => gI M5 x8 10 1 fun x9 => w_X16_addStable_141 g F a0 p1 p2 p3 Q v4 v5 x3 (some q4) (some q4) x7 x9 M5)))
def w_X16_addStable_87 (g : gT) (F : Nat) (a0 : Nat) (p1 : Int32) (p2 : Int32) (p3 : Int32) (Q : hM → Prop) (v4 : Option Nat) (v5 : Int32) (M : hM) : Prop :=
  ((v5 = 0 → w_X16_addStable_105 g F a0 p1 p2 p3 Q v4 v5 (some a0) p1 M) ∧ (¬ (v5 = 0) → gF M v4 16 1 fun x1 => gI M x1 10 1 fun x2 => w_X16_addStable_105 g F a0 p1 p2 p3 Q v4 v5 (some a0) x2 M))
def w_X16_addStable_59 (g : gT) (F : Nat) (a0 : Nat) (p1 : Int32) (p2 : Int32) (p3 : Int32) (Q : hM → Prop) (v4 : Option Nat) (s0 : Int32) (M : hM) : Prop :=
  ((s0 = 0 → w_X16_addStable_87 g F a0 p1 p2 p3 Q v4 s0 M) ∧ (¬ (s0 = 0) → gF M (some a0) 15 3 fun x1 => gF M (some a0) 15 3 fun x2 => gThis M x2 21 fun b4 => L_size g b4  M (fun x5 M3 => gThis M3 x1 21 fun b7 => L_rem g b7 (x5 - (1 : Int32)) M3 (fun x8 M6 => w_X16_addStable_87 g F a0 p1 p2 p3 Q v4 s0 M6))))
def w_X16_addStable_58 (g : gT) (F : Nat) (a0 : Nat) (p1 : Int32) (p2 : Int32) (p3 : Int32) (Q : hM → Prop) (v4 : Option Nat) (M : hM) : Prop :=
  w_X16_addStable_59 g F a0 p1 p2 p3 Q v4 (0 : Int32) M
def w_X16_addStable_39 (g : gT) (F : Nat) (a0 : Nat) (p1 : Int32) (p2 : Int32) (p3 : Int32) (Q : hM → Prop) (s0 : Option Nat) (M : hM) : Prop :=
  ((s0 = none → w_X16_addStable_58 g F a0 p1 p2 p3 Q s0 M) ∧ (¬ s0 = none → gI M s0 16 0 fun x1 => ((¬ x1 = 0 → w_X16_addStable_58 g F a0 p1 p2 p3 Q s0 M) ∧ (x1 = 0 → w_X16_addStable_59 g F a0 p1 p2 p3 Q s0 (1 : Int32) M))))
def w_X16_addStable (g : gT) (F : Nat) (a0 : Nat) (p1 : Int32) (p2 : Int32) (p3 : Int32) (M : hM) (Q : hM → Prop) : Prop :=
  gF M (some a0) 15 3 fun x1 => gThis M x1 21 fun b3 => L_emp g b3  M (fun x4 M2 => ((x4 = 0 → gF M2 (some a0) 15 3 fun x5 => gF M2 (some a0) 15 3 fun x6 => gThis M2 x6 21 fun b8 => L_size g b8  M2 (fun x9 M7 => gThis M7 x5 21 fun b11 => L_get g b11 (x9 - (1 : Int32)) M7 (fun x12 M10 => ckC M10 x12 16 (w_X16_addStable_39 g F a0 p1 p2 p3 Q x12 M10)))) ∧ (¬ (x4 = 0) → w_X16_addStable_39 g F a0 p1 p2 p3 Q none M2)))
theorem g_X16_addStable_190 {k : kT} {F : Nat} {a0 : Nat} {p1 : Int32} {p2 : Int32} {p3 : Int32} {Q : hM → Prop} (hJ : JOK (kl k) (kg k)) (hC : CX k 8 cX16_addStable RX16 none 41 2023) (hQ : isQ k (PU Q)) (hin : (kt k).name = "addStable") : ∀ (s0 : Option Nat) (s1 : Option Nat) (s2 : Option Nat) (s3 : Int32) (s4 : Option Nat) (s5 : Option Nat) (s6 : Option Nat) (s7 : Option Nat) (s8 : Option Nat) (s9 : Int32) (M : hM), w_X16_addStable_190 (kg k) F a0 p1 p2 p3 Q s0 s1 s2 s3 s4 s5 s6 s7 s8 s9 M → GW k 8 M 190 [some (va_rf (some a0)), some (.int p1), some (.int p2), some (.int p3), none, none, none, none] [.int s9, va_rf s8, va_rf s7, va_rf s6, va_rf s5, va_rf s4, .int s3, va_rf s2, va_rf s1, va_rf s0] := by
  intro s0 s1 s2 s3 s4 s5 s6 s7 s8 s9 M hw
  refine G_iload_n (pc := 190) (i := 3) hC dX16_addStable_190 rfl rfl ?_
  refine G_iconst (pc := 191) (v := 1) hC dX16_addStable_191 (by decide) ?_
  refine G_iadd (pc := 192) hC dX16_addStable_192 ?_
  obtain ⟨b2, rfl, hb, hw⟩ := gThis_e hw
  refine G_callI (pc := 193) (n := 3) (b := b2) (As := [va_rf s8, .int s9, .int (p3 + (1 : Int32))]) (rest := [va_rf s6, va_rf s5, va_rf s4, .int s3, va_rf s2, va_rf s1, va_rf s0]) hC (m_X11_init hJ hw) (lw_meth q2371) q139 q2802 q2370 rfl hd_X11_init.2 (by decide) rfl rfl (st_c (cat_r (cat_r (cat_r (cat_i (cat_r (cat_r (cat_r cat_e))))))) (Nat.le_of_ble_eq_true rfl)) dX16_addStable_193 (kU fun M1 hw => ?_)
  obtain ⟨b4, rfl, hb, hw⟩ := gThis_e hw
  refine G_callI (pc := 196) (n := 4) (b := b4) (As := [.int s3, va_rf s4, va_rf s5, va_rf s6]) (rest := [va_rf s1, va_rf s0]) hC (m_X17_init hJ hw) (lw_meth q2908) q147 q2906 q2907 rfl hd_X17_init.2 (by decide) rfl rfl (st_c (cat_r (cat_r cat_e)) (Nat.le_of_ble_eq_true rfl)) dX16_addStable_196 (kU fun M3 hw => ?_)
  obtain ⟨b6, rfl, hb, hw⟩ := gThis_e hw
  refine G_callF (pc := 199) (n := 1) (x := ⟨"java/util/List", "add", "(Ljava/lang/Object;)Z"⟩) (C := "java/util/ArrayList") (ci := 21) (T := TJ2) (N := 3) (b := b6) (As := [va_rf s1]) (rest := []) hC (J_L_add hJ hw) (lw_F q2932 q260 q262 q87 q264) (nw_in q258 rfl) (nw_in q257 rfl) (nw_in q263 rfl) (nw_in q261 rfl) (nw_in q259 rfl) rfl (rcv (C := RJ2) (T := TJ2) (N := 3) hC hb rfl) (by decide +kernel) (by decide) rfl rfl (st_c cat_e (Nat.le_of_ble_eq_true rfl)) dX16_addStable_199 (kI fun x7 M5 hw => ?_)
  refine G_pop (pc := 204) hC dX16_addStable_204 rfl ?_
  exact G_ret (pc := 205) hC hQ dX16_addStable_205 hw
theorem g_X16_addStable_141 {k : kT} {F : Nat} {a0 : Nat} {p1 : Int32} {p2 : Int32} {p3 : Int32} {Q : hM → Prop} (hJ : JOK (kl k) (kg k)) (hC : CX k 8 cX16_addStable RX16 none 41 2023) (hQ : isQ k (PU Q)) (hin : (kt k).name = "addStable") : ∀ (v4 : Option Nat) (v5 : Int32) (v6 : Option Nat) (s0 : Option Nat) (s1 : Option Nat) (s2 : Option Nat) (s3 : Int32) (M : hM), w_X16_addStable_141 (kg k) F a0 p1 p2 p3 Q v4 v5 v6 s0 s1 s2 s3 M → GW k 8 M 141 [some (va_rf (some a0)), some (.int p1), some (.int p2), some (.int p3), some (va_rf v4), some (.int v5), some (va_rf v6), none] [.int s3, va_rf s2, va_rf s1, va_rf s0] := by
  intro v4 v5 v6 s0 s1 s2 s3 M hw
  refine G_iload_n (pc := 141) (i := 2) hC dX16_addStable_141 rfl rfl ?_
  refine G_iconst (pc := 142) (v := 1) hC dX16_addStable_142 (by decide) ?_
  refine G_iadd (pc := 143) hC dX16_addStable_143 ?_
  obtain ⟨b2, rfl, hb, hw⟩ := gThis_e hw
  refine G_callI (pc := 144) (n := 3) (b := b2) (As := [va_rf s2, .int s3, .int (p2 + (1 : Int32))]) (rest := [va_rf s0]) hC (m_X11_init hJ hw) (lw_meth q2371) q139 q2802 q2370 rfl hd_X11_init.2 (by decide) rfl rfl (st_c (cat_r cat_e) (Nat.le_of_ble_eq_true rfl)) dX16_addStable_144 (kU fun M1 hw => ?_)
  refine G_astore (pc := 147) (i := 7) (lw := [some (va_rf (some a0)), some (.int p1), some (.int p2), some (.int p3), some (va_rf v4), some (.int v5), some (va_rf v6), some (va_rf s0)]) hC dX16_addStable_147 (Nat.le_of_ble_eq_true rfl) rfl ?_
  refine G_aload_n (pc := 149) (i := 0) hC dX16_addStable_149 rfl rfl ?_
  refine G_getF (pc := 150) (ci := 15) (C := RX16) (T := TX16) (N := 5) (f := 3) hC rfl in_X16 (Nat.le_of_ble_eq_true rfl) q2979 (fun _ h => h) dX16_addStable_150 hw (fun x3 hw => ?_)
  refine G_new (pc := 153) (ci := 16) (C := RX17) (T := TX17) (N := 5) (fs := fsX17) tyX17 hC rfl in_X17 tyX17_ok q2904 q2905 q147 dfX17 rfl dX16_addStable_153 hw (fun q4 M5 hw => ?_)
  refine G_dup (pc := 156) hC dX16_addStable_156 (rf_cat _) ?_
  refine G_iconst (pc := 157) (v := 0) hC dX16_addStable_157 (by decide) ?_
  refine G_aload (pc := 158) (i := 6) hC dX16_addStable_158 rfl ?_
  refine G_aload (pc := 160) (i := 7) hC dX16_addStable_160 rfl ?_
  refine G_new (pc := 162) (ci := 10) (C := RX11) (T := TX11) (N := 3) (fs := fsX11) tyX11 hC rfl in_X11 tyX11_ok q2801 q2368 q139 dfX11 rfl dX16_addStable_162 hw (fun q6 M7 hw => ?_)
  refine G_dup (pc := 165) hC dX16_addStable_165 (rf_cat _) ?_
  refine G_aload_n (pc := 166) (i := 0) hC dX16_addStable_166 rfl rfl ?_
  refine G_getF (pc := 167) (ci := 15) (C := RX16) (T := TX16) (N := 5) (f := 1) hC rfl in_X16 (Nat.le_of_ble_eq_true rfl) q2977 (fun _ h => h) dX16_addStable_167 hw (fun x8 hw => ?_)
  refine G_getFN (pc := 170) (ci := 8) (C := RX9) (T := TX9) (N := 6) (f := 1) hC rfl in_X9 (Nat.le_of_ble_eq_true rfl) (nw_in q2421 rfl) (fun _ h => h) dX16_addStable_170 hw (fun x9 hw => ?_)
  refine G_iload (pc := 173) (i := 5) hC dX16_addStable_173 rfl ?_
  refine G_if_eq (pc := 175) (tgt := 189) hC dX16_addStable_175 (by decide) (fun hc => ?_) (fun hc => ?_)
  · replace hw := hw.1 hc
    refine G_iload_n (pc := 189) (i := 3) hC dX16_addStable_189 rfl rfl ?_
    refine G_loc (lv' := [some (va_rf (some a0)), some (.int p1), some (.int p2), some (.int p3), none, none, none, none]) ⟨Or.inr rfl, Or.inr rfl, Or.inr rfl, Or.inr rfl, Or.inl rfl, Or.inl rfl, Or.inl rfl, Or.inl rfl, trivial⟩ ?_
    exact g_X16_addStable_190 hJ hC hQ hin  x3 (some q4) (some q4) (0 : Int32) v6 s0 (some q6) (some q6) x9 p3 M7 hw
  · replace hw := hw.2 hc
    refine G_aload (pc := 178) (i := 4) hC dX16_addStable_178 rfl ?_
    refine G_getFN (pc := 180) (ci := 16) (C := RX17) (T := TX17) (N := 5) (f := 3) hC rfl in_X17 (Nat.le_of_ble_eq_true rfl) (nw_in q2917 rfl) (fun _ h => h) dX16_addStable_180 hw (fun x10 hw => ?_)
    refine G_getIN (pc := 183) (ci := 10) (C := RX11) (T := TX11) (N := 3) (f := 1) hC rfl in_X11 (Nat.le_of_ble_eq_true rfl) (nw_in q2380 rfl) (fun _ h => h) dX16_addStable_183 hw (fun x11 hw => ?_)
    refine G_goto (pc := 186) (tgt := 190) hC dX16_addStable_186 (by decide) ?_
    refine G_loc (lv' := [some (va_rf (some a0)), some (.int p1), some (.int p2), some (.int p3), none, none, none, none]) ⟨Or.inr rfl, Or.inr rfl, Or.inr rfl, Or.inr rfl, Or.inl rfl, Or.inl rfl, Or.inl rfl, Or.inl rfl, trivial⟩ ?_
    exact g_X16_addStable_190 hJ hC hQ hin  x3 (some q4) (some q4) (0 : Int32) v6 s0 (some q6) (some q6) x9 x11 M7 hw
theorem g_X16_addStable_105 {k : kT} {F : Nat} {a0 : Nat} {p1 : Int32} {p2 : Int32} {p3 : Int32} {Q : hM → Prop} (hJ : JOK (kl k) (kg k)) (hC : CX k 8 cX16_addStable RX16 none 41 2023) (hQ : isQ k (PU Q)) (hin : (kt k).name = "addStable") : ∀ (v4 : Option Nat) (v5 : Int32) (s0 : Option Nat) (s1 : Int32) (M : hM), w_X16_addStable_105 (kg k) F a0 p1 p2 p3 Q v4 v5 s0 s1 M → GW k 8 M 105 [some (va_rf (some a0)), some (.int p1), some (.int p2), some (.int p3), some (va_rf v4), some (.int v5), none, none] [.int s1, va_rf s0] := by
  intro v4 v5 s0 s1 M hw
  refine G_iload_n (pc := 105) (i := 1) hC dX16_addStable_105 rfl rfl ?_
  refine G_iconst (pc := 106) (v := 1) hC dX16_addStable_106 (by decide) ?_
  refine G_iadd (pc := 107) hC dX16_addStable_107 ?_
  obtain ⟨b2, rfl, hb, hw⟩ := gThis_e hw
  refine G_callV (pc := 108) (n := 2) (C := "MergeWorkbench$Merge") (b := b2) (As := [.int s1, .int (p1 + (1 : Int32))]) (rest := []) hC (m_X16_baseOf hJ hw) (lw_V q2797 q2799 qs43 q146 q2800) hd_X16_baseOf (by decide) (rcv (C := RX16) (T := TX16) (N := 5) hC hb rfl) rfl rfl (st_c cat_e (Nat.le_of_ble_eq_true rfl)) dX16_addStable_108 (kRf fun x3 M1 hw => ?_)
  refine G_astore (pc := 111) (i := 6) (lw := [some (va_rf (some a0)), some (.int p1), some (.int p2), some (.int p3), some (va_rf v4), some (.int v5), some (va_rf x3), none]) hC dX16_addStable_111 (Nat.le_of_ble_eq_true rfl) rfl ?_
  refine G_new (pc := 113) (ci := 10) (C := RX11) (T := TX11) (N := 3) (fs := fsX11) tyX11 hC rfl in_X11 tyX11_ok q2801 q2368 q139 dfX11 rfl dX16_addStable_113 hw (fun q4 M5 hw => ?_)
  refine G_dup (pc := 116) hC dX16_addStable_116 (rf_cat _) ?_
  refine G_aload_n (pc := 117) (i := 0) hC dX16_addStable_117 rfl rfl ?_
  refine G_getF (pc := 118) (ci := 15) (C := RX16) (T := TX16) (N := 5) (f := 0) hC rfl in_X16 (Nat.le_of_ble_eq_true rfl) q2976 (fun _ h => h) dX16_addStable_118 hw (fun x6 hw => ?_)
  refine G_getFN (pc := 121) (ci := 8) (C := RX9) (T := TX9) (N := 6) (f := 1) hC rfl in_X9 (Nat.le_of_ble_eq_true rfl) (nw_in q2421 rfl) (fun _ h => h) dX16_addStable_121 hw (fun x7 hw => ?_)
  refine G_iload (pc := 124) (i := 5) hC dX16_addStable_124 rfl ?_
  refine G_if_eq (pc := 126) (tgt := 140) hC dX16_addStable_126 (by decide) (fun hc => ?_) (fun hc => ?_)
  · replace hw := hw.1 hc
    refine G_iload_n (pc := 140) (i := 2) hC dX16_addStable_140 rfl rfl ?_
    exact g_X16_addStable_141 hJ hC hQ hin  v4 v5 x3 (some q4) (some q4) x7 p2 M5 hw
  · replace hw := hw.2 hc
    refine G_aload (pc := 129) (i := 4) hC dX16_addStable_129 rfl ?_
    refine G_getFN (pc := 131) (ci := 16) (C := RX17) (T := TX17) (N := 5) (f := 2) hC rfl in_X17 (Nat.le_of_ble_eq_true rfl) (nw_in q2915 rfl) (fun _ h => h) dX16_addStable_131 hw (fun x8 hw => ?_)
    refine G_getIN (pc := 134) (ci := 10) (C := RX11) (T := TX11) (N := 3) (f := 1) hC rfl in_X11 (Nat.le_of_ble_eq_true rfl) (nw_in q2380 rfl) (fun _ h => h) dX16_addStable_134 hw (fun x9 hw => ?_)
    refine G_goto (pc := 137) (tgt := 141) hC dX16_addStable_137 (by decide) ?_
    exact g_X16_addStable_141 hJ hC hQ hin  v4 v5 x3 (some q4) (some q4) x7 x9 M5 hw
theorem g_X16_addStable_87 {k : kT} {F : Nat} {a0 : Nat} {p1 : Int32} {p2 : Int32} {p3 : Int32} {Q : hM → Prop} (hJ : JOK (kl k) (kg k)) (hC : CX k 8 cX16_addStable RX16 none 41 2023) (hQ : isQ k (PU Q)) (hin : (kt k).name = "addStable") : ∀ (v4 : Option Nat) (v5 : Int32) (M : hM), w_X16_addStable_87 (kg k) F a0 p1 p2 p3 Q v4 v5 M → GW k 8 M 87 [some (va_rf (some a0)), some (.int p1), some (.int p2), some (.int p3), some (va_rf v4), some (.int v5), none, none] [] := by
  intro v4 v5 M hw
  refine G_aload_n (pc := 87) (i := 0) hC dX16_addStable_87 rfl rfl ?_
  refine G_iload (pc := 88) (i := 5) hC dX16_addStable_88 rfl ?_
  refine G_if_eq (pc := 90) (tgt := 104) hC dX16_addStable_90 (by decide) (fun hc => ?_) (fun hc => ?_)
  · replace hw := hw.1 hc
    refine G_iload_n (pc := 104) (i := 1) hC dX16_addStable_104 rfl rfl ?_
    exact g_X16_addStable_105 hJ hC hQ hin  v4 v5 (some a0) p1 M hw
  · replace hw := hw.2 hc
    refine G_aload (pc := 93) (i := 4) hC dX16_addStable_93 rfl ?_
    refine G_getFN (pc := 95) (ci := 16) (C := RX17) (T := TX17) (N := 5) (f := 1) hC rfl in_X17 (Nat.le_of_ble_eq_true rfl) (nw_in q2913 rfl) (fun _ h => h) dX16_addStable_95 hw (fun x1 hw => ?_)
    refine G_getIN (pc := 98) (ci := 10) (C := RX11) (T := TX11) (N := 3) (f := 1) hC rfl in_X11 (Nat.le_of_ble_eq_true rfl) (nw_in q2380 rfl) (fun _ h => h) dX16_addStable_98 hw (fun x2 hw => ?_)
    refine G_goto (pc := 101) (tgt := 105) hC dX16_addStable_101 (by decide) ?_
    exact g_X16_addStable_105 hJ hC hQ hin  v4 v5 (some a0) x2 M hw
theorem g_X16_addStable_59 {k : kT} {F : Nat} {a0 : Nat} {p1 : Int32} {p2 : Int32} {p3 : Int32} {Q : hM → Prop} (hJ : JOK (kl k) (kg k)) (hC : CX k 8 cX16_addStable RX16 none 41 2023) (hQ : isQ k (PU Q)) (hin : (kt k).name = "addStable") : ∀ (v4 : Option Nat) (s0 : Int32) (M : hM), w_X16_addStable_59 (kg k) F a0 p1 p2 p3 Q v4 s0 M → GW k 8 M 59 [some (va_rf (some a0)), some (.int p1), some (.int p2), some (.int p3), some (va_rf v4), none, none, none] [.int s0] := by
  intro v4 s0 M hw
  refine G_istore (pc := 59) (i := 5) (lw := [some (va_rf (some a0)), some (.int p1), some (.int p2), some (.int p3), some (va_rf v4), some (.int s0), none, none]) hC dX16_addStable_59 (Nat.le_of_ble_eq_true rfl) rfl ?_
  refine G_iload (pc := 61) (i := 5) hC dX16_addStable_61 rfl ?_
  refine G_if_eq (pc := 63) (tgt := 87) hC dX16_addStable_63 (by decide) (fun hc => ?_) (fun hc => ?_)
  · replace hw := hw.1 hc
    exact g_X16_addStable_87 hJ hC hQ hin  v4 s0 M hw
  · replace hw := hw.2 hc
    refine G_aload_n (pc := 66) (i := 0) hC dX16_addStable_66 rfl rfl ?_
    refine G_getF (pc := 67) (ci := 15) (C := RX16) (T := TX16) (N := 5) (f := 3) hC rfl in_X16 (Nat.le_of_ble_eq_true rfl) q2979 (fun _ h => h) dX16_addStable_67 hw (fun x1 hw => ?_)
    refine G_aload_n (pc := 70) (i := 0) hC dX16_addStable_70 rfl rfl ?_
    refine G_getF (pc := 71) (ci := 15) (C := RX16) (T := TX16) (N := 5) (f := 3) hC rfl in_X16 (Nat.le_of_ble_eq_true rfl) q2979 (fun _ h => h) dX16_addStable_71 hw (fun x2 hw => ?_)
    obtain ⟨b4, rfl, hb, hw⟩ := gThis_e hw
    refine G_callF (pc := 74) (n := 0) (x := ⟨"java/util/List", "size", "()I"⟩) (C := "java/util/ArrayList") (ci := 21) (T := TJ2) (N := 3) (b := b4) (As := []) (rest := [va_rf x1]) hC (J_L_size hJ hw) (lw_F q2795 q889 q363 q87 q364) (nw_in q888 rfl) (nw_in q887 rfl) (nw_in q891 rfl) (nw_in q890 rfl) (nw_in q259 rfl) rfl (rcv (C := RJ2) (T := TJ2) (N := 3) hC hb rfl) (by decide +kernel) (by decide) rfl rfl (st_c (cat_r cat_e) (Nat.le_of_ble_eq_true rfl)) dX16_addStable_74 (kI fun x5 M3 hw => ?_)
    refine G_iconst (pc := 79) (v := 1) hC dX16_addStable_79 (by decide) ?_
    refine G_isub (pc := 80) hC dX16_addStable_80 ?_
    obtain ⟨b7, rfl, hb, hw⟩ := gThis_e hw
    refine G_callF (pc := 81) (n := 1) (x := ⟨"java/util/List", "remove", "(I)Ljava/lang/Object;"⟩) (C := "java/util/ArrayList") (ci := 21) (T := TJ2) (N := 3) (b := b7) (As := [.int (x5 - (1 : Int32))]) (rest := []) hC (J_L_rem hJ hw) (lw_F q2975 q1395 q1397 q87 q1399) (nw_in q1394 rfl) (nw_in q1393 rfl) (nw_in q1398 rfl) (nw_in q1396 rfl) (nw_in q259 rfl) rfl (rcv (C := RJ2) (T := TJ2) (N := 3) hC hb rfl) (by decide +kernel) (by decide) rfl rfl (st_c cat_e (Nat.le_of_ble_eq_true rfl)) dX16_addStable_81 (kRf fun x8 M6 hw => ?_)
    refine G_pop (pc := 86) hC dX16_addStable_86 (rf_cat _) ?_
    exact g_X16_addStable_87 hJ hC hQ hin  v4 s0 M6 hw
theorem g_X16_addStable_58 {k : kT} {F : Nat} {a0 : Nat} {p1 : Int32} {p2 : Int32} {p3 : Int32} {Q : hM → Prop} (hJ : JOK (kl k) (kg k)) (hC : CX k 8 cX16_addStable RX16 none 41 2023) (hQ : isQ k (PU Q)) (hin : (kt k).name = "addStable") : ∀ (v4 : Option Nat) (M : hM), w_X16_addStable_58 (kg k) F a0 p1 p2 p3 Q v4 M → GW k 8 M 58 [some (va_rf (some a0)), some (.int p1), some (.int p2), some (.int p3), some (va_rf v4), none, none, none] [] := by
  intro v4 M hw
  refine G_iconst (pc := 58) (v := 0) hC dX16_addStable_58 (by decide) ?_
  exact g_X16_addStable_59 hJ hC hQ hin  v4 (0 : Int32) M hw
theorem g_X16_addStable_39 {k : kT} {F : Nat} {a0 : Nat} {p1 : Int32} {p2 : Int32} {p3 : Int32} {Q : hM → Prop} (hJ : JOK (kl k) (kg k)) (hC : CX k 8 cX16_addStable RX16 none 41 2023) (hQ : isQ k (PU Q)) (hin : (kt k).name = "addStable") : ∀ (s0 : Option Nat) (M : hM), w_X16_addStable_39 (kg k) F a0 p1 p2 p3 Q s0 M → GW k 8 M 39 [some (va_rf (some a0)), some (.int p1), some (.int p2), some (.int p3), none, none, none, none] [va_rf s0] := by
  intro s0 M hw
  refine G_astore (pc := 39) (i := 4) (lw := [some (va_rf (some a0)), some (.int p1), some (.int p2), some (.int p3), some (va_rf s0), none, none, none]) hC dX16_addStable_39 (Nat.le_of_ble_eq_true rfl) rfl ?_
  refine G_aload (pc := 41) (i := 4) hC dX16_addStable_41 rfl ?_
  refine G_ifnull (pc := 43) (tgt := 58) hC dX16_addStable_43 (by decide) (fun hc => ?_) (fun hc => ?_)
  · replace hw := hw.1 hc
    exact g_X16_addStable_58 hJ hC hQ hin  s0 M hw
  · replace hw := hw.2 hc
    refine G_aload (pc := 46) (i := 4) hC dX16_addStable_46 rfl ?_
    refine G_getIN (pc := 48) (ci := 16) (C := RX17) (T := TX17) (N := 5) (f := 0) hC rfl in_X17 (Nat.le_of_ble_eq_true rfl) (nw_in q2911 rfl) (fun _ h => h) dX16_addStable_48 hw (fun x1 hw => ?_)
    refine G_if_ne (pc := 51) (tgt := 58) hC dX16_addStable_51 (by decide) (fun hc => ?_) (fun hc => ?_)
    · replace hw := hw.1 hc
      exact g_X16_addStable_58 hJ hC hQ hin  s0 M hw
    · replace hw := hw.2 hc
      refine G_iconst (pc := 54) (v := 1) hC dX16_addStable_54 (by decide) ?_
      refine G_goto (pc := 55) (tgt := 59) hC dX16_addStable_55 (by decide) ?_
      exact g_X16_addStable_59 hJ hC hQ hin  s0 (1 : Int32) M hw
theorem m_X16_addStable {l : Launch} {g : gT} {F : Nat} {a0 : Nat} {p1 : Int32} {p2 : Int32} {p3 : Int32} {M : hM} {Q : hM → Prop} (hJ : JOK l g) (hw : w_X16_addStable g F a0 p1 p2 p3 M Q) : MG l g yX16_addStable (ws_ yX16_addStable cX16_addStable 8 none) 41 2023 [va_rf (some a0), .int p1, .int p2, .int p3] M (PU Q) := by
  refine MG_of hJ.2.1 (by decide) (cat_r (cat_i (cat_i (cat_i cat_e)))) (Nat.le_of_ble_eq_true rfl) (fun k hl hg hin hQ hC => ?_)
  subst hl hg
  show GW k 8 M 0 [some (va_rf (some a0)), some (.int p1), some (.int p2), some (.int p3), none, none, none, none] []
  refine G_aload_n (pc := 0) (i := 0) hC dX16_addStable_0 rfl rfl ?_
  refine G_getF (pc := 1) (ci := 15) (C := RX16) (T := TX16) (N := 5) (f := 3) hC rfl in_X16 (Nat.le_of_ble_eq_true rfl) q2979 (fun _ h => h) dX16_addStable_1 hw (fun x1 hw => ?_)
  obtain ⟨b3, rfl, hb, hw⟩ := gThis_e hw
  refine G_callF (pc := 4) (n := 0) (x := ⟨"java/util/List", "isEmpty", "()Z"⟩) (C := "java/util/ArrayList") (ci := 21) (T := TJ2) (N := 3) (b := b3) (As := []) (rest := []) hC (J_L_emp hJ hw) (lw_F q2961 q2964 q2966 q87 q2968) (nw_in q2963 rfl) (nw_in q2962 rfl) (nw_in q2967 rfl) (nw_in q2965 rfl) (nw_in q259 rfl) rfl (rcv (C := RJ2) (T := TJ2) (N := 3) hC hb rfl) (by decide +kernel) (by decide) rfl rfl (st_c cat_e (Nat.le_of_ble_eq_true rfl)) dX16_addStable_4 (kI fun x4 M2 hw => ?_)
  refine G_if_eq (pc := 9) (tgt := 16) hC dX16_addStable_9 (by decide) (fun hc => ?_) (fun hc => ?_)
  · replace hw := hw.1 hc
    refine G_aload_n (pc := 16) (i := 0) hC dX16_addStable_16 rfl rfl ?_
    refine G_getF (pc := 17) (ci := 15) (C := RX16) (T := TX16) (N := 5) (f := 3) hC rfl in_X16 (Nat.le_of_ble_eq_true rfl) q2979 (fun _ h => h) dX16_addStable_17 hw (fun x5 hw => ?_)
    refine G_aload_n (pc := 20) (i := 0) hC dX16_addStable_20 rfl rfl ?_
    refine G_getF (pc := 21) (ci := 15) (C := RX16) (T := TX16) (N := 5) (f := 3) hC rfl in_X16 (Nat.le_of_ble_eq_true rfl) q2979 (fun _ h => h) dX16_addStable_21 hw (fun x6 hw => ?_)
    obtain ⟨b8, rfl, hb, hw⟩ := gThis_e hw
    refine G_callF (pc := 24) (n := 0) (x := ⟨"java/util/List", "size", "()I"⟩) (C := "java/util/ArrayList") (ci := 21) (T := TJ2) (N := 3) (b := b8) (As := []) (rest := [va_rf x5]) hC (J_L_size hJ hw) (lw_F q2795 q889 q363 q87 q364) (nw_in q888 rfl) (nw_in q887 rfl) (nw_in q891 rfl) (nw_in q890 rfl) (nw_in q259 rfl) rfl (rcv (C := RJ2) (T := TJ2) (N := 3) hC hb rfl) (by decide +kernel) (by decide) rfl rfl (st_c (cat_r cat_e) (Nat.le_of_ble_eq_true rfl)) dX16_addStable_24 (kI fun x9 M7 hw => ?_)
    refine G_iconst (pc := 29) (v := 1) hC dX16_addStable_29 (by decide) ?_
    refine G_isub (pc := 30) hC dX16_addStable_30 ?_
    obtain ⟨b11, rfl, hb, hw⟩ := gThis_e hw
    refine G_callF (pc := 31) (n := 1) (x := ⟨"java/util/List", "get", "(I)Ljava/lang/Object;"⟩) (C := "java/util/ArrayList") (ci := 21) (T := TJ2) (N := 3) (b := b11) (As := [.int (x9 - (1 : Int32))]) (rest := []) hC (J_L_get hJ hw) (lw_F q2973 q956 q958 q87 q960) (nw_in q955 rfl) (nw_in q954 rfl) (nw_in q959 rfl) (nw_in q957 rfl) (nw_in q259 rfl) rfl (rcv (C := RJ2) (T := TJ2) (N := 3) hC hb rfl) (by decide +kernel) (by decide) rfl rfl (st_c cat_e (Nat.le_of_ble_eq_true rfl)) dX16_addStable_31 (kRf fun x12 M10 hw => ?_)
    obtain ⟨hb, hw⟩ := hw
    refine G_castCS (pc := 36) (C := RX17) (T := TX17) (N := 5) hC rfl q2904 hb dX16_addStable_36 ?_
    exact g_X16_addStable_39 hJ hC hQ hin  x12 M10 hw
  · replace hw := hw.2 hc
    refine G_null (pc := 12) hC dX16_addStable_12 ?_
    refine G_goto (pc := 13) (tgt := 39) hC dX16_addStable_13 (by decide) ?_
    exact g_X16_addStable_39 hJ hC hQ hin  none M2 hw
theorem hd_X16_addRegion : yX16_addRegion.cls = "MergeWorkbench$Merge" ∧ yX16_addRegion.cls ≠ "java/lang/invoke/MethodHandle" ∧ yX16_addRegion.cls ≠ "java/lang/invoke/VarHandle" ∧ (parseMethodDescriptor yX16_addRegion.desc).map (fun d => d.parameters.length) = some 3 := by decide +kernel
theorem hd_X16_addStable : yX16_addStable.cls = "MergeWorkbench$Merge" ∧ yX16_addStable.cls ≠ "java/lang/invoke/MethodHandle" ∧ yX16_addStable.cls ≠ "java/lang/invoke/VarHandle" ∧ (parseMethodDescriptor yX16_addStable.desc).map (fun d => d.parameters.length) = some 3 := by decide +kernel
theorem hd_X9_partner : yX9_partner.cls = "MergeWorkbench$Comparison" ∧ yX9_partner.cls ≠ "java/lang/invoke/MethodHandle" ∧ yX9_partner.cls ≠ "java/lang/invoke/VarHandle" ∧ (parseMethodDescriptor yX9_partner.desc).map (fun d => d.parameters.length) = some 1 := by decide +kernel
def w_X16_init_212 (g : gT) (F : Nat) (a0 : Nat) (p1 : Option Nat) (p2 : Option Nat) (p3 : Int32) (Q : hM → Prop) (K64 : Int32 → Int32 → Int32 → Int32 → Int32 → hM → Prop) (v4 : Int32) (v5 : Int32) (v6 : Int32) (v7 : Int32) (v8 : Int32) (M : hM) : Prop :=
  K64 v4 v5 v6 v7 (v8 + (1 : Int32)) M
def w_X16_init_194 (g : gT) (F : Nat) (a0 : Nat) (p1 : Option Nat) (p2 : Option Nat) (p3 : Int32) (Q : hM → Prop) (K64 : Int32 → Int32 → Int32 → Int32 → Int32 → hM → Prop) (v4 : Int32) (v8 : Int32) (v9 : Int32) (v10 : Int32) (M : hM) : Prop :=
  w_X16_init_212 g F a0 p1 p2 p3 Q K64 v4 (v8 + (1 : Int32)) (v9 + (1 : Int32)) (v10 + (1 : Int32)) v8 M
def w_X16_init_123 (g : gT) (F : Nat) (a0 : Nat) (p1 : Option Nat) (p2 : Option Nat) (p3 : Int32) (Q : hM → Prop) (K64 : Int32 → Int32 → Int32 → Int32 → Int32 → hM → Prop) (v4 : Int32) (v5 : Int32) (v6 : Int32) (v7 : Int32) (v8 : Int32) (v9 : Int32) (s0 : Int32) (M : hM) : Prop :=
  ((v9 < 0 → w_X16_init_212 g F a0 p1 p2 p3 Q K64 v4 v5 v6 v7 v8 M) ∧ (¬ (v9 < 0) → ((s0 < 0 → w_X16_init_212 g F a0 p1 p2 p3 Q K64 v4 v5 v6 v7 v8 M) ∧ (¬ (s0 < 0) → (isC M a0 15 ∧ w_X16_baseOf g F a0 v5 v8 M (fun x2 M1 => nW M1 10 fsX11 fun q3 M4 => gF M4 p1 8 1 fun x5 => (isC M4 q3 10 ∧ w_X11_init g F q3 x5 v6 v9 M4 (fun M6 => nW M6 10 fsX11 fun q7 M8 => gF M8 p2 8 1 fun x9 => (isC M8 q7 10 ∧ w_X11_init g F q7 x9 v7 s0 M8 (fun M10 => (isC M10 a0 15 ∧ w_X16_addRegion g F a0 x2 (some q3) (some q7) M10 (fun M11 => ((v4 ≤ v8 → w_X16_init_194 g F a0 p1 p2 p3 Q K64 v4 v8 v9 s0 M11) ∧ (¬ (v4 ≤ v8) → (isC M11 a0 15 ∧ w_X16_addStable g F a0 v8 v9 s0 M11 (fun M12 => w_X16_init_194 g F a0 p1 p2 p3 Q K64 v4 v8 v9 s0 M12))))))))))))))))
def w_X16_init_96 (g : gT) (F : Nat) (a0 : Nat) (p1 : Option Nat) (p2 : Option Nat) (p3 : Int32) (Q : hM → Prop) (K64 : Int32 → Int32 → Int32 → Int32 → Int32 → hM → Prop) (v4 : Int32) (v5 : Int32) (v6 : Int32) (v7 : Int32) (v8 : Int32) (s0 : Int32) (M : hM) : Prop :=
  ((v4 ≤ v8 → gF M p2 8 1 fun x1 => gThis M x1 21 fun b3 => L_size g b3  M (fun x4 M2 => w_X16_init_123 g F a0 p1 p2 p3 Q K64 v4 v5 v6 v7 v8 s0 x4 M2)) ∧ (¬ (v4 ≤ v8) → gThis M p2 8 fun b6 => w_X9_partner g F b6 v8 M (fun x7 M5 => w_X16_init_123 g F a0 p1 p2 p3 Q K64 v4 v5 v6 v7 v8 s0 x7 M5)))
def w_X16_init_64 (g : gT) (F : Nat) (a0 : Nat) (p1 : Option Nat) (p2 : Option Nat) (p3 : Int32) (Q : hM → Prop) : Nat → Int32 → Int32 → Int32 → Int32 → Int32 → hM → Prop
  | 0, _, _, _, _, _, _ => False
  | n + 1, v4, v5, v6, v7, v8, M => ((v4 < v8 → Q M) ∧ (¬ (v4 < v8) → ((v4 ≤ v8 → gF M p1 8 1 fun x1 => gThis M x1 21 fun b3 => L_size g b3  M (fun x4 M2 => w_X16_init_96 g F a0 p1 p2 p3 Q (fun v4 v5 v6 v7 v8 M => w_X16_init_64 g F a0 p1 p2 p3 Q n v4 v5 v6 v7 v8 M) v4 v5 v6 v7 v8 x4 M2)) ∧ (¬ (v4 ≤ v8) → gThis M p1 8 fun b6 => w_X9_partner g F b6 v8 M (fun x7 M5 => w_X16_init_96 g F a0 p1 p2 p3 Q (fun v4 v5 v6 v7 v8 M => w_X16_init_64 g F a0 p1 p2 p3 Q n v4 v5 v6 v7 v8 M) v4 v5 v6 v7 v8 x7 M5)))))
def w_X16_init (g : gT) (F : Nat) (a0 : Nat) (p1 : Option Nat) (p2 : Option Nat) (p3 : Int32) (M : hM) (Q : hM → Prop) : Prop :=
  nW M 21 fsJ2 fun q1 M2 => (isC M2 q1 21 ∧ L_new g q1  M2 (fun M3 => pV M3 (some a0) 15 3 (va_rf (some q1)) fun M4 => nW M4 21 fsJ2 fun q5 M6 => (isC M6 q5 21 ∧ L_new g q5  M6 (fun M7 => pV M7 (some a0) 15 4 (va_rf (some q5)) fun M8 => pV M8 (some a0) 15 0 (va_rf p1) fun M9 => pV M9 (some a0) 15 1 (va_rf p2) fun M10 => pZ M10 (some a0) 15 2 p3 fun M11 => gF M11 p1 8 0 fun x12 => gThis M11 x12 21 fun b14 => L_size g b14  M11 (fun x15 M13 => w_X16_init_64 g F a0 p1 p2 p3 Q F x15 (0 : Int32) (0 : Int32) (0 : Int32) (0 : Int32) M13)))))
theorem g_X16_init_212 {k : kT} {F : Nat} {a0 : Nat} {p1 : Option Nat} {p2 : Option Nat} {p3 : Int32} {Q : hM → Prop} {K64 : Int32 → Int32 → Int32 → Int32 → Int32 → hM → Prop} (hJ : JOK (kl k) (kg k)) (hC : CX k 11 cX16_init RX16 none 45 2115) (hQ : isQ k (PU Q)) (hin : (kt k).name = "<init>") (hK64 : ∀ (v4 : Int32) (v5 : Int32) (v6 : Int32) (v7 : Int32) (v8 : Int32) (M : hM), K64 v4 v5 v6 v7 v8 M → GW k 11 M 64 [some (va_rf (some a0)), some (va_rf p1), some (va_rf p2), some (.int p3), some (.int v4), some (.int v5), some (.int v6), some (.int v7), some (.int v8), none, none] []) : ∀ (v4 : Int32) (v5 : Int32) (v6 : Int32) (v7 : Int32) (v8 : Int32) (M : hM), w_X16_init_212 (kg k) F a0 p1 p2 p3 Q K64 v4 v5 v6 v7 v8 M → GW k 11 M 212 [some (va_rf (some a0)), some (va_rf p1), some (va_rf p2), some (.int p3), some (.int v4), some (.int v5), some (.int v6), some (.int v7), some (.int v8), none, none] [] := by
  intro v4 v5 v6 v7 v8 M hw
  refine G_iinc (pc := 212) (i := 8) (v := (v8 + (1 : Int32))) (lw := [some (va_rf (some a0)), some (va_rf p1), some (va_rf p2), some (.int p3), some (.int v4), some (.int v5), some (.int v6), some (.int v7), some (.int (v8 + (1 : Int32))), none, none]) hC dX16_init_212 rfl (Nat.le_of_ble_eq_true rfl) rfl rfl ?_
  refine G_goto (pc := 215) (tgt := 64) hC dX16_init_215 (by decide) ?_
  exact hK64 v4 v5 v6 v7 (v8 + (1 : Int32)) M hw
theorem g_X16_init_194 {k : kT} {F : Nat} {a0 : Nat} {p1 : Option Nat} {p2 : Option Nat} {p3 : Int32} {Q : hM → Prop} {K64 : Int32 → Int32 → Int32 → Int32 → Int32 → hM → Prop} (hJ : JOK (kl k) (kg k)) (hC : CX k 11 cX16_init RX16 none 45 2115) (hQ : isQ k (PU Q)) (hin : (kt k).name = "<init>") (hK64 : ∀ (v4 : Int32) (v5 : Int32) (v6 : Int32) (v7 : Int32) (v8 : Int32) (M : hM), K64 v4 v5 v6 v7 v8 M → GW k 11 M 64 [some (va_rf (some a0)), some (va_rf p1), some (va_rf p2), some (.int p3), some (.int v4), some (.int v5), some (.int v6), some (.int v7), some (.int v8), none, none] []) : ∀ (v4 : Int32) (v8 : Int32) (v9 : Int32) (v10 : Int32) (M : hM), w_X16_init_194 (kg k) F a0 p1 p2 p3 Q K64 v4 v8 v9 v10 M → GW k 11 M 194 [some (va_rf (some a0)), some (va_rf p1), some (va_rf p2), some (.int p3), some (.int v4), none, none, none, some (.int v8), some (.int v9), some (.int v10)] [] := by
  intro v4 v8 v9 v10 M hw
  refine G_iload (pc := 194) (i := 8) hC dX16_init_194 rfl ?_
  refine G_iconst (pc := 196) (v := 1) hC dX16_init_196 (by decide) ?_
  refine G_iadd (pc := 197) hC dX16_init_197 ?_
  refine G_istore (pc := 198) (i := 5) (lw := [some (va_rf (some a0)), some (va_rf p1), some (va_rf p2), some (.int p3), some (.int v4), some (.int (v8 + (1 : Int32))), none, none, some (.int v8), some (.int v9), some (.int v10)]) hC dX16_init_198 (Nat.le_of_ble_eq_true rfl) rfl ?_
  refine G_iload (pc := 200) (i := 9) hC dX16_init_200 rfl ?_
  refine G_iconst (pc := 202) (v := 1) hC dX16_init_202 (by decide) ?_
  refine G_iadd (pc := 203) hC dX16_init_203 ?_
  refine G_istore (pc := 204) (i := 6) (lw := [some (va_rf (some a0)), some (va_rf p1), some (va_rf p2), some (.int p3), some (.int v4), some (.int (v8 + (1 : Int32))), some (.int (v9 + (1 : Int32))), none, some (.int v8), some (.int v9), some (.int v10)]) hC dX16_init_204 (Nat.le_of_ble_eq_true rfl) rfl ?_
  refine G_iload (pc := 206) (i := 10) hC dX16_init_206 rfl ?_
  refine G_iconst (pc := 208) (v := 1) hC dX16_init_208 (by decide) ?_
  refine G_iadd (pc := 209) hC dX16_init_209 ?_
  refine G_istore (pc := 210) (i := 7) (lw := [some (va_rf (some a0)), some (va_rf p1), some (va_rf p2), some (.int p3), some (.int v4), some (.int (v8 + (1 : Int32))), some (.int (v9 + (1 : Int32))), some (.int (v10 + (1 : Int32))), some (.int v8), some (.int v9), some (.int v10)]) hC dX16_init_210 (Nat.le_of_ble_eq_true rfl) rfl ?_
  refine G_loc (lv' := [some (va_rf (some a0)), some (va_rf p1), some (va_rf p2), some (.int p3), some (.int v4), some (.int (v8 + (1 : Int32))), some (.int (v9 + (1 : Int32))), some (.int (v10 + (1 : Int32))), some (.int v8), none, none]) ⟨Or.inr rfl, Or.inr rfl, Or.inr rfl, Or.inr rfl, Or.inr rfl, Or.inr rfl, Or.inr rfl, Or.inr rfl, Or.inr rfl, Or.inl rfl, Or.inl rfl, trivial⟩ ?_
  exact g_X16_init_212 hJ hC hQ hin hK64  v4 (v8 + (1 : Int32)) (v9 + (1 : Int32)) (v10 + (1 : Int32)) v8 M hw
theorem g_X16_init_123 {k : kT} {F : Nat} {a0 : Nat} {p1 : Option Nat} {p2 : Option Nat} {p3 : Int32} {Q : hM → Prop} {K64 : Int32 → Int32 → Int32 → Int32 → Int32 → hM → Prop} (hJ : JOK (kl k) (kg k)) (hC : CX k 11 cX16_init RX16 none 45 2115) (hQ : isQ k (PU Q)) (hin : (kt k).name = "<init>") (hK64 : ∀ (v4 : Int32) (v5 : Int32) (v6 : Int32) (v7 : Int32) (v8 : Int32) (M : hM), K64 v4 v5 v6 v7 v8 M → GW k 11 M 64 [some (va_rf (some a0)), some (va_rf p1), some (va_rf p2), some (.int p3), some (.int v4), some (.int v5), some (.int v6), some (.int v7), some (.int v8), none, none] []) : ∀ (v4 : Int32) (v5 : Int32) (v6 : Int32) (v7 : Int32) (v8 : Int32) (v9 : Int32) (s0 : Int32) (M : hM), w_X16_init_123 (kg k) F a0 p1 p2 p3 Q K64 v4 v5 v6 v7 v8 v9 s0 M → GW k 11 M 123 [some (va_rf (some a0)), some (va_rf p1), some (va_rf p2), some (.int p3), some (.int v4), some (.int v5), some (.int v6), some (.int v7), some (.int v8), some (.int v9), none] [.int s0] := by
  intro v4 v5 v6 v7 v8 v9 s0 M hw
  refine G_istore (pc := 123) (i := 10) (lw := [some (va_rf (some a0)), some (va_rf p1), some (va_rf p2), some (.int p3), some (.int v4), some (.int v5), some (.int v6), some (.int v7), some (.int v8), some (.int v9), some (.int s0)]) hC dX16_init_123 (Nat.le_of_ble_eq_true rfl) rfl ?_
  refine G_iload (pc := 125) (i := 9) hC dX16_init_125 rfl ?_
  refine G_if_lt (pc := 127) (tgt := 212) hC dX16_init_127 (by decide) (fun hc => ?_) (fun hc => ?_)
  · replace hw := hw.1 hc
    refine G_loc (lv' := [some (va_rf (some a0)), some (va_rf p1), some (va_rf p2), some (.int p3), some (.int v4), some (.int v5), some (.int v6), some (.int v7), some (.int v8), none, none]) ⟨Or.inr rfl, Or.inr rfl, Or.inr rfl, Or.inr rfl, Or.inr rfl, Or.inr rfl, Or.inr rfl, Or.inr rfl, Or.inr rfl, Or.inl rfl, Or.inl rfl, trivial⟩ ?_
    exact g_X16_init_212 hJ hC hQ hin hK64  v4 v5 v6 v7 v8 M hw
  · replace hw := hw.2 hc
    refine G_iload (pc := 130) (i := 10) hC dX16_init_130 rfl ?_
    refine G_if_lt (pc := 132) (tgt := 212) hC dX16_init_132 (by decide) (fun hc => ?_) (fun hc => ?_)
    · replace hw := hw.1 hc
      refine G_loc (lv' := [some (va_rf (some a0)), some (va_rf p1), some (va_rf p2), some (.int p3), some (.int v4), some (.int v5), some (.int v6), some (.int v7), some (.int v8), none, none]) ⟨Or.inr rfl, Or.inr rfl, Or.inr rfl, Or.inr rfl, Or.inr rfl, Or.inr rfl, Or.inr rfl, Or.inr rfl, Or.inr rfl, Or.inl rfl, Or.inl rfl, trivial⟩ ?_
      exact g_X16_init_212 hJ hC hQ hin hK64  v4 v5 v6 v7 v8 M hw
    · replace hw := hw.2 hc
      refine G_aload_n (pc := 135) (i := 0) hC dX16_init_135 rfl rfl ?_
      refine G_aload_n (pc := 136) (i := 0) hC dX16_init_136 rfl rfl ?_
      refine G_iload (pc := 137) (i := 5) hC dX16_init_137 rfl ?_
      refine G_iload (pc := 139) (i := 8) hC dX16_init_139 rfl ?_
      obtain ⟨hb, hw⟩ := hw
      refine G_callV (pc := 141) (n := 2) (C := "MergeWorkbench$Merge") (b := a0) (As := [.int v5, .int v8]) (rest := [va_rf (some a0)]) hC (m_X16_baseOf hJ hw) (lw_V q2797 q2799 qs43 q146 q2800) hd_X16_baseOf (by decide) (rcv (C := RX16) (T := TX16) (N := 5) hC hb rfl) rfl rfl (st_c (cat_r cat_e) (Nat.le_of_ble_eq_true rfl)) dX16_init_141 (kRf fun x2 M1 hw => ?_)
      refine G_new (pc := 144) (ci := 10) (C := RX11) (T := TX11) (N := 3) (fs := fsX11) tyX11 hC rfl in_X11 tyX11_ok q2801 q2368 q139 dfX11 rfl dX16_init_144 hw (fun q3 M4 hw => ?_)
      refine G_dup (pc := 147) hC dX16_init_147 (rf_cat _) ?_
      refine G_aload_n (pc := 148) (i := 1) hC dX16_init_148 rfl rfl ?_
      refine G_getFN (pc := 149) (ci := 8) (C := RX9) (T := TX9) (N := 6) (f := 1) hC rfl in_X9 (Nat.le_of_ble_eq_true rfl) (nw_in q2421 rfl) (fun _ h => h) dX16_init_149 hw (fun x5 hw => ?_)
      refine G_iload (pc := 152) (i := 6) hC dX16_init_152 rfl ?_
      refine G_iload (pc := 154) (i := 9) hC dX16_init_154 rfl ?_
      obtain ⟨hb, hw⟩ := hw
      refine G_callI (pc := 156) (n := 3) (b := q3) (As := [va_rf x5, .int v6, .int v9]) (rest := [va_rf (some q3), va_rf x2, va_rf (some a0)]) hC (m_X11_init hJ hw) (lw_meth q2371) q139 q2802 q2370 rfl hd_X11_init.2 (by decide) rfl rfl (st_c (cat_r (cat_r (cat_r cat_e))) (Nat.le_of_ble_eq_true rfl)) dX16_init_156 (kU fun M6 hw => ?_)
      refine G_new (pc := 159) (ci := 10) (C := RX11) (T := TX11) (N := 3) (fs := fsX11) tyX11 hC rfl in_X11 tyX11_ok q2801 q2368 q139 dfX11 rfl dX16_init_159 hw (fun q7 M8 hw => ?_)
      refine G_dup (pc := 162) hC dX16_init_162 (rf_cat _) ?_
      refine G_aload_n (pc := 163) (i := 2) hC dX16_init_163 rfl rfl ?_
      refine G_getFN (pc := 164) (ci := 8) (C := RX9) (T := TX9) (N := 6) (f := 1) hC rfl in_X9 (Nat.le_of_ble_eq_true rfl) (nw_in q2421 rfl) (fun _ h => h) dX16_init_164 hw (fun x9 hw => ?_)
      refine G_iload (pc := 167) (i := 7) hC dX16_init_167 rfl ?_
      refine G_iload (pc := 169) (i := 10) hC dX16_init_169 rfl ?_
      obtain ⟨hb, hw⟩ := hw
      refine G_callI (pc := 171) (n := 3) (b := q7) (As := [va_rf x9, .int v7, .int s0]) (rest := [va_rf (some q7), va_rf (some q3), va_rf x2, va_rf (some a0)]) hC (m_X11_init hJ hw) (lw_meth q2371) q139 q2802 q2370 rfl hd_X11_init.2 (by decide) rfl rfl (st_c (cat_r (cat_r (cat_r (cat_r cat_e)))) (Nat.le_of_ble_eq_true rfl)) dX16_init_171 (kU fun M10 hw => ?_)
      obtain ⟨hb, hw⟩ := hw
      refine G_callV (pc := 174) (n := 3) (C := "MergeWorkbench$Merge") (b := a0) (As := [va_rf x2, va_rf (some q3), va_rf (some q7)]) (rest := []) hC (m_X16_addRegion hJ hw) (lw_V q2803 q2805 qs44 q146 q2806) hd_X16_addRegion (by decide) (rcv (C := RX16) (T := TX16) (N := 5) hC hb rfl) rfl rfl (st_c cat_e (Nat.le_of_ble_eq_true rfl)) dX16_init_174 (kU fun M11 hw => ?_)
      refine G_iload (pc := 177) (i := 8) hC dX16_init_177 rfl ?_
      refine G_iload (pc := 179) (i := 4) hC dX16_init_179 rfl ?_
      refine G_icmp_ge (pc := 181) (tgt := 194) hC dX16_init_181 (by decide) (fun hc => ?_) (fun hc => ?_)
      · replace hw := hw.1 hc
        refine G_loc (lv' := [some (va_rf (some a0)), some (va_rf p1), some (va_rf p2), some (.int p3), some (.int v4), none, none, none, some (.int v8), some (.int v9), some (.int s0)]) ⟨Or.inr rfl, Or.inr rfl, Or.inr rfl, Or.inr rfl, Or.inr rfl, Or.inl rfl, Or.inl rfl, Or.inl rfl, Or.inr rfl, Or.inr rfl, Or.inr rfl, trivial⟩ ?_
        exact g_X16_init_194 hJ hC hQ hin hK64  v4 v8 v9 s0 M11 hw
      · replace hw := hw.2 hc
        refine G_aload_n (pc := 184) (i := 0) hC dX16_init_184 rfl rfl ?_
        refine G_iload (pc := 185) (i := 8) hC dX16_init_185 rfl ?_
        refine G_iload (pc := 187) (i := 9) hC dX16_init_187 rfl ?_
        refine G_iload (pc := 189) (i := 10) hC dX16_init_189 rfl ?_
        obtain ⟨hb, hw⟩ := hw
        refine G_callV (pc := 191) (n := 3) (C := "MergeWorkbench$Merge") (b := a0) (As := [.int v8, .int v9, .int s0]) (rest := []) hC (m_X16_addStable hJ hw) (lw_V q2956 q2958 qs46 q146 q2959) hd_X16_addStable (by decide) (rcv (C := RX16) (T := TX16) (N := 5) hC hb rfl) rfl rfl (st_c cat_e (Nat.le_of_ble_eq_true rfl)) dX16_init_191 (kU fun M12 hw => ?_)
        refine G_loc (lv' := [some (va_rf (some a0)), some (va_rf p1), some (va_rf p2), some (.int p3), some (.int v4), none, none, none, some (.int v8), some (.int v9), some (.int s0)]) ⟨Or.inr rfl, Or.inr rfl, Or.inr rfl, Or.inr rfl, Or.inr rfl, Or.inl rfl, Or.inl rfl, Or.inl rfl, Or.inr rfl, Or.inr rfl, Or.inr rfl, trivial⟩ ?_
        exact g_X16_init_194 hJ hC hQ hin hK64  v4 v8 v9 s0 M12 hw
theorem g_X16_init_96 {k : kT} {F : Nat} {a0 : Nat} {p1 : Option Nat} {p2 : Option Nat} {p3 : Int32} {Q : hM → Prop} {K64 : Int32 → Int32 → Int32 → Int32 → Int32 → hM → Prop} (hJ : JOK (kl k) (kg k)) (hC : CX k 11 cX16_init RX16 none 45 2115) (hQ : isQ k (PU Q)) (hin : (kt k).name = "<init>") (hK64 : ∀ (v4 : Int32) (v5 : Int32) (v6 : Int32) (v7 : Int32) (v8 : Int32) (M : hM), K64 v4 v5 v6 v7 v8 M → GW k 11 M 64 [some (va_rf (some a0)), some (va_rf p1), some (va_rf p2), some (.int p3), some (.int v4), some (.int v5), some (.int v6), some (.int v7), some (.int v8), none, none] []) : ∀ (v4 : Int32) (v5 : Int32) (v6 : Int32) (v7 : Int32) (v8 : Int32) (s0 : Int32) (M : hM), w_X16_init_96 (kg k) F a0 p1 p2 p3 Q K64 v4 v5 v6 v7 v8 s0 M → GW k 11 M 96 [some (va_rf (some a0)), some (va_rf p1), some (va_rf p2), some (.int p3), some (.int v4), some (.int v5), some (.int v6), some (.int v7), some (.int v8), none, none] [.int s0] := by
  intro v4 v5 v6 v7 v8 s0 M hw
  refine G_istore (pc := 96) (i := 9) (lw := [some (va_rf (some a0)), some (va_rf p1), some (va_rf p2), some (.int p3), some (.int v4), some (.int v5), some (.int v6), some (.int v7), some (.int v8), some (.int s0), none]) hC dX16_init_96 (Nat.le_of_ble_eq_true rfl) rfl ?_
  refine G_iload (pc := 98) (i := 8) hC dX16_init_98 rfl ?_
  refine G_iload (pc := 100) (i := 4) hC dX16_init_100 rfl ?_
  refine G_icmp_ge (pc := 102) (tgt := 114) hC dX16_init_102 (by decide) (fun hc => ?_) (fun hc => ?_)
  · replace hw := hw.1 hc
    refine G_aload_n (pc := 114) (i := 2) hC dX16_init_114 rfl rfl ?_
    refine G_getFN (pc := 115) (ci := 8) (C := RX9) (T := TX9) (N := 6) (f := 1) hC rfl in_X9 (Nat.le_of_ble_eq_true rfl) (nw_in q2421 rfl) (fun _ h => h) dX16_init_115 hw (fun x1 hw => ?_)
    obtain ⟨b3, rfl, hb, hw⟩ := gThis_e hw
    refine G_callF (pc := 118) (n := 0) (x := ⟨"java/util/List", "size", "()I"⟩) (C := "java/util/ArrayList") (ci := 21) (T := TJ2) (N := 3) (b := b3) (As := []) (rest := []) hC (J_L_size hJ hw) (lw_F q2795 q889 q363 q87 q364) (nw_in q888 rfl) (nw_in q887 rfl) (nw_in q891 rfl) (nw_in q890 rfl) (nw_in q259 rfl) rfl (rcv (C := RJ2) (T := TJ2) (N := 3) hC hb rfl) (by decide +kernel) (by decide) rfl rfl (st_c cat_e (Nat.le_of_ble_eq_true rfl)) dX16_init_118 (kI fun x4 M2 hw => ?_)
    exact g_X16_init_123 hJ hC hQ hin hK64  v4 v5 v6 v7 v8 s0 x4 M2 hw
  · replace hw := hw.2 hc
    refine G_aload_n (pc := 105) (i := 2) hC dX16_init_105 rfl rfl ?_
    refine G_iload (pc := 106) (i := 8) hC dX16_init_106 rfl ?_
    obtain ⟨b6, rfl, hb, hw⟩ := gThis_e hw
    refine G_callV (pc := 108) (n := 1) (C := "MergeWorkbench$Comparison") (b := b6) (As := [.int v8]) (rest := []) hC (m_X9_partner hJ hw) (lw_V q2796 q2462 q2463 q134 q2464) hd_X9_partner (by decide) (rcv (C := RX9) (T := TX9) (N := 6) hC hb rfl) rfl rfl (st_c cat_e (Nat.le_of_ble_eq_true rfl)) dX16_init_108 (kI fun x7 M5 hw => ?_)
    refine G_goto (pc := 111) (tgt := 123) hC dX16_init_111 (by decide) ?_
    exact g_X16_init_123 hJ hC hQ hin hK64  v4 v5 v6 v7 v8 s0 x7 M5 hw
theorem g_X16_init_64 {k : kT} {F : Nat} {a0 : Nat} {p1 : Option Nat} {p2 : Option Nat} {p3 : Int32} {Q : hM → Prop} (hJ : JOK (kl k) (kg k)) (hC : CX k 11 cX16_init RX16 none 45 2115) (hQ : isQ k (PU Q)) (hin : (kt k).name = "<init>") : ∀ (n : Nat) (v4 : Int32) (v5 : Int32) (v6 : Int32) (v7 : Int32) (v8 : Int32) (M : hM), w_X16_init_64 (kg k) F a0 p1 p2 p3 Q n v4 v5 v6 v7 v8 M → GW k 11 M 64 [some (va_rf (some a0)), some (va_rf p1), some (va_rf p2), some (.int p3), some (.int v4), some (.int v5), some (.int v6), some (.int v7), some (.int v8), none, none] [] := by
  intro n
  induction n with
  | zero =>
    intro v4 v5 v6 v7 v8 M hw
    exact hw.elim
  | succ n ih =>
    intro v4 v5 v6 v7 v8 M hw
    refine G_iload (pc := 64) (i := 8) hC dX16_init_64 rfl ?_
    refine G_iload (pc := 66) (i := 4) hC dX16_init_66 rfl ?_
    refine G_icmp_gt (pc := 68) (tgt := 218) hC dX16_init_68 (by decide) (fun hc => ?_) (fun hc => ?_)
    · replace hw := hw.1 hc
      exact G_ret (pc := 218) hC hQ dX16_init_218 hw
    · replace hw := hw.2 hc
      refine G_iload (pc := 71) (i := 8) hC dX16_init_71 rfl ?_
      refine G_iload (pc := 73) (i := 4) hC dX16_init_73 rfl ?_
      refine G_icmp_ge (pc := 75) (tgt := 87) hC dX16_init_75 (by decide) (fun hc => ?_) (fun hc => ?_)
      · replace hw := hw.1 hc
        refine G_aload_n (pc := 87) (i := 1) hC dX16_init_87 rfl rfl ?_
        refine G_getFN (pc := 88) (ci := 8) (C := RX9) (T := TX9) (N := 6) (f := 1) hC rfl in_X9 (Nat.le_of_ble_eq_true rfl) (nw_in q2421 rfl) (fun _ h => h) dX16_init_88 hw (fun x1 hw => ?_)
        obtain ⟨b3, rfl, hb, hw⟩ := gThis_e hw
        refine G_callF (pc := 91) (n := 0) (x := ⟨"java/util/List", "size", "()I"⟩) (C := "java/util/ArrayList") (ci := 21) (T := TJ2) (N := 3) (b := b3) (As := []) (rest := []) hC (J_L_size hJ hw) (lw_F q2795 q889 q363 q87 q364) (nw_in q888 rfl) (nw_in q887 rfl) (nw_in q891 rfl) (nw_in q890 rfl) (nw_in q259 rfl) rfl (rcv (C := RJ2) (T := TJ2) (N := 3) hC hb rfl) (by decide +kernel) (by decide) rfl rfl (st_c cat_e (Nat.le_of_ble_eq_true rfl)) dX16_init_91 (kI fun x4 M2 hw => ?_)
        exact g_X16_init_96 hJ hC hQ hin ih  v4 v5 v6 v7 v8 x4 M2 hw
      · replace hw := hw.2 hc
        refine G_aload_n (pc := 78) (i := 1) hC dX16_init_78 rfl rfl ?_
        refine G_iload (pc := 79) (i := 8) hC dX16_init_79 rfl ?_
        obtain ⟨b6, rfl, hb, hw⟩ := gThis_e hw
        refine G_callV (pc := 81) (n := 1) (C := "MergeWorkbench$Comparison") (b := b6) (As := [.int v8]) (rest := []) hC (m_X9_partner hJ hw) (lw_V q2796 q2462 q2463 q134 q2464) hd_X9_partner (by decide) (rcv (C := RX9) (T := TX9) (N := 6) hC hb rfl) rfl rfl (st_c cat_e (Nat.le_of_ble_eq_true rfl)) dX16_init_81 (kI fun x7 M5 hw => ?_)
        refine G_goto (pc := 84) (tgt := 96) hC dX16_init_84 (by decide) ?_
        exact g_X16_init_96 hJ hC hQ hin ih  v4 v5 v6 v7 v8 x7 M5 hw
theorem m_X16_init {l : Launch} {g : gT} {F : Nat} {a0 : Nat} {p1 : Option Nat} {p2 : Option Nat} {p3 : Int32} {M : hM} {Q : hM → Prop} (hJ : JOK l g) (hw : w_X16_init g F a0 p1 p2 p3 M Q) : MG l g yX16_init (ws_ yX16_init cX16_init 11 none) 45 2115 [va_rf (some a0), va_rf p1, va_rf p2, .int p3] M (PU Q) := by
  refine MG_of hJ.2.1 (by decide) (cat_r (cat_r (cat_r (cat_i cat_e)))) (Nat.le_of_ble_eq_true rfl) (fun k hl hg hin hQ hC => ?_)
  subst hl hg
  show GW k 11 M 0 [some (va_rf (some a0)), some (va_rf p1), some (va_rf p2), some (.int p3), none, none, none, none, none, none, none] []
  refine G_aload_n (pc := 0) (i := 0) hC dX16_init_0 rfl rfl ?_
  refine G_objInit (pc := 1) hC q2791 q158 q159 rfl rfl (st_c cat_e (Nat.le_of_ble_eq_true rfl)) dX16_init_1 ?_
  refine G_aload_n (pc := 4) (i := 0) hC dX16_init_4 rfl rfl ?_
  refine G_new (pc := 5) (ci := 21) (C := RJ2) (T := TJ2) (N := 3) (fs := fsJ2) tyJ2 hC rfl in_J2 tyJ2_ok q2792 q161 q87 dfJ2 rfl dX16_init_5 hw (fun q1 M2 hw => ?_)
  refine G_dup (pc := 8) hC dX16_init_8 (rf_cat _) ?_
  obtain ⟨hb, hw⟩ := hw
  refine G_callI (pc := 9) (n := 0) (b := q1) (As := []) (rest := [va_rf (some q1), va_rf (some a0)]) hC (J_L_new hJ hw) (lw_meth q164) q87 q2793 q163 rfl hd_J2_init.2 (by decide) rfl rfl (st_c (cat_r (cat_r cat_e)) (Nat.le_of_ble_eq_true rfl)) dX16_init_9 (kU fun M3 hw => ?_)
  refine G_putF (pc := 12) (ci := 15) (C := RX16) (T := TX16) (N := 5) (f := 3) tyX16 hC rfl in_X16 tyX16_ok nmX16 (Nat.le_of_ble_eq_true rfl) q2979 (fun _ h => h) rfl hin rfl (nR_o _ _) (fR_o _ _) dX16_init_12 hw (fun M4 hw => ?_)
  refine G_aload_n (pc := 15) (i := 0) hC dX16_init_15 rfl rfl ?_
  refine G_new (pc := 16) (ci := 21) (C := RJ2) (T := TJ2) (N := 3) (fs := fsJ2) tyJ2 hC rfl in_J2 tyJ2_ok q2792 q161 q87 dfJ2 rfl dX16_init_16 hw (fun q5 M6 hw => ?_)
  refine G_dup (pc := 19) hC dX16_init_19 (rf_cat _) ?_
  obtain ⟨hb, hw⟩ := hw
  refine G_callI (pc := 20) (n := 0) (b := q5) (As := []) (rest := [va_rf (some q5), va_rf (some a0)]) hC (J_L_new hJ hw) (lw_meth q164) q87 q2793 q163 rfl hd_J2_init.2 (by decide) rfl rfl (st_c (cat_r (cat_r cat_e)) (Nat.le_of_ble_eq_true rfl)) dX16_init_20 (kU fun M7 hw => ?_)
  refine G_putF (pc := 23) (ci := 15) (C := RX16) (T := TX16) (N := 5) (f := 4) tyX16 hC rfl in_X16 tyX16_ok nmX16 (Nat.le_of_ble_eq_true rfl) q2981 (fun _ h => h) rfl hin rfl (nR_o _ _) (fR_o _ _) dX16_init_23 hw (fun M8 hw => ?_)
  refine G_aload_n (pc := 26) (i := 0) hC dX16_init_26 rfl rfl ?_
  refine G_aload_n (pc := 27) (i := 1) hC dX16_init_27 rfl rfl ?_
  refine G_putF (pc := 28) (ci := 15) (C := RX16) (T := TX16) (N := 5) (f := 0) tyX16 hC rfl in_X16 tyX16_ok nmX16 (Nat.le_of_ble_eq_true rfl) q2976 (fun _ h => h) rfl hin rfl (nR_o _ _) (fR_o _ _) dX16_init_28 hw (fun M9 hw => ?_)
  refine G_aload_n (pc := 31) (i := 0) hC dX16_init_31 rfl rfl ?_
  refine G_aload_n (pc := 32) (i := 2) hC dX16_init_32 rfl rfl ?_
  refine G_putF (pc := 33) (ci := 15) (C := RX16) (T := TX16) (N := 5) (f := 1) tyX16 hC rfl in_X16 tyX16_ok nmX16 (Nat.le_of_ble_eq_true rfl) q2977 (fun _ h => h) rfl hin rfl (nR_o _ _) (fR_o _ _) dX16_init_33 hw (fun M10 hw => ?_)
  refine G_aload_n (pc := 36) (i := 0) hC dX16_init_36 rfl rfl ?_
  refine G_iload_n (pc := 37) (i := 3) hC dX16_init_37 rfl rfl ?_
  obtain ⟨hz, hw⟩ := hw
  refine G_putF (pc := 38) (ci := 15) (C := RX16) (T := TX16) (N := 5) (f := 2) tyX16 hC rfl in_X16 tyX16_ok nmX16 (Nat.le_of_ble_eq_true rfl) q2978 (fun _ h => h) rfl hin rfl (nz_n hz) (nz_f hz) dX16_init_38 hw (fun M11 hw => ?_)
  refine G_aload_n (pc := 41) (i := 1) hC dX16_init_41 rfl rfl ?_
  refine G_getFN (pc := 42) (ci := 8) (C := RX9) (T := TX9) (N := 6) (f := 0) hC rfl in_X9 (Nat.le_of_ble_eq_true rfl) (nw_in q2415 rfl) (fun _ h => h) dX16_init_42 hw (fun x12 hw => ?_)
  obtain ⟨b14, rfl, hb, hw⟩ := gThis_e hw
  refine G_callF (pc := 45) (n := 0) (x := ⟨"java/util/List", "size", "()I"⟩) (C := "java/util/ArrayList") (ci := 21) (T := TJ2) (N := 3) (b := b14) (As := []) (rest := []) hC (J_L_size hJ hw) (lw_F q2795 q889 q363 q87 q364) (nw_in q888 rfl) (nw_in q887 rfl) (nw_in q891 rfl) (nw_in q890 rfl) (nw_in q259 rfl) rfl (rcv (C := RJ2) (T := TJ2) (N := 3) hC hb rfl) (by decide +kernel) (by decide) rfl rfl (st_c cat_e (Nat.le_of_ble_eq_true rfl)) dX16_init_45 (kI fun x15 M13 hw => ?_)
  refine G_istore (pc := 50) (i := 4) (lw := [some (va_rf (some a0)), some (va_rf p1), some (va_rf p2), some (.int p3), some (.int x15), none, none, none, none, none, none]) hC dX16_init_50 (Nat.le_of_ble_eq_true rfl) rfl ?_
  refine G_iconst (pc := 52) (v := 0) hC dX16_init_52 (by decide) ?_
  refine G_istore (pc := 53) (i := 5) (lw := [some (va_rf (some a0)), some (va_rf p1), some (va_rf p2), some (.int p3), some (.int x15), some (.int (0 : Int32)), none, none, none, none, none]) hC dX16_init_53 (Nat.le_of_ble_eq_true rfl) rfl ?_
  refine G_iconst (pc := 55) (v := 0) hC dX16_init_55 (by decide) ?_
  refine G_istore (pc := 56) (i := 6) (lw := [some (va_rf (some a0)), some (va_rf p1), some (va_rf p2), some (.int p3), some (.int x15), some (.int (0 : Int32)), some (.int (0 : Int32)), none, none, none, none]) hC dX16_init_56 (Nat.le_of_ble_eq_true rfl) rfl ?_
  refine G_iconst (pc := 58) (v := 0) hC dX16_init_58 (by decide) ?_
  refine G_istore (pc := 59) (i := 7) (lw := [some (va_rf (some a0)), some (va_rf p1), some (va_rf p2), some (.int p3), some (.int x15), some (.int (0 : Int32)), some (.int (0 : Int32)), some (.int (0 : Int32)), none, none, none]) hC dX16_init_59 (Nat.le_of_ble_eq_true rfl) rfl ?_
  refine G_iconst (pc := 61) (v := 0) hC dX16_init_61 (by decide) ?_
  refine G_istore (pc := 62) (i := 8) (lw := [some (va_rf (some a0)), some (va_rf p1), some (va_rf p2), some (.int p3), some (.int x15), some (.int (0 : Int32)), some (.int (0 : Int32)), some (.int (0 : Int32)), some (.int (0 : Int32)), none, none]) hC dX16_init_62 (Nat.le_of_ble_eq_true rfl) rfl ?_
  exact g_X16_init_64 hJ hC hQ hin _ x15 (0 : Int32) (0 : Int32) (0 : Int32) (0 : Int32) M13 hw
