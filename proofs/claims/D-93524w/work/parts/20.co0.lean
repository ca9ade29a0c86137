/-! STAGE 1, printed by wip/D-93524w/genall.py: component, part 0 -/
set_option maxRecDepth 100000
def w_X4_init (g : gT) (F : Nat) (a0 : Nat) (p1 : Int32) (p2 : Option Nat) (M : hM) (Q : hM → Prop) : Prop :=
  pV M (some a0) 3 0 (.int p1) fun M1 => pV M1 (some a0) 3 1 (va_rf p2) fun M2 => Q M2
theorem m_X4_init {l : Launch} {g : gT} {F : Nat} {a0 : Nat} {p1 : Int32} {p2 : Option Nat} {M : hM} {Q : hM → Prop} (hJ : JOK l g) (hw : w_X4_init g F a0 p1 p2 M Q) : MG l g yX4_init (ws_ yX4_init cX4_init 3 none) 1 20 [va_rf (some a0), .int p1, va_rf p2] M (PU Q) := by
  refine MG_of hJ.2.1 (by decide) (cat_r (cat_i (cat_r cat_e))) (Nat.le_of_ble_eq_true rfl) (fun k hl hg hin hQ hC => ?_)
  subst hl hg
  show GW k 3 M 0 [some (va_rf (some a0)), some (.int p1), some (va_rf p2)] []
  refine G_aload_n (pc := 0) (i := 0) hC dX4_init_0 rfl rfl ?_
  refine G_objInit (pc := 1) hC q1281 q158 q159 rfl rfl (st_c cat_e (Nat.le_of_ble_eq_true rfl)) dX4_init_1 ?_
  refine G_aload_n (pc := 4) (i := 0) hC dX4_init_4 rfl rfl ?_
  refine G_iload_n (pc := 5) (i := 1) hC dX4_init_5 rfl rfl ?_
  refine G_putF (pc := 6) (ci := 3) (C := RX4) (T := TX4) (N := 2) (f := 0) tyX4 hC rfl in_X4 tyX4_ok nmX4 (Nat.le_of_ble_eq_true rfl) q1282 (fun _ h => h) rfl hin rfl rfl rfl dX4_init_6 hw (fun M1 hw => ?_)
  refine G_aload_n (pc := 9) (i := 0) hC dX4_init_9 rfl rfl ?_
  refine G_aload_n (pc := 10) (i := 2) hC dX4_init_10 rfl rfl ?_
  refine G_putF (pc := 11) (ci := 3) (C := RX4) (T := TX4) (N := 2) (f := 1) tyX4 hC rfl in_X4 tyX4_ok nmX4 (Nat.le_of_ble_eq_true rfl) q1284 (fun _ h => h) rfl hin rfl (nR_o _ _) (fR_o _ _) dX4_init_11 hw (fun M2 hw => ?_)
  exact G_ret (pc := 14) hC hQ dX4_init_14 hw
theorem hd_J2_init : yJ2_init.cls = "java/util/ArrayList" ∧ yJ2_init.cls ≠ "java/lang/invoke/MethodHandle" ∧ yJ2_init.cls ≠ "java/lang/invoke/VarHandle" ∧ (parseMethodDescriptor yJ2_init.desc).map (fun d => d.parameters.length) = some 0 := by decide +kernel
def w_X5_init (g : gT) (F : Nat) (a0 : Nat) (p1 : Option Nat) (p2 : Option Nat) (M : hM) (Q : hM → Prop) : Prop :=
  nW M 21 fsJ2 fun q1 M2 => (isC M2 q1 21 ∧ L_new g q1  M2 (fun M3 => pV M3 (some a0) 4 2 (va_rf (some q1)) fun M4 => pV M4 (some a0) 4 0 (va_rf p1) fun M5 => pV M5 (some a0) 4 1 (va_rf p2) fun M6 => Q M6))
theorem m_X5_init {l : Launch} {g : gT} {F : Nat} {a0 : Nat} {p1 : Option Nat} {p2 : Option Nat} {M : hM} {Q : hM → Prop} (hJ : JOK l g) (hw : w_X5_init g F a0 p1 p2 M Q) : MG l g yX5_init (ws_ yX5_init cX5_init 3 none) 41 2020 [va_rf (some a0), va_rf p1, va_rf p2] M (PU Q) := by
  refine MG_of hJ.2.1 (by decide) (cat_r (cat_r (cat_r cat_e))) (Nat.le_of_ble_eq_true rfl) (fun k hl hg hin hQ hC => ?_)
  subst hl hg
  show GW k 3 M 0 [some (va_rf (some a0)), some (va_rf p1), some (va_rf p2)] []
  refine G_aload_n (pc := 0) (i := 0) hC dX5_init_0 rfl rfl ?_
  refine G_objInit (pc := 1) hC q1638 q158 q159 rfl rfl (st_c cat_e (Nat.le_of_ble_eq_true rfl)) dX5_init_1 ?_
  refine G_aload_n (pc := 4) (i := 0) hC dX5_init_4 rfl rfl ?_
  refine G_new (pc := 5) (ci := 21) (C := RJ2) (T := TJ2) (N := 3) (fs := fsJ2) tyJ2 hC rfl in_J2 tyJ2_ok q1639 q161 q87 dfJ2 rfl dX5_init_5 hw (fun q1 M2 hw => ?_)
  refine G_dup (pc := 8) hC dX5_init_8 (rf_cat _) ?_
  obtain ⟨hb, hw⟩ := hw
  refine G_callI (pc := 9) (n := 0) (b := q1) (As := []) (rest := [va_rf (some q1), va_rf (some a0)]) hC (J_L_new hJ hw) (lw_meth q164) q87 q1640 q163 rfl hd_J2_init.2 (by decide) rfl rfl (st_c (cat_r (cat_r cat_e)) (Nat.le_of_ble_eq_true rfl)) dX5_init_9 (kU fun M3 hw => ?_)
  refine G_putF (pc := 12) (ci := 4) (C := RX5) (T := TX5) (N := 4) (f := 2) tyX5 hC rfl in_X5 tyX5_ok nmX5 (Nat.le_of_ble_eq_true rfl) q1643 (fun _ h => h) rfl hin rfl (nR_o _ _) (fR_o _ _) dX5_init_12 hw (fun M4 hw => ?_)
  refine G_aload_n (pc := 15) (i := 0) hC dX5_init_15 rfl rfl ?_
  refine G_aload_n (pc := 16) (i := 1) hC dX5_init_16 rfl rfl ?_
  refine G_putF (pc := 17) (ci := 4) (C := RX5) (T := TX5) (N := 4) (f := 0) tyX5 hC rfl in_X5 tyX5_ok nmX5 (Nat.le_of_ble_eq_true rfl) q1641 (fun _ h => h) rfl hin rfl (nR_o _ _) (fR_o _ _) dX5_init_17 hw (fun M5 hw => ?_)
  refine G_aload_n (pc := 20) (i := 0) hC dX5_init_20 rfl rfl ?_
  refine G_aload_n (pc := 21) (i := 2) hC dX5_init_21 rfl rfl ?_
  refine G_putF (pc := 22) (ci := 4) (C := RX5) (T := TX5) (N := 4) (f := 1) tyX5 hC rfl in_X5 tyX5_ok nmX5 (Nat.le_of_ble_eq_true rfl) q1642 (fun _ h => h) rfl hin rfl (nR_o _ _) (fR_o _ _) dX5_init_22 hw (fun M6 hw => ?_)
  exact G_ret (pc := 25) hC hQ dX5_init_25 hw
theorem hd_J19_equals : yJ19_equals.cls = "java/lang/Integer" ∧ yJ19_equals.cls ≠ "java/lang/invoke/MethodHandle" ∧ yJ19_equals.cls ≠ "java/lang/invoke/VarHandle" ∧ (parseMethodDescriptor yJ19_equals.desc).map (fun d => d.parameters.length) = some 1 := by decide +kernel
theorem hd_J2_get : yJ2_get.cls = "java/util/ArrayList" ∧ yJ2_get.cls ≠ "java/lang/invoke/MethodHandle" ∧ yJ2_get.cls ≠ "java/lang/invoke/VarHandle" ∧ (parseMethodDescriptor yJ2_get.desc).map (fun d => d.parameters.length) = some 1 := by decide +kernel
def w_X5_lengths_128 (g : gT) (F : Nat) (a0 : Nat) (p1 : Int32) (p2 : Int32) (p3 : Int32) (p4 : Int32) (Q : Option Nat → hM → Prop) (K34 : (Option Nat) → Int32 → Int32 → hM → Prop) (v5 : Option Nat) (v6 : Int32) (v7 : Int32) (v8 : Int32) (s0 : Int32) (M : hM) : Prop :=
  aG M v5 (v6 - p1) fun x1 => sI M x1 0 (v7 - p3) (if v8 < s0 then s0 else v8) fun M2 => K34 v5 v6 (v7 + (-1 : Int32)) M2
def w_X5_lengths_34 (g : gT) (F : Nat) (a0 : Nat) (p1 : Int32) (p2 : Int32) (p3 : Int32) (p4 : Int32) (Q : Option Nat → hM → Prop) (K22 : (Option Nat) → Int32 → hM → Prop) : Nat → (Option Nat) → Int32 → Int32 → hM → Prop
  | 0, _, _, _, _ => False
  | n + 1, v5, v6, v7, M => ((v7 < p3 → K22 v5 (v6 + (-1 : Int32)) M) ∧ (¬ (v7 < p3) → aG M v5 ((v6 + (1 : Int32)) - p1) fun x1 => aI M x1 0 (v7 - p3) fun x2 => aG M v5 (v6 - p1) fun x3 => aI M x3 0 ((v7 + (1 : Int32)) - p3) fun x4 => gF M (some a0) 4 0 fun x5 => gThis M x5 21 fun b7 => L_get g b7 v6 M (fun x8 M6 => ckB g M6 x8 (gF M6 (some a0) 4 1 fun x9 => gThis M6 x9 21 fun b11 => L_get g b11 v7 M6 (fun x12 M10 => gBx g M10 x8 fun b14 => B_eq g b14 x12 M10 (fun x15 M13 => ((x15 = 0 → w_X5_lengths_128 g F a0 p1 p2 p3 p4 Q (fun v5 v6 v7 M => w_X5_lengths_34 g F a0 p1 p2 p3 p4 Q K22 n v5 v6 v7 M) v5 v6 v7 (if x2 < x4 then x4 else x2) (0 : Int32) M13) ∧ (¬ (x15 = 0) → aG M13 v5 ((v6 + (1 : Int32)) - p1) fun x16 => aI M13 x16 0 ((v7 + (1 : Int32)) - p3) fun x17 => w_X5_lengths_128 g F a0 p1 p2 p3 p4 Q (fun v5 v6 v7 M => w_X5_lengths_34 g F a0 p1 p2 p3 p4 Q K22 n v5 v6 v7 M) v5 v6 v7 (if x2 < x4 then x4 else x2) ((1 : Int32) + x17) M13))))))))
def w_X5_lengths_22 (g : gT) (F : Nat) (a0 : Nat) (p1 : Int32) (p2 : Int32) (p3 : Int32) (p4 : Int32) (Q : Option Nat → hM → Prop) : Nat → (Option Nat) → Int32 → hM → Prop
  | 0, _, _, _ => False
  | n + 1, v5, v6, M => ((v6 < p1 → Q v5 M) ∧ (¬ (v6 < p1) → w_X5_lengths_34 g F a0 p1 p2 p3 p4 Q (fun v5 v6 M => w_X5_lengths_22 g F a0 p1 p2 p3 p4 Q n v5 v6 M) F v5 v6 (p4 - (1 : Int32)) M))
def w_X5_lengths (g : gT) (F : Nat) (a0 : Nat) (p1 : Int32) (p2 : Int32) (p3 : Int32) (p4 : Int32) (M : hM) (Q : Option Nat → hM → Prop) : Prop :=
  nG M ((p2 - p1) + (1 : Int32)) ((p4 - p3) + (1 : Int32)) fun q1 M2 => w_X5_lengths_22 g F a0 p1 p2 p3 p4 Q F (some q1) (p2 - (1 : Int32)) M2
theorem g_X5_lengths_128 {k : kT} {F : Nat} {a0 : Nat} {p1 : Int32} {p2 : Int32} {p3 : Int32} {p4 : Int32} {Q : Option Nat → hM → Prop} {K34 : (Option Nat) → Int32 → Int32 → hM → Prop} (hJ : JOK (kl k) (kg k)) (hC : CX k 10 cX5_lengths RX5 (some (.array (.array .int))) 41 2021) (hQ : isQ k (PR Q)) (hin : (kt k).name = "lengths") (hK34 : ∀ (v5 : Option Nat) (v6 : Int32) (v7 : Int32) (M : hM), K34 v5 v6 v7 M → GW k 10 M 34 [some (va_rf (some a0)), some (.int p1), some (.int p2), some (.int p3), some (.int p4), some (va_rf v5), some (.int v6), some (.int v7), none, none] []) : ∀ (v5 : Option Nat) (v6 : Int32) (v7 : Int32) (v8 : Int32) (s0 : Int32) (M : hM), w_X5_lengths_128 (kg k) F a0 p1 p2 p3 p4 Q K34 v5 v6 v7 v8 s0 M → GW k 10 M 128 [some (va_rf (some a0)), some (.int p1), some (.int p2), some (.int p3), some (.int p4), some (va_rf v5), some (.int v6), some (.int v7), some (.int v8), none] [.int s0] := by
  intro v5 v6 v7 v8 s0 M hw
  refine G_istore (pc := 128) (i := 9) (lw := [some (va_rf (some a0)), some (.int p1), some (.int p2), some (.int p3), some (.int p4), some (va_rf v5), some (.int v6), some (.int v7), some (.int v8), some (.int s0)]) hC dX5_lengths_128 (Nat.le_of_ble_eq_true rfl) rfl ?_
  refine G_aload (pc := 130) (i := 5) hC dX5_lengths_130 rfl ?_
  refine G_iload (pc := 132) (i := 6) hC dX5_lengths_132 rfl ?_
  refine G_iload_n (pc := 134) (i := 1) hC dX5_lengths_134 rfl rfl ?_
  refine G_isub (pc := 135) hC dX5_lengths_135 ?_
  refine G_aaldG (pc := 136) hC dX5_lengths_136 hw (fun x1 hw => ?_)
  refine G_iload (pc := 137) (i := 7) hC dX5_lengths_137 rfl ?_
  refine G_iload_n (pc := 139) (i := 3) hC dX5_lengths_139 rfl rfl ?_
  refine G_isub (pc := 140) hC dX5_lengths_140 ?_
  refine G_iload (pc := 141) (i := 8) hC dX5_lengths_141 rfl ?_
  refine G_iload (pc := 143) (i := 9) hC dX5_lengths_143 rfl ?_
  refine G_max (pc := 145) hC q1671 q281 q95 q282 rfl rfl (st_c (cat_i (cat_r cat_e)) (Nat.le_of_ble_eq_true rfl)) dX5_lengths_145 ?_
  refine G_iast (pc := 148) hC dX5_lengths_148 hw (fun M2 hw => ?_)
  refine G_iinc (pc := 149) (i := 7) (v := (v7 + (-1 : Int32))) (lw := [some (va_rf (some a0)), some (.int p1), some (.int p2), some (.int p3), some (.int p4), some (va_rf v5), some (.int v6), some (.int (v7 + (-1 : Int32))), some (.int v8), some (.int s0)]) hC dX5_lengths_149 rfl (Nat.le_of_ble_eq_true rfl) rfl rfl ?_
  refine G_goto (pc := 152) (tgt := 34) hC dX5_lengths_152 (by decide) ?_
  refine G_loc (lv' := [some (va_rf (some a0)), some (.int p1), some (.int p2), some (.int p3), some (.int p4), some (va_rf v5), some (.int v6), some (.int (v7 + (-1 : Int32))), none, none]) ⟨Or.inr rfl, Or.inr rfl, Or.inr rfl, Or.inr rfl, Or.inr rfl, Or.inr rfl, Or.inr rfl, Or.inr rfl, Or.inl rfl, Or.inl rfl, trivial⟩ ?_
  exact hK34 v5 v6 (v7 + (-1 : Int32)) M2 hw
theorem g_X5_lengths_34 {k : kT} {F : Nat} {a0 : Nat} {p1 : Int32} {p2 : Int32} {p3 : Int32} {p4 : Int32} {Q : Option Nat → hM → Prop} {K22 : (Option Nat) → Int32 → hM → Prop} (hJ : JOK (kl k) (kg k)) (hC : CX k 10 cX5_lengths RX5 (some (.array (.array .int))) 41 2021) (hQ : isQ k (PR Q)) (hin : (kt k).name = "lengths") (hK22 : ∀ (v5 : Option Nat) (v6 : Int32) (M : hM), K22 v5 v6 M → GW k 10 M 22 [some (va_rf (some a0)), some (.int p1), some (.int p2), some (.int p3), some (.int p4), some (va_rf v5), some (.int v6), none, none, none] []) : ∀ (n : Nat) (v5 : Option Nat) (v6 : Int32) (v7 : Int32) (M : hM), w_X5_lengths_34 (kg k) F a0 p1 p2 p3 p4 Q K22 n v5 v6 v7 M → GW k 10 M 34 [some (va_rf (some a0)), some (.int p1), some (.int p2), some (.int p3), some (.int p4), some (va_rf v5), some (.int v6), some (.int v7), none, none] [] := by
  intro n
  induction n with
  | zero =>
    intro v5 v6 v7 M hw
    exact hw.elim
  | succ n ih =>
    intro v5 v6 v7 M hw
    refine G_iload (pc := 34) (i := 7) hC dX5_lengths_34 rfl ?_
    refine G_iload_n (pc := 36) (i := 3) hC dX5_lengths_36 rfl rfl ?_
    refine G_icmp_lt (pc := 37) (tgt := 155) hC dX5_lengths_37 (by decide) (fun hc => ?_) (fun hc => ?_)
    · replace hw := hw.1 hc
      refine G_iinc (pc := 155) (i := 6) (v := (v6 + (-1 : Int32))) (lw := [some (va_rf (some a0)), some (.int p1), some (.int p2), some (.int p3), some (.int p4), some (va_rf v5), some (.int (v6 + (-1 : Int32))), some (.int v7), none, none]) hC dX5_lengths_155 rfl (Nat.le_of_ble_eq_true rfl) rfl rfl ?_
      refine G_goto (pc := 158) (tgt := 22) hC dX5_lengths_158 (by decide) ?_
      refine G_loc (lv' := [some (va_rf (some a0)), some (.int p1), some (.int p2), some (.int p3), some (.int p4), some (va_rf v5), some (.int (v6 + (-1 : Int32))), none, none, none]) ⟨Or.inr rfl, Or.inr rfl, Or.inr rfl, Or.inr rfl, Or.inr rfl, Or.inr rfl, Or.inr rfl, Or.inl rfl, Or.inr rfl, Or.inr rfl, trivial⟩ ?_
      exact hK22 v5 (v6 + (-1 : Int32)) M hw
    · replace hw := hw.2 hc
      refine G_aload (pc := 40) (i := 5) hC dX5_lengths_40 rfl ?_
      refine G_iload (pc := 42) (i := 6) hC dX5_lengths_42 rfl ?_
      refine G_iconst (pc := 44) (v := 1) hC dX5_lengths_44 (by decide) ?_
      refine G_iadd (pc := 45) hC dX5_lengths_45 ?_
      refine G_iload_n (pc := 46) (i := 1) hC dX5_lengths_46 rfl rfl ?_
      refine G_isub (pc := 47) hC dX5_lengths_47 ?_
      refine G_aaldG (pc := 48) hC dX5_lengths_48 hw (fun x1 hw => ?_)
      refine G_iload (pc := 49) (i := 7) hC dX5_lengths_49 rfl ?_
      refine G_iload_n (pc := 51) (i := 3) hC dX5_lengths_51 rfl rfl ?_
      refine G_isub (pc := 52) hC dX5_lengths_52 ?_
      refine G_iald (pc := 53) hC dX5_lengths_53 hw (fun x2 hw => ?_)
      refine G_aload (pc := 54) (i := 5) hC dX5_lengths_54 rfl ?_
      refine G_iload (pc := 56) (i := 6) hC dX5_lengths_56 rfl ?_
      refine G_iload_n (pc := 58) (i := 1) hC dX5_lengths_58 rfl rfl ?_
      refine G_isub (pc := 59) hC dX5_lengths_59 ?_
      refine G_aaldG (pc := 60) hC dX5_lengths_60 hw (fun x3 hw => ?_)
      refine G_iload (pc := 61) (i := 7) hC dX5_lengths_61 rfl ?_
      refine G_iconst (pc := 63) (v := 1) hC dX5_lengths_63 (by decide) ?_
      refine G_iadd (pc := 64) hC dX5_lengths_64 ?_
      refine G_iload_n (pc := 65) (i := 3) hC dX5_lengths_65 rfl rfl ?_
      refine G_isub (pc := 66) hC dX5_lengths_66 ?_
      refine G_iald (pc := 67) hC dX5_lengths_67 hw (fun x4 hw => ?_)
      refine G_max (pc := 68) hC q1671 q281 q95 q282 rfl rfl (st_c cat_e (Nat.le_of_ble_eq_true rfl)) dX5_lengths_68 ?_
      refine G_istore (pc := 71) (i := 8) (lw := [some (va_rf (some a0)), some (.int p1), some (.int p2), some (.int p3), some (.int p4), some (va_rf v5), some (.int v6), some (.int v7), some (.int (if x2 < x4 then x4 else x2)), none]) hC dX5_lengths_71 (Nat.le_of_ble_eq_true rfl) rfl ?_
      refine G_aload_n (pc := 73) (i := 0) hC dX5_lengths_73 rfl rfl ?_
      refine G_getF (pc := 74) (ci := 4) (C := RX5) (T := TX5) (N := 4) (f := 0) hC rfl in_X5 (Nat.le_of_ble_eq_true rfl) q1641 (fun _ h => h) dX5_lengths_74 hw (fun x5 hw => ?_)
      refine G_iload (pc := 77) (i := 6) hC dX5_lengths_77 rfl ?_
      obtain ⟨b7, rfl, hb, hw⟩ := gThis_e hw
      refine G_callF (pc := 79) (n := 1) (x := ⟨"java/util/List", "get", "(I)Ljava/lang/Object;"⟩) (C := "java/util/ArrayList") (ci := 21) (T := TJ2) (N := 3) (b := b7) (As := [.int v6]) (rest := []) hC (J_L_get hJ hw) (lw_F q1673 q956 q958 q87 q960) (nw_in q955 rfl) (nw_in q954 rfl) (nw_in q959 rfl) (nw_in q957 rfl) (nw_in q259 rfl) rfl (rcv (C := RJ2) (T := TJ2) (N := 3) hC hb rfl) (by decide +kernel) (by decide) rfl rfl (st_c cat_e (Nat.le_of_ble_eq_true rfl)) dX5_lengths_79 (kRf fun x8 M6 hw => ?_)
      obtain ⟨hb, hw⟩ := hw
      refine G_castB (pc := 84) (nm := "java/lang/Comparable") hJ.1 hC q1674 (nw_in q1678 rfl) hb dX5_lengths_84 ?_
      refine G_aload_n (pc := 87) (i := 0) hC dX5_lengths_87 rfl rfl ?_
      refine G_getF (pc := 88) (ci := 4) (C := RX5) (T := TX5) (N := 4) (f := 1) hC rfl in_X5 (Nat.le_of_ble_eq_true rfl) q1642 (fun _ h => h) dX5_lengths_88 hw (fun x9 hw => ?_)
      refine G_iload (pc := 91) (i := 7) hC dX5_lengths_91 rfl ?_
      obtain ⟨b11, rfl, hb, hw⟩ := gThis_e hw
      refine G_callF (pc := 93) (n := 1) (x := ⟨"java/util/List", "get", "(I)Ljava/lang/Object;"⟩) (C := "java/util/ArrayList") (ci := 21) (T := TJ2) (N := 3) (b := b11) (As := [.int v7]) (rest := [va_rf x8]) hC (J_L_get hJ hw) (lw_F q1673 q956 q958 q87 q960) (nw_in q955 rfl) (nw_in q954 rfl) (nw_in q959 rfl) (nw_in q957 rfl) (nw_in q259 rfl) rfl (rcv (C := RJ2) (T := TJ2) (N := 3) hC hb rfl) (by decide +kernel) (by decide) rfl rfl (st_c (cat_r cat_e) (Nat.le_of_ble_eq_true rfl)) dX5_lengths_93 (kRf fun x12 M10 hw => ?_)
      obtain ⟨b14, rfl, hb, hw⟩ := gBx_e hw
      refine G_callFJ (pc := 98) (n := 1) (x := ⟨"java/lang/Comparable", "equals", "(Ljava/lang/Object;)Z"⟩) (J := "java/lang/Object") (C := "java/lang/Integer") (ci := 25) (T := TJ19) (N := 1) (b := b14) (As := [va_rf x12]) (rest := []) hC (J_B_eq hJ hw) (lw_meth q1489) (Or.inl q1676) (nw_in q1677 rfl) (nw_in q1457 rfl) (nw_in q1686 rfl) (by decide) (by decide) q1487 q1488 q106 (nw_in q1680 rfl) (nw_in q1679 rfl) (nw_in q1678 rfl) rfl (rcvB hJ.1 hC hb) (by decide +kernel) (by decide) rfl rfl (st_c cat_e (Nat.le_of_ble_eq_true rfl)) dX5_lengths_98 (kI fun x15 M13 hw => ?_)
      refine G_if_eq (pc := 103) (tgt := 127) hC dX5_lengths_103 (by decide) (fun hc => ?_) (fun hc => ?_)
      · replace hw := hw.1 hc
        refine G_iconst (pc := 127) (v := 0) hC dX5_lengths_127 (by decide) ?_
        exact g_X5_lengths_128 hJ hC hQ hin ih  v5 v6 v7 (if x2 < x4 then x4 else x2) (0 : Int32) M13 hw
      · replace hw := hw.2 hc
        refine G_iconst (pc := 106) (v := 1) hC dX5_lengths_106 (by decide) ?_
        refine G_aload (pc := 107) (i := 5) hC dX5_lengths_107 rfl ?_
        refine G_iload (pc := 109) (i := 6) hC dX5_lengths_109 rfl ?_
        refine G_iconst (pc := 111) (v := 1) hC dX5_lengths_111 (by decide) ?_
        refine G_iadd (pc := 112) hC dX5_lengths_112 ?_
        refine G_iload_n (pc := 113) (i := 1) hC dX5_lengths_113 rfl rfl ?_
        refine G_isub (pc := 114) hC dX5_lengths_114 ?_
        refine G_aaldG (pc := 115) hC dX5_lengths_115 hw (fun x16 hw => ?_)
        refine G_iload (pc := 116) (i := 7) hC dX5_lengths_116 rfl ?_
        refine G_iconst (pc := 118) (v := 1) hC dX5_lengths_118 (by decide) ?_
        refine G_iadd (pc := 119) hC dX5_lengths_119 ?_
        refine G_iload_n (pc := 120) (i := 3) hC dX5_lengths_120 rfl rfl ?_
        refine G_isub (pc := 121) hC dX5_lengths_121 ?_
        refine G_iald (pc := 122) hC dX5_lengths_122 hw (fun x17 hw => ?_)
        refine G_iadd (pc := 123) hC dX5_lengths_123 ?_
        refine G_goto (pc := 124) (tgt := 128) hC dX5_lengths_124 (by decide) ?_
        exact g_X5_lengths_128 hJ hC hQ hin ih  v5 v6 v7 (if x2 < x4 then x4 else x2) ((1 : Int32) + x17) M13 hw
theorem g_X5_lengths_22 {k : kT} {F : Nat} {a0 : Nat} {p1 : Int32} {p2 : Int32} {p3 : Int32} {p4 : Int32} {Q : Option Nat → hM → Prop} (hJ : JOK (kl k) (kg k)) (hC : CX k 10 cX5_lengths RX5 (some (.array (.array .int))) 41 2021) (hQ : isQ k (PR Q)) (hin : (kt k).name = "lengths") : ∀ (n : Nat) (v5 : Option Nat) (v6 : Int32) (M : hM), w_X5_lengths_22 (kg k) F a0 p1 p2 p3 p4 Q n v5 v6 M → GW k 10 M 22 [some (va_rf (some a0)), some (.int p1), some (.int p2), some (.int p3), some (.int p4), some (va_rf v5), some (.int v6), none, none, none] [] := by
  intro n
  induction n with
  | zero =>
    intro v5 v6 M hw
    exact hw.elim
  | succ n ih =>
    intro v5 v6 M hw
    refine G_iload (pc := 22) (i := 6) hC dX5_lengths_22 rfl ?_
    refine G_iload_n (pc := 24) (i := 1) hC dX5_lengths_24 rfl rfl ?_
    refine G_icmp_lt (pc := 25) (tgt := 161) hC dX5_lengths_25 (by decide) (fun hc => ?_) (fun hc => ?_)
    · replace hw := hw.1 hc
      refine G_aload (pc := 161) (i := 5) hC dX5_lengths_161 rfl ?_
      exact G_aret (pc := 163) hC (Or.inr ⟨_, rfl⟩) hQ dX5_lengths_163 hw
    · replace hw := hw.2 hc
      refine G_iload (pc := 28) (i := 4) hC dX5_lengths_28 rfl ?_
      refine G_iconst (pc := 30) (v := 1) hC dX5_lengths_30 (by decide) ?_
      refine G_isub (pc := 31) hC dX5_lengths_31 ?_
      refine G_istore (pc := 32) (i := 7) (lw := [some (va_rf (some a0)), some (.int p1), some (.int p2), some (.int p3), some (.int p4), some (va_rf v5), some (.int v6), some (.int (p4 - (1 : Int32))), none, none]) hC dX5_lengths_32 (Nat.le_of_ble_eq_true rfl) rfl ?_
      exact g_X5_lengths_34 hJ hC hQ hin ih _ v5 v6 (p4 - (1 : Int32)) M hw
theorem m_X5_lengths {l : Launch} {g : gT} {F : Nat} {a0 : Nat} {p1 : Int32} {p2 : Int32} {p3 : Int32} {p4 : Int32} {M : hM} {Q : Option Nat → hM → Prop} (hJ : JOK l g) (hw : w_X5_lengths g F a0 p1 p2 p3 p4 M Q) : MG l g yX5_lengths (ws_ yX5_lengths cX5_lengths 10 (some (.array (.array .int)))) 41 2021 [va_rf (some a0), .int p1, .int p2, .int p3, .int p4] M (PR Q) := by
  refine MG_of hJ.2.1 (by decide) (cat_r (cat_i (cat_i (cat_i (cat_i cat_e))))) (Nat.le_of_ble_eq_true rfl) (fun k hl hg hin hQ hC => ?_)
  subst hl hg
  show GW k 10 M 0 [some (va_rf (some a0)), some (.int p1), some (.int p2), some (.int p3), some (.int p4), none, none, none, none, none] []
  refine G_iload_n (pc := 0) (i := 2) hC dX5_lengths_0 rfl rfl ?_
  refine G_iload_n (pc := 1) (i := 1) hC dX5_lengths_1 rfl rfl ?_
  refine G_isub (pc := 2) hC dX5_lengths_2 ?_
  refine G_iconst (pc := 3) (v := 1) hC dX5_lengths_3 (by decide) ?_
  refine G_iadd (pc := 4) hC dX5_lengths_4 ?_
  refine G_iload (pc := 5) (i := 4) hC dX5_lengths_5 rfl ?_
  refine G_iload_n (pc := 7) (i := 3) hC dX5_lengths_7 rfl rfl ?_
  refine G_isub (pc := 8) hC dX5_lengths_8 ?_
  refine G_iconst (pc := 9) (v := 1) hC dX5_lengths_9 (by decide) ?_
  refine G_iadd (pc := 10) hC dX5_lengths_10 ?_
  refine G_multi (pc := 11) hJ.1 hC q1669 q1712 dX5_lengths_11 hw (fun q1 M2 hw => ?_)
  refine G_astore (pc := 15) (i := 5) (lw := [some (va_rf (some a0)), some (.int p1), some (.int p2), some (.int p3), some (.int p4), some (va_rf (some q1)), none, none, none, none]) hC dX5_lengths_15 (Nat.le_of_ble_eq_true rfl) rfl ?_
  refine G_iload_n (pc := 17) (i := 2) hC dX5_lengths_17 rfl rfl ?_
  refine G_iconst (pc := 18) (v := 1) hC dX5_lengths_18 (by decide) ?_
  refine G_isub (pc := 19) hC dX5_lengths_19 ?_
  refine G_istore (pc := 20) (i := 6) (lw := [some (va_rf (some a0)), some (.int p1), some (.int p2), some (.int p3), some (.int p4), some (va_rf (some q1)), some (.int (p2 - (1 : Int32))), none, none, none]) hC dX5_lengths_20 (Nat.le_of_ble_eq_true rfl) rfl ?_
  exact g_X5_lengths_22 hJ hC hQ hin _ (some q1) (p2 - (1 : Int32)) M2 hw
def w_X5_firstLike_3 (g : gT) (F : Nat) (a0 : Nat) (p1 : Option Nat) (p2 : Int32) (p3 : Int32) (Q : Int32 → hM → Prop) : Nat → Int32 → hM → Prop
  | 0, _, _ => False
  | n + 1, v4, M => ((p3 ≤ v4 → Q (-1 : Int32) M) ∧ (¬ (p3 ≤ v4) → gF M (some a0) 4 1 fun x1 => gThis M x1 21 fun b3 => L_get g b3 v4 M (fun x4 M2 => ckB g M2 x4 (gBx g M2 x4 fun b6 => B_eq g b6 p1 M2 (fun x7 M5 => ((x7 = 0 → w_X5_firstLike_3 g F a0 p1 p2 p3 Q n (v4 + (1 : Int32)) M5) ∧ (¬ (x7 = 0) → Q v4 M5)))))))
def w_X5_firstLike (g : gT) (F : Nat) (a0 : Nat) (p1 : Option Nat) (p2 : Int32) (p3 : Int32) (M : hM) (Q : Int32 → hM → Prop) : Prop :=
  w_X5_firstLike_3 g F a0 p1 p2 p3 Q F p2 M
theorem g_X5_firstLike_3 {k : kT} {F : Nat} {a0 : Nat} {p1 : Option Nat} {p2 : Int32} {p3 : Int32} {Q : Int32 → hM → Prop} (hJ : JOK (kl k) (kg k)) (hC : CX k 5 cX5_firstLike RX5 (some .int) 41 2021) (hQ : isQ k (PI Q)) (hin : (kt k).name = "firstLike") : ∀ (n : Nat) (v4 : Int32) (M : hM), w_X5_firstLike_3 (kg k) F a0 p1 p2 p3 Q n v4 M → GW k 5 M 3 [some (va_rf (some a0)), some (va_rf p1), some (.int p2), some (.int p3), some (.int v4)] [] := by
  intro n
  induction n with
  | zero =>
    intro v4 M hw
    exact hw.elim
  | succ n ih =>
    intro v4 M hw
    refine G_iload (pc := 3) (i := 4) hC dX5_firstLike_3 rfl ?_
    refine G_iload_n (pc := 5) (i := 3) hC dX5_firstLike_5 rfl rfl ?_
    refine G_icmp_ge (pc := 6) (tgt := 41) hC dX5_firstLike_6 (by decide) (fun hc => ?_) (fun hc => ?_)
    · replace hw := hw.1 hc
      refine G_iconst (pc := 41) (v := -1) hC dX5_firstLike_41 (by decide) ?_
      exact G_iret (pc := 42) hC rfl hQ dX5_firstLike_42 hw
    · replace hw := hw.2 hc
      refine G_aload_n (pc := 9) (i := 0) hC dX5_firstLike_9 rfl rfl ?_
      refine G_getF (pc := 10) (ci := 4) (C := RX5) (T := TX5) (N := 4) (f := 1) hC rfl in_X5 (Nat.le_of_ble_eq_true rfl) q1642 (fun _ h => h) dX5_firstLike_10 hw (fun x1 hw => ?_)
      refine G_iload (pc := 13) (i := 4) hC dX5_firstLike_13 rfl ?_
      obtain ⟨b3, rfl, hb, hw⟩ := gThis_e hw
      refine G_callF (pc := 15) (n := 1) (x := ⟨"java/util/List", "get", "(I)Ljava/lang/Object;"⟩) (C := "java/util/ArrayList") (ci := 21) (T := TJ2) (N := 3) (b := b3) (As := [.int v4]) (rest := []) hC (J_L_get hJ hw) (lw_F q1673 q956 q958 q87 q960) (nw_in q955 rfl) (nw_in q954 rfl) (nw_in q959 rfl) (nw_in q957 rfl) (nw_in q259 rfl) rfl (rcv (C := RJ2) (T := TJ2) (N := 3) hC hb rfl) (by decide +kernel) (by decide) rfl rfl (st_c cat_e (Nat.le_of_ble_eq_true rfl)) dX5_firstLike_15 (kRf fun x4 M2 hw => ?_)
      obtain ⟨hb, hw⟩ := hw
      refine G_castB (pc := 20) (nm := "java/lang/Comparable") hJ.1 hC q1674 (nw_in q1678 rfl) hb dX5_firstLike_20 ?_
      refine G_aload_n (pc := 23) (i := 1) hC dX5_firstLike_23 rfl rfl ?_
      obtain ⟨b6, rfl, hb, hw⟩ := gBx_e hw
      refine G_callFJ (pc := 24) (n := 1) (x := ⟨"java/lang/Comparable", "equals", "(Ljava/lang/Object;)Z"⟩) (J := "java/lang/Object") (C := "java/lang/Integer") (ci := 25) (T := TJ19) (N := 1) (b := b6) (As := [va_rf p1]) (rest := []) hC (J_B_eq hJ hw) (lw_meth q1489) (Or.inl q1692) (nw_in q1677 rfl) (nw_in q1457 rfl) (nw_in q1686 rfl) (by decide) (by decide) q1487 q1488 q106 (nw_in q1680 rfl) (nw_in q1679 rfl) (nw_in q1678 rfl) rfl (rcvB hJ.1 hC hb) (by decide +kernel) (by decide) rfl rfl (st_c cat_e (Nat.le_of_ble_eq_true rfl)) dX5_firstLike_24 (kI fun x7 M5 hw => ?_)
      refine G_if_eq (pc := 29) (tgt := 35) hC dX5_firstLike_29 (by decide) (fun hc => ?_) (fun hc => ?_)
      · replace hw := hw.1 hc
        refine G_iinc (pc := 35) (i := 4) (v := (v4 + (1 : Int32))) (lw := [some (va_rf (some a0)), some (va_rf p1), some (.int p2), some (.int p3), some (.int (v4 + (1 : Int32)))]) hC dX5_firstLike_35 rfl (Nat.le_of_ble_eq_true rfl) rfl rfl ?_
        refine G_goto (pc := 38) (tgt := 3) hC dX5_firstLike_38 (by decide) ?_
        exact ih (v4 + (1 : Int32)) M5 hw
      · replace hw := hw.2 hc
        refine G_iload (pc := 32) (i := 4) hC dX5_firstLike_32 rfl ?_
        exact G_iret (pc := 34) hC rfl hQ dX5_firstLike_34 hw
theorem m_X5_firstLike {l : Launch} {g : gT} {F : Nat} {a0 : Nat} {p1 : Option Nat} {p2 : Int32} {p3 : Int32} {M : hM} {Q : Int32 → hM → Prop} (hJ : JOK l g) (hw : w_X5_firstLike g F a0 p1 p2 p3 M Q) : MG l g yX5_firstLike (ws_ yX5_firstLike cX5_firstLike 5 (some .int)) 41 2021 [va_rf (some a0), va_rf p1, .int p2, .int p3] M (PI Q) := by
  refine MG_of hJ.2.1 (by decide) (cat_r (cat_r (cat_i (cat_i cat_e)))) (Nat.le_of_ble_eq_true rfl) (fun k hl hg hin hQ hC => ?_)
  subst hl hg
  show GW k 5 M 0 [some (va_rf (some a0)), some (va_rf p1), some (.int p2), some (.int p3), none] []
  refine G_iload_n (pc := 0) (i := 2) hC dX5_firstLike_0 rfl rfl ?_
  refine G_istore (pc := 1) (i := 4) (lw := [some (va_rf (some a0)), some (va_rf p1), some (.int p2), some (.int p3), some (.int p2)]) hC dX5_firstLike_1 (Nat.le_of_ble_eq_true rfl) rfl ?_
  exact g_X5_firstLike_3 hJ hC hQ hin _ p2 M hw
def w_X6_init (g : gT) (F : Nat) (a0 : Nat) (p1 : Int32) (p2 : Int32) (M : hM) (Q : hM → Prop) : Prop :=
  pV M (some a0) 5 0 (.int p1) fun M1 => pV M1 (some a0) 5 1 (.int p2) fun M2 => Q M2
theorem m_X6_init {l : Launch} {g : gT} {F : Nat} {a0 : Nat} {p1 : Int32} {p2 : Int32} {M : hM} {Q : hM → Prop} (hJ : JOK l g) (hw : w_X6_init g F a0 p1 p2 M Q) : MG l g yX6_init (ws_ yX6_init cX6_init 3 none) 1 20 [va_rf (some a0), .int p1, .int p2] M (PU Q) := by
  refine MG_of hJ.2.1 (by decide) (cat_r (cat_i (cat_i cat_e))) (Nat.le_of_ble_eq_true rfl) (fun k hl hg hin hQ hC => ?_)
  subst hl hg
  show GW k 3 M 0 [some (va_rf (some a0)), some (.int p1), some (.int p2)] []
  refine G_aload_n (pc := 0) (i := 0) hC dX6_init_0 rfl rfl ?_
  refine G_objInit (pc := 1) hC q1698 q158 q159 rfl rfl (st_c cat_e (Nat.le_of_ble_eq_true rfl)) dX6_init_1 ?_
  refine G_aload_n (pc := 4) (i := 0) hC dX6_init_4 rfl rfl ?_
  refine G_iload_n (pc := 5) (i := 1) hC dX6_init_5 rfl rfl ?_
  refine G_putF (pc := 6) (ci := 5) (C := RX6) (T := TX6) (N := 2) (f := 0) tyX6 hC rfl in_X6 tyX6_ok nmX6 (Nat.le_of_ble_eq_true rfl) q1699 (fun _ h => h) rfl hin rfl rfl rfl dX6_init_6 hw (fun M1 hw => ?_)
  refine G_aload_n (pc := 9) (i := 0) hC dX6_init_9 rfl rfl ?_
  refine G_iload_n (pc := 10) (i := 2) hC dX6_init_10 rfl rfl ?_
  refine G_putF (pc := 11) (ci := 5) (C := RX6) (T := TX6) (N := 2) (f := 1) tyX6 hC rfl in_X6 tyX6_ok nmX6 (Nat.le_of_ble_eq_true rfl) q1703 (fun _ h => h) rfl hin rfl rfl rfl dX6_init_11 hw (fun M2 hw => ?_)
  exact G_ret (pc := 14) hC hQ dX6_init_14 hw
theorem hd_J2_add : yJ2_add.cls = "java/util/ArrayList" ∧ yJ2_add.cls ≠ "java/lang/invoke/MethodHandle" ∧ yJ2_add.cls ≠ "java/lang/invoke/VarHandle" ∧ (parseMethodDescriptor yJ2_add.desc).map (fun d => d.parameters.length) = some 1 := by decide +kernel
theorem hd_X5_firstLike : yX5_firstLike.cls = "MergeWorkbench$Aligner" ∧ yX5_firstLike.cls ≠ "java/lang/invoke/MethodHandle" ∧ yX5_firstLike.cls ≠ "java/lang/invoke/VarHandle" ∧ (parseMethodDescriptor yX5_firstLike.desc).map (fun d => d.parameters.length) = some 3 := by decide +kernel
theorem hd_X5_lengths : yX5_lengths.cls = "MergeWorkbench$Aligner" ∧ yX5_lengths.cls ≠ "java/lang/invoke/MethodHandle" ∧ yX5_lengths.cls ≠ "java/lang/invoke/VarHandle" ∧ (parseMethodDescriptor yX5_lengths.desc).map (fun d => d.parameters.length) = some 4 := by decide +kernel
theorem hd_X6_init : yX6_init.cls = "MergeWorkbench$Match" ∧ yX6_init.cls ≠ "java/lang/invoke/MethodHandle" ∧ yX6_init.cls ≠ "java/lang/invoke/VarHandle" ∧ (parseMethodDescriptor yX6_init.desc).map (fun d => d.parameters.length) = some 2 := by decide +kernel
def w_X5_align_121 (g : gT) (F : Nat) (a0 : Nat) (p1 : Int32) (p2 : Int32) (p3 : Int32) (p4 : Int32) (Q : hM → Prop) (K17 : (Option Nat) → Int32 → Int32 → hM → Prop) (v5 : Option Nat) (v6 : Int32) (v7 : Int32) (M : hM) : Prop :=
  K17 v5 (v6 + (1 : Int32)) v7 M
def w_X5_align_17 (g : gT) (F : Nat) (a0 : Nat) (p1 : Int32) (p2 : Int32) (p3 : Int32) (p4 : Int32) (Q : hM → Prop) : Nat → (Option Nat) → Int32 → Int32 → hM → Prop
  | 0, _, _, _, _ => False
  | n + 1, v5, v6, v7, M => aG M v5 (v6 - p1) fun x1 => aI M x1 0 (v7 - p3) fun x2 => ((x2 ≤ 0 → Q M) ∧ (¬ (x2 ≤ 0) → gF M (some a0) 4 0 fun x3 => gThis M x3 21 fun b5 => L_get g b5 v6 M (fun x6 M4 => ckB g M4 x6 ((isC M4 a0 4 ∧ w_X5_firstLike g F a0 x6 v7 p4 M4 (fun x8 M7 => ((x8 < 0 → w_X5_align_121 g F a0 p1 p2 p3 p4 Q (fun v5 v6 v7 M => w_X5_align_17 g F a0 p1 p2 p3 p4 Q n v5 v6 v7 M) v5 v6 v7 M7) ∧ (¬ (x8 < 0) → aG M7 v5 ((v6 + (1 : Int32)) - p1) fun x9 => aI M7 x9 0 ((x8 + (1 : Int32)) - p3) fun x10 => aG M7 v5 (v6 - p1) fun x11 => aI M7 x11 0 (v7 - p3) fun x12 => ((¬ ((1 : Int32) + x10) = x12 → w_X5_align_121 g F a0 p1 p2 p3 p4 Q (fun v5 v6 v7 M => w_X5_align_17 g F a0 p1 p2 p3 p4 Q n v5 v6 v7 M) v5 v6 v7 M7) ∧ (((1 : Int32) + x10) = x12 → gF M7 (some a0) 4 2 fun x13 => nW M7 5 fsX6 fun q14 M15 => (isC M15 q14 5 ∧ w_X6_init g F q14 v6 x8 M15 (fun M16 => gThis M16 x13 21 fun b18 => L_add g b18 (some q14) M16 (fun x19 M17 => w_X5_align_121 g F a0 p1 p2 p3 p4 Q (fun v5 v6 v7 M => w_X5_align_17 g F a0 p1 p2 p3 p4 Q n v5 v6 v7 M) v5 v6 (x8 + (1 : Int32)) M17)))))))))))))
def w_X5_align (g : gT) (F : Nat) (a0 : Nat) (p1 : Int32) (p2 : Int32) (p3 : Int32) (p4 : Int32) (M : hM) (Q : hM → Prop) : Prop :=
  (isC M a0 4 ∧ w_X5_lengths g F a0 p1 p2 p3 p4 M (fun x2 M1 => w_X5_align_17 g F a0 p1 p2 p3 p4 Q F x2 p1 p3 M1))
theorem g_X5_align_121 {k : kT} {F : Nat} {a0 : Nat} {p1 : Int32} {p2 : Int32} {p3 : Int32} {p4 : Int32} {Q : hM → Prop} {K17 : (Option Nat) → Int32 → Int32 → hM → Prop} (hJ : JOK (kl k) (kg k)) (hC : CX k 9 cX5_align RX5 none 42 2050) (hQ : isQ k (PU Q)) (hin : (kt k).name = "align") (hK17 : ∀ (v5 : Option Nat) (v6 : Int32) (v7 : Int32) (M : hM), K17 v5 v6 v7 M → GW k 9 M 17 [some (va_rf (some a0)), some (.int p1), some (.int p2), some (.int p3), some (.int p4), some (va_rf v5), some (.int v6), some (.int v7), none] []) : ∀ (v5 : Option Nat) (v6 : Int32) (v7 : Int32) (M : hM), w_X5_align_121 (kg k) F a0 p1 p2 p3 p4 Q K17 v5 v6 v7 M → GW k 9 M 121 [some (va_rf (some a0)), some (.int p1), some (.int p2), some (.int p3), some (.int p4), some (va_rf v5), some (.int v6), some (.int v7), none] [] := by
  intro v5 v6 v7 M hw
  refine G_iinc (pc := 121) (i := 6) (v := (v6 + (1 : Int32))) (lw := [some (va_rf (some a0)), some (.int p1), some (.int p2), some (.int p3), some (.int p4), some (va_rf v5), some (.int (v6 + (1 : Int32))), some (.int v7), none]) hC dX5_align_121 rfl (Nat.le_of_ble_eq_true rfl) rfl rfl ?_
  refine G_goto (pc := 124) (tgt := 17) hC dX5_align_124 (by decide) ?_
  exact hK17 v5 (v6 + (1 : Int32)) v7 M hw
theorem g_X5_align_17 {k : kT} {F : Nat} {a0 : Nat} {p1 : Int32} {p2 : Int32} {p3 : Int32} {p4 : Int32} {Q : hM → Prop} (hJ : JOK (kl k) (kg k)) (hC : CX k 9 cX5_align RX5 none 42 2050) (hQ : isQ k (PU Q)) (hin : (kt k).name = "align") : ∀ (n : Nat) (v5 : Option Nat) (v6 : Int32) (v7 : Int32) (M : hM), w_X5_align_17 (kg k) F a0 p1 p2 p3 p4 Q n v5 v6 v7 M → GW k 9 M 17 [some (va_rf (some a0)), some (.int p1), some (.int p2), some (.int p3), some (.int p4), some (va_rf v5), some (.int v6), some (.int v7), none] [] := by
  intro n
  induction n with
  | zero =>
    intro v5 v6 v7 M hw
    exact hw.elim
  | succ n ih =>
    intro v5 v6 v7 M hw
    refine G_aload (pc := 17) (i := 5) hC dX5_align_17 rfl ?_
    refine G_iload (pc := 19) (i := 6) hC dX5_align_19 rfl ?_
    refine G_iload_n (pc := 21) (i := 1) hC dX5_align_21 rfl rfl ?_
    refine G_isub (pc := 22) hC dX5_align_22 ?_
    refine G_aaldG (pc := 23) hC dX5_align_23 hw (fun x1 hw => ?_)
    refine G_iload (pc := 24) (i := 7) hC dX5_align_24 rfl ?_
    refine G_iload_n (pc := 26) (i := 3) hC dX5_align_26 rfl rfl ?_
    refine G_isub (pc := 27) hC dX5_align_27 ?_
    refine G_iald (pc := 28) hC dX5_align_28 hw (fun x2 hw => ?_)
    refine G_if_le (pc := 29) (tgt := 127) hC dX5_align_29 (by decide) (fun hc => ?_) (fun hc => ?_)
    · replace hw := hw.1 hc
      exact G_ret (pc := 127) hC hQ dX5_align_127 hw
    · replace hw := hw.2 hc
      refine G_aload_n (pc := 32) (i := 0) hC dX5_align_32 rfl rfl ?_
      refine G_aload_n (pc := 33) (i := 0) hC dX5_align_33 rfl rfl ?_
      refine G_getF (pc := 34) (ci := 4) (C := RX5) (T := TX5) (N := 4) (f := 0) hC rfl in_X5 (Nat.le_of_ble_eq_true rfl) q1641 (fun _ h => h) dX5_align_34 hw (fun x3 hw => ?_)
      refine G_iload (pc := 37) (i := 6) hC dX5_align_37 rfl ?_
      obtain ⟨b5, rfl, hb, hw⟩ := gThis_e hw
      refine G_callF (pc := 39) (n := 1) (x := ⟨"java/util/List", "get", "(I)Ljava/lang/Object;"⟩) (C := "java/util/ArrayList") (ci := 21) (T := TJ2) (N := 3) (b := b5) (As := [.int v6]) (rest := [va_rf (some a0)]) hC (J_L_get hJ hw) (lw_F q1673 q956 q958 q87 q960) (nw_in q955 rfl) (nw_in q954 rfl) (nw_in q959 rfl) (nw_in q957 rfl) (nw_in q259 rfl) rfl (rcv (C := RJ2) (T := TJ2) (N := 3) hC hb rfl) (by decide +kernel) (by decide) rfl rfl (st_c (cat_r cat_e) (Nat.le_of_ble_eq_true rfl)) dX5_align_39 (kRf fun x6 M4 hw => ?_)
      obtain ⟨hb, hw⟩ := hw
      refine G_castB (pc := 44) (nm := "java/lang/Comparable") hJ.1 hC q1674 (nw_in q1678 rfl) hb dX5_align_44 ?_
      refine G_iload (pc := 47) (i := 7) hC dX5_align_47 rfl ?_
      refine G_iload (pc := 49) (i := 4) hC dX5_align_49 rfl ?_
      obtain ⟨hb, hw⟩ := hw
      refine G_callV (pc := 51) (n := 3) (C := "MergeWorkbench$Aligner") (b := a0) (As := [va_rf x6, .int v7, .int p4]) (rest := []) hC (m_X5_firstLike hJ hw) (lw_V q1687 q1689 qs19 q123 q1690) hd_X5_firstLike (by decide) (rcv (C := RX5) (T := TX5) (N := 4) hC hb rfl) rfl rfl (st_c cat_e (Nat.le_of_ble_eq_true rfl)) dX5_align_51 (kI fun x8 M7 hw => ?_)
      refine G_istore (pc := 54) (i := 8) (lw := [some (va_rf (some a0)), some (.int p1), some (.int p2), some (.int p3), some (.int p4), some (va_rf v5), some (.int v6), some (.int v7), some (.int x8)]) hC dX5_align_54 (Nat.le_of_ble_eq_true rfl) rfl ?_
      refine G_iload (pc := 56) (i := 8) hC dX5_align_56 rfl ?_
      refine G_if_lt (pc := 58) (tgt := 121) hC dX5_align_58 (by decide) (fun hc => ?_) (fun hc => ?_)
      · replace hw := hw.1 hc
        refine G_loc (lv' := [some (va_rf (some a0)), some (.int p1), some (.int p2), some (.int p3), some (.int p4), some (va_rf v5), some (.int v6), some (.int v7), none]) ⟨Or.inr rfl, Or.inr rfl, Or.inr rfl, Or.inr rfl, Or.inr rfl, Or.inr rfl, Or.inr rfl, Or.inr rfl, Or.inl rfl, trivial⟩ ?_
        exact g_X5_align_121 hJ hC hQ hin ih  v5 v6 v7 M7 hw
      · replace hw := hw.2 hc
        refine G_iconst (pc := 61) (v := 1) hC dX5_align_61 (by decide) ?_
        refine G_aload (pc := 62) (i := 5) hC dX5_align_62 rfl ?_
        refine G_iload (pc := 64) (i := 6) hC dX5_align_64 rfl ?_
        refine G_iconst (pc := 66) (v := 1) hC dX5_align_66 (by decide) ?_
        refine G_iadd (pc := 67) hC dX5_align_67 ?_
        refine G_iload_n (pc := 68) (i := 1) hC dX5_align_68 rfl rfl ?_
        refine G_isub (pc := 69) hC dX5_align_69 ?_
        refine G_aaldG (pc := 70) hC dX5_align_70 hw (fun x9 hw => ?_)
        refine G_iload (pc := 71) (i := 8) hC dX5_align_71 rfl ?_
        refine G_iconst (pc := 73) (v := 1) hC dX5_align_73 (by decide) ?_
        refine G_iadd (pc := 74) hC dX5_align_74 ?_
        refine G_iload_n (pc := 75) (i := 3) hC dX5_align_75 rfl rfl ?_
        refine G_isub (pc := 76) hC dX5_align_76 ?_
        refine G_iald (pc := 77) hC dX5_align_77 hw (fun x10 hw => ?_)
        refine G_iadd (pc := 78) hC dX5_align_78 ?_
        refine G_aload (pc := 79) (i := 5) hC dX5_align_79 rfl ?_
        refine G_iload (pc := 81) (i := 6) hC dX5_align_81 rfl ?_
        refine G_iload_n (pc := 83) (i := 1) hC dX5_align_83 rfl rfl ?_
        refine G_isub (pc := 84) hC dX5_align_84 ?_
        refine G_aaldG (pc := 85) hC dX5_align_85 hw (fun x11 hw => ?_)
        refine G_iload (pc := 86) (i := 7) hC dX5_align_86 rfl ?_
        refine G_iload_n (pc := 88) (i := 3) hC dX5_align_88 rfl rfl ?_
        refine G_isub (pc := 89) hC dX5_align_89 ?_
        refine G_iald (pc := 90) hC dX5_align_90 hw (fun x12 hw => ?_)
        refine G_icmp_ne (pc := 91) (tgt := 121) hC dX5_align_91 (by decide) (fun hc => ?_) (fun hc => ?_)
        · replace hw := hw.1 hc
          refine G_loc (lv' := [some (va_rf (some a0)), some (.int p1), some (.int p2), some (.int p3), some (.int p4), some (va_rf v5), some (.int v6), some (.int v7), none]) ⟨Or.inr rfl, Or.inr rfl, Or.inr rfl, Or.inr rfl, Or.inr rfl, Or.inr rfl, Or.inr rfl, Or.inr rfl, Or.inl rfl, trivial⟩ ?_
          exact g_X5_align_121 hJ hC hQ hin ih  v5 v6 v7 M7 hw
        · replace hw := hw.2 hc
          refine G_aload_n (pc := 94) (i := 0) hC dX5_align_94 rfl rfl ?_
          refine G_getF (pc := 95) (ci := 4) (C := RX5) (T := TX5) (N := 4) (f := 2) hC rfl in_X5 (Nat.le_of_ble_eq_true rfl) q1643 (fun _ h => h) dX5_align_95 hw (fun x13 hw => ?_)
          refine G_new (pc := 98) (ci := 5) (C := RX6) (T := TX6) (N := 2) (fs := fsX6) tyX6 hC rfl in_X6 tyX6_ok q1693 q1694 q124 dfX6 rfl dX5_align_98 hw (fun q14 M15 hw => ?_)
          refine G_dup (pc := 101) hC dX5_align_101 (rf_cat _) ?_
          refine G_iload (pc := 102) (i := 6) hC dX5_align_102 rfl ?_
          refine G_iload (pc := 104) (i := 8) hC dX5_align_104 rfl ?_
          obtain ⟨hb, hw⟩ := hw
          refine G_callI (pc := 106) (n := 2) (b := q14) (As := [.int v6, .int x8]) (rest := [va_rf (some q14), va_rf x13]) hC (m_X6_init hJ hw) (lw_meth q1697) q124 q1695 q1696 rfl hd_X6_init.2 (by decide) rfl rfl (st_c (cat_r (cat_r cat_e)) (Nat.le_of_ble_eq_true rfl)) dX5_align_106 (kU fun M16 hw => ?_)
          obtain ⟨b18, rfl, hb, hw⟩ := gThis_e hw
          refine G_callF (pc := 109) (n := 1) (x := ⟨"java/util/List", "add", "(Ljava/lang/Object;)Z"⟩) (C := "java/util/ArrayList") (ci := 21) (T := TJ2) (N := 3) (b := b18) (As := [va_rf (some q14)]) (rest := []) hC (J_L_add hJ hw) (lw_F q1714 q260 q262 q87 q264) (nw_in q258 rfl) (nw_in q257 rfl) (nw_in q263 rfl) (nw_in q261 rfl) (nw_in q259 rfl) rfl (rcv (C := RJ2) (T := TJ2) (N := 3) hC hb rfl) (by decide +kernel) (by decide) rfl rfl (st_c cat_e (Nat.le_of_ble_eq_true rfl)) dX5_align_109 (kI fun x19 M17 hw => ?_)
          refine G_pop (pc := 114) hC dX5_align_114 rfl ?_
          refine G_iload (pc := 115) (i := 8) hC dX5_align_115 rfl ?_
          refine G_iconst (pc := 117) (v := 1) hC dX5_align_117 (by decide) ?_
          refine G_iadd (pc := 118) hC dX5_align_118 ?_
          refine G_istore (pc := 119) (i := 7) (lw := [some (va_rf (some a0)), some (.int p1), some (.int p2), some (.int p3), some (.int p4), some (va_rf v5), some (.int v6), some (.int (x8 + (1 : Int32))), some (.int x8)]) hC dX5_align_119 (Nat.le_of_ble_eq_true rfl) rfl ?_
          refine G_loc (lv' := [some (va_rf (some a0)), some (.int p1), some (.int p2), some (.int p3), some (.int p4), some (va_rf v5), some (.int v6), some (.int (x8 + (1 : Int32))), none]) ⟨Or.inr rfl, Or.inr rfl, Or.inr rfl, Or.inr rfl, Or.inr rfl, Or.inr rfl, Or.inr rfl, Or.inr rfl, Or.inl rfl, trivial⟩ ?_
          exact g_X5_align_121 hJ hC hQ hin ih  v5 v6 (x8 + (1 : Int32)) M17 hw
theorem m_X5_align {l : Launch} {g : gT} {F : Nat} {a0 : Nat} {p1 : Int32} {p2 : Int32} {p3 : Int32} {p4 : Int32} {M : hM} {Q : hM → Prop} (hJ : JOK l g) (hw : w_X5_align g F a0 p1 p2 p3 p4 M Q) : MG l g yX5_align (ws_ yX5_align cX5_align 9 none) 42 2050 [va_rf (some a0), .int p1, .int p2, .int p3, .int p4] M (PU Q) := by
  refine MG_of hJ.2.1 (by decide) (cat_r (cat_i (cat_i (cat_i (cat_i cat_e))))) (Nat.le_of_ble_eq_true rfl) (fun k hl hg hin hQ hC => ?_)
  subst hl hg
  show GW k 9 M 0 [some (va_rf (some a0)), some (.int p1), some (.int p2), some (.int p3), some (.int p4), none, none, none, none] []
  refine G_aload_n (pc := 0) (i := 0) hC dX5_align_0 rfl rfl ?_
  refine G_iload_n (pc := 1) (i := 1) hC dX5_align_1 rfl rfl ?_
  refine G_iload_n (pc := 2) (i := 2) hC dX5_align_2 rfl rfl ?_
  refine G_iload_n (pc := 3) (i := 3) hC dX5_align_3 rfl rfl ?_
  refine G_iload (pc := 4) (i := 4) hC dX5_align_4 rfl ?_
  obtain ⟨hb, hw⟩ := hw
  refine G_callV (pc := 6) (n := 4) (C := "MergeWorkbench$Aligner") (b := a0) (As := [.int p1, .int p2, .int p3, .int p4]) (rest := []) hC (m_X5_lengths hJ hw) (lw_V q1665 q1667 qs18 q123 q1668) hd_X5_lengths (by decide) (rcv (C := RX5) (T := TX5) (N := 4) hC hb rfl) rfl rfl (st_c cat_e (Nat.le_of_ble_eq_true rfl)) dX5_align_6 (kRf fun x2 M1 hw => ?_)
  refine G_astore (pc := 9) (i := 5) (lw := [some (va_rf (some a0)), some (.int p1), some (.int p2), some (.int p3), some (.int p4), some (va_rf x2), none, none, none]) hC dX5_align_9 (Nat.le_of_ble_eq_true rfl) rfl ?_
  refine G_iload_n (pc := 11) (i := 1) hC dX5_align_11 rfl rfl ?_
  refine G_istore (pc := 12) (i := 6) (lw := [some (va_rf (some a0)), some (.int p1), some (.int p2), some (.int p3), some (.int p4), some (va_rf x2), some (.int p1), none, none]) hC dX5_align_12 (Nat.le_of_ble_eq_true rfl) rfl ?_
  refine G_iload_n (pc := 14) (i := 3) hC dX5_align_14 rfl rfl ?_
  refine G_istore (pc := 15) (i := 7) (lw := [some (va_rf (some a0)), some (.int p1), some (.int p2), some (.int p3), some (.int p4), some (va_rf x2), some (.int p1), some (.int p3), none]) hC dX5_align_15 (Nat.le_of_ble_eq_true rfl) rfl ?_
  exact g_X5_align_17 hJ hC hQ hin _ x2 p1 p3 M1 hw
theorem hd_J2_size : yJ2_size.cls = "java/util/ArrayList" ∧ yJ2_size.cls ≠ "java/lang/invoke/MethodHandle" ∧ yJ2_size.cls ≠ "java/lang/invoke/VarHandle" ∧ (parseMethodDescriptor yJ2_size.desc).map (fun d => d.parameters.length) = some 0 := by decide +kernel
theorem hd_X5_align : yX5_align.cls = "MergeWorkbench$Aligner" ∧ yX5_align.cls ≠ "java/lang/invoke/MethodHandle" ∧ yX5_align.cls ≠ "java/lang/invoke/VarHandle" ∧ (parseMethodDescriptor yX5_align.desc).map (fun d => d.parameters.length) = some 4 := by decide +kernel
def w_X5_plain (g : gT) (F : Nat) (a0 : Nat) (M : hM) (Q : Option Nat → hM → Prop) : Prop :=
  gF M (some a0) 4 0 fun x1 => gThis M x1 21 fun b3 => L_size g b3  M (fun x4 M2 => gF M2 (some a0) 4 1 fun x5 => gThis M2 x5 21 fun b7 => L_size g b7  M2 (fun x8 M6 => (isC M6 a0 4 ∧ w_X5_align g F a0 (0 : Int32) x4 (0 : Int32) x8 M6 (fun M9 => gF M9 (some a0) 4 2 fun x10 => Q x10 M9))))
theorem m_X5_plain {l : Launch} {g : gT} {F : Nat} {a0 : Nat} {M : hM} {Q : Option Nat → hM → Prop} (hJ : JOK l g) (hw : w_X5_plain g F a0 M Q) : MG l g yX5_plain (ws_ yX5_plain cX5_plain 1 (some (.object "java/util/List"))) 43 2078 [va_rf (some a0)] M (PR Q) := by
  refine MG_of hJ.2.1 (by decide) (cat_r cat_e) (Nat.le_of_ble_eq_true rfl) (fun k hl hg hin hQ hC => ?_)
  subst hl hg
  show GW k 1 M 0 [some (va_rf (some a0))] []
  refine G_aload_n (pc := 0) (i := 0) hC dX5_plain_0 rfl rfl ?_
  refine G_iconst (pc := 1) (v := 0) hC dX5_plain_1 (by decide) ?_
  refine G_aload_n (pc := 2) (i := 0) hC dX5_plain_2 rfl rfl ?_
  refine G_getF (pc := 3) (ci := 4) (C := RX5) (T := TX5) (N := 4) (f := 0) hC rfl in_X5 (Nat.le_of_ble_eq_true rfl) q1641 (fun _ h => h) dX5_plain_3 hw (fun x1 hw => ?_)
  obtain ⟨b3, rfl, hb, hw⟩ := gThis_e hw
  refine G_callF (pc := 6) (n := 0) (x := ⟨"java/util/List", "size", "()I"⟩) (C := "java/util/ArrayList") (ci := 21) (T := TJ2) (N := 3) (b := b3) (As := []) (rest := [.int (0 : Int32), va_rf (some a0)]) hC (J_L_size hJ hw) (lw_F q1660 q889 q363 q87 q364) (nw_in q888 rfl) (nw_in q887 rfl) (nw_in q891 rfl) (nw_in q890 rfl) (nw_in q259 rfl) rfl (rcv (C := RJ2) (T := TJ2) (N := 3) hC hb rfl) (by decide +kernel) (by decide) rfl rfl (st_c (cat_i (cat_r cat_e)) (Nat.le_of_ble_eq_true rfl)) dX5_plain_6 (kI fun x4 M2 hw => ?_)
  refine G_iconst (pc := 11) (v := 0) hC dX5_plain_11 (by decide) ?_
  refine G_aload_n (pc := 12) (i := 0) hC dX5_plain_12 rfl rfl ?_
  refine G_getF (pc := 13) (ci := 4) (C := RX5) (T := TX5) (N := 4) (f := 1) hC rfl in_X5 (Nat.le_of_ble_eq_true rfl) q1642 (fun _ h => h) dX5_plain_13 hw (fun x5 hw => ?_)
  obtain ⟨b7, rfl, hb, hw⟩ := gThis_e hw
  refine G_callF (pc := 16) (n := 0) (x := ⟨"java/util/List", "size", "()I"⟩) (C := "java/util/ArrayList") (ci := 21) (T := TJ2) (N := 3) (b := b7) (As := []) (rest := [.int (0 : Int32), .int x4, .int (0 : Int32), va_rf (some a0)]) hC (J_L_size hJ hw) (lw_F q1660 q889 q363 q87 q364) (nw_in q888 rfl) (nw_in q887 rfl) (nw_in q891 rfl) (nw_in q890 rfl) (nw_in q259 rfl) rfl (rcv (C := RJ2) (T := TJ2) (N := 3) hC hb rfl) (by decide +kernel) (by decide) rfl rfl (st_c (cat_i (cat_i (cat_i (cat_r cat_e)))) (Nat.le_of_ble_eq_true rfl)) dX5_plain_16 (kI fun x8 M6 hw => ?_)
  obtain ⟨hb, hw⟩ := hw
  refine G_callV (pc := 21) (n := 4) (C := "MergeWorkbench$Aligner") (b := a0) (As := [.int (0 : Int32), .int x4, .int (0 : Int32), .int x8]) (rest := []) hC (m_X5_align hJ hw) (lw_V q1661 q1663 qs17 q123 q1664) hd_X5_align (by decide) (rcv (C := RX5) (T := TX5) (N := 4) hC hb rfl) rfl rfl (st_c cat_e (Nat.le_of_ble_eq_true rfl)) dX5_plain_21 (kU fun M9 hw => ?_)
  refine G_aload_n (pc := 24) (i := 0) hC dX5_plain_24 rfl rfl ?_
  refine G_getF (pc := 25) (ci := 4) (C := RX5) (T := TX5) (N := 4) (f := 2) hC rfl in_X5 (Nat.le_of_ble_eq_true rfl) q1643 (fun _ h => h) dX5_plain_25 hw (fun x10 hw => ?_)
  exact G_aret (pc := 28) hC (Or.inl ⟨_, rfl⟩) hQ dX5_plain_28 hw
theorem hd_J19_valueOf : yJ19_valueOf.cls = "java/lang/Integer" ∧ yJ19_valueOf.cls ≠ "java/lang/invoke/MethodHandle" ∧ yJ19_valueOf.cls ≠ "java/lang/invoke/VarHandle" ∧ (parseMethodDescriptor yJ19_valueOf.desc).map (fun d => d.parameters.length) = some 1 := by decide +kernel
theorem hd_J40_containsKey : yJ40_containsKey.cls = "java/util/TreeMap" ∧ yJ40_containsKey.cls ≠ "java/lang/invoke/MethodHandle" ∧ yJ40_containsKey.cls ≠ "java/lang/invoke/VarHandle" ∧ (parseMethodDescriptor yJ40_containsKey.desc).map (fun d => d.parameters.length) = some 1 := by decide +kernel
theorem hd_J40_init : yJ40_init.cls = "java/util/TreeMap" ∧ yJ40_init.cls ≠ "java/lang/invoke/MethodHandle" ∧ yJ40_init.cls ≠ "java/lang/invoke/VarHandle" ∧ (parseMethodDescriptor yJ40_init.desc).map (fun d => d.parameters.length) = some 0 := by decide +kernel
theorem hd_J40_put : yJ40_put.cls = "java/util/TreeMap" ∧ yJ40_put.cls ≠ "java/lang/invoke/MethodHandle" ∧ yJ40_put.cls ≠ "java/lang/invoke/VarHandle" ∧ (parseMethodDescriptor yJ40_put.desc).map (fun d => d.parameters.length) = some 2 := by decide +kernel
def w_X5_single_49 (g : gT) (F : Nat) (a0 : Nat) (p1 : Option Nat) (Q : Option Nat → hM → Prop) (K10 : (Option Nat) → Int32 → hM → Prop) (v2 : Option Nat) (v3 : Int32) (s0 : Option Nat) (s1 : Option Nat) (s2 : Int32) (M : hM) : Prop :=
  B_of g s2 M (fun x2 M1 => gThis M1 s0 30 fun b4 => M_put g b4 s1 x2 M1 (fun x5 M3 => K10 v2 (v3 + (1 : Int32)) M3))
def w_X5_single_10 (g : gT) (F : Nat) (a0 : Nat) (p1 : Option Nat) (Q : Option Nat → hM → Prop) : Nat → (Option Nat) → Int32 → hM → Prop
  | 0, _, _, _ => False
  | n + 1, v2, v3, M => gThis M p1 21 fun b2 => L_size g b2  M (fun x3 M1 => ((x3 ≤ v3 → Q v2 M1) ∧ (¬ (x3 ≤ v3) → (isC M1 b2 21 ∧ L_get g b2 v3 M1 (fun x5 M4 => ckB g M4 x5 (gThis M4 v2 30 fun b7 => M_has g b7 x5 M4 (fun x8 M6 => ((x8 = 0 → w_X5_single_49 g F a0 p1 Q (fun v2 v3 M => w_X5_single_10 g F a0 p1 Q n v2 v3 M) (some b7) v3 (some b7) x5 v3 M6) ∧ (¬ (x8 = 0) → w_X5_single_49 g F a0 p1 Q (fun v2 v3 M => w_X5_single_10 g F a0 p1 Q n v2 v3 M) (some b7) v3 (some b7) x5 (-1 : Int32) M6)))))))))
def w_X5_single (g : gT) (F : Nat) (a0 : Nat) (p1 : Option Nat) (M : hM) (Q : Option Nat → hM → Prop) : Prop :=
  nW M 30 fsJ40 fun q1 M2 => (isC M2 q1 30 ∧ M_new g q1  M2 (fun M3 => w_X5_single_10 g F a0 p1 Q F (some q1) (0 : Int32) M3))
theorem g_X5_single_49 {k : kT} {F : Nat} {a0 : Nat} {p1 : Option Nat} {Q : Option Nat → hM → Prop} {K10 : (Option Nat) → Int32 → hM → Prop} (hJ : JOK (kl k) (kg k)) (hC : CX k 5 cX5_single RX5 (some (.object "java/util/TreeMap")) 41 2022) (hQ : isQ k (PR Q)) (hin : (kt k).name = "single") (hK10 : ∀ (v2 : Option Nat) (v3 : Int32) (M : hM), K10 v2 v3 M → GW k 5 M 10 [some (va_rf (some a0)), some (va_rf p1), some (va_rf v2), some (.int v3), none] []) : ∀ (v2 : Option Nat) (v3 : Int32) (s0 : Option Nat) (s1 : Option Nat) (s2 : Int32) (M : hM), w_X5_single_49 (kg k) F a0 p1 Q K10 v2 v3 s0 s1 s2 M → GW k 5 M 49 [some (va_rf (some a0)), some (va_rf p1), some (va_rf v2), some (.int v3), none] [.int s2, va_rf s1, va_rf s0] := by
  intro v2 v3 s0 s1 s2 M hw
  refine G_callS (pc := 49) (n := 1) (As := [.int s2]) (rest := [va_rf s1, va_rf s0]) hC (J_B_of hJ hw) (lw_S q2261 q992 q106 q993) hd_J19_valueOf.2 (by decide) rfl rfl (st_c (cat_r (cat_r cat_e)) (Nat.le_of_ble_eq_true rfl)) dX5_single_49 (kRf fun x2 M1 hw => ?_)
  obtain ⟨b4, rfl, hb, hw⟩ := gThis_e hw
  refine G_callV (pc := 52) (n := 2) (C := "java/util/TreeMap") (b := b4) (As := [va_rf s1, va_rf x2]) (rest := []) hC (J_M_put hJ hw) (lw_V q2262 q2263 q2264 q136 q2265) hd_J40_put (by decide) (rcv (C := RJ40) (T := TJ40) (N := 9) hC hb rfl) rfl rfl (st_c cat_e (Nat.le_of_ble_eq_true rfl)) dX5_single_52 (kRf fun x5 M3 hw => ?_)
  refine G_pop (pc := 55) hC dX5_single_55 (rf_cat _) ?_
  refine G_iinc (pc := 56) (i := 3) (v := (v3 + (1 : Int32))) (lw := [some (va_rf (some a0)), some (va_rf p1), some (va_rf v2), some (.int (v3 + (1 : Int32))), none]) hC dX5_single_56 rfl (Nat.le_of_ble_eq_true rfl) rfl rfl ?_
  refine G_goto (pc := 59) (tgt := 10) hC dX5_single_59 (by decide) ?_
  exact hK10 v2 (v3 + (1 : Int32)) M3 hw
theorem g_X5_single_10 {k : kT} {F : Nat} {a0 : Nat} {p1 : Option Nat} {Q : Option Nat → hM → Prop} (hJ : JOK (kl k) (kg k)) (hC : CX k 5 cX5_single RX5 (some (.object "java/util/TreeMap")) 41 2022) (hQ : isQ k (PR Q)) (hin : (kt k).name = "single") : ∀ (n : Nat) (v2 : Option Nat) (v3 : Int32) (M : hM), w_X5_single_10 (kg k) F a0 p1 Q n v2 v3 M → GW k 5 M 10 [some (va_rf (some a0)), some (va_rf p1), some (va_rf v2), some (.int v3), none] [] := by
  intro n
  induction n with
  | zero =>
    intro v2 v3 M hw
    exact hw.elim
  | succ n ih =>
    intro v2 v3 M hw
    refine G_iload_n (pc := 10) (i := 3) hC dX5_single_10 rfl rfl ?_
    refine G_aload_n (pc := 11) (i := 1) hC dX5_single_11 rfl rfl ?_
    obtain ⟨b2, rfl, hb, hw⟩ := gThis_e hw
    refine G_callF (pc := 12) (n := 0) (x := ⟨"java/util/List", "size", "()I"⟩) (C := "java/util/ArrayList") (ci := 21) (T := TJ2) (N := 3) (b := b2) (As := []) (rest := [.int v3]) hC (J_L_size hJ hw) (lw_F q1660 q889 q363 q87 q364) (nw_in q888 rfl) (nw_in q887 rfl) (nw_in q891 rfl) (nw_in q890 rfl) (nw_in q259 rfl) rfl (rcv (C := RJ2) (T := TJ2) (N := 3) hC hb rfl) (by decide +kernel) (by decide) rfl rfl (st_c (cat_i cat_e) (Nat.le_of_ble_eq_true rfl)) dX5_single_12 (kI fun x3 M1 hw => ?_)
    refine G_icmp_ge (pc := 17) (tgt := 62) hC dX5_single_17 (by decide) (fun hc => ?_) (fun hc => ?_)
    · replace hw := hw.1 hc
      refine G_aload_n (pc := 62) (i := 2) hC dX5_single_62 rfl rfl ?_
      exact G_aret (pc := 63) hC (Or.inl ⟨_, rfl⟩) hQ dX5_single_63 hw
    · replace hw := hw.2 hc
      refine G_aload_n (pc := 20) (i := 1) hC dX5_single_20 rfl rfl ?_
      refine G_iload_n (pc := 21) (i := 3) hC dX5_single_21 rfl rfl ?_
      obtain ⟨hb, hw⟩ := hw
      refine G_callF (pc := 22) (n := 1) (x := ⟨"java/util/List", "get", "(I)Ljava/lang/Object;"⟩) (C := "java/util/ArrayList") (ci := 21) (T := TJ2) (N := 3) (b := b2) (As := [.int v3]) (rest := []) hC (J_L_get hJ hw) (lw_F q1673 q956 q958 q87 q960) (nw_in q955 rfl) (nw_in q954 rfl) (nw_in q959 rfl) (nw_in q957 rfl) (nw_in q259 rfl) rfl (rcv (C := RJ2) (T := TJ2) (N := 3) hC hb rfl) (by decide +kernel) (by decide) rfl rfl (st_c cat_e (Nat.le_of_ble_eq_true rfl)) dX5_single_22 (kRf fun x5 M4 hw => ?_)
      obtain ⟨hb, hw⟩ := hw
      refine G_castB (pc := 27) (nm := "java/lang/Comparable") hJ.1 hC q1674 (nw_in q1678 rfl) hb dX5_single_27 ?_
      refine G_astore (pc := 30) (i := 4) (lw := [some (va_rf (some a0)), some (va_rf (some b2)), some (va_rf v2), some (.int v3), some (va_rf x5)]) hC dX5_single_30 (Nat.le_of_ble_eq_true rfl) rfl ?_
      refine G_aload_n (pc := 32) (i := 2) hC dX5_single_32 rfl rfl ?_
      refine G_aload (pc := 33) (i := 4) hC dX5_single_33 rfl ?_
      refine G_aload_n (pc := 35) (i := 2) hC dX5_single_35 rfl rfl ?_
      refine G_aload (pc := 36) (i := 4) hC dX5_single_36 rfl ?_
      obtain ⟨b7, rfl, hb, hw⟩ := gThis_e hw
      refine G_callV (pc := 38) (n := 1) (C := "java/util/TreeMap") (b := b7) (As := [va_rf x5]) (rest := [va_rf x5, va_rf (some b7)]) hC (J_M_has hJ hw) (lw_V q2241 q2242 q2243 q136 q2244) hd_J40_containsKey (by decide) (rcv (C := RJ40) (T := TJ40) (N := 9) hC hb rfl) rfl rfl (st_c (cat_r (cat_r cat_e)) (Nat.le_of_ble_eq_true rfl)) dX5_single_38 (kI fun x8 M6 hw => ?_)
      refine G_if_eq (pc := 41) (tgt := 48) hC dX5_single_41 (by decide) (fun hc => ?_) (fun hc => ?_)
      · replace hw := hw.1 hc
        refine G_iload_n (pc := 48) (i := 3) hC dX5_single_48 rfl rfl ?_
        refine G_loc (lv' := [some (va_rf (some a0)), some (va_rf (some b2)), some (va_rf (some b7)), some (.int v3), none]) ⟨Or.inr rfl, Or.inr rfl, Or.inr rfl, Or.inr rfl, Or.inl rfl, trivial⟩ ?_
        exact g_X5_single_49 hJ hC hQ hin ih  (some b7) v3 (some b7) x5 v3 M6 hw
      · replace hw := hw.2 hc
        refine G_iconst (pc := 44) (v := -1) hC dX5_single_44 (by decide) ?_
        refine G_goto (pc := 45) (tgt := 49) hC dX5_single_45 (by decide) ?_
        refine G_loc (lv' := [some (va_rf (some a0)), some (va_rf (some b2)), some (va_rf (some b7)), some (.int v3), none]) ⟨Or.inr rfl, Or.inr rfl, Or.inr rfl, Or.inr rfl, Or.inl rfl, trivial⟩ ?_
        exact g_X5_single_49 hJ hC hQ hin ih  (some b7) v3 (some b7) x5 (-1 : Int32) M6 hw
theorem m_X5_single {l : Launch} {g : gT} {F : Nat} {a0 : Nat} {p1 : Option Nat} {M : hM} {Q : Option Nat → hM → Prop} (hJ : JOK l g) (hw : w_X5_single g F a0 p1 M Q) : MG l g yX5_single (ws_ yX5_single cX5_single 5 (some (.object "java/util/TreeMap"))) 41 2022 [va_rf (some a0), va_rf p1] M (PR Q) := by
  refine MG_of hJ.2.1 (by decide) (cat_r (cat_r cat_e)) (Nat.le_of_ble_eq_true rfl) (fun k hl hg hin hQ hC => ?_)
  subst hl hg
  show GW k 5 M 0 [some (va_rf (some a0)), some (va_rf p1), none, none, none] []
  refine G_new (pc := 0) (ci := 30) (C := RJ40) (T := TJ40) (N := 9) (fs := fsJ40) tyJ40 hC rfl in_J40 tyJ40_ok q2208 q2209 q136 dfJ40 rfl dX5_single_0 hw (fun q1 M2 hw => ?_)
  refine G_dup (pc := 3) hC dX5_single_3 (rf_cat _) ?_
  obtain ⟨hb, hw⟩ := hw
  refine G_callI (pc := 4) (n := 0) (b := q1) (As := []) (rest := [va_rf (some q1)]) hC (J_M_new hJ hw) (lw_meth q2212) q136 q2210 q2211 rfl hd_J40_init.2 (by decide) rfl rfl (st_c (cat_r cat_e) (Nat.le_of_ble_eq_true rfl)) dX5_single_4 (kU fun M3 hw => ?_)
  refine G_astore_n (pc := 7) (i := 2) (lw := [some (va_rf (some a0)), some (va_rf p1), some (va_rf (some q1)), none, none]) hC dX5_single_7 rfl (Nat.le_of_ble_eq_true rfl) rfl ?_
  refine G_iconst (pc := 8) (v := 0) hC dX5_single_8 (by decide) ?_
  refine G_istore_n (pc := 9) (i := 3) (lw := [some (va_rf (some a0)), some (va_rf p1), some (va_rf (some q1)), some (.int (0 : Int32)), none]) hC dX5_single_9 rfl (Nat.le_of_ble_eq_true rfl) rfl ?_
  exact g_X5_single_10 hJ hC hQ hin _ (some q1) (0 : Int32) M3 hw
theorem hd_J19_intValue : yJ19_intValue.cls = "java/lang/Integer" ∧ yJ19_intValue.cls ≠ "java/lang/invoke/MethodHandle" ∧ yJ19_intValue.cls ≠ "java/lang/invoke/VarHandle" ∧ (parseMethodDescriptor yJ19_intValue.desc).map (fun d => d.parameters.length) = some 0 := by decide +kernel
theorem hd_J40_get : yJ40_get.cls = "java/util/TreeMap" ∧ yJ40_get.cls ≠ "java/lang/invoke/MethodHandle" ∧ yJ40_get.cls ≠ "java/lang/invoke/VarHandle" ∧ (parseMethodDescriptor yJ40_get.desc).map (fun d => d.parameters.length) = some 1 := by decide +kernel
theorem hd_X5_single : yX5_single.cls = "MergeWorkbench$Aligner" ∧ yX5_single.cls ≠ "java/lang/invoke/MethodHandle" ∧ yX5_single.cls ≠ "java/lang/invoke/VarHandle" ∧ (parseMethodDescriptor yX5_single.desc).map (fun d => d.parameters.length) = some 1 := by decide +kernel
def w_X5_candidates_123 (g : gT) (F : Nat) (a0 : Nat) (Q : Option Nat → hM → Prop) (K29 : (Option Nat) → (Option Nat) → (Option Nat) → Int32 → hM → Prop) (v1 : Option Nat) (v2 : Option Nat) (v3 : Option Nat) (v4 : Int32) (M : hM) : Prop :=
  K29 v1 v2 v3 (v4 + (1 : Int32)) M
def w_X5_candidates_29 (g : gT) (F : Nat) (a0 : Nat) (Q : Option Nat → hM → Prop) : Nat → (Option Nat) → (Option Nat) → (Option Nat) → Int32 → hM → Prop
  | 0, _, _, _, _, _ => False
  | n + 1, v1, v2, v3, v4, M => gF M (some a0) 4 0 fun x1 => gThis M x1 21 fun b3 => L_size g b3  M (fun x4 M2 => ((x4 ≤ v4 → Q v3 M2) ∧ (¬ (x4 ≤ v4) → gF M2 (some a0) 4 0 fun x5 => gThis M2 x5 21 fun b7 => L_get g b7 v4 M2 (fun x8 M6 => gThis M6 v2 30 fun b10 => M_get g b10 x8 M6 (fun x11 M9 => ckB g M9 x11 (gF M9 (some a0) 4 0 fun x12 => gThis M9 x12 21 fun b14 => L_get g b14 v4 M9 (fun x15 M13 => gThis M13 v1 30 fun b17 => M_get g b17 x15 M13 (fun x18 M16 => ckB g M16 x18 (gBx g M16 x18 fun b20 => B_val g b20  M16 (fun x21 M19 => ((¬ x21 = v4 → w_X5_candidates_123 g F a0 Q (fun v1 v2 v3 v4 M => w_X5_candidates_29 g F a0 Q n v1 v2 v3 v4 M) (some b17) (some b10) v3 v4 M19) ∧ (x21 = v4 → ((x11 = none → w_X5_candidates_123 g F a0 Q (fun v1 v2 v3 v4 M => w_X5_candidates_29 g F a0 Q n v1 v2 v3 v4 M) (some b17) (some b10) v3 v4 M19) ∧ (¬ x11 = none → gBx g M19 x11 fun b23 => B_val g b23  M19 (fun x24 M22 => ((x24 < 0 → w_X5_candidates_123 g F a0 Q (fun v1 v2 v3 v4 M => w_X5_candidates_29 g F a0 Q n v1 v2 v3 v4 M) (some b17) (some b10) v3 v4 M22) ∧ (¬ (x24 < 0) → nW M22 5 fsX6 fun q25 M26 => ((∃ z, isBox g M26 b23 z) ∧ B_val g b23  M26 (fun x28 M27 => (isC M27 q25 5 ∧ w_X6_init g F q25 v4 x28 M27 (fun M29 => gThis M29 v3 21 fun b31 => L_add g b31 (some q25) M29 (fun x32 M30 => w_X5_candidates_123 g F a0 Q (fun v1 v2 v3 v4 M => w_X5_candidates_29 g F a0 Q n v1 v2 v3 v4 M) (some b17) (some b10) (some b31) v4 M30))))))))))))))))))))))
def w_X5_candidates (g : gT) (F : Nat) (a0 : Nat) (M : hM) (Q : Option Nat → hM → Prop) : Prop :=
  gF M (some a0) 4 0 fun x1 => (isC M a0 4 ∧ w_X5_single g F a0 x1 M (fun x3 M2 => gF M2 (some a0) 4 1 fun x4 => (isC M2 a0 4 ∧ w_X5_single g F a0 x4 M2 (fun x6 M5 => nW M5 21 fsJ2 fun q7 M8 => (isC M8 q7 21 ∧ L_new g q7  M8 (fun M9 => w_X5_candidates_29 g F a0 Q F x3 x6 (some q7) (0 : Int32) M9))))))
theorem g_X5_candidates_123 {k : kT} {F : Nat} {a0 : Nat} {Q : Option Nat → hM → Prop} {K29 : (Option Nat) → (Option Nat) → (Option Nat) → Int32 → hM → Prop} (hJ : JOK (kl k) (kg k)) (hC : CX k 6 cX5_candidates RX5 (some (.object "java/util/List")) 42 2046) (hQ : isQ k (PR Q)) (hin : (kt k).name = "candidates") (hK29 : ∀ (v1 : Option Nat) (v2 : Option Nat) (v3 : Option Nat) (v4 : Int32) (M : hM), K29 v1 v2 v3 v4 M → GW k 6 M 29 [some (va_rf (some a0)), some (va_rf v1), some (va_rf v2), some (va_rf v3), some (.int v4), none] []) : ∀ (v1 : Option Nat) (v2 : Option Nat) (v3 : Option Nat) (v4 : Int32) (M : hM), w_X5_candidates_123 (kg k) F a0 Q K29 v1 v2 v3 v4 M → GW k 6 M 123 [some (va_rf (some a0)), some (va_rf v1), some (va_rf v2), some (va_rf v3), some (.int v4), none] [] := by
  intro v1 v2 v3 v4 M hw
  refine G_iinc (pc := 123) (i := 4) (v := (v4 + (1 : Int32))) (lw := [some (va_rf (some a0)), some (va_rf v1), some (va_rf v2), some (va_rf v3), some (.int (v4 + (1 : Int32))), none]) hC dX5_candidates_123 rfl (Nat.le_of_ble_eq_true rfl) rfl rfl ?_
  refine G_goto (pc := 126) (tgt := 29) hC dX5_candidates_126 (by decide) ?_
  exact hK29 v1 v2 v3 (v4 + (1 : Int32)) M hw
theorem g_X5_candidates_29 {k : kT} {F : Nat} {a0 : Nat} {Q : Option Nat → hM → Prop} (hJ : JOK (kl k) (kg k)) (hC : CX k 6 cX5_candidates RX5 (some (.object "java/util/List")) 42 2046) (hQ : isQ k (PR Q)) (hin : (kt k).name = "candidates") : ∀ (n : Nat) (v1 : Option Nat) (v2 : Option Nat) (v3 : Option Nat) (v4 : Int32) (M : hM), w_X5_candidates_29 (kg k) F a0 Q n v1 v2 v3 v4 M → GW k 6 M 29 [some (va_rf (some a0)), some (va_rf v1), some (va_rf v2), some (va_rf v3), some (.int v4), none] [] := by
  intro n
  induction n with
  | zero =>
    intro v1 v2 v3 v4 M hw
    exact hw.elim
  | succ n ih =>
    intro v1 v2 v3 v4 M hw
    refine G_iload (pc := 29) (i := 4) hC dX5_candidates_29 rfl ?_
    refine G_aload_n (pc := 31) (i := 0) hC dX5_candidates_31 rfl rfl ?_
    refine G_getF (pc := 32) (ci := 4) (C := RX5) (T := TX5) (N := 4) (f := 0) hC rfl in_X5 (Nat.le_of_ble_eq_true rfl) q1641 (fun _ h => h) dX5_candidates_32 hw (fun x1 hw => ?_)
    obtain ⟨b3, rfl, hb, hw⟩ := gThis_e hw
    refine G_callF (pc := 35) (n := 0) (x := ⟨"java/util/List", "size", "()I"⟩) (C := "java/util/ArrayList") (ci := 21) (T := TJ2) (N := 3) (b := b3) (As := []) (rest := [.int v4]) hC (J_L_size hJ hw) (lw_F q1660 q889 q363 q87 q364) (nw_in q888 rfl) (nw_in q887 rfl) (nw_in q891 rfl) (nw_in q890 rfl) (nw_in q259 rfl) rfl (rcv (C := RJ2) (T := TJ2) (N := 3) hC hb rfl) (by decide +kernel) (by decide) rfl rfl (st_c (cat_i cat_e) (Nat.le_of_ble_eq_true rfl)) dX5_candidates_35 (kI fun x4 M2 hw => ?_)
    refine G_icmp_ge (pc := 40) (tgt := 129) hC dX5_candidates_40 (by decide) (fun hc => ?_) (fun hc => ?_)
    · replace hw := hw.1 hc
      refine G_aload_n (pc := 129) (i := 3) hC dX5_candidates_129 rfl rfl ?_
      exact G_aret (pc := 130) hC (Or.inl ⟨_, rfl⟩) hQ dX5_candidates_130 hw
    · replace hw := hw.2 hc
      refine G_aload_n (pc := 43) (i := 2) hC dX5_candidates_43 rfl rfl ?_
      refine G_aload_n (pc := 44) (i := 0) hC dX5_candidates_44 rfl rfl ?_
      refine G_getF (pc := 45) (ci := 4) (C := RX5) (T := TX5) (N := 4) (f := 0) hC rfl in_X5 (Nat.le_of_ble_eq_true rfl) q1641 (fun _ h => h) dX5_candidates_45 hw (fun x5 hw => ?_)
      refine G_iload (pc := 48) (i := 4) hC dX5_candidates_48 rfl ?_
      obtain ⟨b7, rfl, hb, hw⟩ := gThis_e hw
      refine G_callF (pc := 50) (n := 1) (x := ⟨"java/util/List", "get", "(I)Ljava/lang/Object;"⟩) (C := "java/util/ArrayList") (ci := 21) (T := TJ2) (N := 3) (b := b7) (As := [.int v4]) (rest := [va_rf v2]) hC (J_L_get hJ hw) (lw_F q1673 q956 q958 q87 q960) (nw_in q955 rfl) (nw_in q954 rfl) (nw_in q959 rfl) (nw_in q957 rfl) (nw_in q259 rfl) rfl (rcv (C := RJ2) (T := TJ2) (N := 3) hC hb rfl) (by decide +kernel) (by decide) rfl rfl (st_c (cat_r cat_e) (Nat.le_of_ble_eq_true rfl)) dX5_candidates_50 (kRf fun x8 M6 hw => ?_)
      obtain ⟨b10, rfl, hb, hw⟩ := gThis_e hw
      refine G_callV (pc := 55) (n := 1) (C := "java/util/TreeMap") (b := b10) (As := [va_rf x8]) (rest := []) hC (J_M_get hJ hw) (lw_V q2338 q2339 q2340 q136 q2341) hd_J40_get (by decide) (rcv (C := RJ40) (T := TJ40) (N := 9) hC hb rfl) rfl rfl (st_c cat_e (Nat.le_of_ble_eq_true rfl)) dX5_candidates_55 (kRf fun x11 M9 hw => ?_)
      obtain ⟨hb, hw⟩ := hw
      refine G_castBS (pc := 58) hJ.1 hC q2342 hb dX5_candidates_58 ?_
      refine G_astore (pc := 61) (i := 5) (lw := [some (va_rf (some a0)), some (va_rf v1), some (va_rf (some b10)), some (va_rf v3), some (.int v4), some (va_rf x11)]) hC dX5_candidates_61 (Nat.le_of_ble_eq_true rfl) rfl ?_
      refine G_aload_n (pc := 63) (i := 1) hC dX5_candidates_63 rfl rfl ?_
      refine G_aload_n (pc := 64) (i := 0) hC dX5_candidates_64 rfl rfl ?_
      refine G_getF (pc := 65) (ci := 4) (C := RX5) (T := TX5) (N := 4) (f := 0) hC rfl in_X5 (Nat.le_of_ble_eq_true rfl) q1641 (fun _ h => h) dX5_candidates_65 hw (fun x12 hw => ?_)
      refine G_iload (pc := 68) (i := 4) hC dX5_candidates_68 rfl ?_
      obtain ⟨b14, rfl, hb, hw⟩ := gThis_e hw
      refine G_callF (pc := 70) (n := 1) (x := ⟨"java/util/List", "get", "(I)Ljava/lang/Object;"⟩) (C := "java/util/ArrayList") (ci := 21) (T := TJ2) (N := 3) (b := b14) (As := [.int v4]) (rest := [va_rf v1]) hC (J_L_get hJ hw) (lw_F q1673 q956 q958 q87 q960) (nw_in q955 rfl) (nw_in q954 rfl) (nw_in q959 rfl) (nw_in q957 rfl) (nw_in q259 rfl) rfl (rcv (C := RJ2) (T := TJ2) (N := 3) hC hb rfl) (by decide +kernel) (by decide) rfl rfl (st_c (cat_r cat_e) (Nat.le_of_ble_eq_true rfl)) dX5_candidates_70 (kRf fun x15 M13 hw => ?_)
      obtain ⟨b17, rfl, hb, hw⟩ := gThis_e hw
      refine G_callV (pc := 75) (n := 1) (C := "java/util/TreeMap") (b := b17) (As := [va_rf x15]) (rest := []) hC (J_M_get hJ hw) (lw_V q2338 q2339 q2340 q136 q2341) hd_J40_get (by decide) (rcv (C := RJ40) (T := TJ40) (N := 9) hC hb rfl) rfl rfl (st_c cat_e (Nat.le_of_ble_eq_true rfl)) dX5_candidates_75 (kRf fun x18 M16 hw => ?_)
      obtain ⟨hb, hw⟩ := hw
      refine G_castBS (pc := 78) hJ.1 hC q2342 hb dX5_candidates_78 ?_
      obtain ⟨b20, rfl, hb, hw⟩ := gBx_e hw
      refine G_callV (pc := 81) (n := 0) (C := "java/lang/Integer") (b := b20) (As := []) (rest := []) hC (J_B_val hJ hw) (lw_V q2343 q988 q989 q106 q990) hd_J19_intValue (by decide) (rcvB hJ.1 hC hb) rfl rfl (st_c cat_e (Nat.le_of_ble_eq_true rfl)) dX5_candidates_81 (kI fun x21 M19 hw => ?_)
      refine G_iload (pc := 84) (i := 4) hC dX5_candidates_84 rfl ?_
      refine G_icmp_ne (pc := 86) (tgt := 123) hC dX5_candidates_86 (by decide) (fun hc => ?_) (fun hc => ?_)
      · replace hw := hw.1 hc
        refine G_loc (lv' := [some (va_rf (some a0)), some (va_rf (some b17)), some (va_rf (some b10)), some (va_rf v3), some (.int v4), none]) ⟨Or.inr rfl, Or.inr rfl, Or.inr rfl, Or.inr rfl, Or.inr rfl, Or.inl rfl, trivial⟩ ?_
        exact g_X5_candidates_123 hJ hC hQ hin ih  (some b17) (some b10) v3 v4 M19 hw
      · replace hw := hw.2 hc
        refine G_aload (pc := 89) (i := 5) hC dX5_candidates_89 rfl ?_
        refine G_ifnull (pc := 91) (tgt := 123) hC dX5_candidates_91 (by decide) (fun hc => ?_) (fun hc => ?_)
        · replace hw := hw.1 hc
          refine G_loc (lv' := [some (va_rf (some a0)), some (va_rf (some b17)), some (va_rf (some b10)), some (va_rf v3), some (.int v4), none]) ⟨Or.inr rfl, Or.inr rfl, Or.inr rfl, Or.inr rfl, Or.inr rfl, Or.inl rfl, trivial⟩ ?_
          exact g_X5_candidates_123 hJ hC hQ hin ih  (some b17) (some b10) v3 v4 M19 hw
        · replace hw := hw.2 hc
          refine G_aload (pc := 94) (i := 5) hC dX5_candidates_94 rfl ?_
          obtain ⟨b23, rfl, hb, hw⟩ := gBx_e hw
          refine G_callV (pc := 96) (n := 0) (C := "java/lang/Integer") (b := b23) (As := []) (rest := []) hC (J_B_val hJ hw) (lw_V q2343 q988 q989 q106 q990) hd_J19_intValue (by decide) (rcvB hJ.1 hC hb) rfl rfl (st_c cat_e (Nat.le_of_ble_eq_true rfl)) dX5_candidates_96 (kI fun x24 M22 hw => ?_)
          refine G_if_lt (pc := 99) (tgt := 123) hC dX5_candidates_99 (by decide) (fun hc => ?_) (fun hc => ?_)
          · replace hw := hw.1 hc
            refine G_loc (lv' := [some (va_rf (some a0)), some (va_rf (some b17)), some (va_rf (some b10)), some (va_rf v3), some (.int v4), none]) ⟨Or.inr rfl, Or.inr rfl, Or.inr rfl, Or.inr rfl, Or.inr rfl, Or.inl rfl, trivial⟩ ?_
            exact g_X5_candidates_123 hJ hC hQ hin ih  (some b17) (some b10) v3 v4 M22 hw
          · replace hw := hw.2 hc
            refine G_aload_n (pc := 102) (i := 3) hC dX5_candidates_102 rfl rfl ?_
            refine G_new (pc := 103) (ci := 5) (C := RX6) (T := TX6) (N := 2) (fs := fsX6) tyX6 hC rfl in_X6 tyX6_ok q1693 q1694 q124 dfX6 rfl dX5_candidates_103 hw (fun q25 M26 hw => ?_)
            refine G_dup (pc := 106) hC dX5_candidates_106 (rf_cat _) ?_
            refine G_iload (pc := 107) (i := 4) hC dX5_candidates_107 rfl ?_
            refine G_aload (pc := 109) (i := 5) hC dX5_candidates_109 rfl ?_
            obtain ⟨hb, hw⟩ := hw
            refine G_callV (pc := 111) (n := 0) (C := "java/lang/Integer") (b := b23) (As := []) (rest := [.int v4, va_rf (some q25), va_rf (some q25), va_rf v3]) hC (J_B_val hJ hw) (lw_V q2343 q988 q989 q106 q990) hd_J19_intValue (by decide) (rcvB hJ.1 hC hb) rfl rfl (st_c (cat_i (cat_r (cat_r (cat_r cat_e)))) (Nat.le_of_ble_eq_true rfl)) dX5_candidates_111 (kI fun x28 M27 hw => ?_)
            obtain ⟨hb, hw⟩ := hw
            refine G_callI (pc := 114) (n := 2) (b := q25) (As := [.int v4, .int x28]) (rest := [va_rf (some q25), va_rf v3]) hC (m_X6_init hJ hw) (lw_meth q1697) q124 q1695 q1696 rfl hd_X6_init.2 (by decide) rfl rfl (st_c (cat_r (cat_r cat_e)) (Nat.le_of_ble_eq_true rfl)) dX5_candidates_114 (kU fun M29 hw => ?_)
            obtain ⟨b31, rfl, hb, hw⟩ := gThis_e hw
            refine G_callF (pc := 117) (n := 1) (x := ⟨"java/util/List", "add", "(Ljava/lang/Object;)Z"⟩) (C := "java/util/ArrayList") (ci := 21) (T := TJ2) (N := 3) (b := b31) (As := [va_rf (some q25)]) (rest := []) hC (J_L_add hJ hw) (lw_F q1714 q260 q262 q87 q264) (nw_in q258 rfl) (nw_in q257 rfl) (nw_in q263 rfl) (nw_in q261 rfl) (nw_in q259 rfl) rfl (rcv (C := RJ2) (T := TJ2) (N := 3) hC hb rfl) (by decide +kernel) (by decide) rfl rfl (st_c cat_e (Nat.le_of_ble_eq_true rfl)) dX5_candidates_117 (kI fun x32 M30 hw => ?_)
            refine G_pop (pc := 122) hC dX5_candidates_122 rfl ?_
            refine G_loc (lv' := [some (va_rf (some a0)), some (va_rf (some b17)), some (va_rf (some b10)), some (va_rf (some b31)), some (.int v4), none]) ⟨Or.inr rfl, Or.inr rfl, Or.inr rfl, Or.inr rfl, Or.inr rfl, Or.inl rfl, trivial⟩ ?_
            exact g_X5_candidates_123 hJ hC hQ hin ih  (some b17) (some b10) (some b31) v4 M30 hw
theorem m_X5_candidates {l : Launch} {g : gT} {F : Nat} {a0 : Nat} {M : hM} {Q : Option Nat → hM → Prop} (hJ : JOK l g) (hw : w_X5_candidates g F a0 M Q) : MG l g yX5_candidates (ws_ yX5_candidates cX5_candidates 6 (some (.object "java/util/List"))) 42 2046 [va_rf (some a0)] M (PR Q) := by
  refine MG_of hJ.2.1 (by decide) (cat_r cat_e) (Nat.le_of_ble_eq_true rfl) (fun k hl hg hin hQ hC => ?_)
  subst hl hg
  show GW k 6 M 0 [some (va_rf (some a0)), none, none, none, none, none] []
  refine G_aload_n (pc := 0) (i := 0) hC dX5_candidates_0 rfl rfl ?_
  refine G_aload_n (pc := 1) (i := 0) hC dX5_candidates_1 rfl rfl ?_
  refine G_getF (pc := 2) (ci := 4) (C := RX5) (T := TX5) (N := 4) (f := 0) hC rfl in_X5 (Nat.le_of_ble_eq_true rfl) q1641 (fun _ h => h) dX5_candidates_2 hw (fun x1 hw => ?_)
  obtain ⟨hb, hw⟩ := hw
  refine G_callV (pc := 5) (n := 1) (C := "MergeWorkbench$Aligner") (b := a0) (As := [va_rf x1]) (rest := []) hC (m_X5_single hJ hw) (lw_V q2204 q2206 qs28 q123 q2207) hd_X5_single (by decide) (rcv (C := RX5) (T := TX5) (N := 4) hC hb rfl) rfl rfl (st_c cat_e (Nat.le_of_ble_eq_true rfl)) dX5_candidates_5 (kRf fun x3 M2 hw => ?_)
  refine G_astore_n (pc := 8) (i := 1) (lw := [some (va_rf (some a0)), some (va_rf x3), none, none, none, none]) hC dX5_candidates_8 rfl (Nat.le_of_ble_eq_true rfl) rfl ?_
  refine G_aload_n (pc := 9) (i := 0) hC dX5_candidates_9 rfl rfl ?_
  refine G_aload_n (pc := 10) (i := 0) hC dX5_candidates_10 rfl rfl ?_
  refine G_getF (pc := 11) (ci := 4) (C := RX5) (T := TX5) (N := 4) (f := 1) hC rfl in_X5 (Nat.le_of_ble_eq_true rfl) q1642 (fun _ h => h) dX5_candidates_11 hw (fun x4 hw => ?_)
  obtain ⟨hb, hw⟩ := hw
  refine G_callV (pc := 14) (n := 1) (C := "MergeWorkbench$Aligner") (b := a0) (As := [va_rf x4]) (rest := []) hC (m_X5_single hJ hw) (lw_V q2204 q2206 qs28 q123 q2207) hd_X5_single (by decide) (rcv (C := RX5) (T := TX5) (N := 4) hC hb rfl) rfl rfl (st_c cat_e (Nat.le_of_ble_eq_true rfl)) dX5_candidates_14 (kRf fun x6 M5 hw => ?_)
  refine G_astore_n (pc := 17) (i := 2) (lw := [some (va_rf (some a0)), some (va_rf x3), some (va_rf x6), none, none, none]) hC dX5_candidates_17 rfl (Nat.le_of_ble_eq_true rfl) rfl ?_
  refine G_new (pc := 18) (ci := 21) (C := RJ2) (T := TJ2) (N := 3) (fs := fsJ2) tyJ2 hC rfl in_J2 tyJ2_ok q1639 q161 q87 dfJ2 rfl dX5_candidates_18 hw (fun q7 M8 hw => ?_)
  refine G_dup (pc := 21) hC dX5_candidates_21 (rf_cat _) ?_
  obtain ⟨hb, hw⟩ := hw
  refine G_callI (pc := 22) (n := 0) (b := q7) (As := []) (rest := [va_rf (some q7)]) hC (J_L_new hJ hw) (lw_meth q164) q87 q1640 q163 rfl hd_J2_init.2 (by decide) rfl rfl (st_c (cat_r cat_e) (Nat.le_of_ble_eq_true rfl)) dX5_candidates_22 (kU fun M9 hw => ?_)
  refine G_astore_n (pc := 25) (i := 3) (lw := [some (va_rf (some a0)), some (va_rf x3), some (va_rf x6), some (va_rf (some q7)), none, none]) hC dX5_candidates_25 rfl (Nat.le_of_ble_eq_true rfl) rfl ?_
  refine G_iconst (pc := 26) (v := 0) hC dX5_candidates_26 (by decide) ?_
  refine G_istore (pc := 27) (i := 4) (lw := [some (va_rf (some a0)), some (va_rf x3), some (va_rf x6), some (va_rf (some q7)), some (.int (0 : Int32)), none]) hC dX5_candidates_27 (Nat.le_of_ble_eq_true rfl) rfl ?_
  exact g_X5_candidates_29 hJ hC hQ hin _ x3 x6 (some q7) (0 : Int32) M9 hw
def w_X5_chooseAnchors_213 (g : gT) (F : Nat) (a0 : Nat) (p1 : Option Nat) (Q : Option Nat → hM → Prop) (K132 : (Option Nat) → Int32 → (Option Nat) → Int32 → Int32 → hM → Prop) (v2 : Option Nat) (v3 : Int32) (v4 : Option Nat) (v5 : Int32) (v6 : Int32) (M : hM) : Prop :=
  K132 v2 v3 v4 v5 (v6 + (1 : Int32)) M
def w_X5_chooseAnchors_132 (g : gT) (F : Nat) (a0 : Nat) (p1 : Option Nat) (Q : Option Nat → hM → Prop) : Nat → (Option Nat) → Int32 → (Option Nat) → Int32 → Int32 → hM → Prop
  | 0, _, _, _, _, _, _ => False
  | n + 1, v2, v3, v4, v5, v6, M => gThis M p1 21 fun b2 => L_size g b2  M (fun x3 M1 => ((x3 ≤ v6 → Q v4 M1) ∧ (¬ (x3 ≤ v6) → aI M1 v2 0 v6 fun x4 => gThis M1 v4 21 fun b6 => L_size g b6  M1 (fun x7 M5 => ((¬ x4 = (v3 - x7) → w_X5_chooseAnchors_213 g F a0 p1 Q (fun v2 v3 v4 v5 v6 M => w_X5_chooseAnchors_132 g F a0 p1 Q n v2 v3 v4 v5 v6 M) v2 v3 (some b6) v5 v6 M5) ∧ (x4 = (v3 - x7) → (isC M5 b2 21 ∧ L_get g b2 v6 M5 (fun x9 M8 => ckC M8 x9 5 (gI M8 x9 5 1 fun x10 => ((x10 ≤ v5 → w_X5_chooseAnchors_213 g F a0 p1 Q (fun v2 v3 v4 v5 v6 M => w_X5_chooseAnchors_132 g F a0 p1 Q n v2 v3 v4 v5 v6 M) v2 v3 (some b6) v5 v6 M8) ∧ (¬ (x10 ≤ v5) → (isC M8 b2 21 ∧ L_get g b2 v6 M8 (fun x12 M11 => ckC M11 x12 5 ((isC M11 b6 21 ∧ L_add g b6 x12 M11 (fun x14 M13 => (isC M13 b2 21 ∧ L_get g b2 v6 M13 (fun x16 M15 => ckC M15 x16 5 (gI M15 x16 5 1 fun x17 => w_X5_chooseAnchors_213 g F a0 p1 Q (fun v2 v3 v4 v5 v6 M => w_X5_chooseAnchors_132 g F a0 p1 Q n v2 v3 v4 v5 v6 M) v2 v3 (some b6) x17 v6 M15)))))))))))))))))))
def w_X5_chooseAnchors_96 (g : gT) (F : Nat) (a0 : Nat) (p1 : Option Nat) (Q : Option Nat → hM → Prop) (K37 : (Option Nat) → Int32 → Int32 → Int32 → hM → Prop) (v2 : Option Nat) (v3 : Int32) (v4 : Int32) (v5 : Int32) (M : hM) : Prop :=
  K37 v2 v3 v4 (v5 + (1 : Int32)) M
def w_X5_chooseAnchors_37 (g : gT) (F : Nat) (a0 : Nat) (p1 : Option Nat) (Q : Option Nat → hM → Prop) (K21 : (Option Nat) → Int32 → Int32 → hM → Prop) : Nat → (Option Nat) → Int32 → Int32 → Int32 → hM → Prop
  | 0, _, _, _, _, _ => False
  | n + 1, v2, v3, v4, v5, M => gThis M p1 21 fun b2 => L_size g b2  M (fun x3 M1 => ((x3 ≤ v5 → aI M1 v2 0 v4 fun x4 => K21 v2 (if v3 < x4 then x4 else v3) (v4 + (-1 : Int32)) M1) ∧ (¬ (x3 ≤ v5) → (isC M1 b2 21 ∧ L_get g b2 v5 M1 (fun x6 M5 => ckC M5 x6 5 (gI M5 x6 5 1 fun x7 => (isC M5 b2 21 ∧ L_get g b2 v4 M5 (fun x9 M8 => ckC M8 x9 5 (gI M8 x9 5 1 fun x10 => ((x7 ≤ x10 → w_X5_chooseAnchors_96 g F a0 p1 Q (fun v2 v3 v4 v5 M => w_X5_chooseAnchors_37 g F a0 p1 Q K21 n v2 v3 v4 v5 M) v2 v3 v4 v5 M8) ∧ (¬ (x7 ≤ x10) → aI M8 v2 0 v4 fun x11 => aI M8 v2 0 v5 fun x12 => sI M8 v2 0 v4 (if x11 < ((1 : Int32) + x12) then ((1 : Int32) + x12) else x11) fun M13 => w_X5_chooseAnchors_96 g F a0 p1 Q (fun v2 v3 v4 v5 M => w_X5_chooseAnchors_37 g F a0 p1 Q K21 n v2 v3 v4 v5 M) v2 v3 v4 v5 M13)))))))))))
def w_X5_chooseAnchors_21 (g : gT) (F : Nat) (a0 : Nat) (p1 : Option Nat) (Q : Option Nat → hM → Prop) : Nat → (Option Nat) → Int32 → Int32 → hM → Prop
  | 0, _, _, _, _ => False
  | n + 1, v2, v3, v4, M => ((v4 < 0 → nW M 21 fsJ2 fun q1 M2 => (isC M2 q1 21 ∧ L_new g q1  M2 (fun M3 => w_X5_chooseAnchors_132 g F a0 p1 Q F v2 v3 (some q1) (-1 : Int32) (0 : Int32) M3))) ∧ (¬ (v4 < 0) → sI M v2 0 v4 (1 : Int32) fun M4 => w_X5_chooseAnchors_37 g F a0 p1 Q (fun v2 v3 v4 M => w_X5_chooseAnchors_21 g F a0 p1 Q n v2 v3 v4 M) F v2 v3 v4 (v4 + (1 : Int32)) M4))
def w_X5_chooseAnchors (g : gT) (F : Nat) (a0 : Nat) (p1 : Option Nat) (M : hM) (Q : Option Nat → hM → Prop) : Prop :=
  gThis M p1 21 fun b2 => L_size g b2  M (fun x3 M1 => nA M1 0 x3 (.inl (fun _ => 0)) fun q4 M5 => (isC M5 b2 21 ∧ L_size g b2  M5 (fun x7 M6 => w_X5_chooseAnchors_21 g F a0 p1 Q F (some q4) (0 : Int32) (x7 - (1 : Int32)) M6)))
theorem g_X5_chooseAnchors_213 {k : kT} {F : Nat} {a0 : Nat} {p1 : Option Nat} {Q : Option Nat → hM → Prop} {K132 : (Option Nat) → Int32 → (Option Nat) → Int32 → Int32 → hM → Prop} (hJ : JOK (kl k) (kg k)) (hC : CX k 7 cX5_chooseAnchors RX5 (some (.object "java/util/List")) 41 2021) (hQ : isQ k (PR Q)) (hin : (kt k).name = "chooseAnchors") (hK132 : ∀ (v2 : Option Nat) (v3 : Int32) (v4 : Option Nat) (v5 : Int32) (v6 : Int32) (M : hM), K132 v2 v3 v4 v5 v6 M → GW k 7 M 132 [some (va_rf (some a0)), some (va_rf p1), some (va_rf v2), some (.int v3), some (va_rf v4), some (.int v5), some (.int v6)] []) : ∀ (v2 : Option Nat) (v3 : Int32) (v4 : Option Nat) (v5 : Int32) (v6 : Int32) (M : hM), w_X5_chooseAnchors_213 (kg k) F a0 p1 Q K132 v2 v3 v4 v5 v6 M → GW k 7 M 213 [some (va_rf (some a0)), some (va_rf p1), some (va_rf v2), some (.int v3), some (va_rf v4), some (.int v5), some (.int v6)] [] := by
  intro v2 v3 v4 v5 v6 M hw
  refine G_iinc (pc := 213) (i := 6) (v := (v6 + (1 : Int32))) (lw := [some (va_rf (some a0)), some (va_rf p1), some (va_rf v2), some (.int v3), some (va_rf v4), some (.int v5), some (.int (v6 + (1 : Int32)))]) hC dX5_chooseAnchors_213 rfl (Nat.le_of_ble_eq_true rfl) rfl rfl ?_
  refine G_goto (pc := 216) (tgt := 132) hC dX5_chooseAnchors_216 (by decide) ?_
  exact hK132 v2 v3 v4 v5 (v6 + (1 : Int32)) M hw
theorem g_X5_chooseAnchors_132 {k : kT} {F : Nat} {a0 : Nat} {p1 : Option Nat} {Q : Option Nat → hM → Prop} (hJ : JOK (kl k) (kg k)) (hC : CX k 7 cX5_chooseAnchors RX5 (some (.object "java/util/List")) 41 2021) (hQ : isQ k (PR Q)) (hin : (kt k).name = "chooseAnchors") : ∀ (n : Nat) (v2 : Option Nat) (v3 : Int32) (v4 : Option Nat) (v5 : Int32) (v6 : Int32) (M : hM), w_X5_chooseAnchors_132 (kg k) F a0 p1 Q n v2 v3 v4 v5 v6 M → GW k 7 M 132 [some (va_rf (some a0)), some (va_rf p1), some (va_rf v2), some (.int v3), some (va_rf v4), some (.int v5), some (.int v6)] [] := by
  intro n
  induction n with
  | zero =>
    intro v2 v3 v4 v5 v6 M hw
    exact hw.elim
  | succ n ih =>
    intro v2 v3 v4 v5 v6 M hw
    refine G_iload (pc := 132) (i := 6) hC dX5_chooseAnchors_132 rfl ?_
    refine G_aload_n (pc := 134) (i := 1) hC dX5_chooseAnchors_134 rfl rfl ?_
    obtain ⟨b2, rfl, hb, hw⟩ := gThis_e hw
    refine G_callF (pc := 135) (n := 0) (x := ⟨"java/util/List", "size", "()I"⟩) (C := "java/util/ArrayList") (ci := 21) (T := TJ2) (N := 3) (b := b2) (As := []) (rest := [.int v6]) hC (J_L_size hJ hw) (lw_F q1660 q889 q363 q87 q364) (nw_in q888 rfl) (nw_in q887 rfl) (nw_in q891 rfl) (nw_in q890 rfl) (nw_in q259 rfl) rfl (rcv (C := RJ2) (T := TJ2) (N := 3) hC hb rfl) (by decide +kernel) (by decide) rfl rfl (st_c (cat_i cat_e) (Nat.le_of_ble_eq_true rfl)) dX5_chooseAnchors_135 (kI fun x3 M1 hw => ?_)
    refine G_icmp_ge (pc := 140) (tgt := 219) hC dX5_chooseAnchors_140 (by decide) (fun hc => ?_) (fun hc => ?_)
    · replace hw := hw.1 hc
      refine G_aload (pc := 219) (i := 4) hC dX5_chooseAnchors_219 rfl ?_
      exact G_aret (pc := 221) hC (Or.inl ⟨_, rfl⟩) hQ dX5_chooseAnchors_221 hw
    · replace hw := hw.2 hc
      refine G_aload_n (pc := 143) (i := 2) hC dX5_chooseAnchors_143 rfl rfl ?_
      refine G_iload (pc := 144) (i := 6) hC dX5_chooseAnchors_144 rfl ?_
      refine G_iald (pc := 146) hC dX5_chooseAnchors_146 hw (fun x4 hw => ?_)
      refine G_iload_n (pc := 147) (i := 3) hC dX5_chooseAnchors_147 rfl rfl ?_
      refine G_aload (pc := 148) (i := 4) hC dX5_chooseAnchors_148 rfl ?_
      obtain ⟨b6, rfl, hb, hw⟩ := gThis_e hw
      refine G_callF (pc := 150) (n := 0) (x := ⟨"java/util/List", "size", "()I"⟩) (C := "java/util/ArrayList") (ci := 21) (T := TJ2) (N := 3) (b := b6) (As := []) (rest := [.int v3, .int x4]) hC (J_L_size hJ hw) (lw_F q1660 q889 q363 q87 q364) (nw_in q888 rfl) (nw_in q887 rfl) (nw_in q891 rfl) (nw_in q890 rfl) (nw_in q259 rfl) rfl (rcv (C := RJ2) (T := TJ2) (N := 3) hC hb rfl) (by decide +kernel) (by decide) rfl rfl (st_c (cat_i (cat_i cat_e)) (Nat.le_of_ble_eq_true rfl)) dX5_chooseAnchors_150 (kI fun x7 M5 hw => ?_)
      refine G_isub (pc := 155) hC dX5_chooseAnchors_155 ?_
      refine G_icmp_ne (pc := 156) (tgt := 213) hC dX5_chooseAnchors_156 (by decide) (fun hc => ?_) (fun hc => ?_)
      · replace hw := hw.1 hc
        exact g_X5_chooseAnchors_213 hJ hC hQ hin ih  v2 v3 (some b6) v5 v6 M5 hw
      · replace hw := hw.2 hc
        refine G_aload_n (pc := 159) (i := 1) hC dX5_chooseAnchors_159 rfl rfl ?_
        refine G_iload (pc := 160) (i := 6) hC dX5_chooseAnchors_160 rfl ?_
        obtain ⟨hb, hw⟩ := hw
        refine G_callF (pc := 162) (n := 1) (x := ⟨"java/util/List", "get", "(I)Ljava/lang/Object;"⟩) (C := "java/util/ArrayList") (ci := 21) (T := TJ2) (N := 3) (b := b2) (As := [.int v6]) (rest := []) hC (J_L_get hJ hw) (lw_F q1673 q956 q958 q87 q960) (nw_in q955 rfl) (nw_in q954 rfl) (nw_in q959 rfl) (nw_in q957 rfl) (nw_in q259 rfl) rfl (rcv (C := RJ2) (T := TJ2) (N := 3) hC hb rfl) (by decide +kernel) (by decide) rfl rfl (st_c cat_e (Nat.le_of_ble_eq_true rfl)) dX5_chooseAnchors_162 (kRf fun x9 M8 hw => ?_)
        obtain ⟨hb, hw⟩ := hw
        refine G_castCS (pc := 167) (C := RX6) (T := TX6) (N := 2) hC rfl q1693 hb dX5_chooseAnchors_167 ?_
        refine G_getIN (pc := 170) (ci := 5) (C := RX6) (T := TX6) (N := 2) (f := 1) hC rfl in_X6 (Nat.le_of_ble_eq_true rfl) (nw_in q1706 rfl) (fun _ h => h) dX5_chooseAnchors_170 hw (fun x10 hw => ?_)
        refine G_iload (pc := 173) (i := 5) hC dX5_chooseAnchors_173 rfl ?_
        refine G_icmp_le (pc := 175) (tgt := 213) hC dX5_chooseAnchors_175 (by decide) (fun hc => ?_) (fun hc => ?_)
        · replace hw := hw.1 hc
          exact g_X5_chooseAnchors_213 hJ hC hQ hin ih  v2 v3 (some b6) v5 v6 M8 hw
        · replace hw := hw.2 hc
          refine G_aload (pc := 178) (i := 4) hC dX5_chooseAnchors_178 rfl ?_
          refine G_aload_n (pc := 180) (i := 1) hC dX5_chooseAnchors_180 rfl rfl ?_
          refine G_iload (pc := 181) (i := 6) hC dX5_chooseAnchors_181 rfl ?_
          obtain ⟨hb, hw⟩ := hw
          refine G_callF (pc := 183) (n := 1) (x := ⟨"java/util/List", "get", "(I)Ljava/lang/Object;"⟩) (C := "java/util/ArrayList") (ci := 21) (T := TJ2) (N := 3) (b := b2) (As := [.int v6]) (rest := [va_rf (some b6)]) hC (J_L_get hJ hw) (lw_F q1673 q956 q958 q87 q960) (nw_in q955 rfl) (nw_in q954 rfl) (nw_in q959 rfl) (nw_in q957 rfl) (nw_in q259 rfl) rfl (rcv (C := RJ2) (T := TJ2) (N := 3) hC hb rfl) (by decide +kernel) (by decide) rfl rfl (st_c (cat_r cat_e) (Nat.le_of_ble_eq_true rfl)) dX5_chooseAnchors_183 (kRf fun x12 M11 hw => ?_)
          obtain ⟨hb, hw⟩ := hw
          refine G_castCS (pc := 188) (C := RX6) (T := TX6) (N := 2) hC rfl q1693 hb dX5_chooseAnchors_188 ?_
          obtain ⟨hb, hw⟩ := hw
          refine G_callF (pc := 191) (n := 1) (x := ⟨"java/util/List", "add", "(Ljava/lang/Object;)Z"⟩) (C := "java/util/ArrayList") (ci := 21) (T := TJ2) (N := 3) (b := b6) (As := [va_rf x12]) (rest := []) hC (J_L_add hJ hw) (lw_F q1714 q260 q262 q87 q264) (nw_in q258 rfl) (nw_in q257 rfl) (nw_in q263 rfl) (nw_in q261 rfl) (nw_in q259 rfl) rfl (rcv (C := RJ2) (T := TJ2) (N := 3) hC hb rfl) (by decide +kernel) (by decide) rfl rfl (st_c cat_e (Nat.le_of_ble_eq_true rfl)) dX5_chooseAnchors_191 (kI fun x14 M13 hw => ?_)
          refine G_pop (pc := 196) hC dX5_chooseAnchors_196 rfl ?_
          refine G_aload_n (pc := 197) (i := 1) hC dX5_chooseAnchors_197 rfl rfl ?_
          refine G_iload (pc := 198) (i := 6) hC dX5_chooseAnchors_198 rfl ?_
          obtain ⟨hb, hw⟩ := hw
          refine G_callF (pc := 200) (n := 1) (x := ⟨"java/util/List", "get", "(I)Ljava/lang/Object;"⟩) (C := "java/util/ArrayList") (ci := 21) (T := TJ2) (N := 3) (b := b2) (As := [.int v6]) (rest := []) hC (J_L_get hJ hw) (lw_F q1673 q956 q958 q87 q960) (nw_in q955 rfl) (nw_in q954 rfl) (nw_in q959 rfl) (nw_in q957 rfl) (nw_in q259 rfl) rfl (rcv (C := RJ2) (T := TJ2) (N := 3) hC hb rfl) (by decide +kernel) (by decide) rfl rfl (st_c cat_e (Nat.le_of_ble_eq_true rfl)) dX5_chooseAnchors_200 (kRf fun x16 M15 hw => ?_)
          obtain ⟨hb, hw⟩ := hw
          refine G_castCS (pc := 205) (C := RX6) (T := TX6) (N := 2) hC rfl q1693 hb dX5_chooseAnchors_205 ?_
          refine G_getIN (pc := 208) (ci := 5) (C := RX6) (T := TX6) (N := 2) (f := 1) hC rfl in_X6 (Nat.le_of_ble_eq_true rfl) (nw_in q1706 rfl) (fun _ h => h) dX5_chooseAnchors_208 hw (fun x17 hw => ?_)
          refine G_istore (pc := 211) (i := 5) (lw := [some (va_rf (some a0)), some (va_rf (some b2)), some (va_rf v2), some (.int v3), some (va_rf (some b6)), some (.int x17), some (.int v6)]) hC dX5_chooseAnchors_211 (Nat.le_of_ble_eq_true rfl) rfl ?_
          exact g_X5_chooseAnchors_213 hJ hC hQ hin ih  v2 v3 (some b6) x17 v6 M15 hw
theorem g_X5_chooseAnchors_96 {k : kT} {F : Nat} {a0 : Nat} {p1 : Option Nat} {Q : Option Nat → hM → Prop} {K37 : (Option Nat) → Int32 → Int32 → Int32 → hM → Prop} (hJ : JOK (kl k) (kg k)) (hC : CX k 7 cX5_chooseAnchors RX5 (some (.object "java/util/List")) 41 2021) (hQ : isQ k (PR Q)) (hin : (kt k).name = "chooseAnchors") (hK37 : ∀ (v2 : Option Nat) (v3 : Int32) (v4 : Int32) (v5 : Int32) (M : hM), K37 v2 v3 v4 v5 M → GW k 7 M 37 [some (va_rf (some a0)), some (va_rf p1), some (va_rf v2), some (.int v3), some (.int v4), some (.int v5), none] []) : ∀ (v2 : Option Nat) (v3 : Int32) (v4 : Int32) (v5 : Int32) (M : hM), w_X5_chooseAnchors_96 (kg k) F a0 p1 Q K37 v2 v3 v4 v5 M → GW k 7 M 96 [some (va_rf (some a0)), some (va_rf p1), some (va_rf v2), some (.int v3), some (.int v4), some (.int v5), none] [] := by
  intro v2 v3 v4 v5 M hw
  refine G_iinc (pc := 96) (i := 5) (v := (v5 + (1 : Int32))) (lw := [some (va_rf (some a0)), some (va_rf p1), some (va_rf v2), some (.int v3), some (.int v4), some (.int (v5 + (1 : Int32))), none]) hC dX5_chooseAnchors_96 rfl (Nat.le_of_ble_eq_true rfl) rfl rfl ?_
  refine G_goto (pc := 99) (tgt := 37) hC dX5_chooseAnchors_99 (by decide) ?_
  exact hK37 v2 v3 v4 (v5 + (1 : Int32)) M hw
theorem g_X5_chooseAnchors_37 {k : kT} {F : Nat} {a0 : Nat} {p1 : Option Nat} {Q : Option Nat → hM → Prop} {K21 : (Option Nat) → Int32 → Int32 → hM → Prop} (hJ : JOK (kl k) (kg k)) (hC : CX k 7 cX5_chooseAnchors RX5 (some (.object "java/util/List")) 41 2021) (hQ : isQ k (PR Q)) (hin : (kt k).name = "chooseAnchors") (hK21 : ∀ (v2 : Option Nat) (v3 : Int32) (v4 : Int32) (M : hM), K21 v2 v3 v4 M → GW k 7 M 21 [some (va_rf (some a0)), some (va_rf p1), some (va_rf v2), some (.int v3), some (.int v4), none, none] []) : ∀ (n : Nat) (v2 : Option Nat) (v3 : Int32) (v4 : Int32) (v5 : Int32) (M : hM), w_X5_chooseAnchors_37 (kg k) F a0 p1 Q K21 n v2 v3 v4 v5 M → GW k 7 M 37 [some (va_rf (some a0)), some (va_rf p1), some (va_rf v2), some (.int v3), some (.int v4), some (.int v5), none] [] := by
  intro n
  induction n with
  | zero =>
    intro v2 v3 v4 v5 M hw
    exact hw.elim
  | succ n ih =>
    intro v2 v3 v4 v5 M hw
    refine G_iload (pc := 37) (i := 5) hC dX5_chooseAnchors_37 rfl ?_
    refine G_aload_n (pc := 39) (i := 1) hC dX5_chooseAnchors_39 rfl rfl ?_
    obtain ⟨b2, rfl, hb, hw⟩ := gThis_e hw
    refine G_callF (pc := 40) (n := 0) (x := ⟨"java/util/List", "size", "()I"⟩) (C := "java/util/ArrayList") (ci := 21) (T := TJ2) (N := 3) (b := b2) (As := []) (rest := [.int v5]) hC (J_L_size hJ hw) (lw_F q1660 q889 q363 q87 q364) (nw_in q888 rfl) (nw_in q887 rfl) (nw_in q891 rfl) (nw_in q890 rfl) (nw_in q259 rfl) rfl (rcv (C := RJ2) (T := TJ2) (N := 3) hC hb rfl) (by decide +kernel) (by decide) rfl rfl (st_c (cat_i cat_e) (Nat.le_of_ble_eq_true rfl)) dX5_chooseAnchors_40 (kI fun x3 M1 hw => ?_)
    refine G_icmp_ge (pc := 45) (tgt := 102) hC dX5_chooseAnchors_45 (by decide) (fun hc => ?_) (fun hc => ?_)
    · replace hw := hw.1 hc
      refine G_iload_n (pc := 102) (i := 3) hC dX5_chooseAnchors_102 rfl rfl ?_
      refine G_aload_n (pc := 103) (i := 2) hC dX5_chooseAnchors_103 rfl rfl ?_
      refine G_iload (pc := 104) (i := 4) hC dX5_chooseAnchors_104 rfl ?_
      refine G_iald (pc := 106) hC dX5_chooseAnchors_106 hw (fun x4 hw => ?_)
      refine G_max (pc := 107) hC q1671 q281 q95 q282 rfl rfl (st_c cat_e (Nat.le_of_ble_eq_true rfl)) dX5_chooseAnchors_107 ?_
      refine G_istore_n (pc := 110) (i := 3) (lw := [some (va_rf (some a0)), some (va_rf (some b2)), some (va_rf v2), some (.int (if v3 < x4 then x4 else v3)), some (.int v4), some (.int v5), none]) hC dX5_chooseAnchors_110 rfl (Nat.le_of_ble_eq_true rfl) rfl ?_
      refine G_iinc (pc := 111) (i := 4) (v := (v4 + (-1 : Int32))) (lw := [some (va_rf (some a0)), some (va_rf (some b2)), some (va_rf v2), some (.int (if v3 < x4 then x4 else v3)), some (.int (v4 + (-1 : Int32))), some (.int v5), none]) hC dX5_chooseAnchors_111 rfl (Nat.le_of_ble_eq_true rfl) rfl rfl ?_
      refine G_goto (pc := 114) (tgt := 21) hC dX5_chooseAnchors_114 (by decide) ?_
      refine G_loc (lv' := [some (va_rf (some a0)), some (va_rf (some b2)), some (va_rf v2), some (.int (if v3 < x4 then x4 else v3)), some (.int (v4 + (-1 : Int32))), none, none]) ⟨Or.inr rfl, Or.inr rfl, Or.inr rfl, Or.inr rfl, Or.inr rfl, Or.inl rfl, Or.inr rfl, trivial⟩ ?_
      exact hK21 v2 (if v3 < x4 then x4 else v3) (v4 + (-1 : Int32)) M1 hw
    · replace hw := hw.2 hc
      refine G_aload_n (pc := 48) (i := 1) hC dX5_chooseAnchors_48 rfl rfl ?_
      refine G_iload (pc := 49) (i := 5) hC dX5_chooseAnchors_49 rfl ?_
      obtain ⟨hb, hw⟩ := hw
      refine G_callF (pc := 51) (n := 1) (x := ⟨"java/util/List", "get", "(I)Ljava/lang/Object;"⟩) (C := "java/util/ArrayList") (ci := 21) (T := TJ2) (N := 3) (b := b2) (As := [.int v5]) (rest := []) hC (J_L_get hJ hw) (lw_F q1673 q956 q958 q87 q960) (nw_in q955 rfl) (nw_in q954 rfl) (nw_in q959 rfl) (nw_in q957 rfl) (nw_in q259 rfl) rfl (rcv (C := RJ2) (T := TJ2) (N := 3) hC hb rfl) (by decide +kernel) (by decide) rfl rfl (st_c cat_e (Nat.le_of_ble_eq_true rfl)) dX5_chooseAnchors_51 (kRf fun x6 M5 hw => ?_)
      obtain ⟨hb, hw⟩ := hw
      refine G_castCS (pc := 56) (C := RX6) (T := TX6) (N := 2) hC rfl q1693 hb dX5_chooseAnchors_56 ?_
      refine G_getIN (pc := 59) (ci := 5) (C := RX6) (T := TX6) (N := 2) (f := 1) hC rfl in_X6 (Nat.le_of_ble_eq_true rfl) (nw_in q1706 rfl) (fun _ h => h) dX5_chooseAnchors_59 hw (fun x7 hw => ?_)
      refine G_aload_n (pc := 62) (i := 1) hC dX5_chooseAnchors_62 rfl rfl ?_
      refine G_iload (pc := 63) (i := 4) hC dX5_chooseAnchors_63 rfl ?_
      obtain ⟨hb, hw⟩ := hw
      refine G_callF (pc := 65) (n := 1) (x := ⟨"java/util/List", "get", "(I)Ljava/lang/Object;"⟩) (C := "java/util/ArrayList") (ci := 21) (T := TJ2) (N := 3) (b := b2) (As := [.int v4]) (rest := [.int x7]) hC (J_L_get hJ hw) (lw_F q1673 q956 q958 q87 q960) (nw_in q955 rfl) (nw_in q954 rfl) (nw_in q959 rfl) (nw_in q957 rfl) (nw_in q259 rfl) rfl (rcv (C := RJ2) (T := TJ2) (N := 3) hC hb rfl) (by decide +kernel) (by decide) rfl rfl (st_c (cat_i cat_e) (Nat.le_of_ble_eq_true rfl)) dX5_chooseAnchors_65 (kRf fun x9 M8 hw => ?_)
      obtain ⟨hb, hw⟩ := hw
      refine G_castCS (pc := 70) (C := RX6) (T := TX6) (N := 2) hC rfl q1693 hb dX5_chooseAnchors_70 ?_
      refine G_getIN (pc := 73) (ci := 5) (C := RX6) (T := TX6) (N := 2) (f := 1) hC rfl in_X6 (Nat.le_of_ble_eq_true rfl) (nw_in q1706 rfl) (fun _ h => h) dX5_chooseAnchors_73 hw (fun x10 hw => ?_)
      refine G_icmp_le (pc := 76) (tgt := 96) hC dX5_chooseAnchors_76 (by decide) (fun hc => ?_) (fun hc => ?_)
      · replace hw := hw.1 hc
        exact g_X5_chooseAnchors_96 hJ hC hQ hin ih  v2 v3 v4 v5 M8 hw
      · replace hw := hw.2 hc
        refine G_aload_n (pc := 79) (i := 2) hC dX5_chooseAnchors_79 rfl rfl ?_
        refine G_iload (pc := 80) (i := 4) hC dX5_chooseAnchors_80 rfl ?_
        refine G_aload_n (pc := 82) (i := 2) hC dX5_chooseAnchors_82 rfl rfl ?_
        refine G_iload (pc := 83) (i := 4) hC dX5_chooseAnchors_83 rfl ?_
        refine G_iald (pc := 85) hC dX5_chooseAnchors_85 hw (fun x11 hw => ?_)
        refine G_iconst (pc := 86) (v := 1) hC dX5_chooseAnchors_86 (by decide) ?_
        refine G_aload_n (pc := 87) (i := 2) hC dX5_chooseAnchors_87 rfl rfl ?_
        refine G_iload (pc := 88) (i := 5) hC dX5_chooseAnchors_88 rfl ?_
        refine G_iald (pc := 90) hC dX5_chooseAnchors_90 hw (fun x12 hw => ?_)
        refine G_iadd (pc := 91) hC dX5_chooseAnchors_91 ?_
        refine G_max (pc := 92) hC q1671 q281 q95 q282 rfl rfl (st_c (cat_i (cat_r cat_e)) (Nat.le_of_ble_eq_true rfl)) dX5_chooseAnchors_92 ?_
        refine G_iast (pc := 95) hC dX5_chooseAnchors_95 hw (fun M13 hw => ?_)
        exact g_X5_chooseAnchors_96 hJ hC hQ hin ih  v2 v3 v4 v5 M13 hw
theorem g_X5_chooseAnchors_21 {k : kT} {F : Nat} {a0 : Nat} {p1 : Option Nat} {Q : Option Nat → hM → Prop} (hJ : JOK (kl k) (kg k)) (hC : CX k 7 cX5_chooseAnchors RX5 (some (.object "java/util/List")) 41 2021) (hQ : isQ k (PR Q)) (hin : (kt k).name = "chooseAnchors") : ∀ (n : Nat) (v2 : Option Nat) (v3 : Int32) (v4 : Int32) (M : hM), w_X5_chooseAnchors_21 (kg k) F a0 p1 Q n v2 v3 v4 M → GW k 7 M 21 [some (va_rf (some a0)), some (va_rf p1), some (va_rf v2), some (.int v3), some (.int v4), none, none] [] := by
  intro n
  induction n with
  | zero =>
    intro v2 v3 v4 M hw
    exact hw.elim
  | succ n ih =>
    intro v2 v3 v4 M hw
    refine G_iload (pc := 21) (i := 4) hC dX5_chooseAnchors_21 rfl ?_
    refine G_if_lt (pc := 23) (tgt := 117) hC dX5_chooseAnchors_23 (by decide) (fun hc => ?_) (fun hc => ?_)
    · replace hw := hw.1 hc
      refine G_new (pc := 117) (ci := 21) (C := RJ2) (T := TJ2) (N := 3) (fs := fsJ2) tyJ2 hC rfl in_J2 tyJ2_ok q1639 q161 q87 dfJ2 rfl dX5_chooseAnchors_117 hw (fun q1 M2 hw => ?_)
      refine G_dup (pc := 120) hC dX5_chooseAnchors_120 (rf_cat _) ?_
      obtain ⟨hb, hw⟩ := hw
      refine G_callI (pc := 121) (n := 0) (b := q1) (As := []) (rest := [va_rf (some q1)]) hC (J_L_new hJ hw) (lw_meth q164) q87 q1640 q163 rfl hd_J2_init.2 (by decide) rfl rfl (st_c (cat_r cat_e) (Nat.le_of_ble_eq_true rfl)) dX5_chooseAnchors_121 (kU fun M3 hw => ?_)
      refine G_astore (pc := 124) (i := 4) (lw := [some (va_rf (some a0)), some (va_rf p1), some (va_rf v2), some (.int v3), some (va_rf (some q1)), none, none]) hC dX5_chooseAnchors_124 (Nat.le_of_ble_eq_true rfl) rfl ?_
      refine G_iconst (pc := 126) (v := -1) hC dX5_chooseAnchors_126 (by decide) ?_
      refine G_istore (pc := 127) (i := 5) (lw := [some (va_rf (some a0)), some (va_rf p1), some (va_rf v2), some (.int v3), some (va_rf (some q1)), some (.int (-1 : Int32)), none]) hC dX5_chooseAnchors_127 (Nat.le_of_ble_eq_true rfl) rfl ?_
      refine G_iconst (pc := 129) (v := 0) hC dX5_chooseAnchors_129 (by decide) ?_
      refine G_istore (pc := 130) (i := 6) (lw := [some (va_rf (some a0)), some (va_rf p1), some (va_rf v2), some (.int v3), some (va_rf (some q1)), some (.int (-1 : Int32)), some (.int (0 : Int32))]) hC dX5_chooseAnchors_130 (Nat.le_of_ble_eq_true rfl) rfl ?_
      exact g_X5_chooseAnchors_132 hJ hC hQ hin _ v2 v3 (some q1) (-1 : Int32) (0 : Int32) M3 hw
    · replace hw := hw.2 hc
      refine G_aload_n (pc := 26) (i := 2) hC dX5_chooseAnchors_26 rfl rfl ?_
      refine G_iload (pc := 27) (i := 4) hC dX5_chooseAnchors_27 rfl ?_
      refine G_iconst (pc := 29) (v := 1) hC dX5_chooseAnchors_29 (by decide) ?_
      refine G_iast (pc := 30) hC dX5_chooseAnchors_30 hw (fun M4 hw => ?_)
      refine G_iload (pc := 31) (i := 4) hC dX5_chooseAnchors_31 rfl ?_
      refine G_iconst (pc := 33) (v := 1) hC dX5_chooseAnchors_33 (by decide) ?_
      refine G_iadd (pc := 34) hC dX5_chooseAnchors_34 ?_
      refine G_istore (pc := 35) (i := 5) (lw := [some (va_rf (some a0)), some (va_rf p1), some (va_rf v2), some (.int v3), some (.int v4), some (.int (v4 + (1 : Int32))), none]) hC dX5_chooseAnchors_35 (Nat.le_of_ble_eq_true rfl) rfl ?_
      exact g_X5_chooseAnchors_37 hJ hC hQ hin ih _ v2 v3 v4 (v4 + (1 : Int32)) M4 hw
theorem m_X5_chooseAnchors {l : Launch} {g : gT} {F : Nat} {a0 : Nat} {p1 : Option Nat} {M : hM} {Q : Option Nat → hM → Prop} (hJ : JOK l g) (hw : w_X5_chooseAnchors g F a0 p1 M Q) : MG l g yX5_chooseAnchors (ws_ yX5_chooseAnchors cX5_chooseAnchors 7 (some (.object "java/util/List"))) 41 2021 [va_rf (some a0), va_rf p1] M (PR Q) := by
  refine MG_of hJ.2.1 (by decide) (cat_r (cat_r cat_e)) (Nat.le_of_ble_eq_true rfl) (fun k hl hg hin hQ hC => ?_)
  subst hl hg
  show GW k 7 M 0 [some (va_rf (some a0)), some (va_rf p1), none, none, none, none, none] []
  refine G_aload_n (pc := 0) (i := 1) hC dX5_chooseAnchors_0 rfl rfl ?_
  obtain ⟨b2, rfl, hb, hw⟩ := gThis_e hw
  refine G_callF (pc := 1) (n := 0) (x := ⟨"java/util/List", "size", "()I"⟩) (C := "java/util/ArrayList") (ci := 21) (T := TJ2) (N := 3) (b := b2) (As := []) (rest := []) hC (J_L_size hJ hw) (lw_F q1660 q889 q363 q87 q364) (nw_in q888 rfl) (nw_in q887 rfl) (nw_in q891 rfl) (nw_in q890 rfl) (nw_in q259 rfl) rfl (rcv (C := RJ2) (T := TJ2) (N := 3) hC hb rfl) (by decide +kernel) (by decide) rfl rfl (st_c cat_e (Nat.le_of_ble_eq_true rfl)) dX5_chooseAnchors_1 (kI fun x3 M1 hw => ?_)
  refine G_newI (pc := 6) hC q1712 dX5_chooseAnchors_6 hw (fun q4 M5 hw => ?_)
  refine G_astore_n (pc := 8) (i := 2) (lw := [some (va_rf (some a0)), some (va_rf (some b2)), some (va_rf (some q4)), none, none, none, none]) hC dX5_chooseAnchors_8 rfl (Nat.le_of_ble_eq_true rfl) rfl ?_
  refine G_iconst (pc := 9) (v := 0) hC dX5_chooseAnchors_9 (by decide) ?_
  refine G_istore_n (pc := 10) (i := 3) (lw := [some (va_rf (some a0)), some (va_rf (some b2)), some (va_rf (some q4)), some (.int (0 : Int32)), none, none, none]) hC dX5_chooseAnchors_10 rfl (Nat.le_of_ble_eq_true rfl) rfl ?_
  refine G_aload_n (pc := 11) (i := 1) hC dX5_chooseAnchors_11 rfl rfl ?_
  obtain ⟨hb, hw⟩ := hw
  refine G_callF (pc := 12) (n := 0) (x := ⟨"java/util/List", "size", "()I"⟩) (C := "java/util/ArrayList") (ci := 21) (T := TJ2) (N := 3) (b := b2) (As := []) (rest := []) hC (J_L_size hJ hw) (lw_F q1660 q889 q363 q87 q364) (nw_in q888 rfl) (nw_in q887 rfl) (nw_in q891 rfl) (nw_in q890 rfl) (nw_in q259 rfl) rfl (rcv (C := RJ2) (T := TJ2) (N := 3) hC hb rfl) (by decide +kernel) (by decide) rfl rfl (st_c cat_e (Nat.le_of_ble_eq_true rfl)) dX5_chooseAnchors_12 (kI fun x7 M6 hw => ?_)
  refine G_iconst (pc := 17) (v := 1) hC dX5_chooseAnchors_17 (by decide) ?_
  refine G_isub (pc := 18) hC dX5_chooseAnchors_18 ?_
  refine G_istore (pc := 19) (i := 4) (lw := [some (va_rf (some a0)), some (va_rf (some b2)), some (va_rf (some q4)), some (.int (0 : Int32)), some (.int (x7 - (1 : Int32))), none, none]) hC dX5_chooseAnchors_19 (Nat.le_of_ble_eq_true rfl) rfl ?_
  exact g_X5_chooseAnchors_21 hJ hC hQ hin _ (some q4) (0 : Int32) (x7 - (1 : Int32)) M6 hw
theorem hd_J24_hasNext : yJ24_hasNext.cls = "java/util/ArrayList$Itr" ∧ yJ24_hasNext.cls ≠ "java/lang/invoke/MethodHandle" ∧ yJ24_hasNext.cls ≠ "java/lang/invoke/VarHandle" ∧ (parseMethodDescriptor yJ24_hasNext.desc).map (fun d => d.parameters.length) = some 0 := by decide +kernel
theorem hd_J24_next : yJ24_next.cls = "java/util/ArrayList$Itr" ∧ yJ24_next.cls ≠ "java/lang/invoke/MethodHandle" ∧ yJ24_next.cls ≠ "java/lang/invoke/VarHandle" ∧ (parseMethodDescriptor yJ24_next.desc).map (fun d => d.parameters.length) = some 0 := by decide +kernel
theorem hd_J2_iterator : yJ2_iterator.cls = "java/util/ArrayList" ∧ yJ2_iterator.cls ≠ "java/lang/invoke/MethodHandle" ∧ yJ2_iterator.cls ≠ "java/lang/invoke/VarHandle" ∧ (parseMethodDescriptor yJ2_iterator.desc).map (fun d => d.parameters.length) = some 0 := by decide +kernel
theorem hd_X5_candidates : yX5_candidates.cls = "MergeWorkbench$Aligner" ∧ yX5_candidates.cls ≠ "java/lang/invoke/MethodHandle" ∧ yX5_candidates.cls ≠ "java/lang/invoke/VarHandle" ∧ (parseMethodDescriptor yX5_candidates.desc).map (fun d => d.parameters.length) = some 0 := by decide +kernel
theorem hd_X5_chooseAnchors : yX5_chooseAnchors.cls = "MergeWorkbench$Aligner" ∧ yX5_chooseAnchors.cls ≠ "java/lang/invoke/MethodHandle" ∧ yX5_chooseAnchors.cls ≠ "java/lang/invoke/VarHandle" ∧ (parseMethodDescriptor yX5_chooseAnchors.desc).map (fun d => d.parameters.length) = some 1 := by decide +kernel
def w_X5_anchored_31 (g : gT) (F : Nat) (a0 : Nat) (Q : Option Nat → hM → Prop) : Nat → Int32 → Int32 → (Option Nat) → hM → Prop
  | 0, _, _, _, _ => False
  | n + 1, v2, v3, v4, M => gThis M v4 26 fun b2 => T_has g b2  M (fun x3 M1 => ((x3 = 0 → gF M1 (some a0) 4 0 fun x4 => gThis M1 x4 21 fun b6 => L_size g b6  M1 (fun x7 M5 => gF M5 (some a0) 4 1 fun x8 => gThis M5 x8 21 fun b10 => L_size g b10  M5 (fun x11 M9 => (isC M9 a0 4 ∧ w_X5_align g F a0 v2 x7 v3 x11 M9 (fun M12 => gF M12 (some a0) 4 2 fun x13 => Q x13 M12))))) ∧ (¬ (x3 = 0) → (isC M1 b2 26 ∧ T_next g b2  M1 (fun x15 M14 => ckC M14 x15 5 (gI M14 x15 5 0 fun x16 => gI M14 x15 5 1 fun x17 => (isC M14 a0 4 ∧ w_X5_align g F a0 v2 x16 v3 x17 M14 (fun M18 => gF M18 (some a0) 4 2 fun x19 => gThis M18 x19 21 fun b21 => L_add g b21 x15 M18 (fun x22 M20 => gI M20 x15 5 0 fun x23 => gI M20 x15 5 1 fun x24 => w_X5_anchored_31 g F a0 Q n (x23 + (1 : Int32)) (x24 + (1 : Int32)) (some b2) M20)))))))))
def w_X5_anchored (g : gT) (F : Nat) (a0 : Nat) (M : hM) (Q : Option Nat → hM → Prop) : Prop :=
  (isC M a0 4 ∧ w_X5_candidates g F a0  M (fun x2 M1 => (isC M1 a0 4 ∧ w_X5_chooseAnchors g F a0 x2 M1 (fun x4 M3 => gThis M3 x4 21 fun b6 => L_size g b6  M3 (fun x7 M5 => pV M5 (some a0) 4 3 (.int x7) fun M8 => (isC M8 b6 21 ∧ L_itr g b6  M8 (fun x10 M9 => w_X5_anchored_31 g F a0 Q F (0 : Int32) (0 : Int32) x10 M9)))))))
theorem g_X5_anchored_31 {k : kT} {F : Nat} {a0 : Nat} {Q : Option Nat → hM → Prop} (hJ : JOK (kl k) (kg k)) (hC : CX k 6 cX5_anchored RX5 (some (.object "java/util/List")) 43 2078) (hQ : isQ k (PR Q)) (hin : (kt k).name = "anchored") : ∀ (n : Nat) (v2 : Int32) (v3 : Int32) (v4 : Option Nat) (M : hM), w_X5_anchored_31 (kg k) F a0 Q n v2 v3 v4 M → GW k 6 M 31 [some (va_rf (some a0)), none, some (.int v2), some (.int v3), some (va_rf v4), none] [] := by
  intro n
  induction n with
  | zero =>
    intro v2 v3 v4 M hw
    exact hw.elim
  | succ n ih =>
    intro v2 v3 v4 M hw
    refine G_aload (pc := 31) (i := 4) hC dX5_anchored_31 rfl ?_
    obtain ⟨b2, rfl, hb, hw⟩ := gThis_e hw
    refine G_callF (pc := 33) (n := 0) (x := ⟨"java/util/Iterator", "hasNext", "()Z"⟩) (C := "java/util/ArrayList$Itr") (ci := 26) (T := TJ24) (N := 4) (b := b2) (As := []) (rest := []) hC (J_T_has hJ hw) (lw_F q2351 q909 q911 q112 q913) (nw_in q878 rfl) (nw_in q877 rfl) (nw_in q912 rfl) (nw_in q910 rfl) (nw_in q908 rfl) rfl (rcv (C := RJ24) (T := TJ24) (N := 4) hC hb rfl) (by decide +kernel) (by decide) rfl rfl (st_c cat_e (Nat.le_of_ble_eq_true rfl)) dX5_anchored_33 (kI fun x3 M1 hw => ?_)
    refine G_if_eq (pc := 38) (tgt := 100) hC dX5_anchored_38 (by decide) (fun hc => ?_) (fun hc => ?_)
    · replace hw := hw.1 hc
      refine G_aload_n (pc := 100) (i := 0) hC dX5_anchored_100 rfl rfl ?_
      refine G_iload_n (pc := 101) (i := 2) hC dX5_anchored_101 rfl rfl ?_
      refine G_aload_n (pc := 102) (i := 0) hC dX5_anchored_102 rfl rfl ?_
      refine G_getF (pc := 103) (ci := 4) (C := RX5) (T := TX5) (N := 4) (f := 0) hC rfl in_X5 (Nat.le_of_ble_eq_true rfl) q1641 (fun _ h => h) dX5_anchored_103 hw (fun x4 hw => ?_)
      obtain ⟨b6, rfl, hb, hw⟩ := gThis_e hw
      refine G_callF (pc := 106) (n := 0) (x := ⟨"java/util/List", "size", "()I"⟩) (C := "java/util/ArrayList") (ci := 21) (T := TJ2) (N := 3) (b := b6) (As := []) (rest := [.int v2, va_rf (some a0)]) hC (J_L_size hJ hw) (lw_F q1660 q889 q363 q87 q364) (nw_in q888 rfl) (nw_in q887 rfl) (nw_in q891 rfl) (nw_in q890 rfl) (nw_in q259 rfl) rfl (rcv (C := RJ2) (T := TJ2) (N := 3) hC hb rfl) (by decide +kernel) (by decide) rfl rfl (st_c (cat_i (cat_r cat_e)) (Nat.le_of_ble_eq_true rfl)) dX5_anchored_106 (kI fun x7 M5 hw => ?_)
      refine G_iload_n (pc := 111) (i := 3) hC dX5_anchored_111 rfl rfl ?_
      refine G_aload_n (pc := 112) (i := 0) hC dX5_anchored_112 rfl rfl ?_
      refine G_getF (pc := 113) (ci := 4) (C := RX5) (T := TX5) (N := 4) (f := 1) hC rfl in_X5 (Nat.le_of_ble_eq_true rfl) q1642 (fun _ h => h) dX5_anchored_113 hw (fun x8 hw => ?_)
      obtain ⟨b10, rfl, hb, hw⟩ := gThis_e hw
      refine G_callF (pc := 116) (n := 0) (x := ⟨"java/util/List", "size", "()I"⟩) (C := "java/util/ArrayList") (ci := 21) (T := TJ2) (N := 3) (b := b10) (As := []) (rest := [.int v3, .int x7, .int v2, va_rf (some a0)]) hC (J_L_size hJ hw) (lw_F q1660 q889 q363 q87 q364) (nw_in q888 rfl) (nw_in q887 rfl) (nw_in q891 rfl) (nw_in q890 rfl) (nw_in q259 rfl) rfl (rcv (C := RJ2) (T := TJ2) (N := 3) hC hb rfl) (by decide +kernel) (by decide) rfl rfl (st_c (cat_i (cat_i (cat_i (cat_r cat_e)))) (Nat.le_of_ble_eq_true rfl)) dX5_anchored_116 (kI fun x11 M9 hw => ?_)
      obtain ⟨hb, hw⟩ := hw
      refine G_callV (pc := 121) (n := 4) (C := "MergeWorkbench$Aligner") (b := a0) (As := [.int v2, .int x7, .int v3, .int x11]) (rest := []) hC (m_X5_align hJ hw) (lw_V q1661 q1663 qs17 q123 q1664) hd_X5_align (by decide) (rcv (C := RX5) (T := TX5) (N := 4) hC hb rfl) rfl rfl (st_c cat_e (Nat.le_of_ble_eq_true rfl)) dX5_anchored_121 (kU fun M12 hw => ?_)
      refine G_aload_n (pc := 124) (i := 0) hC dX5_anchored_124 rfl rfl ?_
      refine G_getF (pc := 125) (ci := 4) (C := RX5) (T := TX5) (N := 4) (f := 2) hC rfl in_X5 (Nat.le_of_ble_eq_true rfl) q1643 (fun _ h => h) dX5_anchored_125 hw (fun x13 hw => ?_)
      exact G_aret (pc := 128) hC (Or.inl ⟨_, rfl⟩) hQ dX5_anchored_128 hw
    · replace hw := hw.2 hc
      refine G_aload (pc := 41) (i := 4) hC dX5_anchored_41 rfl ?_
      obtain ⟨hb, hw⟩ := hw
      refine G_callF (pc := 43) (n := 0) (x := ⟨"java/util/Iterator", "next", "()Ljava/lang/Object;"⟩) (C := "java/util/ArrayList$Itr") (ci := 26) (T := TJ24) (N := 4) (b := b2) (As := []) (rest := []) hC (J_T_next hJ hw) (lw_F q2353 q1119 q1121 q112 q1123) (nw_in q937 rfl) (nw_in q936 rfl) (nw_in q1122 rfl) (nw_in q1120 rfl) (nw_in q908 rfl) rfl (rcv (C := RJ24) (T := TJ24) (N := 4) hC hb rfl) (by decide +kernel) (by decide) rfl rfl (st_c cat_e (Nat.le_of_ble_eq_true rfl)) dX5_anchored_43 (kRf fun x15 M14 hw => ?_)
      obtain ⟨hb, hw⟩ := hw
      refine G_castCS (pc := 48) (C := RX6) (T := TX6) (N := 2) hC rfl q1693 hb dX5_anchored_48 ?_
      refine G_astore (pc := 51) (i := 5) (lw := [some (va_rf (some a0)), none, some (.int v2), some (.int v3), some (va_rf (some b2)), some (va_rf x15)]) hC dX5_anchored_51 (Nat.le_of_ble_eq_true rfl) rfl ?_
      refine G_aload_n (pc := 53) (i := 0) hC dX5_anchored_53 rfl rfl ?_
      refine G_iload_n (pc := 54) (i := 2) hC dX5_anchored_54 rfl rfl ?_
      refine G_aload (pc := 55) (i := 5) hC dX5_anchored_55 rfl ?_
      refine G_getIN (pc := 57) (ci := 5) (C := RX6) (T := TX6) (N := 2) (f := 0) hC rfl in_X6 (Nat.le_of_ble_eq_true rfl) (nw_in q1702 rfl) (fun _ h => h) dX5_anchored_57 hw (fun x16 hw => ?_)
      refine G_iload_n (pc := 60) (i := 3) hC dX5_anchored_60 rfl rfl ?_
      refine G_aload (pc := 61) (i := 5) hC dX5_anchored_61 rfl ?_
      refine G_getIN (pc := 63) (ci := 5) (C := RX6) (T := TX6) (N := 2) (f := 1) hC rfl in_X6 (Nat.le_of_ble_eq_true rfl) (nw_in q1706 rfl) (fun _ h => h) dX5_anchored_63 hw (fun x17 hw => ?_)
      obtain ⟨hb, hw⟩ := hw
      refine G_callV (pc := 66) (n := 4) (C := "MergeWorkbench$Aligner") (b := a0) (As := [.int v2, .int x16, .int v3, .int x17]) (rest := []) hC (m_X5_align hJ hw) (lw_V q1661 q1663 qs17 q123 q1664) hd_X5_align (by decide) (rcv (C := RX5) (T := TX5) (N := 4) hC hb rfl) rfl rfl (st_c cat_e (Nat.le_of_ble_eq_true rfl)) dX5_anchored_66 (kU fun M18 hw => ?_)
      refine G_aload_n (pc := 69) (i := 0) hC dX5_anchored_69 rfl rfl ?_
      refine G_getF (pc := 70) (ci := 4) (C := RX5) (T := TX5) (N := 4) (f := 2) hC rfl in_X5 (Nat.le_of_ble_eq_true rfl) q1643 (fun _ h => h) dX5_anchored_70 hw (fun x19 hw => ?_)
      refine G_aload (pc := 73) (i := 5) hC dX5_anchored_73 rfl ?_
      obtain ⟨b21, rfl, hb, hw⟩ := gThis_e hw
      refine G_callF (pc := 75) (n := 1) (x := ⟨"java/util/List", "add", "(Ljava/lang/Object;)Z"⟩) (C := "java/util/ArrayList") (ci := 21) (T := TJ2) (N := 3) (b := b21) (As := [va_rf x15]) (rest := []) hC (J_L_add hJ hw) (lw_F q1714 q260 q262 q87 q264) (nw_in q258 rfl) (nw_in q257 rfl) (nw_in q263 rfl) (nw_in q261 rfl) (nw_in q259 rfl) rfl (rcv (C := RJ2) (T := TJ2) (N := 3) hC hb rfl) (by decide +kernel) (by decide) rfl rfl (st_c cat_e (Nat.le_of_ble_eq_true rfl)) dX5_anchored_75 (kI fun x22 M20 hw => ?_)
      refine G_pop (pc := 80) hC dX5_anchored_80 rfl ?_
      refine G_aload (pc := 81) (i := 5) hC dX5_anchored_81 rfl ?_
      refine G_getIN (pc := 83) (ci := 5) (C := RX6) (T := TX6) (N := 2) (f := 0) hC rfl in_X6 (Nat.le_of_ble_eq_true rfl) (nw_in q1702 rfl) (fun _ h => h) dX5_anchored_83 hw (fun x23 hw => ?_)
      refine G_iconst (pc := 86) (v := 1) hC dX5_anchored_86 (by decide) ?_
      refine G_iadd (pc := 87) hC dX5_anchored_87 ?_
      refine G_istore_n (pc := 88) (i := 2) (lw := [some (va_rf (some a0)), none, some (.int (x23 + (1 : Int32))), some (.int v3), some (va_rf (some b2)), some (va_rf x15)]) hC dX5_anchored_88 rfl (Nat.le_of_ble_eq_true rfl) rfl ?_
      refine G_aload (pc := 89) (i := 5) hC dX5_anchored_89 rfl ?_
      refine G_getIN (pc := 91) (ci := 5) (C := RX6) (T := TX6) (N := 2) (f := 1) hC rfl in_X6 (Nat.le_of_ble_eq_true rfl) (nw_in q1706 rfl) (fun _ h => h) dX5_anchored_91 hw (fun x24 hw => ?_)
      refine G_iconst (pc := 94) (v := 1) hC dX5_anchored_94 (by decide) ?_
      refine G_iadd (pc := 95) hC dX5_anchored_95 ?_
      refine G_istore_n (pc := 96) (i := 3) (lw := [some (va_rf (some a0)), none, some (.int (x23 + (1 : Int32))), some (.int (x24 + (1 : Int32))), some (va_rf (some b2)), some (va_rf x15)]) hC dX5_anchored_96 rfl (Nat.le_of_ble_eq_true rfl) rfl ?_
      refine G_goto (pc := 97) (tgt := 31) hC dX5_anchored_97 (by decide) ?_
      refine G_loc (lv' := [some (va_rf (some a0)), none, some (.int (x23 + (1 : Int32))), some (.int (x24 + (1 : Int32))), some (va_rf (some b2)), none]) ⟨Or.inr rfl, Or.inr rfl, Or.inr rfl, Or.inr rfl, Or.inr rfl, Or.inl rfl, trivial⟩ ?_
      exact ih (x23 + (1 : Int32)) (x24 + (1 : Int32)) (some b2) M20 hw
theorem m_X5_anchored {l : Launch} {g : gT} {F : Nat} {a0 : Nat} {M : hM} {Q : Option Nat → hM → Prop} (hJ : JOK l g) (hw : w_X5_anchored g F a0 M Q) : MG l g yX5_anchored (ws_ yX5_anchored cX5_anchored 6 (some (.object "java/util/List"))) 43 2078 [va_rf (some a0)] M (PR Q) := by
  refine MG_of hJ.2.1 (by decide) (cat_r cat_e) (Nat.le_of_ble_eq_true rfl) (fun k hl hg hin hQ hC => ?_)
  subst hl hg
  show GW k 6 M 0 [some (va_rf (some a0)), none, none, none, none, none] []
  refine G_aload_n (pc := 0) (i := 0) hC dX5_anchored_0 rfl rfl ?_
  refine G_aload_n (pc := 1) (i := 0) hC dX5_anchored_1 rfl rfl ?_
  obtain ⟨hb, hw⟩ := hw
  refine G_callV (pc := 2) (n := 0) (C := "MergeWorkbench$Aligner") (b := a0) (As := []) (rest := [va_rf (some a0)]) hC (m_X5_candidates hJ hw) (lw_V q2200 q2202 qs27 q123 q2203) hd_X5_candidates (by decide) (rcv (C := RX5) (T := TX5) (N := 4) hC hb rfl) rfl rfl (st_c (cat_r cat_e) (Nat.le_of_ble_eq_true rfl)) dX5_anchored_2 (kRf fun x2 M1 hw => ?_)
  obtain ⟨hb, hw⟩ := hw
  refine G_callV (pc := 5) (n := 1) (C := "MergeWorkbench$Aligner") (b := a0) (As := [va_rf x2]) (rest := []) hC (m_X5_chooseAnchors hJ hw) (lw_V q2344 q2346 qs35 q123 q2347) hd_X5_chooseAnchors (by decide) (rcv (C := RX5) (T := TX5) (N := 4) hC hb rfl) rfl rfl (st_c cat_e (Nat.le_of_ble_eq_true rfl)) dX5_anchored_5 (kRf fun x4 M3 hw => ?_)
  refine G_astore_n (pc := 8) (i := 1) (lw := [some (va_rf (some a0)), some (va_rf x4), none, none, none, none]) hC dX5_anchored_8 rfl (Nat.le_of_ble_eq_true rfl) rfl ?_
  refine G_aload_n (pc := 9) (i := 0) hC dX5_anchored_9 rfl rfl ?_
  refine G_aload_n (pc := 10) (i := 1) hC dX5_anchored_10 rfl rfl ?_
  obtain ⟨b6, rfl, hb, hw⟩ := gThis_e hw
  refine G_callF (pc := 11) (n := 0) (x := ⟨"java/util/List", "size", "()I"⟩) (C := "java/util/ArrayList") (ci := 21) (T := TJ2) (N := 3) (b := b6) (As := []) (rest := [va_rf (some a0)]) hC (J_L_size hJ hw) (lw_F q1660 q889 q363 q87 q364) (nw_in q888 rfl) (nw_in q887 rfl) (nw_in q891 rfl) (nw_in q890 rfl) (nw_in q259 rfl) rfl (rcv (C := RJ2) (T := TJ2) (N := 3) hC hb rfl) (by decide +kernel) (by decide) rfl rfl (st_c (cat_r cat_e) (Nat.le_of_ble_eq_true rfl)) dX5_anchored_11 (kI fun x7 M5 hw => ?_)
  refine G_put (pc := 16) (ci := 4) (C := RX5) (T := TX5) (N := 4) (f := 3) tyX5 hC rfl in_X5 tyX5_ok nmX5 (Nat.le_of_ble_eq_true rfl) q1645 (fun _ h => h) rfl rfl rfl dX5_anchored_16 hw (fun M8 hw => ?_)
  refine G_iconst (pc := 19) (v := 0) hC dX5_anchored_19 (by decide) ?_
  refine G_istore_n (pc := 20) (i := 2) (lw := [some (va_rf (some a0)), some (va_rf (some b6)), some (.int (0 : Int32)), none, none, none]) hC dX5_anchored_20 rfl (Nat.le_of_ble_eq_true rfl) rfl ?_
  refine G_iconst (pc := 21) (v := 0) hC dX5_anchored_21 (by decide) ?_
  refine G_istore_n (pc := 22) (i := 3) (lw := [some (va_rf (some a0)), some (va_rf (some b6)), some (.int (0 : Int32)), some (.int (0 : Int32)), none, none]) hC dX5_anchored_22 rfl (Nat.le_of_ble_eq_true rfl) rfl ?_
  refine G_aload_n (pc := 23) (i := 1) hC dX5_anchored_23 rfl rfl ?_
  obtain ⟨hb, hw⟩ := hw
  refine G_callF (pc := 24) (n := 0) (x := ⟨"java/util/List", "iterator", "()Ljava/util/Iterator;"⟩) (C := "java/util/ArrayList") (ci := 21) (T := TJ2) (N := 3) (b := b6) (As := []) (rest := []) hC (J_L_itr hJ hw) (lw_F q2349 q1193 q803 q87 q804) (nw_in q1192 rfl) (nw_in q1191 rfl) (nw_in q1195 rfl) (nw_in q1194 rfl) (nw_in q259 rfl) rfl (rcv (C := RJ2) (T := TJ2) (N := 3) hC hb rfl) (by decide +kernel) (by decide) rfl rfl (st_c cat_e (Nat.le_of_ble_eq_true rfl)) dX5_anchored_24 (kRf fun x10 M9 hw => ?_)
  refine G_astore (pc := 29) (i := 4) (lw := [some (va_rf (some a0)), some (va_rf (some b6)), some (.int (0 : Int32)), some (.int (0 : Int32)), some (va_rf x10), none]) hC dX5_anchored_29 (Nat.le_of_ble_eq_true rfl) rfl ?_
  refine G_loc (lv' := [some (va_rf (some a0)), none, some (.int (0 : Int32)), some (.int (0 : Int32)), some (va_rf x10), none]) ⟨Or.inr rfl, Or.inl rfl, Or.inr rfl, Or.inr rfl, Or.inr rfl, Or.inr rfl, trivial⟩ ?_
  exact g_X5_anchored_31 hJ hC hQ hin _ (0 : Int32) (0 : Int32) x10 M9 hw
theorem hd_J12_init_2 : yJ12_init_2.cls = "java/lang/Exception" ∧ yJ12_init_2.cls ≠ "java/lang/invoke/MethodHandle" ∧ yJ12_init_2.cls ≠ "java/lang/invoke/VarHandle" ∧ (parseMethodDescriptor yJ12_init_2.desc).map (fun d => d.parameters.length) = some 0 := by decide +kernel
def w_X8_init (g : gT) (F : Nat) (a0 : Nat) (p1 : Int32) (M : hM) (Q : hM → Prop) : Prop :=
  (isC M a0 7 ∧ E_init g a0  M (fun M1 => pV M1 (some a0) 7 6 (.int p1) fun M2 => Q M2))
theorem m_X8_init {l : Launch} {g : gT} {F : Nat} {a0 : Nat} {p1 : Int32} {M : hM} {Q : hM → Prop} (hJ : JOK l g) (hw : w_X8_init g F a0 p1 M Q) : MG l g yX8_init (ws_ yX8_init cX8_init 2 none) 41 2020 [va_rf (some a0), .int p1] M (PU Q) := by
  refine MG_of hJ.2.1 (by decide) (cat_r (cat_i cat_e)) (Nat.le_of_ble_eq_true rfl) (fun k hl hg hin hQ hC => ?_)
  subst hl hg
  show GW k 2 M 0 [some (va_rf (some a0)), some (.int p1)] []
  refine G_aload_n (pc := 0) (i := 0) hC dX8_init_0 rfl rfl ?_
  obtain ⟨hb, hw⟩ := hw
  refine G_callI (pc := 1) (n := 0) (b := a0) (As := []) (rest := []) hC (J_E_init hJ hw) (lw_meth q690) q99 q1823 q689 rfl hd_J12_init_2.2 (by decide) rfl rfl (st_c cat_e (Nat.le_of_ble_eq_true rfl)) dX8_init_1 (kU fun M1 hw => ?_)
  refine G_aload_n (pc := 4) (i := 0) hC dX8_init_4 rfl rfl ?_
  refine G_iload_n (pc := 5) (i := 1) hC dX8_init_5 rfl rfl ?_
  refine G_putF (pc := 6) (ci := 7) (C := RX8) (T := TX8) (N := 7) (f := 6) tyX8 hC rfl in_X8 tyX8_ok nmX8 (Nat.le_of_ble_eq_true rfl) q1824 (fun _ h => h) rfl hin rfl rfl rfl dX8_init_6 hw (fun M2 hw => ?_)
  exact G_ret (pc := 9) hC hQ dX8_init_9 hw
def w_X7_init (g : gT) (F : Nat) (a0 : Nat) (p1 : Option Nat) (M : hM) (Q : hM → Prop) : Prop :=
  pV M (some a0) 6 0 (va_rf p1) fun M1 => Q M1
theorem m_X7_init {l : Launch} {g : gT} {F : Nat} {a0 : Nat} {p1 : Option Nat} {M : hM} {Q : hM → Prop} (hJ : JOK l g) (hw : w_X7_init g F a0 p1 M Q) : MG l g yX7_init (ws_ yX7_init cX7_init 2 none) 1 20 [va_rf (some a0), va_rf p1] M (PU Q) := by
  refine MG_of hJ.2.1 (by decide) (cat_r (cat_r cat_e)) (Nat.le_of_ble_eq_true rfl) (fun k hl hg hin hQ hC => ?_)
  subst hl hg
  show GW k 2 M 0 [some (va_rf (some a0)), some (va_rf p1)] []
  refine G_aload_n (pc := 0) (i := 0) hC dX7_init_0 rfl rfl ?_
  refine G_objInit (pc := 1) hC q1757 q158 q159 rfl rfl (st_c cat_e (Nat.le_of_ble_eq_true rfl)) dX7_init_1 ?_
  refine G_aload_n (pc := 4) (i := 0) hC dX7_init_4 rfl rfl ?_
  refine G_aload_n (pc := 5) (i := 1) hC dX7_init_5 rfl rfl ?_
  refine G_putF (pc := 6) (ci := 6) (C := RX7) (T := TX7) (N := 3) (f := 0) tyX7 hC rfl in_X7 tyX7_ok nmX7 (Nat.le_of_ble_eq_true rfl) q1758 (fun _ h => h) rfl hin rfl (nR_o _ _) (fR_o _ _) dX7_init_6 hw (fun M1 hw => ?_)
  exact G_ret (pc := 9) hC hQ dX7_init_9 hw
def w_X1_isBetween_15 (g : gT) (F : Nat) (p0 : Int32) (p1 : Int32) (p2 : Int32) (Q : Int32 → hM → Prop) (s0 : Int32) (M : hM) : Prop :=
  ((s0 = 0 ∨ s0 = 1) ∧ Q s0 M)
def w_X1_isBetween_14 (g : gT) (F : Nat) (p0 : Int32) (p1 : Int32) (p2 : Int32) (Q : Int32 → hM → Prop) (M : hM) : Prop :=
  w_X1_isBetween_15 g F p0 p1 p2 Q (0 : Int32) M
def w_X1_isBetween (g : gT) (F : Nat) (p0 : Int32) (p1 : Int32) (p2 : Int32) (M : hM) (Q : Int32 → hM → Prop) : Prop :=
  ((p0 < p1 → w_X1_isBetween_14 g F p0 p1 p2 Q M) ∧ (¬ (p0 < p1) → ((p2 < p0 → w_X1_isBetween_14 g F p0 p1 p2 Q M) ∧ (¬ (p2 < p0) → w_X1_isBetween_15 g F p0 p1 p2 Q (1 : Int32) M))))
theorem g_X1_isBetween_15 {k : kT} {F : Nat} {p0 : Int32} {p1 : Int32} {p2 : Int32} {Q : Int32 → hM → Prop} (hJ : JOK (kl k) (kg k)) (hC : CX k 3 cX1_isBetween RX1 (some .boolean) 1 12) (hQ : isQ k (PI Q)) (hin : (kt k).name = "isBetween") : ∀ (s0 : Int32) (M : hM), w_X1_isBetween_15 (kg k) F p0 p1 p2 Q s0 M → GW k 3 M 15 [some (.int p0), some (.int p1), some (.int p2)] [.int s0] := by
  intro s0 M hw
  obtain ⟨hz, hw⟩ := hw
  exact G_iret (pc := 15) hC (nz_n hz) hQ dX1_isBetween_15 hw
theorem g_X1_isBetween_14 {k : kT} {F : Nat} {p0 : Int32} {p1 : Int32} {p2 : Int32} {Q : Int32 → hM → Prop} (hJ : JOK (kl k) (kg k)) (hC : CX k 3 cX1_isBetween RX1 (some .boolean) 1 12) (hQ : isQ k (PI Q)) (hin : (kt k).name = "isBetween") : ∀  (M : hM), w_X1_isBetween_14 (kg k) F p0 p1 p2 Q  M → GW k 3 M 14 [some (.int p0), some (.int p1), some (.int p2)] [] := by
  intro  M hw
  refine G_iconst (pc := 14) (v := 0) hC dX1_isBetween_14 (by decide) ?_
  exact g_X1_isBetween_15 hJ hC hQ hin  (0 : Int32) M hw
theorem m_X1_isBetween {l : Launch} {g : gT} {F : Nat} {p0 : Int32} {p1 : Int32} {p2 : Int32} {M : hM} {Q : Int32 → hM → Prop} (hJ : JOK l g) (hw : w_X1_isBetween g F p0 p1 p2 M Q) : MG l g yX1_isBetween (ws_ yX1_isBetween cX1_isBetween 3 (some .boolean)) 1 12 [.int p0, .int p1, .int p2] M (PI Q) := by
  refine MG_of hJ.2.1 (by decide) (cat_i (cat_i (cat_i cat_e))) (Nat.le_of_ble_eq_true rfl) (fun k hl hg hin hQ hC => ?_)
  subst hl hg
  show GW k 3 M 0 [some (.int p0), some (.int p1), some (.int p2)] []
  refine G_iload_n (pc := 0) (i := 1) hC dX1_isBetween_0 rfl rfl ?_
  refine G_iload_n (pc := 1) (i := 0) hC dX1_isBetween_1 rfl rfl ?_
  refine G_icmp_gt (pc := 2) (tgt := 14) hC dX1_isBetween_2 (by decide) (fun hc => ?_) (fun hc => ?_)
  · replace hw := hw.1 hc
    exact g_X1_isBetween_14 hJ hC hQ hin   M hw
  · replace hw := hw.2 hc
    refine G_iload_n (pc := 5) (i := 0) hC dX1_isBetween_5 rfl rfl ?_
    refine G_iload_n (pc := 6) (i := 2) hC dX1_isBetween_6 rfl rfl ?_
    refine G_icmp_gt (pc := 7) (tgt := 14) hC dX1_isBetween_7 (by decide) (fun hc => ?_) (fun hc => ?_)
    · replace hw := hw.1 hc
      exact g_X1_isBetween_14 hJ hC hQ hin   M hw
    · replace hw := hw.2 hc
      refine G_iconst (pc := 10) (v := 1) hC dX1_isBetween_10 (by decide) ?_
      refine G_goto (pc := 11) (tgt := 15) hC dX1_isBetween_11 (by decide) ?_
      exact g_X1_isBetween_15 hJ hC hQ hin  (1 : Int32) M hw
theorem hd_J6_charAt : yJ6_charAt.cls = "java/lang/String" ∧ yJ6_charAt.cls ≠ "java/lang/invoke/MethodHandle" ∧ yJ6_charAt.cls ≠ "java/lang/invoke/VarHandle" ∧ (parseMethodDescriptor yJ6_charAt.desc).map (fun d => d.parameters.length) = some 1 := by decide +kernel
theorem hd_J6_length : yJ6_length.cls = "java/lang/String" ∧ yJ6_length.cls ≠ "java/lang/invoke/MethodHandle" ∧ yJ6_length.cls ≠ "java/lang/invoke/VarHandle" ∧ (parseMethodDescriptor yJ6_length.desc).map (fun d => d.parameters.length) = some 0 := by decide +kernel
theorem hd_X1_isBetween : yX1_isBetween.cls = "MergeWorkbench" ∧ yX1_isBetween.cls ≠ "java/lang/invoke/MethodHandle" ∧ yX1_isBetween.cls ≠ "java/lang/invoke/VarHandle" ∧ (parseMethodDescriptor yX1_isBetween.desc).map (fun d => d.parameters.length) = some 3 := by decide +kernel
def w_X7_isAt_38 (g : gT) (F : Nat) (a0 : Nat) (p1 : Int32) (p2 : Int32) (Q : Int32 → hM → Prop) (s0 : Int32) (M : hM) : Prop :=
  ((s0 = 0 ∨ s0 = 1) ∧ Q s0 M)
def w_X7_isAt_37 (g : gT) (F : Nat) (a0 : Nat) (p1 : Int32) (p2 : Int32) (Q : Int32 → hM → Prop) (M : hM) : Prop :=
  w_X7_isAt_38 g F a0 p1 p2 Q (0 : Int32) M
def w_X7_isAt (g : gT) (F : Nat) (a0 : Nat) (p1 : Int32) (p2 : Int32) (M : hM) (Q : Int32 → hM → Prop) : Prop :=
  gI M (some a0) 6 1 fun x1 => gF M (some a0) 6 0 fun x2 => gThis M x2 24 fun b4 => S_len g b4  M (fun x5 M3 => ((x5 ≤ x1 → w_X7_isAt_37 g F a0 p1 p2 Q M3) ∧ (¬ (x5 ≤ x1) → gF M3 (some a0) 6 0 fun x6 => gI M3 (some a0) 6 1 fun x7 => gThis M3 x6 24 fun b9 => S_chr g b9 x7 M3 (fun x10 M8 => w_X1_isBetween g F x10 p1 p2 M8 (fun x12 M11 => ((x12 = 0 → w_X7_isAt_37 g F a0 p1 p2 Q M11) ∧ (¬ (x12 = 0) → w_X7_isAt_38 g F a0 p1 p2 Q (1 : Int32) M11)))))))
theorem g_X7_isAt_38 {k : kT} {F : Nat} {a0 : Nat} {p1 : Int32} {p2 : Int32} {Q : Int32 → hM → Prop} (hJ : JOK (kl k) (kg k)) (hC : CX k 3 cX7_isAt RX7 (some .boolean) 41 2021) (hQ : isQ k (PI Q)) (hin : (kt k).name = "isAt") : ∀ (s0 : Int32) (M : hM), w_X7_isAt_38 (kg k) F a0 p1 p2 Q s0 M → GW k 3 M 38 [some (va_rf (some a0)), some (.int p1), some (.int p2)] [.int s0] := by
  intro s0 M hw
  obtain ⟨hz, hw⟩ := hw
  exact G_iret (pc := 38) hC (nz_n hz) hQ dX7_isAt_38 hw
theorem g_X7_isAt_37 {k : kT} {F : Nat} {a0 : Nat} {p1 : Int32} {p2 : Int32} {Q : Int32 → hM → Prop} (hJ : JOK (kl k) (kg k)) (hC : CX k 3 cX7_isAt RX7 (some .boolean) 41 2021) (hQ : isQ k (PI Q)) (hin : (kt k).name = "isAt") : ∀  (M : hM), w_X7_isAt_37 (kg k) F a0 p1 p2 Q  M → GW k 3 M 37 [some (va_rf (some a0)), some (.int p1), some (.int p2)] [] := by
  intro  M hw
  refine G_iconst (pc := 37) (v := 0) hC dX7_isAt_37 (by decide) ?_
  exact g_X7_isAt_38 hJ hC hQ hin  (0 : Int32) M hw
theorem m_X7_isAt {l : Launch} {g : gT} {F : Nat} {a0 : Nat} {p1 : Int32} {p2 : Int32} {M : hM} {Q : Int32 → hM → Prop} (hJ : JOK l g) (hw : w_X7_isAt g F a0 p1 p2 M Q) : MG l g yX7_isAt (ws_ yX7_isAt cX7_isAt 3 (some .boolean)) 41 2021 [va_rf (some a0), .int p1, .int p2] M (PI Q) := by
  refine MG_of hJ.2.1 (by decide) (cat_r (cat_i (cat_i cat_e))) (Nat.le_of_ble_eq_true rfl) (fun k hl hg hin hQ hC => ?_)
  subst hl hg
  show GW k 3 M 0 [some (va_rf (some a0)), some (.int p1), some (.int p2)] []
  refine G_aload_n (pc := 0) (i := 0) hC dX7_isAt_0 rfl rfl ?_
  refine G_getI (pc := 1) (ci := 6) (C := RX7) (T := TX7) (N := 3) (f := 1) hC rfl in_X7 (Nat.le_of_ble_eq_true rfl) q1759 (fun _ h => h) dX7_isAt_1 hw (fun x1 hw => ?_)
  refine G_aload_n (pc := 4) (i := 0) hC dX7_isAt_4 rfl rfl ?_
  refine G_getF (pc := 5) (ci := 6) (C := RX7) (T := TX7) (N := 3) (f := 0) hC rfl in_X7 (Nat.le_of_ble_eq_true rfl) q1758 (fun _ h => h) dX7_isAt_5 hw (fun x2 hw => ?_)
  obtain ⟨b4, rfl, hb, hw⟩ := gThis_e hw
  refine G_callV (pc := 8) (n := 0) (C := "java/lang/String") (b := b4) (As := []) (rest := [.int x1]) hC (J_S_len hJ hw) (lw_V q1786 q496 q497 q92 q498) hd_J6_length (by decide) (rcv (C := RJ6) (T := TJ6) (N := 4) hC hb rfl) rfl rfl (st_c (cat_i cat_e) (Nat.le_of_ble_eq_true rfl)) dX7_isAt_8 (kI fun x5 M3 hw => ?_)
  refine G_icmp_ge (pc := 11) (tgt := 37) hC dX7_isAt_11 (by decide) (fun hc => ?_) (fun hc => ?_)
  · replace hw := hw.1 hc
    exact g_X7_isAt_37 hJ hC hQ hin   M3 hw
  · replace hw := hw.2 hc
    refine G_aload_n (pc := 14) (i := 0) hC dX7_isAt_14 rfl rfl ?_
    refine G_getF (pc := 15) (ci := 6) (C := RX7) (T := TX7) (N := 3) (f := 0) hC rfl in_X7 (Nat.le_of_ble_eq_true rfl) q1758 (fun _ h => h) dX7_isAt_15 hw (fun x6 hw => ?_)
    refine G_aload_n (pc := 18) (i := 0) hC dX7_isAt_18 rfl rfl ?_
    refine G_getI (pc := 19) (ci := 6) (C := RX7) (T := TX7) (N := 3) (f := 1) hC rfl in_X7 (Nat.le_of_ble_eq_true rfl) q1759 (fun _ h => h) dX7_isAt_19 hw (fun x7 hw => ?_)
    obtain ⟨b9, rfl, hb, hw⟩ := gThis_e hw
    refine G_callV (pc := 22) (n := 1) (C := "java/lang/String") (b := b9) (As := [.int x7]) (rest := []) hC (J_S_chr hJ hw) (lw_V q1787 q1788 q1789 q92 q1790) hd_J6_charAt (by decide) (rcv (C := RJ6) (T := TJ6) (N := 4) hC hb rfl) rfl rfl (st_c cat_e (Nat.le_of_ble_eq_true rfl)) dX7_isAt_22 (kI fun x10 M8 hw => ?_)
    refine G_iload_n (pc := 25) (i := 1) hC dX7_isAt_25 rfl rfl ?_
    refine G_iload_n (pc := 26) (i := 2) hC dX7_isAt_26 rfl rfl ?_
    refine G_callSN (pc := 27) (n := 3) (As := [.int x10, .int p1, .int p2]) (rest := []) hC (m_X1_isBetween hJ hw) (lw_meth q1224) (nw_in q1802 rfl) q84 q1223 hd_X1_isBetween.2 (by decide) rfl rfl (st_c cat_e (Nat.le_of_ble_eq_true rfl)) dX7_isAt_27 (kI fun x12 M11 hw => ?_)
    refine G_if_eq (pc := 30) (tgt := 37) hC dX7_isAt_30 (by decide) (fun hc => ?_) (fun hc => ?_)
    · replace hw := hw.1 hc
      exact g_X7_isAt_37 hJ hC hQ hin   M11 hw
    · replace hw := hw.2 hc
      refine G_iconst (pc := 33) (v := 1) hC dX7_isAt_33 (by decide) ?_
      refine G_goto (pc := 34) (tgt := 38) hC dX7_isAt_34 (by decide) ?_
      exact g_X7_isAt_38 hJ hC hQ hin  (1 : Int32) M11 hw
theorem hd_X7_isAt : yX7_isAt.cls = "MergeWorkbench$Reader" ∧ yX7_isAt.cls ≠ "java/lang/invoke/MethodHandle" ∧ yX7_isAt.cls ≠ "java/lang/invoke/VarHandle" ∧ (parseMethodDescriptor yX7_isAt.desc).map (fun d => d.parameters.length) = some 2 := by decide +kernel
def w_X7_isItem_35 (g : gT) (F : Nat) (a0 : Nat) (Q : Int32 → hM → Prop) (s0 : Int32) (M : hM) : Prop :=
  ((s0 = 0 ∨ s0 = 1) ∧ Q s0 M)
def w_X7_isItem_30 (g : gT) (F : Nat) (a0 : Nat) (Q : Int32 → hM → Prop) (M : hM) : Prop :=
  w_X7_isItem_35 g F a0 Q (1 : Int32) M
def w_X7_isItem_34 (g : gT) (F : Nat) (a0 : Nat) (Q : Int32 → hM → Prop) (M : hM) : Prop :=
  w_X7_isItem_35 g F a0 Q (0 : Int32) M
def w_X7_isItem (g : gT) (F : Nat) (a0 : Nat) (M : hM) (Q : Int32 → hM → Prop) : Prop :=
  (isC M a0 6 ∧ w_X7_isAt g F a0 (97 : Int32) (122 : Int32) M (fun x2 M1 => ((¬ x2 = 0 → w_X7_isItem_30 g F a0 Q M1) ∧ (x2 = 0 → (isC M1 a0 6 ∧ w_X7_isAt g F a0 (40 : Int32) (40 : Int32) M1 (fun x4 M3 => ((x4 = 0 → w_X7_isItem_34 g F a0 Q M3) ∧ (¬ (x4 = 0) → gI M3 (some a0) 6 2 fun x5 => (((4 : Int32) ≤ x5 → w_X7_isItem_34 g F a0 Q M3) ∧ (¬ ((4 : Int32) ≤ x5) → w_X7_isItem_30 g F a0 Q M3))))))))))
theorem g_X7_isItem_35 {k : kT} {F : Nat} {a0 : Nat} {Q : Int32 → hM → Prop} (hJ : JOK (kl k) (kg k)) (hC : CX k 1 cX7_isItem RX7 (some .boolean) 42 2043) (hQ : isQ k (PI Q)) (hin : (kt k).name = "isItem") : ∀ (s0 : Int32) (M : hM), w_X7_isItem_35 (kg k) F a0 Q s0 M → GW k 1 M 35 [some (va_rf (some a0))] [.int s0] := by
  intro s0 M hw
  obtain ⟨hz, hw⟩ := hw
  exact G_iret (pc := 35) hC (nz_n hz) hQ dX7_isItem_35 hw
theorem g_X7_isItem_30 {k : kT} {F : Nat} {a0 : Nat} {Q : Int32 → hM → Prop} (hJ : JOK (kl k) (kg k)) (hC : CX k 1 cX7_isItem RX7 (some .boolean) 42 2043) (hQ : isQ k (PI Q)) (hin : (kt k).name = "isItem") : ∀  (M : hM), w_X7_isItem_30 (kg k) F a0 Q  M → GW k 1 M 30 [some (va_rf (some a0))] [] := by
  intro  M hw
  refine G_iconst (pc := 30) (v := 1) hC dX7_isItem_30 (by decide) ?_
  refine G_goto (pc := 31) (tgt := 35) hC dX7_isItem_31 (by decide) ?_
  exact g_X7_isItem_35 hJ hC hQ hin  (1 : Int32) M hw
theorem g_X7_isItem_34 {k : kT} {F : Nat} {a0 : Nat} {Q : Int32 → hM → Prop} (hJ : JOK (kl k) (kg k)) (hC : CX k 1 cX7_isItem RX7 (some .boolean) 42 2043) (hQ : isQ k (PI Q)) (hin : (kt k).name = "isItem") : ∀  (M : hM), w_X7_isItem_34 (kg k) F a0 Q  M → GW k 1 M 34 [some (va_rf (some a0))] [] := by
  intro  M hw
  refine G_iconst (pc := 34) (v := 0) hC dX7_isItem_34 (by decide) ?_
  exact g_X7_isItem_35 hJ hC hQ hin  (0 : Int32) M hw
theorem m_X7_isItem {l : Launch} {g : gT} {F : Nat} {a0 : Nat} {M : hM} {Q : Int32 → hM → Prop} (hJ : JOK l g) (hw : w_X7_isItem g F a0 M Q) : MG l g yX7_isItem (ws_ yX7_isItem cX7_isItem 1 (some .boolean)) 42 2043 [va_rf (some a0)] M (PI Q) := by
  refine MG_of hJ.2.1 (by decide) (cat_r cat_e) (Nat.le_of_ble_eq_true rfl) (fun k hl hg hin hQ hC => ?_)
  subst hl hg
  show GW k 1 M 0 [some (va_rf (some a0))] []
  refine G_aload_n (pc := 0) (i := 0) hC dX7_isItem_0 rfl rfl ?_
  refine G_bipush (pc := 1) (v := 97) hC dX7_isItem_1 (by decide) ?_
  refine G_bipush (pc := 3) (v := 122) hC dX7_isItem_3 (by decide) ?_
  obtain ⟨hb, hw⟩ := hw
  refine G_callV (pc := 5) (n := 2) (C := "MergeWorkbench$Reader") (b := a0) (As := [.int (97 : Int32), .int (122 : Int32)]) (rest := []) hC (m_X7_isAt hJ hw) (lw_V q1782 q1784 qs22 q125 q1785) hd_X7_isAt (by decide) (rcv (C := RX7) (T := TX7) (N := 3) hC hb rfl) rfl rfl (st_c cat_e (Nat.le_of_ble_eq_true rfl)) dX7_isItem_5 (kI fun x2 M1 hw => ?_)
  refine G_if_ne (pc := 8) (tgt := 30) hC dX7_isItem_8 (by decide) (fun hc => ?_) (fun hc => ?_)
  · replace hw := hw.1 hc
    exact g_X7_isItem_30 hJ hC hQ hin   M1 hw
  · replace hw := hw.2 hc
    refine G_aload_n (pc := 11) (i := 0) hC dX7_isItem_11 rfl rfl ?_
    refine G_bipush (pc := 12) (v := 40) hC dX7_isItem_12 (by decide) ?_
    refine G_bipush (pc := 14) (v := 40) hC dX7_isItem_14 (by decide) ?_
    obtain ⟨hb, hw⟩ := hw
    refine G_callV (pc := 16) (n := 2) (C := "MergeWorkbench$Reader") (b := a0) (As := [.int (40 : Int32), .int (40 : Int32)]) (rest := []) hC (m_X7_isAt hJ hw) (lw_V q1782 q1784 qs22 q125 q1785) hd_X7_isAt (by decide) (rcv (C := RX7) (T := TX7) (N := 3) hC hb rfl) rfl rfl (st_c cat_e (Nat.le_of_ble_eq_true rfl)) dX7_isItem_16 (kI fun x4 M3 hw => ?_)
    refine G_if_eq (pc := 19) (tgt := 34) hC dX7_isItem_19 (by decide) (fun hc => ?_) (fun hc => ?_)
    · replace hw := hw.1 hc
      exact g_X7_isItem_34 hJ hC hQ hin   M3 hw
    · replace hw := hw.2 hc
      refine G_aload_n (pc := 22) (i := 0) hC dX7_isItem_22 rfl rfl ?_
      refine G_getI (pc := 23) (ci := 6) (C := RX7) (T := TX7) (N := 3) (f := 2) hC rfl in_X7 (Nat.le_of_ble_eq_true rfl) q1760 (fun _ h => h) dX7_isItem_23 hw (fun x5 hw => ?_)
      refine G_iconst (pc := 26) (v := 4) hC dX7_isItem_26 (by decide) ?_
      refine G_icmp_ge (pc := 27) (tgt := 34) hC dX7_isItem_27 (by decide) (fun hc => ?_) (fun hc => ?_)
      · replace hw := hw.1 hc
        exact g_X7_isItem_34 hJ hC hQ hin   M3 hw
      · replace hw := hw.2 hc
        exact g_X7_isItem_30 hJ hC hQ hin   M3 hw
theorem hd_X8_init : yX8_init.cls = "MergeWorkbench$SyntaxException" ∧ yX8_init.cls ≠ "java/lang/invoke/MethodHandle" ∧ yX8_init.cls ≠ "java/lang/invoke/VarHandle" ∧ (parseMethodDescriptor yX8_init.desc).map (fun d => d.parameters.length) = some 1 := by decide +kernel
def w_X7_expect (g : gT) (F : Nat) (a0 : Nat) (p1 : Int32) (M : hM) (Q : hM → Prop) (X : String → Nat → hM → Prop) : Prop :=
  ((¬ p1 = 0 → Q M) ∧ (p1 = 0 → nW M 7 fsX8 fun q1 M2 => gI M2 (some a0) 6 1 fun x3 => (isC M2 q1 7 ∧ w_X8_init g F q1 x3 M2 (fun M4 => (isC M4 q1 7 ∧ X "MergeWorkbench$SyntaxException" q1 M4)))))
theorem m_X7_expect {l : Launch} {g : gT} {F : Nat} {a0 : Nat} {p1 : Int32} {M : hM} {Q : hM → Prop} {X : String → Nat → hM → Prop} (hJ : JOK l g) (hw : w_X7_expect g F a0 p1 M Q X) : MX l g yX7_expect (ws_ yX7_expect cX7_expect 2 none) 42 2041 [va_rf (some a0), .int p1] M (PU Q) X := by
  refine MX_of hJ.2.1 (by decide) (cat_r (cat_i cat_e)) (Nat.le_of_ble_eq_true rfl) (fun k hl hg hin hno hQ hC => ?_)
  subst hl hg
  show GW k 2 M 0 [some (va_rf (some a0)), some (.int p1)] []
  refine G_iload_n (pc := 0) (i := 1) hC dX7_expect_0 rfl rfl ?_
  refine G_if_ne (pc := 1) (tgt := 16) hC dX7_expect_1 (by decide) (fun hc => ?_) (fun hc => ?_)
  · replace hw := hw.1 hc
    exact G_retX (pc := 16) hC hQ dX7_expect_16 hw
  · replace hw := hw.2 hc
    refine G_new (pc := 4) (ci := 7) (C := RX8) (T := TX8) (N := 7) (fs := fsX8) tyX8 hC rfl in_X8 tyX8_ok q1811 q1812 q126 dfX8 rfl dX7_expect_4 hw (fun q1 M2 hw => ?_)
    refine G_dup (pc := 7) hC dX7_expect_7 (rf_cat _) ?_
    refine G_aload_n (pc := 8) (i := 0) hC dX7_expect_8 rfl rfl ?_
    refine G_getI (pc := 9) (ci := 6) (C := RX7) (T := TX7) (N := 3) (f := 1) hC rfl in_X7 (Nat.le_of_ble_eq_true rfl) q1759 (fun _ h => h) dX7_expect_9 hw (fun x3 hw => ?_)
    obtain ⟨hb, hw⟩ := hw
    refine G_callI (pc := 12) (n := 1) (b := q1) (As := [.int x3]) (rest := [va_rf (some q1)]) hC (m_X8_init hJ hw) (lw_meth q1822) q126 q1820 q1821 rfl hd_X8_init.2 (by decide) rfl rfl (st_c (cat_r cat_e) (Nat.le_of_ble_eq_true rfl)) dX7_expect_12 (kU fun M4 hw => ?_)
    obtain ⟨hb, hw⟩ := hw
    exact G_athrow (pc := 15) (C := RX8) (T := TX8) (N := 7) hC hno hQ rfl hb dX7_expect_15 hw
theorem hd_J25_singletonList : yJ25_singletonList.cls = "java/util/Collections" ∧ yJ25_singletonList.cls ≠ "java/lang/invoke/MethodHandle" ∧ yJ25_singletonList.cls ≠ "java/lang/invoke/VarHandle" ∧ (parseMethodDescriptor yJ25_singletonList.desc).map (fun d => d.parameters.length) = some 1 := by decide +kernel
theorem hd_J2_addAll : yJ2_addAll.cls = "java/util/ArrayList" ∧ yJ2_addAll.cls ≠ "java/lang/invoke/MethodHandle" ∧ yJ2_addAll.cls ≠ "java/lang/invoke/VarHandle" ∧ (parseMethodDescriptor yJ2_addAll.desc).map (fun d => d.parameters.length) = some 1 := by decide +kernel
theorem hd_X7_expect : yX7_expect.cls = "MergeWorkbench$Reader" ∧ yX7_expect.cls ≠ "java/lang/invoke/MethodHandle" ∧ yX7_expect.cls ≠ "java/lang/invoke/VarHandle" ∧ (parseMethodDescriptor yX7_expect.desc).map (fun d => d.parameters.length) = some 1 := by decide +kernel
theorem hd_X7_isItem : yX7_isItem.cls = "MergeWorkbench$Reader" ∧ yX7_isItem.cls ≠ "java/lang/invoke/MethodHandle" ∧ yX7_isItem.cls ≠ "java/lang/invoke/VarHandle" ∧ (parseMethodDescriptor yX7_isItem.desc).map (fun d => d.parameters.length) = some 0 := by decide +kernel
theorem hd_X7_item : yX7_item.cls = "MergeWorkbench$Reader" ∧ yX7_item.cls ≠ "java/lang/invoke/MethodHandle" ∧ yX7_item.cls ≠ "java/lang/invoke/VarHandle" ∧ (parseMethodDescriptor yX7_item.desc).map (fun d => d.parameters.length) = some 0 := by decide +kernel
theorem hd_X7_items : yX7_items.cls = "MergeWorkbench$Reader" ∧ yX7_items.cls ≠ "java/lang/invoke/MethodHandle" ∧ yX7_items.cls ≠ "java/lang/invoke/VarHandle" ∧ (parseMethodDescriptor yX7_items.desc).map (fun d => d.parameters.length) = some 0 := by decide +kernel
def w_X7_items_39 (g : gT) (F : Nat) (W : Nat → hM → (Option Nat → hM → Prop) → (String → Nat → hM → Prop) → Prop) (a0 : Nat) (Q : Option Nat → hM → Prop) (X : String → Nat → hM → Prop) (K8 : (Option Nat) → hM → Prop) (v1 : Option Nat) (M : hM) : Prop :=
  K8 v1 M
def w_X7_items_8 (g : gT) (F : Nat) (W : Nat → hM → (Option Nat → hM → Prop) → (String → Nat → hM → Prop) → Prop) (a0 : Nat) (Q : Option Nat → hM → Prop) (X : String → Nat → hM → Prop) : Nat → (Option Nat) → hM → Prop
  | 0, _, _ => False
  | n + 1, v1, M => (isC M a0 6 ∧ w_X7_isItem g F a0  M (fun x2 M1 => ((x2 = 0 → Q v1 M1) ∧ (¬ (x2 = 0) → (isC M1 a0 6 ∧ W a0  M1 (fun x4 M3 => gThis M3 v1 21 fun b6 => L_size g b6  M3 (fun x7 M5 => (((24 : Int32) < x7 → w_X7_items_39 g F W a0 Q X (fun v1 M => w_X7_items_8 g F W a0 Q X n v1 M) (some b6) M5) ∧ (¬ ((24 : Int32) < x7) → (isC M5 b6 21 ∧ L_addA g b6 x4 M5 (fun x9 M8 => w_X7_items_39 g F W a0 Q X (fun v1 M => w_X7_items_8 g F W a0 Q X n v1 M) (some b6) M8)))))) X)))))
def w_X7_items (g : gT) (F : Nat) (W : Nat → hM → (Option Nat → hM → Prop) → (String → Nat → hM → Prop) → Prop) (a0 : Nat) (M : hM) (Q : Option Nat → hM → Prop) (X : String → Nat → hM → Prop) : Prop :=
  nW M 21 fsJ2 fun q1 M2 => (isC M2 q1 21 ∧ L_new g q1  M2 (fun M3 => w_X7_items_8 g F W a0 Q X F (some q1) M3))
def w_X7_item_190 (g : gT) (F : Nat) (W : Nat → hM → (Option Nat → hM → Prop) → (String → Nat → hM → Prop) → Prop) (a0 : Nat) (Q : Option Nat → hM → Prop) (X : String → Nat → hM → Prop) (v3 : Option Nat) (M : hM) : Prop :=
  Q v3 M
def w_X7_item_159 (g : gT) (F : Nat) (W : Nat → hM → (Option Nat → hM → Prop) → (String → Nat → hM → Prop) → Prop) (a0 : Nat) (Q : Option Nat → hM → Prop) (X : String → Nat → hM → Prop) : Nat → (Option Nat) → Int32 → (Option Nat) → Int32 → hM → Prop
  | 0, _, _, _, _, _ => False
  | n + 1, v1, v2, v3, v4, M => ((v2 ≤ v4 → w_X7_item_190 g F W a0 Q X v3 M) ∧ (¬ (v2 ≤ v4) → gThis M v3 21 fun b2 => L_size g b2  M (fun x3 M1 => (((24 : Int32) < x3 → w_X7_item_190 g F W a0 Q X (some b2) M1) ∧ (¬ ((24 : Int32) < x3) → (isC M1 b2 21 ∧ L_addA g b2 v1 M1 (fun x5 M4 => w_X7_item_159 g F W a0 Q X n v1 v2 (some b2) (v4 + (1 : Int32)) M4)))))))
def w_X7_item_148 (g : gT) (F : Nat) (W : Nat → hM → (Option Nat → hM → Prop) → (String → Nat → hM → Prop) → Prop) (a0 : Nat) (Q : Option Nat → hM → Prop) (X : String → Nat → hM → Prop) (v1 : Option Nat) (v2 : Int32) (M : hM) : Prop :=
  nW M 21 fsJ2 fun q1 M2 => (isC M2 q1 21 ∧ L_new g q1  M2 (fun M3 => w_X7_item_159 g F W a0 Q X F v1 v2 (some q1) (0 : Int32) M3))
def w_X7_item_110 (g : gT) (F : Nat) (W : Nat → hM → (Option Nat → hM → Prop) → (String → Nat → hM → Prop) → Prop) (a0 : Nat) (Q : Option Nat → hM → Prop) (X : String → Nat → hM → Prop) (v1 : Option Nat) (M : hM) : Prop :=
  (isC M a0 6 ∧ w_X7_isAt g F a0 (50 : Int32) (57 : Int32) M (fun x2 M1 => ((x2 = 0 → w_X7_item_148 g F W a0 Q X v1 (1 : Int32) M1) ∧ (¬ (x2 = 0) → gF M1 (some a0) 6 0 fun x3 => gI M1 (some a0) 6 1 fun x4 => gThis M1 x3 24 fun b6 => S_chr g b6 x4 M1 (fun x7 M5 => gI M5 (some a0) 6 1 fun x8 => pV M5 (some a0) 6 1 (.int (x8 + (1 : Int32))) fun M9 => w_X7_item_148 g F W a0 Q X v1 (x7 - (48 : Int32)) M9)))))
def w_X7_item (g : gT) (F : Nat) (W : Nat → hM → (Option Nat → hM → Prop) → (String → Nat → hM → Prop) → Prop) (a0 : Nat) (M : hM) (Q : Option Nat → hM → Prop) (X : String → Nat → hM → Prop) : Prop :=
  (isC M a0 6 ∧ w_X7_isAt g F a0 (40 : Int32) (40 : Int32) M (fun x2 M1 => ((x2 = 0 → gF M1 (some a0) 6 0 fun x3 => gI M1 (some a0) 6 1 fun x4 => gThis M1 x3 24 fun b6 => S_chr g b6 x4 M1 (fun x7 M5 => B_of g (x7 - (97 : Int32)) M5 (fun x9 M8 => C_sing g x9 M8 (fun x11 M10 => gI M10 (some a0) 6 1 fun x12 => pV M10 (some a0) 6 1 (.int (x12 + (1 : Int32))) fun M13 => w_X7_item_110 g F W a0 Q X x11 M13)))) ∧ (¬ (x2 = 0) → gI M1 (some a0) 6 1 fun x14 => pV M1 (some a0) 6 1 (.int (x14 + (1 : Int32))) fun M15 => gI M15 (some a0) 6 2 fun x16 => pV M15 (some a0) 6 2 (.int (x16 + (1 : Int32))) fun M17 => (isC M17 a0 6 ∧ w_X7_isItem g F a0  M17 (fun x19 M18 => (isC M18 a0 6 ∧ w_X7_expect g F a0 x19 M18 (fun M20 => (isC M20 a0 6 ∧ w_X7_items g F W a0  M20 (fun x22 M21 => (isC M21 a0 6 ∧ w_X7_isAt g F a0 (41 : Int32) (41 : Int32) M21 (fun x24 M23 => (isC M23 a0 6 ∧ w_X7_expect g F a0 x24 M23 (fun M25 => gI M25 (some a0) 6 1 fun x26 => pV M25 (some a0) 6 1 (.int (x26 + (1 : Int32))) fun M27 => gI M27 (some a0) 6 2 fun x28 => pV M27 (some a0) 6 2 (.int (x28 - (1 : Int32))) fun M29 => w_X7_item_110 g F W a0 Q X x22 M29) X)))) X)) X)))))))
def wR_X7_item (g : gT) (F : Nat) : Nat → Nat → hM → (Option Nat → hM → Prop) → (String → Nat → hM → Prop) → Prop
  | 0, _, _, _, _ => False
  | n + 1, z0, M, Q, X => w_X7_item g F (wR_X7_item g F n) z0 M Q X
theorem m_X7_item_r0 {l : Launch} {g : gT} {F : Nat} {a0 : Nat} {M : hM} {Q : Option Nat → hM → Prop} {X : String → Nat → hM → Prop} (hJ : JOK l g) (hw : wR_X7_item g F 0 a0 M Q X) : MX l g yX7_item (ws_ yX7_item cX7_item 5 (some (.object "java/util/List"))) 1 12 [va_rf (some a0)] M (PR Q) X := hw.elim
theorem g_X7_items_39_r0 {k : kT} {F : Nat} {a0 : Nat} {Q : Option Nat → hM → Prop} {X : String → Nat → hM → Prop} {K8 : (Option Nat) → hM → Prop} (hJ : JOK (kl k) (kg k)) (hC : CX k 3 cX7_items RX7 (some (.object "java/util/List")) 43 2063) (hQ : isQX k (PR Q) X) (hin : (kt k).name = "items") (hno : ∀ x ∈ (kc k).exceptionTable.toList, False) (hK8 : ∀ (v1 : Option Nat) (M : hM), K8 v1 M → GW k 3 M 8 [some (va_rf (some a0)), some (va_rf v1), none] []) : ∀ (v1 : Option Nat) (M : hM), w_X7_items_39 (kg k) F (wR_X7_item (kg k) F 0) a0 Q X K8 v1 M → GW k 3 M 39 [some (va_rf (some a0)), some (va_rf v1), none] [] := by
  intro v1 M hw
  refine G_goto (pc := 39) (tgt := 8) hC dX7_items_39 (by decide) ?_
  exact hK8 v1 M hw
theorem g_X7_items_8_r0 {k : kT} {F : Nat} {a0 : Nat} {Q : Option Nat → hM → Prop} {X : String → Nat → hM → Prop} (hJ : JOK (kl k) (kg k)) (hC : CX k 3 cX7_items RX7 (some (.object "java/util/List")) 43 2063) (hQ : isQX k (PR Q) X) (hin : (kt k).name = "items") (hno : ∀ x ∈ (kc k).exceptionTable.toList, False) : ∀ (n : Nat) (v1 : Option Nat) (M : hM), w_X7_items_8 (kg k) F (wR_X7_item (kg k) F 0) a0 Q X n v1 M → GW k 3 M 8 [some (va_rf (some a0)), some (va_rf v1), none] [] := by
  intro n
  induction n with
  | zero =>
    intro v1 M hw
    exact hw.elim
  | succ n ih =>
    intro v1 M hw
    refine G_aload_n (pc := 8) (i := 0) hC dX7_items_8 rfl rfl ?_
    obtain ⟨hb, hw⟩ := hw
    refine G_callV (pc := 9) (n := 0) (C := "MergeWorkbench$Reader") (b := a0) (As := []) (rest := []) hC (m_X7_isItem hJ hw) (lw_V q1778 q1780 qs21 q125 q1781) hd_X7_isItem (by decide) (rcv (C := RX7) (T := TX7) (N := 3) hC hb rfl) rfl rfl (st_c cat_e (Nat.le_of_ble_eq_true rfl)) dX7_items_9 (kI fun x2 M1 hw => ?_)
    refine G_if_eq (pc := 12) (tgt := 42) hC dX7_items_12 (by decide) (fun hc => ?_) (fun hc => ?_)
    · replace hw := hw.1 hc
      refine G_aload_n (pc := 42) (i := 1) hC dX7_items_42 rfl rfl ?_
      exact G_aretX (pc := 43) hC (Or.inl ⟨_, rfl⟩) hQ dX7_items_43 hw
    · replace hw := hw.2 hc
      refine G_aload_n (pc := 15) (i := 0) hC dX7_items_15 rfl rfl ?_
      obtain ⟨hb, hw⟩ := hw
      refine GX_callV (pc := 16) (n := 0) (C := "MergeWorkbench$Reader") (b := a0) (As := []) (rest := []) hC (m_X7_item_r0 hJ hw) (lw_V q1803 q1805 qs23 q125 q1806) hd_X7_item (by decide) (rcv (C := RX7) (T := TX7) (N := 3) hC hb rfl) rfl rfl (st_c cat_e (Nat.le_of_ble_eq_true rfl)) dX7_items_16 (fun E q M hx => GX_out hC hno hQ hx) (kRf fun x4 M3 hw => ?_)
      refine G_astore_n (pc := 19) (i := 2) (lw := [some (va_rf (some a0)), some (va_rf v1), some (va_rf x4)]) hC dX7_items_19 rfl (Nat.le_of_ble_eq_true rfl) rfl ?_
      refine G_aload_n (pc := 20) (i := 1) hC dX7_items_20 rfl rfl ?_
      obtain ⟨b6, rfl, hb, hw⟩ := gThis_e hw
      refine G_callF (pc := 21) (n := 0) (x := ⟨"java/util/List", "size", "()I"⟩) (C := "java/util/ArrayList") (ci := 21) (T := TJ2) (N := 3) (b := b6) (As := []) (rest := []) hC (J_L_size hJ hw) (lw_F q1846 q889 q363 q87 q364) (nw_in q888 rfl) (nw_in q887 rfl) (nw_in q891 rfl) (nw_in q890 rfl) (nw_in q259 rfl) rfl (rcv (C := RJ2) (T := TJ2) (N := 3) hC hb rfl) (by decide +kernel) (by decide) rfl rfl (st_c cat_e (Nat.le_of_ble_eq_true rfl)) dX7_items_21 (kI fun x7 M5 hw => ?_)
      refine G_bipush (pc := 26) (v := 24) hC dX7_items_26 (by decide) ?_
      refine G_icmp_gt (pc := 28) (tgt := 39) hC dX7_items_28 (by decide) (fun hc => ?_) (fun hc => ?_)
      · replace hw := hw.1 hc
        refine G_loc (lv' := [some (va_rf (some a0)), some (va_rf (some b6)), none]) ⟨Or.inr rfl, Or.inr rfl, Or.inl rfl, trivial⟩ ?_
        exact g_X7_items_39_r0 hJ hC hQ hin hno ih  (some b6) M5 hw
      · replace hw := hw.2 hc
        refine G_aload_n (pc := 31) (i := 1) hC dX7_items_31 rfl rfl ?_
        refine G_aload_n (pc := 32) (i := 2) hC dX7_items_32 rfl rfl ?_
        obtain ⟨hb, hw⟩ := hw
        refine G_callF (pc := 33) (n := 1) (x := ⟨"java/util/List", "addAll", "(Ljava/util/Collection;)Z"⟩) (C := "java/util/ArrayList") (ci := 21) (T := TJ2) (N := 3) (b := b6) (As := [va_rf x4]) (rest := []) hC (J_L_addA hJ hw) (lw_F q1848 q1851 q1853 q87 q1855) (nw_in q1850 rfl) (nw_in q1849 rfl) (nw_in q1854 rfl) (nw_in q1852 rfl) (nw_in q259 rfl) rfl (rcv (C := RJ2) (T := TJ2) (N := 3) hC hb rfl) (by decide +kernel) (by decide) rfl rfl (st_c cat_e (Nat.le_of_ble_eq_true rfl)) dX7_items_33 (kI fun x9 M8 hw => ?_)
        refine G_pop (pc := 38) hC dX7_items_38 rfl ?_
        refine G_loc (lv' := [some (va_rf (some a0)), some (va_rf (some b6)), none]) ⟨Or.inr rfl, Or.inr rfl, Or.inl rfl, trivial⟩ ?_
        exact g_X7_items_39_r0 hJ hC hQ hin hno ih  (some b6) M8 hw
theorem m_X7_items_r0 {l : Launch} {g : gT} {F : Nat} {a0 : Nat} {M : hM} {Q : Option Nat → hM → Prop} {X : String → Nat → hM → Prop} (hJ : JOK l g) (hw : w_X7_items g F (wR_X7_item g F 0) a0 M Q X) : MX l g yX7_items (ws_ yX7_items cX7_items 3 (some (.object "java/util/List"))) 43 2063 [va_rf (some a0)] M (PR Q) X := by
  refine MX_of hJ.2.1 (by decide) (cat_r cat_e) (Nat.le_of_ble_eq_true rfl) (fun k hl hg hin hno hQ hC => ?_)
  subst hl hg
  show GW k 3 M 0 [some (va_rf (some a0)), none, none] []
  refine G_new (pc := 0) (ci := 21) (C := RJ2) (T := TJ2) (N := 3) (fs := fsJ2) tyJ2 hC rfl in_J2 tyJ2_ok q1776 q161 q87 dfJ2 rfl dX7_items_0 hw (fun q1 M2 hw => ?_)
  refine G_dup (pc := 3) hC dX7_items_3 (rf_cat _) ?_
  obtain ⟨hb, hw⟩ := hw
  refine G_callI (pc := 4) (n := 0) (b := q1) (As := []) (rest := [va_rf (some q1)]) hC (J_L_new hJ hw) (lw_meth q164) q87 q1777 q163 rfl hd_J2_init.2 (by decide) rfl rfl (st_c (cat_r cat_e) (Nat.le_of_ble_eq_true rfl)) dX7_items_4 (kU fun M3 hw => ?_)
  refine G_astore_n (pc := 7) (i := 1) (lw := [some (va_rf (some a0)), some (va_rf (some q1)), none]) hC dX7_items_7 rfl (Nat.le_of_ble_eq_true rfl) rfl ?_
  exact g_X7_items_8_r0 hJ hC hQ hin hno _ (some q1) M3 hw
theorem g_X7_item_190_r1 {k : kT} {F : Nat} {a0 : Nat} {Q : Option Nat → hM → Prop} {X : String → Nat → hM → Prop} (hJ : JOK (kl k) (kg k)) (hC : CX k 5 cX7_item RX7 (some (.object "java/util/List")) 44 2085) (hQ : isQX k (PR Q) X) (hin : (kt k).name = "item") (hno : ∀ x ∈ (kc k).exceptionTable.toList, False) : ∀ (v3 : Option Nat) (M : hM), w_X7_item_190 (kg k) F (wR_X7_item (kg k) F 0) a0 Q X v3 M → GW k 5 M 190 [some (va_rf (some a0)), none, none, some (va_rf v3), none] [] := by
  intro v3 M hw
  refine G_aload_n (pc := 190) (i := 3) hC dX7_item_190 rfl rfl ?_
  exact G_aretX (pc := 191) hC (Or.inl ⟨_, rfl⟩) hQ dX7_item_191 hw
theorem g_X7_item_159_r1 {k : kT} {F : Nat} {a0 : Nat} {Q : Option Nat → hM → Prop} {X : String → Nat → hM → Prop} (hJ : JOK (kl k) (kg k)) (hC : CX k 5 cX7_item RX7 (some (.object "java/util/List")) 44 2085) (hQ : isQX k (PR Q) X) (hin : (kt k).name = "item") (hno : ∀ x ∈ (kc k).exceptionTable.toList, False) : ∀ (n : Nat) (v1 : Option Nat) (v2 : Int32) (v3 : Option Nat) (v4 : Int32) (M : hM), w_X7_item_159 (kg k) F (wR_X7_item (kg k) F 0) a0 Q X n v1 v2 v3 v4 M → GW k 5 M 159 [some (va_rf (some a0)), some (va_rf v1), some (.int v2), some (va_rf v3), some (.int v4)] [] := by
  intro n
  induction n with
  | zero =>
    intro v1 v2 v3 v4 M hw
    exact hw.elim
  | succ n ih =>
    intro v1 v2 v3 v4 M hw
    refine G_iload (pc := 159) (i := 4) hC dX7_item_159 rfl ?_
    refine G_iload_n (pc := 161) (i := 2) hC dX7_item_161 rfl rfl ?_
    refine G_icmp_ge (pc := 162) (tgt := 190) hC dX7_item_162 (by decide) (fun hc => ?_) (fun hc => ?_)
    · replace hw := hw.1 hc
      refine G_loc (lv' := [some (va_rf (some a0)), none, none, some (va_rf v3), none]) ⟨Or.inr rfl, Or.inl rfl, Or.inl rfl, Or.inr rfl, Or.inl rfl, trivial⟩ ?_
      exact g_X7_item_190_r1 hJ hC hQ hin hno  v3 M hw
    · replace hw := hw.2 hc
      refine G_aload_n (pc := 165) (i := 3) hC dX7_item_165 rfl rfl ?_
      obtain ⟨b2, rfl, hb, hw⟩ := gThis_e hw
      refine G_callF (pc := 166) (n := 0) (x := ⟨"java/util/List", "size", "()I"⟩) (C := "java/util/ArrayList") (ci := 21) (T := TJ2) (N := 3) (b := b2) (As := []) (rest := []) hC (J_L_size hJ hw) (lw_F q1846 q889 q363 q87 q364) (nw_in q888 rfl) (nw_in q887 rfl) (nw_in q891 rfl) (nw_in q890 rfl) (nw_in q259 rfl) rfl (rcv (C := RJ2) (T := TJ2) (N := 3) hC hb rfl) (by decide +kernel) (by decide) rfl rfl (st_c cat_e (Nat.le_of_ble_eq_true rfl)) dX7_item_166 (kI fun x3 M1 hw => ?_)
      refine G_bipush (pc := 171) (v := 24) hC dX7_item_171 (by decide) ?_
      refine G_icmp_gt (pc := 173) (tgt := 190) hC dX7_item_173 (by decide) (fun hc => ?_) (fun hc => ?_)
      · replace hw := hw.1 hc
        refine G_loc (lv' := [some (va_rf (some a0)), none, none, some (va_rf (some b2)), none]) ⟨Or.inr rfl, Or.inl rfl, Or.inl rfl, Or.inr rfl, Or.inl rfl, trivial⟩ ?_
        exact g_X7_item_190_r1 hJ hC hQ hin hno  (some b2) M1 hw
      · replace hw := hw.2 hc
        refine G_aload_n (pc := 176) (i := 3) hC dX7_item_176 rfl rfl ?_
        refine G_aload_n (pc := 177) (i := 1) hC dX7_item_177 rfl rfl ?_
        obtain ⟨hb, hw⟩ := hw
        refine G_callF (pc := 178) (n := 1) (x := ⟨"java/util/List", "addAll", "(Ljava/util/Collection;)Z"⟩) (C := "java/util/ArrayList") (ci := 21) (T := TJ2) (N := 3) (b := b2) (As := [va_rf v1]) (rest := []) hC (J_L_addA hJ hw) (lw_F q1848 q1851 q1853 q87 q1855) (nw_in q1850 rfl) (nw_in q1849 rfl) (nw_in q1854 rfl) (nw_in q1852 rfl) (nw_in q259 rfl) rfl (rcv (C := RJ2) (T := TJ2) (N := 3) hC hb rfl) (by decide +kernel) (by decide) rfl rfl (st_c cat_e (Nat.le_of_ble_eq_true rfl)) dX7_item_178 (kI fun x5 M4 hw => ?_)
        refine G_pop (pc := 183) hC dX7_item_183 rfl ?_
        refine G_iinc (pc := 184) (i := 4) (v := (v4 + (1 : Int32))) (lw := [some (va_rf (some a0)), some (va_rf v1), some (.int v2), some (va_rf (some b2)), some (.int (v4 + (1 : Int32)))]) hC dX7_item_184 rfl (Nat.le_of_ble_eq_true rfl) rfl rfl ?_
        refine G_goto (pc := 187) (tgt := 159) hC dX7_item_187 (by decide) ?_
        exact ih v1 v2 (some b2) (v4 + (1 : Int32)) M4 hw
theorem g_X7_item_148_r1 {k : kT} {F : Nat} {a0 : Nat} {Q : Option Nat → hM → Prop} {X : String → Nat → hM → Prop} (hJ : JOK (kl k) (kg k)) (hC : CX k 5 cX7_item RX7 (some (.object "java/util/List")) 44 2085) (hQ : isQX k (PR Q) X) (hin : (kt k).name = "item") (hno : ∀ x ∈ (kc k).exceptionTable.toList, False) : ∀ (v1 : Option Nat) (v2 : Int32) (M : hM), w_X7_item_148 (kg k) F (wR_X7_item (kg k) F 0) a0 Q X v1 v2 M → GW k 5 M 148 [some (va_rf (some a0)), some (va_rf v1), some (.int v2), none, none] [] := by
  intro v1 v2 M hw
  refine G_new (pc := 148) (ci := 21) (C := RJ2) (T := TJ2) (N := 3) (fs := fsJ2) tyJ2 hC rfl in_J2 tyJ2_ok q1776 q161 q87 dfJ2 rfl dX7_item_148 hw (fun q1 M2 hw => ?_)
  refine G_dup (pc := 151) hC dX7_item_151 (rf_cat _) ?_
  obtain ⟨hb, hw⟩ := hw
  refine G_callI (pc := 152) (n := 0) (b := q1) (As := []) (rest := [va_rf (some q1)]) hC (J_L_new hJ hw) (lw_meth q164) q87 q1777 q163 rfl hd_J2_init.2 (by decide) rfl rfl (st_c (cat_r cat_e) (Nat.le_of_ble_eq_true rfl)) dX7_item_152 (kU fun M3 hw => ?_)
  refine G_astore_n (pc := 155) (i := 3) (lw := [some (va_rf (some a0)), some (va_rf v1), some (.int v2), some (va_rf (some q1)), none]) hC dX7_item_155 rfl (Nat.le_of_ble_eq_true rfl) rfl ?_
  refine G_iconst (pc := 156) (v := 0) hC dX7_item_156 (by decide) ?_
  refine G_istore (pc := 157) (i := 4) (lw := [some (va_rf (some a0)), some (va_rf v1), some (.int v2), some (va_rf (some q1)), some (.int (0 : Int32))]) hC dX7_item_157 (Nat.le_of_ble_eq_true rfl) rfl ?_
  exact g_X7_item_159_r1 hJ hC hQ hin hno _ v1 v2 (some q1) (0 : Int32) M3 hw
theorem g_X7_item_110_r1 {k : kT} {F : Nat} {a0 : Nat} {Q : Option Nat → hM → Prop} {X : String → Nat → hM → Prop} (hJ : JOK (kl k) (kg k)) (hC : CX k 5 cX7_item RX7 (some (.object "java/util/List")) 44 2085) (hQ : isQX k (PR Q) X) (hin : (kt k).name = "item") (hno : ∀ x ∈ (kc k).exceptionTable.toList, False) : ∀ (v1 : Option Nat) (M : hM), w_X7_item_110 (kg k) F (wR_X7_item (kg k) F 0) a0 Q X v1 M → GW k 5 M 110 [some (va_rf (some a0)), some (va_rf v1), none, none, none] [] := by
  intro v1 M hw
  refine G_iconst (pc := 110) (v := 1) hC dX7_item_110 (by decide) ?_
  refine G_istore_n (pc := 111) (i := 2) (lw := [some (va_rf (some a0)), some (va_rf v1), some (.int (1 : Int32)), none, none]) hC dX7_item_111 rfl (Nat.le_of_ble_eq_true rfl) rfl ?_
  refine G_aload_n (pc := 112) (i := 0) hC dX7_item_112 rfl rfl ?_
  refine G_bipush (pc := 113) (v := 50) hC dX7_item_113 (by decide) ?_
  refine G_bipush (pc := 115) (v := 57) hC dX7_item_115 (by decide) ?_
  obtain ⟨hb, hw⟩ := hw
  refine G_callV (pc := 117) (n := 2) (C := "MergeWorkbench$Reader") (b := a0) (As := [.int (50 : Int32), .int (57 : Int32)]) (rest := []) hC (m_X7_isAt hJ hw) (lw_V q1782 q1784 qs22 q125 q1785) hd_X7_isAt (by decide) (rcv (C := RX7) (T := TX7) (N := 3) hC hb rfl) rfl rfl (st_c cat_e (Nat.le_of_ble_eq_true rfl)) dX7_item_117 (kI fun x2 M1 hw => ?_)
  refine G_if_eq (pc := 120) (tgt := 148) hC dX7_item_120 (by decide) (fun hc => ?_) (fun hc => ?_)
  · replace hw := hw.1 hc
    exact g_X7_item_148_r1 hJ hC hQ hin hno  v1 (1 : Int32) M1 hw
  · replace hw := hw.2 hc
    refine G_aload_n (pc := 123) (i := 0) hC dX7_item_123 rfl rfl ?_
    refine G_getF (pc := 124) (ci := 6) (C := RX7) (T := TX7) (N := 3) (f := 0) hC rfl in_X7 (Nat.le_of_ble_eq_true rfl) q1758 (fun _ h => h) dX7_item_124 hw (fun x3 hw => ?_)
    refine G_aload_n (pc := 127) (i := 0) hC dX7_item_127 rfl rfl ?_
    refine G_getI (pc := 128) (ci := 6) (C := RX7) (T := TX7) (N := 3) (f := 1) hC rfl in_X7 (Nat.le_of_ble_eq_true rfl) q1759 (fun _ h => h) dX7_item_128 hw (fun x4 hw => ?_)
    obtain ⟨b6, rfl, hb, hw⟩ := gThis_e hw
    refine G_callV (pc := 131) (n := 1) (C := "java/lang/String") (b := b6) (As := [.int x4]) (rest := []) hC (J_S_chr hJ hw) (lw_V q1787 q1788 q1789 q92 q1790) hd_J6_charAt (by decide) (rcv (C := RJ6) (T := TJ6) (N := 4) hC hb rfl) rfl rfl (st_c cat_e (Nat.le_of_ble_eq_true rfl)) dX7_item_131 (kI fun x7 M5 hw => ?_)
    refine G_bipush (pc := 134) (v := 48) hC dX7_item_134 (by decide) ?_
    refine G_isub (pc := 136) hC dX7_item_136 ?_
    refine G_istore_n (pc := 137) (i := 2) (lw := [some (va_rf (some a0)), some (va_rf v1), some (.int (x7 - (48 : Int32))), none, none]) hC dX7_item_137 rfl (Nat.le_of_ble_eq_true rfl) rfl ?_
    refine G_aload_n (pc := 138) (i := 0) hC dX7_item_138 rfl rfl ?_
    refine G_dup (pc := 139) hC dX7_item_139 (rf_cat _) ?_
    refine G_getI (pc := 140) (ci := 6) (C := RX7) (T := TX7) (N := 3) (f := 1) hC rfl in_X7 (Nat.le_of_ble_eq_true rfl) q1759 (fun _ h => h) dX7_item_140 hw (fun x8 hw => ?_)
    refine G_iconst (pc := 143) (v := 1) hC dX7_item_143 (by decide) ?_
    refine G_iadd (pc := 144) hC dX7_item_144 ?_
    refine G_put (pc := 145) (ci := 6) (C := RX7) (T := TX7) (N := 3) (f := 1) tyX7 hC rfl in_X7 tyX7_ok nmX7 (Nat.le_of_ble_eq_true rfl) q1759 (fun _ h => h) rfl rfl rfl dX7_item_145 hw (fun M9 hw => ?_)
    exact g_X7_item_148_r1 hJ hC hQ hin hno  v1 (x7 - (48 : Int32)) M9 hw
theorem m_X7_item_r1 {l : Launch} {g : gT} {F : Nat} {a0 : Nat} {M : hM} {Q : Option Nat → hM → Prop} {X : String → Nat → hM → Prop} (hJ : JOK l g) (hw : wR_X7_item g F 1 a0 M Q X) : MX l g yX7_item (ws_ yX7_item cX7_item 5 (some (.object "java/util/List"))) 44 2085 [va_rf (some a0)] M (PR Q) X := by
  refine MX_of hJ.2.1 (by decide) (cat_r cat_e) (Nat.le_of_ble_eq_true rfl) (fun k hl hg hin hno hQ hC => ?_)
  subst hl hg
  replace hw : w_X7_item (kg k) F (wR_X7_item (kg k) F 0) a0 M Q X := hw
  show GW k 5 M 0 [some (va_rf (some a0)), none, none, none, none] []
  refine G_aload_n (pc := 0) (i := 0) hC dX7_item_0 rfl rfl ?_
  refine G_bipush (pc := 1) (v := 40) hC dX7_item_1 (by decide) ?_
  refine G_bipush (pc := 3) (v := 40) hC dX7_item_3 (by decide) ?_
  obtain ⟨hb, hw⟩ := hw
  refine G_callV (pc := 5) (n := 2) (C := "MergeWorkbench$Reader") (b := a0) (As := [.int (40 : Int32), .int (40 : Int32)]) (rest := []) hC (m_X7_isAt hJ hw) (lw_V q1782 q1784 qs22 q125 q1785) hd_X7_isAt (by decide) (rcv (C := RX7) (T := TX7) (N := 3) hC hb rfl) rfl rfl (st_c cat_e (Nat.le_of_ble_eq_true rfl)) dX7_item_5 (kI fun x2 M1 hw => ?_)
  refine G_if_eq (pc := 8) (tgt := 79) hC dX7_item_8 (by decide) (fun hc => ?_) (fun hc => ?_)
  · replace hw := hw.1 hc
    refine G_aload_n (pc := 79) (i := 0) hC dX7_item_79 rfl rfl ?_
    refine G_getF (pc := 80) (ci := 6) (C := RX7) (T := TX7) (N := 3) (f := 0) hC rfl in_X7 (Nat.le_of_ble_eq_true rfl) q1758 (fun _ h => h) dX7_item_80 hw (fun x3 hw => ?_)
    refine G_aload_n (pc := 83) (i := 0) hC dX7_item_83 rfl rfl ?_
    refine G_getI (pc := 84) (ci := 6) (C := RX7) (T := TX7) (N := 3) (f := 1) hC rfl in_X7 (Nat.le_of_ble_eq_true rfl) q1759 (fun _ h => h) dX7_item_84 hw (fun x4 hw => ?_)
    obtain ⟨b6, rfl, hb, hw⟩ := gThis_e hw
    refine G_callV (pc := 87) (n := 1) (C := "java/lang/String") (b := b6) (As := [.int x4]) (rest := []) hC (J_S_chr hJ hw) (lw_V q1787 q1788 q1789 q92 q1790) hd_J6_charAt (by decide) (rcv (C := RJ6) (T := TJ6) (N := 4) hC hb rfl) rfl rfl (st_c cat_e (Nat.le_of_ble_eq_true rfl)) dX7_item_87 (kI fun x7 M5 hw => ?_)
    refine G_bipush (pc := 90) (v := 97) hC dX7_item_90 (by decide) ?_
    refine G_isub (pc := 92) hC dX7_item_92 ?_
    refine G_callS (pc := 93) (n := 1) (As := [.int (x7 - (97 : Int32))]) (rest := []) hC (J_B_of hJ hw) (lw_S q1830 q992 q106 q993) hd_J19_valueOf.2 (by decide) rfl rfl (st_c cat_e (Nat.le_of_ble_eq_true rfl)) dX7_item_93 (kRf fun x9 M8 hw => ?_)
    refine G_callS (pc := 96) (n := 1) (As := [va_rf x9]) (rest := []) hC (J_C_sing hJ hw) (lw_S q1831 q1832 q113 q1833) hd_J25_singletonList.2 (by decide) rfl rfl (st_c cat_e (Nat.le_of_ble_eq_true rfl)) dX7_item_96 (kRf fun x11 M10 hw => ?_)
    refine G_astore_n (pc := 99) (i := 1) (lw := [some (va_rf (some a0)), some (va_rf x11), none, none, none]) hC dX7_item_99 rfl (Nat.le_of_ble_eq_true rfl) rfl ?_
    refine G_aload_n (pc := 100) (i := 0) hC dX7_item_100 rfl rfl ?_
    refine G_dup (pc := 101) hC dX7_item_101 (rf_cat _) ?_
    refine G_getI (pc := 102) (ci := 6) (C := RX7) (T := TX7) (N := 3) (f := 1) hC rfl in_X7 (Nat.le_of_ble_eq_true rfl) q1759 (fun _ h => h) dX7_item_102 hw (fun x12 hw => ?_)
    refine G_iconst (pc := 105) (v := 1) hC dX7_item_105 (by decide) ?_
    refine G_iadd (pc := 106) hC dX7_item_106 ?_
    refine G_put (pc := 107) (ci := 6) (C := RX7) (T := TX7) (N := 3) (f := 1) tyX7 hC rfl in_X7 tyX7_ok nmX7 (Nat.le_of_ble_eq_true rfl) q1759 (fun _ h => h) rfl rfl rfl dX7_item_107 hw (fun M13 hw => ?_)
    exact g_X7_item_110_r1 hJ hC hQ hin hno  x11 M13 hw
  · replace hw := hw.2 hc
    refine G_aload_n (pc := 11) (i := 0) hC dX7_item_11 rfl rfl ?_
    refine G_dup (pc := 12) hC dX7_item_12 (rf_cat _) ?_
    refine G_getI (pc := 13) (ci := 6) (C := RX7) (T := TX7) (N := 3) (f := 1) hC rfl in_X7 (Nat.le_of_ble_eq_true rfl) q1759 (fun _ h => h) dX7_item_13 hw (fun x14 hw => ?_)
    refine G_iconst (pc := 16) (v := 1) hC dX7_item_16 (by decide) ?_
    refine G_iadd (pc := 17) hC dX7_item_17 ?_
    refine G_put (pc := 18) (ci := 6) (C := RX7) (T := TX7) (N := 3) (f := 1) tyX7 hC rfl in_X7 tyX7_ok nmX7 (Nat.le_of_ble_eq_true rfl) q1759 (fun _ h => h) rfl rfl rfl dX7_item_18 hw (fun M15 hw => ?_)
    refine G_aload_n (pc := 21) (i := 0) hC dX7_item_21 rfl rfl ?_
    refine G_dup (pc := 22) hC dX7_item_22 (rf_cat _) ?_
    refine G_getI (pc := 23) (ci := 6) (C := RX7) (T := TX7) (N := 3) (f := 2) hC rfl in_X7 (Nat.le_of_ble_eq_true rfl) q1760 (fun _ h => h) dX7_item_23 hw (fun x16 hw => ?_)
    refine G_iconst (pc := 26) (v := 1) hC dX7_item_26 (by decide) ?_
    refine G_iadd (pc := 27) hC dX7_item_27 ?_
    refine G_put (pc := 28) (ci := 6) (C := RX7) (T := TX7) (N := 3) (f := 2) tyX7 hC rfl in_X7 tyX7_ok nmX7 (Nat.le_of_ble_eq_true rfl) q1760 (fun _ h => h) rfl rfl rfl dX7_item_28 hw (fun M17 hw => ?_)
    refine G_aload_n (pc := 31) (i := 0) hC dX7_item_31 rfl rfl ?_
    refine G_aload_n (pc := 32) (i := 0) hC dX7_item_32 rfl rfl ?_
    obtain ⟨hb, hw⟩ := hw
    refine G_callV (pc := 33) (n := 0) (C := "MergeWorkbench$Reader") (b := a0) (As := []) (rest := [va_rf (some a0)]) hC (m_X7_isItem hJ hw) (lw_V q1778 q1780 qs21 q125 q1781) hd_X7_isItem (by decide) (rcv (C := RX7) (T := TX7) (N := 3) hC hb rfl) rfl rfl (st_c (cat_r cat_e) (Nat.le_of_ble_eq_true rfl)) dX7_item_33 (kI fun x19 M18 hw => ?_)
    obtain ⟨hb, hw⟩ := hw
    refine GX_callV (pc := 36) (n := 1) (C := "MergeWorkbench$Reader") (b := a0) (As := [.int x19]) (rest := []) hC (m_X7_expect hJ hw) (lw_V q1807 q1809 qs24 q125 q1810) hd_X7_expect (by decide) (rcv (C := RX7) (T := TX7) (N := 3) hC hb rfl) rfl rfl (st_c cat_e (Nat.le_of_ble_eq_true rfl)) dX7_item_36 (fun E q M hx => GX_out hC hno hQ hx) (kU fun M20 hw => ?_)
    refine G_aload_n (pc := 39) (i := 0) hC dX7_item_39 rfl rfl ?_
    obtain ⟨hb, hw⟩ := hw
    refine GX_callV (pc := 40) (n := 0) (C := "MergeWorkbench$Reader") (b := a0) (As := []) (rest := []) hC (m_X7_items_r0 hJ hw) (lw_V q1772 q1774 qs20 q125 q1775) hd_X7_items (by decide) (rcv (C := RX7) (T := TX7) (N := 3) hC hb rfl) rfl rfl (st_c cat_e (Nat.le_of_ble_eq_true rfl)) dX7_item_40 (fun E q M hx => GX_out hC hno hQ hx) (kRf fun x22 M21 hw => ?_)
    refine G_astore_n (pc := 43) (i := 1) (lw := [some (va_rf (some a0)), some (va_rf x22), none, none, none]) hC dX7_item_43 rfl (Nat.le_of_ble_eq_true rfl) rfl ?_
    refine G_aload_n (pc := 44) (i := 0) hC dX7_item_44 rfl rfl ?_
    refine G_aload_n (pc := 45) (i := 0) hC dX7_item_45 rfl rfl ?_
    refine G_bipush (pc := 46) (v := 41) hC dX7_item_46 (by decide) ?_
    refine G_bipush (pc := 48) (v := 41) hC dX7_item_48 (by decide) ?_
    obtain ⟨hb, hw⟩ := hw
    refine G_callV (pc := 50) (n := 2) (C := "MergeWorkbench$Reader") (b := a0) (As := [.int (41 : Int32), .int (41 : Int32)]) (rest := [va_rf (some a0)]) hC (m_X7_isAt hJ hw) (lw_V q1782 q1784 qs22 q125 q1785) hd_X7_isAt (by decide) (rcv (C := RX7) (T := TX7) (N := 3) hC hb rfl) rfl rfl (st_c (cat_r cat_e) (Nat.le_of_ble_eq_true rfl)) dX7_item_50 (kI fun x24 M23 hw => ?_)
    obtain ⟨hb, hw⟩ := hw
    refine GX_callV (pc := 53) (n := 1) (C := "MergeWorkbench$Reader") (b := a0) (As := [.int x24]) (rest := []) hC (m_X7_expect hJ hw) (lw_V q1807 q1809 qs24 q125 q1810) hd_X7_expect (by decide) (rcv (C := RX7) (T := TX7) (N := 3) hC hb rfl) rfl rfl (st_c cat_e (Nat.le_of_ble_eq_true rfl)) dX7_item_53 (fun E q M hx => GX_out hC hno hQ hx) (kU fun M25 hw => ?_)
    refine G_aload_n (pc := 56) (i := 0) hC dX7_item_56 rfl rfl ?_
    refine G_dup (pc := 57) hC dX7_item_57 (rf_cat _) ?_
    refine G_getI (pc := 58) (ci := 6) (C := RX7) (T := TX7) (N := 3) (f := 1) hC rfl in_X7 (Nat.le_of_ble_eq_true rfl) q1759 (fun _ h => h) dX7_item_58 hw (fun x26 hw => ?_)
    refine G_iconst (pc := 61) (v := 1) hC dX7_item_61 (by decide) ?_
    refine G_iadd (pc := 62) hC dX7_item_62 ?_
    refine G_put (pc := 63) (ci := 6) (C := RX7) (T := TX7) (N := 3) (f := 1) tyX7 hC rfl in_X7 tyX7_ok nmX7 (Nat.le_of_ble_eq_true rfl) q1759 (fun _ h => h) rfl rfl rfl dX7_item_63 hw (fun M27 hw => ?_)
    refine G_aload_n (pc := 66) (i := 0) hC dX7_item_66 rfl rfl ?_
    refine G_dup (pc := 67) hC dX7_item_67 (rf_cat _) ?_
    refine G_getI (pc := 68) (ci := 6) (C := RX7) (T := TX7) (N := 3) (f := 2) hC rfl in_X7 (Nat.le_of_ble_eq_true rfl) q1760 (fun _ h => h) dX7_item_68 hw (fun x28 hw => ?_)
    refine G_iconst (pc := 71) (v := 1) hC dX7_item_71 (by decide) ?_
    refine G_isub (pc := 72) hC dX7_item_72 ?_
    refine G_put (pc := 73) (ci := 6) (C := RX7) (T := TX7) (N := 3) (f := 2) tyX7 hC rfl in_X7 tyX7_ok nmX7 (Nat.le_of_ble_eq_true rfl) q1760 (fun _ h => h) rfl rfl rfl dX7_item_73 hw (fun M29 hw => ?_)
    refine G_goto (pc := 76) (tgt := 110) hC dX7_item_76 (by decide) ?_
    exact g_X7_item_110_r1 hJ hC hQ hin hno  x22 M29 hw
theorem g_X7_items_39_r1 {k : kT} {F : Nat} {a0 : Nat} {Q : Option Nat → hM → Prop} {X : String → Nat → hM → Prop} {K8 : (Option Nat) → hM → Prop} (hJ : JOK (kl k) (kg k)) (hC : CX k 3 cX7_items RX7 (some (.object "java/util/List")) 45 2109) (hQ : isQX k (PR Q) X) (hin : (kt k).name = "items") (hno : ∀ x ∈ (kc k).exceptionTable.toList, False) (hK8 : ∀ (v1 : Option Nat) (M : hM), K8 v1 M → GW k 3 M 8 [some (va_rf (some a0)), some (va_rf v1), none] []) : ∀ (v1 : Option Nat) (M : hM), w_X7_items_39 (kg k) F (wR_X7_item (kg k) F 1) a0 Q X K8 v1 M → GW k 3 M 39 [some (va_rf (some a0)), some (va_rf v1), none] [] := by
  intro v1 M hw
  refine G_goto (pc := 39) (tgt := 8) hC dX7_items_39 (by decide) ?_
  exact hK8 v1 M hw
theorem g_X7_items_8_r1 {k : kT} {F : Nat} {a0 : Nat} {Q : Option Nat → hM → Prop} {X : String → Nat → hM → Prop} (hJ : JOK (kl k) (kg k)) (hC : CX k 3 cX7_items RX7 (some (.object "java/util/List")) 45 2109) (hQ : isQX k (PR Q) X) (hin : (kt k).name = "items") (hno : ∀ x ∈ (kc k).exceptionTable.toList, False) : ∀ (n : Nat) (v1 : Option Nat) (M : hM), w_X7_items_8 (kg k) F (wR_X7_item (kg k) F 1) a0 Q X n v1 M → GW k 3 M 8 [some (va_rf (some a0)), some (va_rf v1), none] [] := by
  intro n
  induction n with
  | zero =>
    intro v1 M hw
    exact hw.elim
  | succ n ih =>
    intro v1 M hw
    refine G_aload_n (pc := 8) (i := 0) hC dX7_items_8 rfl rfl ?_
    obtain ⟨hb, hw⟩ := hw
    refine G_callV (pc := 9) (n := 0) (C := "MergeWorkbench$Reader") (b := a0) (As := []) (rest := []) hC (m_X7_isItem hJ hw) (lw_V q1778 q1780 qs21 q125 q1781) hd_X7_isItem (by decide) (rcv (C := RX7) (T := TX7) (N := 3) hC hb rfl) rfl rfl (st_c cat_e (Nat.le_of_ble_eq_true rfl)) dX7_items_9 (kI fun x2 M1 hw => ?_)
    refine G_if_eq (pc := 12) (tgt := 42) hC dX7_items_12 (by decide) (fun hc => ?_) (fun hc => ?_)
    · replace hw := hw.1 hc
      refine G_aload_n (pc := 42) (i := 1) hC dX7_items_42 rfl rfl ?_
      exact G_aretX (pc := 43) hC (Or.inl ⟨_, rfl⟩) hQ dX7_items_43 hw
    · replace hw := hw.2 hc
      refine G_aload_n (pc := 15) (i := 0) hC dX7_items_15 rfl rfl ?_
      obtain ⟨hb, hw⟩ := hw
      refine GX_callV (pc := 16) (n := 0) (C := "MergeWorkbench$Reader") (b := a0) (As := []) (rest := []) hC (m_X7_item_r1 hJ hw) (lw_V q1803 q1805 qs23 q125 q1806) hd_X7_item (by decide) (rcv (C := RX7) (T := TX7) (N := 3) hC hb rfl) rfl rfl (st_c cat_e (Nat.le_of_ble_eq_true rfl)) dX7_items_16 (fun E q M hx => GX_out hC hno hQ hx) (kRf fun x4 M3 hw => ?_)
      refine G_astore_n (pc := 19) (i := 2) (lw := [some (va_rf (some a0)), some (va_rf v1), some (va_rf x4)]) hC dX7_items_19 rfl (Nat.le_of_ble_eq_true rfl) rfl ?_
      refine G_aload_n (pc := 20) (i := 1) hC dX7_items_20 rfl rfl ?_
      obtain ⟨b6, rfl, hb, hw⟩ := gThis_e hw
      refine G_callF (pc := 21) (n := 0) (x := ⟨"java/util/List", "size", "()I"⟩) (C := "java/util/ArrayList") (ci := 21) (T := TJ2) (N := 3) (b := b6) (As := []) (rest := []) hC (J_L_size hJ hw) (lw_F q1846 q889 q363 q87 q364) (nw_in q888 rfl) (nw_in q887 rfl) (nw_in q891 rfl) (nw_in q890 rfl) (nw_in q259 rfl) rfl (rcv (C := RJ2) (T := TJ2) (N := 3) hC hb rfl) (by decide +kernel) (by decide) rfl rfl (st_c cat_e (Nat.le_of_ble_eq_true rfl)) dX7_items_21 (kI fun x7 M5 hw => ?_)
      refine G_bipush (pc := 26) (v := 24) hC dX7_items_26 (by decide) ?_
      refine G_icmp_gt (pc := 28) (tgt := 39) hC dX7_items_28 (by decide) (fun hc => ?_) (fun hc => ?_)
      · replace hw := hw.1 hc
        refine G_loc (lv' := [some (va_rf (some a0)), some (va_rf (some b6)), none]) ⟨Or.inr rfl, Or.inr rfl, Or.inl rfl, trivial⟩ ?_
        exact g_X7_items_39_r1 hJ hC hQ hin hno ih  (some b6) M5 hw
      · replace hw := hw.2 hc
        refine G_aload_n (pc := 31) (i := 1) hC dX7_items_31 rfl rfl ?_
        refine G_aload_n (pc := 32) (i := 2) hC dX7_items_32 rfl rfl ?_
        obtain ⟨hb, hw⟩ := hw
        refine G_callF (pc := 33) (n := 1) (x := ⟨"java/util/List", "addAll", "(Ljava/util/Collection;)Z"⟩) (C := "java/util/ArrayList") (ci := 21) (T := TJ2) (N := 3) (b := b6) (As := [va_rf x4]) (rest := []) hC (J_L_addA hJ hw) (lw_F q1848 q1851 q1853 q87 q1855) (nw_in q1850 rfl) (nw_in q1849 rfl) (nw_in q1854 rfl) (nw_in q1852 rfl) (nw_in q259 rfl) rfl (rcv (C := RJ2) (T := TJ2) (N := 3) hC hb rfl) (by decide +kernel) (by decide) rfl rfl (st_c cat_e (Nat.le_of_ble_eq_true rfl)) dX7_items_33 (kI fun x9 M8 hw => ?_)
        refine G_pop (pc := 38) hC dX7_items_38 rfl ?_
        refine G_loc (lv' := [some (va_rf (some a0)), some (va_rf (some b6)), none]) ⟨Or.inr rfl, Or.inr rfl, Or.inl rfl, trivial⟩ ?_
        exact g_X7_items_39_r1 hJ hC hQ hin hno ih  (some b6) M8 hw
theorem m_X7_items_r1 {l : Launch} {g : gT} {F : Nat} {a0 : Nat} {M : hM} {Q : Option Nat → hM → Prop} {X : String → Nat → hM → Prop} (hJ : JOK l g) (hw : w_X7_items g F (wR_X7_item g F 1) a0 M Q X) : MX l g yX7_items (ws_ yX7_items cX7_items 3 (some (.object "java/util/List"))) 45 2109 [va_rf (some a0)] M (PR Q) X := by
  refine MX_of hJ.2.1 (by decide) (cat_r cat_e) (Nat.le_of_ble_eq_true rfl) (fun k hl hg hin hno hQ hC => ?_)
  subst hl hg
  show GW k 3 M 0 [some (va_rf (some a0)), none, none] []
  refine G_new (pc := 0) (ci := 21) (C := RJ2) (T := TJ2) (N := 3) (fs := fsJ2) tyJ2 hC rfl in_J2 tyJ2_ok q1776 q161 q87 dfJ2 rfl dX7_items_0 hw (fun q1 M2 hw => ?_)
  refine G_dup (pc := 3) hC dX7_items_3 (rf_cat _) ?_
  obtain ⟨hb, hw⟩ := hw
  refine G_callI (pc := 4) (n := 0) (b := q1) (As := []) (rest := [va_rf (some q1)]) hC (J_L_new hJ hw) (lw_meth q164) q87 q1777 q163 rfl hd_J2_init.2 (by decide) rfl rfl (st_c (cat_r cat_e) (Nat.le_of_ble_eq_true rfl)) dX7_items_4 (kU fun M3 hw => ?_)
  refine G_astore_n (pc := 7) (i := 1) (lw := [some (va_rf (some a0)), some (va_rf (some q1)), none]) hC dX7_items_7 rfl (Nat.le_of_ble_eq_true rfl) rfl ?_
  exact g_X7_items_8_r1 hJ hC hQ hin hno _ (some q1) M3 hw
theorem g_X7_item_190_r2 {k : kT} {F : Nat} {a0 : Nat} {Q : Option Nat → hM → Prop} {X : String → Nat → hM → Prop} (hJ : JOK (kl k) (kg k)) (hC : CX k 5 cX7_item RX7 (some (.object "java/util/List")) 46 2131) (hQ : isQX k (PR Q) X) (hin : (kt k).name = "item") (hno : ∀ x ∈ (kc k).exceptionTable.toList, False) : ∀ (v3 : Option Nat) (M : hM), w_X7_item_190 (kg k) F (wR_X7_item (kg k) F 1) a0 Q X v3 M → GW k 5 M 190 [some (va_rf (some a0)), none, none, some (va_rf v3), none] [] := by
  intro v3 M hw
  refine G_aload_n (pc := 190) (i := 3) hC dX7_item_190 rfl rfl ?_
  exact G_aretX (pc := 191) hC (Or.inl ⟨_, rfl⟩) hQ dX7_item_191 hw
theorem g_X7_item_159_r2 {k : kT} {F : Nat} {a0 : Nat} {Q : Option Nat → hM → Prop} {X : String → Nat → hM → Prop} (hJ : JOK (kl k) (kg k)) (hC : CX k 5 cX7_item RX7 (some (.object "java/util/List")) 46 2131) (hQ : isQX k (PR Q) X) (hin : (kt k).name = "item") (hno : ∀ x ∈ (kc k).exceptionTable.toList, False) : ∀ (n : Nat) (v1 : Option Nat) (v2 : Int32) (v3 : Option Nat) (v4 : Int32) (M : hM), w_X7_item_159 (kg k) F (wR_X7_item (kg k) F 1) a0 Q X n v1 v2 v3 v4 M → GW k 5 M 159 [some (va_rf (some a0)), some (va_rf v1), some (.int v2), some (va_rf v3), some (.int v4)] [] := by
  intro n
  induction n with
  | zero =>
    intro v1 v2 v3 v4 M hw
    exact hw.elim
  | succ n ih =>
    intro v1 v2 v3 v4 M hw
    refine G_iload (pc := 159) (i := 4) hC dX7_item_159 rfl ?_
    refine G_iload_n (pc := 161) (i := 2) hC dX7_item_161 rfl rfl ?_
    refine G_icmp_ge (pc := 162) (tgt := 190) hC dX7_item_162 (by decide) (fun hc => ?_) (fun hc => ?_)
    · replace hw := hw.1 hc
      refine G_loc (lv' := [some (va_rf (some a0)), none, none, some (va_rf v3), none]) ⟨Or.inr rfl, Or.inl rfl, Or.inl rfl, Or.inr rfl, Or.inl rfl, trivial⟩ ?_
      exact g_X7_item_190_r2 hJ hC hQ hin hno  v3 M hw
    · replace hw := hw.2 hc
      refine G_aload_n (pc := 165) (i := 3) hC dX7_item_165 rfl rfl ?_
      obtain ⟨b2, rfl, hb, hw⟩ := gThis_e hw
      refine G_callF (pc := 166) (n := 0) (x := ⟨"java/util/List", "size", "()I"⟩) (C := "java/util/ArrayList") (ci := 21) (T := TJ2) (N := 3) (b := b2) (As := []) (rest := []) hC (J_L_size hJ hw) (lw_F q1846 q889 q363 q87 q364) (nw_in q888 rfl) (nw_in q887 rfl) (nw_in q891 rfl) (nw_in q890 rfl) (nw_in q259 rfl) rfl (rcv (C := RJ2) (T := TJ2) (N := 3) hC hb rfl) (by decide +kernel) (by decide) rfl rfl (st_c cat_e (Nat.le_of_ble_eq_true rfl)) dX7_item_166 (kI fun x3 M1 hw => ?_)
      refine G_bipush (pc := 171) (v := 24) hC dX7_item_171 (by decide) ?_
      refine G_icmp_gt (pc := 173) (tgt := 190) hC dX7_item_173 (by decide) (fun hc => ?_) (fun hc => ?_)
      · replace hw := hw.1 hc
        refine G_loc (lv' := [some (va_rf (some a0)), none, none, some (va_rf (some b2)), none]) ⟨Or.inr rfl, Or.inl rfl, Or.inl rfl, Or.inr rfl, Or.inl rfl, trivial⟩ ?_
        exact g_X7_item_190_r2 hJ hC hQ hin hno  (some b2) M1 hw
      · replace hw := hw.2 hc
        refine G_aload_n (pc := 176) (i := 3) hC dX7_item_176 rfl rfl ?_
        refine G_aload_n (pc := 177) (i := 1) hC dX7_item_177 rfl rfl ?_
        obtain ⟨hb, hw⟩ := hw
        refine G_callF (pc := 178) (n := 1) (x := ⟨"java/util/List", "addAll", "(Ljava/util/Collection;)Z"⟩) (C := "java/util/ArrayList") (ci := 21) (T := TJ2) (N := 3) (b := b2) (As := [va_rf v1]) (rest := []) hC (J_L_addA hJ hw) (lw_F q1848 q1851 q1853 q87 q1855) (nw_in q1850 rfl) (nw_in q1849 rfl) (nw_in q1854 rfl) (nw_in q1852 rfl) (nw_in q259 rfl) rfl (rcv (C := RJ2) (T := TJ2) (N := 3) hC hb rfl) (by decide +kernel) (by decide) rfl rfl (st_c cat_e (Nat.le_of_ble_eq_true rfl)) dX7_item_178 (kI fun x5 M4 hw => ?_)
        refine G_pop (pc := 183) hC dX7_item_183 rfl ?_
        refine G_iinc (pc := 184) (i := 4) (v := (v4 + (1 : Int32))) (lw := [some (va_rf (some a0)), some (va_rf v1), some (.int v2), some (va_rf (some b2)), some (.int (v4 + (1 : Int32)))]) hC dX7_item_184 rfl (Nat.le_of_ble_eq_true rfl) rfl rfl ?_
        refine G_goto (pc := 187) (tgt := 159) hC dX7_item_187 (by decide) ?_
        exact ih v1 v2 (some b2) (v4 + (1 : Int32)) M4 hw
theorem g_X7_item_148_r2 {k : kT} {F : Nat} {a0 : Nat} {Q : Option Nat → hM → Prop} {X : String → Nat → hM → Prop} (hJ : JOK (kl k) (kg k)) (hC : CX k 5 cX7_item RX7 (some (.object "java/util/List")) 46 2131) (hQ : isQX k (PR Q) X) (hin : (kt k).name = "item") (hno : ∀ x ∈ (kc k).exceptionTable.toList, False) : ∀ (v1 : Option Nat) (v2 : Int32) (M : hM), w_X7_item_148 (kg k) F (wR_X7_item (kg k) F 1) a0 Q X v1 v2 M → GW k 5 M 148 [some (va_rf (some a0)), some (va_rf v1), some (.int v2), none, none] [] := by
  intro v1 v2 M hw
  refine G_new (pc := 148) (ci := 21) (C := RJ2) (T := TJ2) (N := 3) (fs := fsJ2) tyJ2 hC rfl in_J2 tyJ2_ok q1776 q161 q87 dfJ2 rfl dX7_item_148 hw (fun q1 M2 hw => ?_)
  refine G_dup (pc := 151) hC dX7_item_151 (rf_cat _) ?_
  obtain ⟨hb, hw⟩ := hw
  refine G_callI (pc := 152) (n := 0) (b := q1) (As := []) (rest := [va_rf (some q1)]) hC (J_L_new hJ hw) (lw_meth q164) q87 q1777 q163 rfl hd_J2_init.2 (by decide) rfl rfl (st_c (cat_r cat_e) (Nat.le_of_ble_eq_true rfl)) dX7_item_152 (kU fun M3 hw => ?_)
  refine G_astore_n (pc := 155) (i := 3) (lw := [some (va_rf (some a0)), some (va_rf v1), some (.int v2), some (va_rf (some q1)), none]) hC dX7_item_155 rfl (Nat.le_of_ble_eq_true rfl) rfl ?_
  refine G_iconst (pc := 156) (v := 0) hC dX7_item_156 (by decide) ?_
  refine G_istore (pc := 157) (i := 4) (lw := [some (va_rf (some a0)), some (va_rf v1), some (.int v2), some (va_rf (some q1)), some (.int (0 : Int32))]) hC dX7_item_157 (Nat.le_of_ble_eq_true rfl) rfl ?_
  exact g_X7_item_159_r2 hJ hC hQ hin hno _ v1 v2 (some q1) (0 : Int32) M3 hw
theorem g_X7_item_110_r2 {k : kT} {F : Nat} {a0 : Nat} {Q : Option Nat → hM → Prop} {X : String → Nat → hM → Prop} (hJ : JOK (kl k) (kg k)) (hC : CX k 5 cX7_item RX7 (some (.object "java/util/List")) 46 2131) (hQ : isQX k (PR Q) X) (hin : (kt k).name = "item") (hno : ∀ x ∈ (kc k).exceptionTable.toList, False) : ∀ (v1 : Option Nat) (M : hM), w_X7_item_110 (kg k) F (wR_X7_item (kg k) F 1) a0 Q X v1 M → GW k 5 M 110 [some (va_rf (some a0)), some (va_rf v1), none, none, none] [] := by
  intro v1 M hw
  refine G_iconst (pc := 110) (v := 1) hC dX7_item_110 (by decide) ?_
  refine G_istore_n (pc := 111) (i := 2) (lw := [some (va_rf (some a0)), some (va_rf v1), some (.int (1 : Int32)), none, none]) hC dX7_item_111 rfl (Nat.le_of_ble_eq_true rfl) rfl ?_
  refine G_aload_n (pc := 112) (i := 0) hC dX7_item_112 rfl rfl ?_
  refine G_bipush (pc := 113) (v := 50) hC dX7_item_113 (by decide) ?_
  refine G_bipush (pc := 115) (v := 57) hC dX7_item_115 (by decide) ?_
  obtain ⟨hb, hw⟩ := hw
  refine G_callV (pc := 117) (n := 2) (C := "MergeWorkbench$Reader") (b := a0) (As := [.int (50 : Int32), .int (57 : Int32)]) (rest := []) hC (m_X7_isAt hJ hw) (lw_V q1782 q1784 qs22 q125 q1785) hd_X7_isAt (by decide) (rcv (C := RX7) (T := TX7) (N := 3) hC hb rfl) rfl rfl (st_c cat_e (Nat.le_of_ble_eq_true rfl)) dX7_item_117 (kI fun x2 M1 hw => ?_)
  refine G_if_eq (pc := 120) (tgt := 148) hC dX7_item_120 (by decide) (fun hc => ?_) (fun hc => ?_)
  · replace hw := hw.1 hc
    exact g_X7_item_148_r2 hJ hC hQ hin hno  v1 (1 : Int32) M1 hw
  · replace hw := hw.2 hc
    refine G_aload_n (pc := 123) (i := 0) hC dX7_item_123 rfl rfl ?_
    refine G_getF (pc := 124) (ci := 6) (C := RX7) (T := TX7) (N := 3) (f := 0) hC rfl in_X7 (Nat.le_of_ble_eq_true rfl) q1758 (fun _ h => h) dX7_item_124 hw (fun x3 hw => ?_)
    refine G_aload_n (pc := 127) (i := 0) hC dX7_item_127 rfl rfl ?_
    refine G_getI (pc := 128) (ci := 6) (C := RX7) (T := TX7) (N := 3) (f := 1) hC rfl in_X7 (Nat.le_of_ble_eq_true rfl) q1759 (fun _ h => h) dX7_item_128 hw (fun x4 hw => ?_)
    obtain ⟨b6, rfl, hb, hw⟩ := gThis_e hw
    refine G_callV (pc := 131) (n := 1) (C := "java/lang/String") (b := b6) (As := [.int x4]) (rest := []) hC (J_S_chr hJ hw) (lw_V q1787 q1788 q1789 q92 q1790) hd_J6_charAt (by decide) (rcv (C := RJ6) (T := TJ6) (N := 4) hC hb rfl) rfl rfl (st_c cat_e (Nat.le_of_ble_eq_true rfl)) dX7_item_131 (kI fun x7 M5 hw => ?_)
    refine G_bipush (pc := 134) (v := 48) hC dX7_item_134 (by decide) ?_
    refine G_isub (pc := 136) hC dX7_item_136 ?_
    refine G_istore_n (pc := 137) (i := 2) (lw := [some (va_rf (some a0)), some (va_rf v1), some (.int (x7 - (48 : Int32))), none, none]) hC dX7_item_137 rfl (Nat.le_of_ble_eq_true rfl) rfl ?_
    refine G_aload_n (pc := 138) (i := 0) hC dX7_item_138 rfl rfl ?_
    refine G_dup (pc := 139) hC dX7_item_139 (rf_cat _) ?_
    refine G_getI (pc := 140) (ci := 6) (C := RX7) (T := TX7) (N := 3) (f := 1) hC rfl in_X7 (Nat.le_of_ble_eq_true rfl) q1759 (fun _ h => h) dX7_item_140 hw (fun x8 hw => ?_)
    refine G_iconst (pc := 143) (v := 1) hC dX7_item_143 (by decide) ?_
    refine G_iadd (pc := 144) hC dX7_item_144 ?_
    refine G_put (pc := 145) (ci := 6) (C := RX7) (T := TX7) (N := 3) (f := 1) tyX7 hC rfl in_X7 tyX7_ok nmX7 (Nat.le_of_ble_eq_true rfl) q1759 (fun _ h => h) rfl rfl rfl dX7_item_145 hw (fun M9 hw => ?_)
    exact g_X7_item_148_r2 hJ hC hQ hin hno  v1 (x7 - (48 : Int32)) M9 hw
theorem m_X7_item_r2 {l : Launch} {g : gT} {F : Nat} {a0 : Nat} {M : hM} {Q : Option Nat → hM → Prop} {X : String → Nat → hM → Prop} (hJ : JOK l g) (hw : wR_X7_item g F 2 a0 M Q X) : MX l g yX7_item (ws_ yX7_item cX7_item 5 (some (.object "java/util/List"))) 46 2131 [va_rf (some a0)] M (PR Q) X := by
  refine MX_of hJ.2.1 (by decide) (cat_r cat_e) (Nat.le_of_ble_eq_true rfl) (fun k hl hg hin hno hQ hC => ?_)
  subst hl hg
  replace hw : w_X7_item (kg k) F (wR_X7_item (kg k) F 1) a0 M Q X := hw
  show GW k 5 M 0 [some (va_rf (some a0)), none, none, none, none] []
  refine G_aload_n (pc := 0) (i := 0) hC dX7_item_0 rfl rfl ?_
  refine G_bipush (pc := 1) (v := 40) hC dX7_item_1 (by decide) ?_
  refine G_bipush (pc := 3) (v := 40) hC dX7_item_3 (by decide) ?_
  obtain ⟨hb, hw⟩ := hw
  refine G_callV (pc := 5) (n := 2) (C := "MergeWorkbench$Reader") (b := a0) (As := [.int (40 : Int32), .int (40 : Int32)]) (rest := []) hC (m_X7_isAt hJ hw) (lw_V q1782 q1784 qs22 q125 q1785) hd_X7_isAt (by decide) (rcv (C := RX7) (T := TX7) (N := 3) hC hb rfl) rfl rfl (st_c cat_e (Nat.le_of_ble_eq_true rfl)) dX7_item_5 (kI fun x2 M1 hw => ?_)
  refine G_if_eq (pc := 8) (tgt := 79) hC dX7_item_8 (by decide) (fun hc => ?_) (fun hc => ?_)
  · replace hw := hw.1 hc
    refine G_aload_n (pc := 79) (i := 0) hC dX7_item_79 rfl rfl ?_
    refine G_getF (pc := 80) (ci := 6) (C := RX7) (T := TX7) (N := 3) (f := 0) hC rfl in_X7 (Nat.le_of_ble_eq_true rfl) q1758 (fun _ h => h) dX7_item_80 hw (fun x3 hw => ?_)
    refine G_aload_n (pc := 83) (i := 0) hC dX7_item_83 rfl rfl ?_
    refine G_getI (pc := 84) (ci := 6) (C := RX7) (T := TX7) (N := 3) (f := 1) hC rfl in_X7 (Nat.le_of_ble_eq_true rfl) q1759 (fun _ h => h) dX7_item_84 hw (fun x4 hw => ?_)
    obtain ⟨b6, rfl, hb, hw⟩ := gThis_e hw
    refine G_callV (pc := 87) (n := 1) (C := "java/lang/String") (b := b6) (As := [.int x4]) (rest := []) hC (J_S_chr hJ hw) (lw_V q1787 q1788 q1789 q92 q1790) hd_J6_charAt (by decide) (rcv (C := RJ6) (T := TJ6) (N := 4) hC hb rfl) rfl rfl (st_c cat_e (Nat.le_of_ble_eq_true rfl)) dX7_item_87 (kI fun x7 M5 hw => ?_)
    refine G_bipush (pc := 90) (v := 97) hC dX7_item_90 (by decide) ?_
    refine G_isub (pc := 92) hC dX7_item_92 ?_
    refine G_callS (pc := 93) (n := 1) (As := [.int (x7 - (97 : Int32))]) (rest := []) hC (J_B_of hJ hw) (lw_S q1830 q992 q106 q993) hd_J19_valueOf.2 (by decide) rfl rfl (st_c cat_e (Nat.le_of_ble_eq_true rfl)) dX7_item_93 (kRf fun x9 M8 hw => ?_)
    refine G_callS (pc := 96) (n := 1) (As := [va_rf x9]) (rest := []) hC (J_C_sing hJ hw) (lw_S q1831 q1832 q113 q1833) hd_J25_singletonList.2 (by decide) rfl rfl (st_c cat_e (Nat.le_of_ble_eq_true rfl)) dX7_item_96 (kRf fun x11 M10 hw => ?_)
    refine G_astore_n (pc := 99) (i := 1) (lw := [some (va_rf (some a0)), some (va_rf x11), none, none, none]) hC dX7_item_99 rfl (Nat.le_of_ble_eq_true rfl) rfl ?_
    refine G_aload_n (pc := 100) (i := 0) hC dX7_item_100 rfl rfl ?_
    refine G_dup (pc := 101) hC dX7_item_101 (rf_cat _) ?_
    refine G_getI (pc := 102) (ci := 6) (C := RX7) (T := TX7) (N := 3) (f := 1) hC rfl in_X7 (Nat.le_of_ble_eq_true rfl) q1759 (fun _ h => h) dX7_item_102 hw (fun x12 hw => ?_)
    refine G_iconst (pc := 105) (v := 1) hC dX7_item_105 (by decide) ?_
    refine G_iadd (pc := 106) hC dX7_item_106 ?_
    refine G_put (pc := 107) (ci := 6) (C := RX7) (T := TX7) (N := 3) (f := 1) tyX7 hC rfl in_X7 tyX7_ok nmX7 (Nat.le_of_ble_eq_true rfl) q1759 (fun _ h => h) rfl rfl rfl dX7_item_107 hw (fun M13 hw => ?_)
    exact g_X7_item_110_r2 hJ hC hQ hin hno  x11 M13 hw
  · replace hw := hw.2 hc
    refine G_aload_n (pc := 11) (i := 0) hC dX7_item_11 rfl rfl ?_
    refine G_dup (pc := 12) hC dX7_item_12 (rf_cat _) ?_
    refine G_getI (pc := 13) (ci := 6) (C := RX7) (T := TX7) (N := 3) (f := 1) hC rfl in_X7 (Nat.le_of_ble_eq_true rfl) q1759 (fun _ h => h) dX7_item_13 hw (fun x14 hw => ?_)
    refine G_iconst (pc := 16) (v := 1) hC dX7_item_16 (by decide) ?_
    refine G_iadd (pc := 17) hC dX7_item_17 ?_
    refine G_put (pc := 18) (ci := 6) (C := RX7) (T := TX7) (N := 3) (f := 1) tyX7 hC rfl in_X7 tyX7_ok nmX7 (Nat.le_of_ble_eq_true rfl) q1759 (fun _ h => h) rfl rfl rfl dX7_item_18 hw (fun M15 hw => ?_)
    refine G_aload_n (pc := 21) (i := 0) hC dX7_item_21 rfl rfl ?_
    refine G_dup (pc := 22) hC dX7_item_22 (rf_cat _) ?_
    refine G_getI (pc := 23) (ci := 6) (C := RX7) (T := TX7) (N := 3) (f := 2) hC rfl in_X7 (Nat.le_of_ble_eq_true rfl) q1760 (fun _ h => h) dX7_item_23 hw (fun x16 hw => ?_)
    refine G_iconst (pc := 26) (v := 1) hC dX7_item_26 (by decide) ?_
    refine G_iadd (pc := 27) hC dX7_item_27 ?_
    refine G_put (pc := 28) (ci := 6) (C := RX7) (T := TX7) (N := 3) (f := 2) tyX7 hC rfl in_X7 tyX7_ok nmX7 (Nat.le_of_ble_eq_true rfl) q1760 (fun _ h => h) rfl rfl rfl dX7_item_28 hw (fun M17 hw => ?_)
    refine G_aload_n (pc := 31) (i := 0) hC dX7_item_31 rfl rfl ?_
    refine G_aload_n (pc := 32) (i := 0) hC dX7_item_32 rfl rfl ?_
    obtain ⟨hb, hw⟩ := hw
    refine G_callV (pc := 33) (n := 0) (C := "MergeWorkbench$Reader") (b := a0) (As := []) (rest := [va_rf (some a0)]) hC (m_X7_isItem hJ hw) (lw_V q1778 q1780 qs21 q125 q1781) hd_X7_isItem (by decide) (rcv (C := RX7) (T := TX7) (N := 3) hC hb rfl) rfl rfl (st_c (cat_r cat_e) (Nat.le_of_ble_eq_true rfl)) dX7_item_33 (kI fun x19 M18 hw => ?_)
    obtain ⟨hb, hw⟩ := hw
    refine GX_callV (pc := 36) (n := 1) (C := "MergeWorkbench$Reader") (b := a0) (As := [.int x19]) (rest := []) hC (m_X7_expect hJ hw) (lw_V q1807 q1809 qs24 q125 q1810) hd_X7_expect (by decide) (rcv (C := RX7) (T := TX7) (N := 3) hC hb rfl) rfl rfl (st_c cat_e (Nat.le_of_ble_eq_true rfl)) dX7_item_36 (fun E q M hx => GX_out hC hno hQ hx) (kU fun M20 hw => ?_)
    refine G_aload_n (pc := 39) (i := 0) hC dX7_item_39 rfl rfl ?_
    obtain ⟨hb, hw⟩ := hw
    refine GX_callV (pc := 40) (n := 0) (C := "MergeWorkbench$Reader") (b := a0) (As := []) (rest := []) hC (m_X7_items_r1 hJ hw) (lw_V q1772 q1774 qs20 q125 q1775) hd_X7_items (by decide) (rcv (C := RX7) (T := TX7) (N := 3) hC hb rfl) rfl rfl (st_c cat_e (Nat.le_of_ble_eq_true rfl)) dX7_item_40 (fun E q M hx => GX_out hC hno hQ hx) (kRf fun x22 M21 hw => ?_)
    refine G_astore_n (pc := 43) (i := 1) (lw := [some (va_rf (some a0)), some (va_rf x22), none, none, none]) hC dX7_item_43 rfl (Nat.le_of_ble_eq_true rfl) rfl ?_
    refine G_aload_n (pc := 44) (i := 0) hC dX7_item_44 rfl rfl ?_
    refine G_aload_n (pc := 45) (i := 0) hC dX7_item_45 rfl rfl ?_
    refine G_bipush (pc := 46) (v := 41) hC dX7_item_46 (by decide) ?_
    refine G_bipush (pc := 48) (v := 41) hC dX7_item_48 (by decide) ?_
    obtain ⟨hb, hw⟩ := hw
    refine G_callV (pc := 50) (n := 2) (C := "MergeWorkbench$Reader") (b := a0) (As := [.int (41 : Int32), .int (41 : Int32)]) (rest := [va_rf (some a0)]) hC (m_X7_isAt hJ hw) (lw_V q1782 q1784 qs22 q125 q1785) hd_X7_isAt (by decide) (rcv (C := RX7) (T := TX7) (N := 3) hC hb rfl) rfl rfl (st_c (cat_r cat_e) (Nat.le_of_ble_eq_true rfl)) dX7_item_50 (kI fun x24 M23 hw => ?_)
    obtain ⟨hb, hw⟩ := hw
    refine GX_callV (pc := 53) (n := 1) (C := "MergeWorkbench$Reader") (b := a0) (As := [.int x24]) (rest := []) hC (m_X7_expect hJ hw) (lw_V q1807 q1809 qs24 q125 q1810) hd_X7_expect (by decide) (rcv (C := RX7) (T := TX7) (N := 3) hC hb rfl) rfl rfl (st_c cat_e (Nat.le_of_ble_eq_true rfl)) dX7_item_53 (fun E q M hx => GX_out hC hno hQ hx) (kU fun M25 hw => ?_)
    refine G_aload_n (pc := 56) (i := 0) hC dX7_item_56 rfl rfl ?_
    refine G_dup (pc := 57) hC dX7_item_57 (rf_cat _) ?_
    refine G_getI (pc := 58) (ci := 6) (C := RX7) (T := TX7) (N := 3) (f := 1) hC rfl in_X7 (Nat.le_of_ble_eq_true rfl) q1759 (fun _ h => h) dX7_item_58 hw (fun x26 hw => ?_)
    refine G_iconst (pc := 61) (v := 1) hC dX7_item_61 (by decide) ?_
    refine G_iadd (pc := 62) hC dX7_item_62 ?_
    refine G_put (pc := 63) (ci := 6) (C := RX7) (T := TX7) (N := 3) (f := 1) tyX7 hC rfl in_X7 tyX7_ok nmX7 (Nat.le_of_ble_eq_true rfl) q1759 (fun _ h => h) rfl rfl rfl dX7_item_63 hw (fun M27 hw => ?_)
    refine G_aload_n (pc := 66) (i := 0) hC dX7_item_66 rfl rfl ?_
    refine G_dup (pc := 67) hC dX7_item_67 (rf_cat _) ?_
    refine G_getI (pc := 68) (ci := 6) (C := RX7) (T := TX7) (N := 3) (f := 2) hC rfl in_X7 (Nat.le_of_ble_eq_true rfl) q1760 (fun _ h => h) dX7_item_68 hw (fun x28 hw => ?_)
    refine G_iconst (pc := 71) (v := 1) hC dX7_item_71 (by decide) ?_
    refine G_isub (pc := 72) hC dX7_item_72 ?_
    refine G_put (pc := 73) (ci := 6) (C := RX7) (T := TX7) (N := 3) (f := 2) tyX7 hC rfl in_X7 tyX7_ok nmX7 (Nat.le_of_ble_eq_true rfl) q1760 (fun _ h => h) rfl rfl rfl dX7_item_73 hw (fun M29 hw => ?_)
    refine G_goto (pc := 76) (tgt := 110) hC dX7_item_76 (by decide) ?_
    exact g_X7_item_110_r2 hJ hC hQ hin hno  x22 M29 hw
theorem g_X7_items_39_r2 {k : kT} {F : Nat} {a0 : Nat} {Q : Option Nat → hM → Prop} {X : String → Nat → hM → Prop} {K8 : (Option Nat) → hM → Prop} (hJ : JOK (kl k) (kg k)) (hC : CX k 3 cX7_items RX7 (some (.object "java/util/List")) 47 2155) (hQ : isQX k (PR Q) X) (hin : (kt k).name = "items") (hno : ∀ x ∈ (kc k).exceptionTable.toList, False) (hK8 : ∀ (v1 : Option Nat) (M : hM), K8 v1 M → GW k 3 M 8 [some (va_rf (some a0)), some (va_rf v1), none] []) : ∀ (v1 : Option Nat) (M : hM), w_X7_items_39 (kg k) F (wR_X7_item (kg k) F 2) a0 Q X K8 v1 M → GW k 3 M 39 [some (va_rf (some a0)), some (va_rf v1), none] [] := by
  intro v1 M hw
  refine G_goto (pc := 39) (tgt := 8) hC dX7_items_39 (by decide) ?_
  exact hK8 v1 M hw
theorem g_X7_items_8_r2 {k : kT} {F : Nat} {a0 : Nat} {Q : Option Nat → hM → Prop} {X : String → Nat → hM → Prop} (hJ : JOK (kl k) (kg k)) (hC : CX k 3 cX7_items RX7 (some (.object "java/util/List")) 47 2155) (hQ : isQX k (PR Q) X) (hin : (kt k).name = "items") (hno : ∀ x ∈ (kc k).exceptionTable.toList, False) : ∀ (n : Nat) (v1 : Option Nat) (M : hM), w_X7_items_8 (kg k) F (wR_X7_item (kg k) F 2) a0 Q X n v1 M → GW k 3 M 8 [some (va_rf (some a0)), some (va_rf v1), none] [] := by
  intro n
  induction n with
  | zero =>
    intro v1 M hw
    exact hw.elim
  | succ n ih =>
    intro v1 M hw
    refine G_aload_n (pc := 8) (i := 0) hC dX7_items_8 rfl rfl ?_
    obtain ⟨hb, hw⟩ := hw
    refine G_callV (pc := 9) (n := 0) (C := "MergeWorkbench$Reader") (b := a0) (As := []) (rest := []) hC (m_X7_isItem hJ hw) (lw_V q1778 q1780 qs21 q125 q1781) hd_X7_isItem (by decide) (rcv (C := RX7) (T := TX7) (N := 3) hC hb rfl) rfl rfl (st_c cat_e (Nat.le_of_ble_eq_true rfl)) dX7_items_9 (kI fun x2 M1 hw => ?_)
    refine G_if_eq (pc := 12) (tgt := 42) hC dX7_items_12 (by decide) (fun hc => ?_) (fun hc => ?_)
    · replace hw := hw.1 hc
      refine G_aload_n (pc := 42) (i := 1) hC dX7_items_42 rfl rfl ?_
      exact G_aretX (pc := 43) hC (Or.inl ⟨_, rfl⟩) hQ dX7_items_43 hw
    · replace hw := hw.2 hc
      refine G_aload_n (pc := 15) (i := 0) hC dX7_items_15 rfl rfl ?_
      obtain ⟨hb, hw⟩ := hw
      refine GX_callV (pc := 16) (n := 0) (C := "MergeWorkbench$Reader") (b := a0) (As := []) (rest := []) hC (m_X7_item_r2 hJ hw) (lw_V q1803 q1805 qs23 q125 q1806) hd_X7_item (by decide) (rcv (C := RX7) (T := TX7) (N := 3) hC hb rfl) rfl rfl (st_c cat_e (Nat.le_of_ble_eq_true rfl)) dX7_items_16 (fun E q M hx => GX_out hC hno hQ hx) (kRf fun x4 M3 hw => ?_)
      refine G_astore_n (pc := 19) (i := 2) (lw := [some (va_rf (some a0)), some (va_rf v1), some (va_rf x4)]) hC dX7_items_19 rfl (Nat.le_of_ble_eq_true rfl) rfl ?_
      refine G_aload_n (pc := 20) (i := 1) hC dX7_items_20 rfl rfl ?_
      obtain ⟨b6, rfl, hb, hw⟩ := gThis_e hw
      refine G_callF (pc := 21) (n := 0) (x := ⟨"java/util/List", "size", "()I"⟩) (C := "java/util/ArrayList") (ci := 21) (T := TJ2) (N := 3) (b := b6) (As := []) (rest := []) hC (J_L_size hJ hw) (lw_F q1846 q889 q363 q87 q364) (nw_in q888 rfl) (nw_in q887 rfl) (nw_in q891 rfl) (nw_in q890 rfl) (nw_in q259 rfl) rfl (rcv (C := RJ2) (T := TJ2) (N := 3) hC hb rfl) (by decide +kernel) (by decide) rfl rfl (st_c cat_e (Nat.le_of_ble_eq_true rfl)) dX7_items_21 (kI fun x7 M5 hw => ?_)
      refine G_bipush (pc := 26) (v := 24) hC dX7_items_26 (by decide) ?_
      refine G_icmp_gt (pc := 28) (tgt := 39) hC dX7_items_28 (by decide) (fun hc => ?_) (fun hc => ?_)
      · replace hw := hw.1 hc
        refine G_loc (lv' := [some (va_rf (some a0)), some (va_rf (some b6)), none]) ⟨Or.inr rfl, Or.inr rfl, Or.inl rfl, trivial⟩ ?_
        exact g_X7_items_39_r2 hJ hC hQ hin hno ih  (some b6) M5 hw
      · replace hw := hw.2 hc
        refine G_aload_n (pc := 31) (i := 1) hC dX7_items_31 rfl rfl ?_
        refine G_aload_n (pc := 32) (i := 2) hC dX7_items_32 rfl rfl ?_
        obtain ⟨hb, hw⟩ := hw
        refine G_callF (pc := 33) (n := 1) (x := ⟨"java/util/List", "addAll", "(Ljava/util/Collection;)Z"⟩) (C := "java/util/ArrayList") (ci := 21) (T := TJ2) (N := 3) (b := b6) (As := [va_rf x4]) (rest := []) hC (J_L_addA hJ hw) (lw_F q1848 q1851 q1853 q87 q1855) (nw_in q1850 rfl) (nw_in q1849 rfl) (nw_in q1854 rfl) (nw_in q1852 rfl) (nw_in q259 rfl) rfl (rcv (C := RJ2) (T := TJ2) (N := 3) hC hb rfl) (by decide +kernel) (by decide) rfl rfl (st_c cat_e (Nat.le_of_ble_eq_true rfl)) dX7_items_33 (kI fun x9 M8 hw => ?_)
        refine G_pop (pc := 38) hC dX7_items_38 rfl ?_
        refine G_loc (lv' := [some (va_rf (some a0)), some (va_rf (some b6)), none]) ⟨Or.inr rfl, Or.inr rfl, Or.inl rfl, trivial⟩ ?_
        exact g_X7_items_39_r2 hJ hC hQ hin hno ih  (some b6) M8 hw
theorem m_X7_items_r2 {l : Launch} {g : gT} {F : Nat} {a0 : Nat} {M : hM} {Q : Option Nat → hM → Prop} {X : String → Nat → hM → Prop} (hJ : JOK l g) (hw : w_X7_items g F (wR_X7_item g F 2) a0 M Q X) : MX l g yX7_items (ws_ yX7_items cX7_items 3 (some (.object "java/util/List"))) 47 2155 [va_rf (some a0)] M (PR Q) X := by
  refine MX_of hJ.2.1 (by decide) (cat_r cat_e) (Nat.le_of_ble_eq_true rfl) (fun k hl hg hin hno hQ hC => ?_)
  subst hl hg
  show GW k 3 M 0 [some (va_rf (some a0)), none, none] []
  refine G_new (pc := 0) (ci := 21) (C := RJ2) (T := TJ2) (N := 3) (fs := fsJ2) tyJ2 hC rfl in_J2 tyJ2_ok q1776 q161 q87 dfJ2 rfl dX7_items_0 hw (fun q1 M2 hw => ?_)
  refine G_dup (pc := 3) hC dX7_items_3 (rf_cat _) ?_
  obtain ⟨hb, hw⟩ := hw
  refine G_callI (pc := 4) (n := 0) (b := q1) (As := []) (rest := [va_rf (some q1)]) hC (J_L_new hJ hw) (lw_meth q164) q87 q1777 q163 rfl hd_J2_init.2 (by decide) rfl rfl (st_c (cat_r cat_e) (Nat.le_of_ble_eq_true rfl)) dX7_items_4 (kU fun M3 hw => ?_)
  refine G_astore_n (pc := 7) (i := 1) (lw := [some (va_rf (some a0)), some (va_rf (some q1)), none]) hC dX7_items_7 rfl (Nat.le_of_ble_eq_true rfl) rfl ?_
  exact g_X7_items_8_r2 hJ hC hQ hin hno _ (some q1) M3 hw
theorem g_X7_item_190_r3 {k : kT} {F : Nat} {a0 : Nat} {Q : Option Nat → hM → Prop} {X : String → Nat → hM → Prop} (hJ : JOK (kl k) (kg k)) (hC : CX k 5 cX7_item RX7 (some (.object "java/util/List")) 48 2177) (hQ : isQX k (PR Q) X) (hin : (kt k).name = "item") (hno : ∀ x ∈ (kc k).exceptionTable.toList, False) : ∀ (v3 : Option Nat) (M : hM), w_X7_item_190 (kg k) F (wR_X7_item (kg k) F 2) a0 Q X v3 M → GW k 5 M 190 [some (va_rf (some a0)), none, none, some (va_rf v3), none] [] := by
  intro v3 M hw
  refine G_aload_n (pc := 190) (i := 3) hC dX7_item_190 rfl rfl ?_
  exact G_aretX (pc := 191) hC (Or.inl ⟨_, rfl⟩) hQ dX7_item_191 hw
theorem g_X7_item_159_r3 {k : kT} {F : Nat} {a0 : Nat} {Q : Option Nat → hM → Prop} {X : String → Nat → hM → Prop} (hJ : JOK (kl k) (kg k)) (hC : CX k 5 cX7_item RX7 (some (.object "java/util/List")) 48 2177) (hQ : isQX k (PR Q) X) (hin : (kt k).name = "item") (hno : ∀ x ∈ (kc k).exceptionTable.toList, False) : ∀ (n : Nat) (v1 : Option Nat) (v2 : Int32) (v3 : Option Nat) (v4 : Int32) (M : hM), w_X7_item_159 (kg k) F (wR_X7_item (kg k) F 2) a0 Q X n v1 v2 v3 v4 M → GW k 5 M 159 [some (va_rf (some a0)), some (va_rf v1), some (.int v2), some (va_rf v3), some (.int v4)] [] := by
  intro n
  induction n with
  | zero =>
    intro v1 v2 v3 v4 M hw
    exact hw.elim
  | succ n ih =>
    intro v1 v2 v3 v4 M hw
    refine G_iload (pc := 159) (i := 4) hC dX7_item_159 rfl ?_
    refine G_iload_n (pc := 161) (i := 2) hC dX7_item_161 rfl rfl ?_
    refine G_icmp_ge (pc := 162) (tgt := 190) hC dX7_item_162 (by decide) (fun hc => ?_) (fun hc => ?_)
    · replace hw := hw.1 hc
      refine G_loc (lv' := [some (va_rf (some a0)), none, none, some (va_rf v3), none]) ⟨Or.inr rfl, Or.inl rfl, Or.inl rfl, Or.inr rfl, Or.inl rfl, trivial⟩ ?_
      exact g_X7_item_190_r3 hJ hC hQ hin hno  v3 M hw
    · replace hw := hw.2 hc
      refine G_aload_n (pc := 165) (i := 3) hC dX7_item_165 rfl rfl ?_
      obtain ⟨b2, rfl, hb, hw⟩ := gThis_e hw
      refine G_callF (pc := 166) (n := 0) (x := ⟨"java/util/List", "size", "()I"⟩) (C := "java/util/ArrayList") (ci := 21) (T := TJ2) (N := 3) (b := b2) (As := []) (rest := []) hC (J_L_size hJ hw) (lw_F q1846 q889 q363 q87 q364) (nw_in q888 rfl) (nw_in q887 rfl) (nw_in q891 rfl) (nw_in q890 rfl) (nw_in q259 rfl) rfl (rcv (C := RJ2) (T := TJ2) (N := 3) hC hb rfl) (by decide +kernel) (by decide) rfl rfl (st_c cat_e (Nat.le_of_ble_eq_true rfl)) dX7_item_166 (kI fun x3 M1 hw => ?_)
      refine G_bipush (pc := 171) (v := 24) hC dX7_item_171 (by decide) ?_
      refine G_icmp_gt (pc := 173) (tgt := 190) hC dX7_item_173 (by decide) (fun hc => ?_) (fun hc => ?_)
      · replace hw := hw.1 hc
        refine G_loc (lv' := [some (va_rf (some a0)), none, none, some (va_rf (some b2)), none]) ⟨Or.inr rfl, Or.inl rfl, Or.inl rfl, Or.inr rfl, Or.inl rfl, trivial⟩ ?_
        exact g_X7_item_190_r3 hJ hC hQ hin hno  (some b2) M1 hw
      · replace hw := hw.2 hc
        refine G_aload_n (pc := 176) (i := 3) hC dX7_item_176 rfl rfl ?_
        refine G_aload_n (pc := 177) (i := 1) hC dX7_item_177 rfl rfl ?_
        obtain ⟨hb, hw⟩ := hw
        refine G_callF (pc := 178) (n := 1) (x := ⟨"java/util/List", "addAll", "(Ljava/util/Collection;)Z"⟩) (C := "java/util/ArrayList") (ci := 21) (T := TJ2) (N := 3) (b := b2) (As := [va_rf v1]) (rest := []) hC (J_L_addA hJ hw) (lw_F q1848 q1851 q1853 q87 q1855) (nw_in q1850 rfl) (nw_in q1849 rfl) (nw_in q1854 rfl) (nw_in q1852 rfl) (nw_in q259 rfl) rfl (rcv (C := RJ2) (T := TJ2) (N := 3) hC hb rfl) (by decide +kernel) (by decide) rfl rfl (st_c cat_e (Nat.le_of_ble_eq_true rfl)) dX7_item_178 (kI fun x5 M4 hw => ?_)
        refine G_pop (pc := 183) hC dX7_item_183 rfl ?_
        refine G_iinc (pc := 184) (i := 4) (v := (v4 + (1 : Int32))) (lw := [some (va_rf (some a0)), some (va_rf v1), some (.int v2), some (va_rf (some b2)), some (.int (v4 + (1 : Int32)))]) hC dX7_item_184 rfl (Nat.le_of_ble_eq_true rfl) rfl rfl ?_
        refine G_goto (pc := 187) (tgt := 159) hC dX7_item_187 (by decide) ?_
        exact ih v1 v2 (some b2) (v4 + (1 : Int32)) M4 hw
theorem g_X7_item_148_r3 {k : kT} {F : Nat} {a0 : Nat} {Q : Option Nat → hM → Prop} {X : String → Nat → hM → Prop} (hJ : JOK (kl k) (kg k)) (hC : CX k 5 cX7_item RX7 (some (.object "java/util/List")) 48 2177) (hQ : isQX k (PR Q) X) (hin : (kt k).name = "item") (hno : ∀ x ∈ (kc k).exceptionTable.toList, False) : ∀ (v1 : Option Nat) (v2 : Int32) (M : hM), w_X7_item_148 (kg k) F (wR_X7_item (kg k) F 2) a0 Q X v1 v2 M → GW k 5 M 148 [some (va_rf (some a0)), some (va_rf v1), some (.int v2), none, none] [] := by
  intro v1 v2 M hw
  refine G_new (pc := 148) (ci := 21) (C := RJ2) (T := TJ2) (N := 3) (fs := fsJ2) tyJ2 hC rfl in_J2 tyJ2_ok q1776 q161 q87 dfJ2 rfl dX7_item_148 hw (fun q1 M2 hw => ?_)
  refine G_dup (pc := 151) hC dX7_item_151 (rf_cat _) ?_
  obtain ⟨hb, hw⟩ := hw
  refine G_callI (pc := 152) (n := 0) (b := q1) (As := []) (rest := [va_rf (some q1)]) hC (J_L_new hJ hw) (lw_meth q164) q87 q1777 q163 rfl hd_J2_init.2 (by decide) rfl rfl (st_c (cat_r cat_e) (Nat.le_of_ble_eq_true rfl)) dX7_item_152 (kU fun M3 hw => ?_)
  refine G_astore_n (pc := 155) (i := 3) (lw := [some (va_rf (some a0)), some (va_rf v1), some (.int v2), some (va_rf (some q1)), none]) hC dX7_item_155 rfl (Nat.le_of_ble_eq_true rfl) rfl ?_
  refine G_iconst (pc := 156) (v := 0) hC dX7_item_156 (by decide) ?_
  refine G_istore (pc := 157) (i := 4) (lw := [some (va_rf (some a0)), some (va_rf v1), some (.int v2), some (va_rf (some q1)), some (.int (0 : Int32))]) hC dX7_item_157 (Nat.le_of_ble_eq_true rfl) rfl ?_
  exact g_X7_item_159_r3 hJ hC hQ hin hno _ v1 v2 (some q1) (0 : Int32) M3 hw
theorem g_X7_item_110_r3 {k : kT} {F : Nat} {a0 : Nat} {Q : Option Nat → hM → Prop} {X : String → Nat → hM → Prop} (hJ : JOK (kl k) (kg k)) (hC : CX k 5 cX7_item RX7 (some (.object "java/util/List")) 48 2177) (hQ : isQX k (PR Q) X) (hin : (kt k).name = "item") (hno : ∀ x ∈ (kc k).exceptionTable.toList, False) : ∀ (v1 : Option Nat) (M : hM), w_X7_item_110 (kg k) F (wR_X7_item (kg k) F 2) a0 Q X v1 M → GW k 5 M 110 [some (va_rf (some a0)), some (va_rf v1), none, none, none] [] := by
  intro v1 M hw
  refine G_iconst (pc := 110) (v := 1) hC dX7_item_110 (by decide) ?_
  refine G_istore_n (pc := 111) (i := 2) (lw := [some (va_rf (some a0)), some (va_rf v1), some (.int (1 : Int32)), none, none]) hC dX7_item_111 rfl (Nat.le_of_ble_eq_true rfl) rfl ?_
  refine G_aload_n (pc := 112) (i := 0) hC dX7_item_112 rfl rfl ?_
  refine G_bipush (pc := 113) (v := 50) hC dX7_item_113 (by decide) ?_
  refine G_bipush (pc := 115) (v := 57) hC dX7_item_115 (by decide) ?_
  obtain ⟨hb, hw⟩ := hw
  refine G_callV (pc := 117) (n := 2) (C := "MergeWorkbench$Reader") (b := a0) (As := [.int (50 : Int32), .int (57 : Int32)]) (rest := []) hC (m_X7_isAt hJ hw) (lw_V q1782 q1784 qs22 q125 q1785) hd_X7_isAt (by decide) (rcv (C := RX7) (T := TX7) (N := 3) hC hb rfl) rfl rfl (st_c cat_e (Nat.le_of_ble_eq_true rfl)) dX7_item_117 (kI fun x2 M1 hw => ?_)
  refine G_if_eq (pc := 120) (tgt := 148) hC dX7_item_120 (by decide) (fun hc => ?_) (fun hc => ?_)
  · replace hw := hw.1 hc
    exact g_X7_item_148_r3 hJ hC hQ hin hno  v1 (1 : Int32) M1 hw
  · replace hw := hw.2 hc
    refine G_aload_n (pc := 123) (i := 0) hC dX7_item_123 rfl rfl ?_
    refine G_getF (pc := 124) (ci := 6) (C := RX7) (T := TX7) (N := 3) (f := 0) hC rfl in_X7 (Nat.le_of_ble_eq_true rfl) q1758 (fun _ h => h) dX7_item_124 hw (fun x3 hw => ?_)
    refine G_aload_n (pc := 127) (i := 0) hC dX7_item_127 rfl rfl ?_
    refine G_getI (pc := 128) (ci := 6) (C := RX7) (T := TX7) (N := 3) (f := 1) hC rfl in_X7 (Nat.le_of_ble_eq_true rfl) q1759 (fun _ h => h) dX7_item_128 hw (fun x4 hw => ?_)
    obtain ⟨b6, rfl, hb, hw⟩ := gThis_e hw
    refine G_callV (pc := 131) (n := 1) (C := "java/lang/String") (b := b6) (As := [.int x4]) (rest := []) hC (J_S_chr hJ hw) (lw_V q1787 q1788 q1789 q92 q1790) hd_J6_charAt (by decide) (rcv (C := RJ6) (T := TJ6) (N := 4) hC hb rfl) rfl rfl (st_c cat_e (Nat.le_of_ble_eq_true rfl)) dX7_item_131 (kI fun x7 M5 hw => ?_)
    refine G_bipush (pc := 134) (v := 48) hC dX7_item_134 (by decide) ?_
    refine G_isub (pc := 136) hC dX7_item_136 ?_
    refine G_istore_n (pc := 137) (i := 2) (lw := [some (va_rf (some a0)), some (va_rf v1), some (.int (x7 - (48 : Int32))), none, none]) hC dX7_item_137 rfl (Nat.le_of_ble_eq_true rfl) rfl ?_
    refine G_aload_n (pc := 138) (i := 0) hC dX7_item_138 rfl rfl ?_
    refine G_dup (pc := 139) hC dX7_item_139 (rf_cat _) ?_
    refine G_getI (pc := 140) (ci := 6) (C := RX7) (T := TX7) (N := 3) (f := 1) hC rfl in_X7 (Nat.le_of_ble_eq_true rfl) q1759 (fun _ h => h) dX7_item_140 hw (fun x8 hw => ?_)
    refine G_iconst (pc := 143) (v := 1) hC dX7_item_143 (by decide) ?_
    refine G_iadd (pc := 144) hC dX7_item_144 ?_
    refine G_put (pc := 145) (ci := 6) (C := RX7) (T := TX7) (N := 3) (f := 1) tyX7 hC rfl in_X7 tyX7_ok nmX7 (Nat.le_of_ble_eq_true rfl) q1759 (fun _ h => h) rfl rfl rfl dX7_item_145 hw (fun M9 hw => ?_)
    exact g_X7_item_148_r3 hJ hC hQ hin hno  v1 (x7 - (48 : Int32)) M9 hw
theorem m_X7_item_r3 {l : Launch} {g : gT} {F : Nat} {a0 : Nat} {M : hM} {Q : Option Nat → hM → Prop} {X : String → Nat → hM → Prop} (hJ : JOK l g) (hw : wR_X7_item g F 3 a0 M Q X) : MX l g yX7_item (ws_ yX7_item cX7_item 5 (some (.object "java/util/List"))) 48 2177 [va_rf (some a0)] M (PR Q) X := by
  refine MX_of hJ.2.1 (by decide) (cat_r cat_e) (Nat.le_of_ble_eq_true rfl) (fun k hl hg hin hno hQ hC => ?_)
  subst hl hg
  replace hw : w_X7_item (kg k) F (wR_X7_item (kg k) F 2) a0 M Q X := hw
  show GW k 5 M 0 [some (va_rf (some a0)), none, none, none, none] []
  refine G_aload_n (pc := 0) (i := 0) hC dX7_item_0 rfl rfl ?_
  refine G_bipush (pc := 1) (v := 40) hC dX7_item_1 (by decide) ?_
  refine G_bipush (pc := 3) (v := 40) hC dX7_item_3 (by decide) ?_
  obtain ⟨hb, hw⟩ := hw
  refine G_callV (pc := 5) (n := 2) (C := "MergeWorkbench$Reader") (b := a0) (As := [.int (40 : Int32), .int (40 : Int32)]) (rest := []) hC (m_X7_isAt hJ hw) (lw_V q1782 q1784 qs22 q125 q1785) hd_X7_isAt (by decide) (rcv (C := RX7) (T := TX7) (N := 3) hC hb rfl) rfl rfl (st_c cat_e (Nat.le_of_ble_eq_true rfl)) dX7_item_5 (kI fun x2 M1 hw => ?_)
  refine G_if_eq (pc := 8) (tgt := 79) hC dX7_item_8 (by decide) (fun hc => ?_) (fun hc => ?_)
  · replace hw := hw.1 hc
    refine G_aload_n (pc := 79) (i := 0) hC dX7_item_79 rfl rfl ?_
    refine G_getF (pc := 80) (ci := 6) (C := RX7) (T := TX7) (N := 3) (f := 0) hC rfl in_X7 (Nat.le_of_ble_eq_true rfl) q1758 (fun _ h => h) dX7_item_80 hw (fun x3 hw => ?_)
    refine G_aload_n (pc := 83) (i := 0) hC dX7_item_83 rfl rfl ?_
    refine G_getI (pc := 84) (ci := 6) (C := RX7) (T := TX7) (N := 3) (f := 1) hC rfl in_X7 (Nat.le_of_ble_eq_true rfl) q1759 (fun _ h => h) dX7_item_84 hw (fun x4 hw => ?_)
    obtain ⟨b6, rfl, hb, hw⟩ := gThis_e hw
    refine G_callV (pc := 87) (n := 1) (C := "java/lang/String") (b := b6) (As := [.int x4]) (rest := []) hC (J_S_chr hJ hw) (lw_V q1787 q1788 q1789 q92 q1790) hd_J6_charAt (by decide) (rcv (C := RJ6) (T := TJ6) (N := 4) hC hb rfl) rfl rfl (st_c cat_e (Nat.le_of_ble_eq_true rfl)) dX7_item_87 (kI fun x7 M5 hw => ?_)
    refine G_bipush (pc := 90) (v := 97) hC dX7_item_90 (by decide) ?_
    refine G_isub (pc := 92) hC dX7_item_92 ?_
    refine G_callS (pc := 93) (n := 1) (As := [.int (x7 - (97 : Int32))]) (rest := []) hC (J_B_of hJ hw) (lw_S q1830 q992 q106 q993) hd_J19_valueOf.2 (by decide) rfl rfl (st_c cat_e (Nat.le_of_ble_eq_true rfl)) dX7_item_93 (kRf fun x9 M8 hw => ?_)
    refine G_callS (pc := 96) (n := 1) (As := [va_rf x9]) (rest := []) hC (J_C_sing hJ hw) (lw_S q1831 q1832 q113 q1833) hd_J25_singletonList.2 (by decide) rfl rfl (st_c cat_e (Nat.le_of_ble_eq_true rfl)) dX7_item_96 (kRf fun x11 M10 hw => ?_)
    refine G_astore_n (pc := 99) (i := 1) (lw := [some (va_rf (some a0)), some (va_rf x11), none, none, none]) hC dX7_item_99 rfl (Nat.le_of_ble_eq_true rfl) rfl ?_
    refine G_aload_n (pc := 100) (i := 0) hC dX7_item_100 rfl rfl ?_
    refine G_dup (pc := 101) hC dX7_item_101 (rf_cat _) ?_
    refine G_getI (pc := 102) (ci := 6) (C := RX7) (T := TX7) (N := 3) (f := 1) hC rfl in_X7 (Nat.le_of_ble_eq_true rfl) q1759 (fun _ h => h) dX7_item_102 hw (fun x12 hw => ?_)
    refine G_iconst (pc := 105) (v := 1) hC dX7_item_105 (by decide) ?_
    refine G_iadd (pc := 106) hC dX7_item_106 ?_
    refine G_put (pc := 107) (ci := 6) (C := RX7) (T := TX7) (N := 3) (f := 1) tyX7 hC rfl in_X7 tyX7_ok nmX7 (Nat.le_of_ble_eq_true rfl) q1759 (fun _ h => h) rfl rfl rfl dX7_item_107 hw (fun M13 hw => ?_)
    exact g_X7_item_110_r3 hJ hC hQ hin hno  x11 M13 hw
  · replace hw := hw.2 hc
    refine G_aload_n (pc := 11) (i := 0) hC dX7_item_11 rfl rfl ?_
    refine G_dup (pc := 12) hC dX7_item_12 (rf_cat _) ?_
    refine G_getI (pc := 13) (ci := 6) (C := RX7) (T := TX7) (N := 3) (f := 1) hC rfl in_X7 (Nat.le_of_ble_eq_true rfl) q1759 (fun _ h => h) dX7_item_13 hw (fun x14 hw => ?_)
    refine G_iconst (pc := 16) (v := 1) hC dX7_item_16 (by decide) ?_
    refine G_iadd (pc := 17) hC dX7_item_17 ?_
    refine G_put (pc := 18) (ci := 6) (C := RX7) (T := TX7) (N := 3) (f := 1) tyX7 hC rfl in_X7 tyX7_ok nmX7 (Nat.le_of_ble_eq_true rfl) q1759 (fun _ h => h) rfl rfl rfl dX7_item_18 hw (fun M15 hw => ?_)
    refine G_aload_n (pc := 21) (i := 0) hC dX7_item_21 rfl rfl ?_
    refine G_dup (pc := 22) hC dX7_item_22 (rf_cat _) ?_
    refine G_getI (pc := 23) (ci := 6) (C := RX7) (T := TX7) (N := 3) (f := 2) hC rfl in_X7 (Nat.le_of_ble_eq_true rfl) q1760 (fun _ h => h) dX7_item_23 hw (fun x16 hw => ?_)
    refine G_iconst (pc := 26) (v := 1) hC dX7_item_26 (by decide) ?_
    refine G_iadd (pc := 27) hC dX7_item_27 ?_
    refine G_put (pc := 28) (ci := 6) (C := RX7) (T := TX7) (N := 3) (f := 2) tyX7 hC rfl in_X7 tyX7_ok nmX7 (Nat.le_of_ble_eq_true rfl) q1760 (fun _ h => h) rfl rfl rfl dX7_item_28 hw (fun M17 hw => ?_)
    refine G_aload_n (pc := 31) (i := 0) hC dX7_item_31 rfl rfl ?_
    refine G_aload_n (pc := 32) (i := 0) hC dX7_item_32 rfl rfl ?_
    obtain ⟨hb, hw⟩ := hw
    refine G_callV (pc := 33) (n := 0) (C := "MergeWorkbench$Reader") (b := a0) (As := []) (rest := [va_rf (some a0)]) hC (m_X7_isItem hJ hw) (lw_V q1778 q1780 qs21 q125 q1781) hd_X7_isItem (by decide) (rcv (C := RX7) (T := TX7) (N := 3) hC hb rfl) rfl rfl (st_c (cat_r cat_e) (Nat.le_of_ble_eq_true rfl)) dX7_item_33 (kI fun x19 M18 hw => ?_)
    obtain ⟨hb, hw⟩ := hw
    refine GX_callV (pc := 36) (n := 1) (C := "MergeWorkbench$Reader") (b := a0) (As := [.int x19]) (rest := []) hC (m_X7_expect hJ hw) (lw_V q1807 q1809 qs24 q125 q1810) hd_X7_expect (by decide) (rcv (C := RX7) (T := TX7) (N := 3) hC hb rfl) rfl rfl (st_c cat_e (Nat.le_of_ble_eq_true rfl)) dX7_item_36 (fun E q M hx => GX_out hC hno hQ hx) (kU fun M20 hw => ?_)
    refine G_aload_n (pc := 39) (i := 0) hC dX7_item_39 rfl rfl ?_
    obtain ⟨hb, hw⟩ := hw
    refine GX_callV (pc := 40) (n := 0) (C := "MergeWorkbench$Reader") (b := a0) (As := []) (rest := []) hC (m_X7_items_r2 hJ hw) (lw_V q1772 q1774 qs20 q125 q1775) hd_X7_items (by decide) (rcv (C := RX7) (T := TX7) (N := 3) hC hb rfl) rfl rfl (st_c cat_e (Nat.le_of_ble_eq_true rfl)) dX7_item_40 (fun E q M hx => GX_out hC hno hQ hx) (kRf fun x22 M21 hw => ?_)
    refine G_astore_n (pc := 43) (i := 1) (lw := [some (va_rf (some a0)), some (va_rf x22), none, none, none]) hC dX7_item_43 rfl (Nat.le_of_ble_eq_true rfl) rfl ?_
    refine G_aload_n (pc := 44) (i := 0) hC dX7_item_44 rfl rfl ?_
    refine G_aload_n (pc := 45) (i := 0) hC dX7_item_45 rfl rfl ?_
    refine G_bipush (pc := 46) (v := 41) hC dX7_item_46 (by decide) ?_
    refine G_bipush (pc := 48) (v := 41) hC dX7_item_48 (by decide) ?_
    obtain ⟨hb, hw⟩ := hw
    refine G_callV (pc := 50) (n := 2) (C := "MergeWorkbench$Reader") (b := a0) (As := [.int (41 : Int32), .int (41 : Int32)]) (rest := [va_rf (some a0)]) hC (m_X7_isAt hJ hw) (lw_V q1782 q1784 qs22 q125 q1785) hd_X7_isAt (by decide) (rcv (C := RX7) (T := TX7) (N := 3) hC hb rfl) rfl rfl (st_c (cat_r cat_e) (Nat.le_of_ble_eq_true rfl)) dX7_item_50 (kI fun x24 M23 hw => ?_)
    obtain ⟨hb, hw⟩ := hw
    refine GX_callV (pc := 53) (n := 1) (C := "MergeWorkbench$Reader") (b := a0) (As := [.int x24]) (rest := []) hC (m_X7_expect hJ hw) (lw_V q1807 q1809 qs24 q125 q1810) hd_X7_expect (by decide) (rcv (C := RX7) (T := TX7) (N := 3) hC hb rfl) rfl rfl (st_c cat_e (Nat.le_of_ble_eq_true rfl)) dX7_item_53 (fun E q M hx => GX_out hC hno hQ hx) (kU fun M25 hw => ?_)
    refine G_aload_n (pc := 56) (i := 0) hC dX7_item_56 rfl rfl ?_
    refine G_dup (pc := 57) hC dX7_item_57 (rf_cat _) ?_
    refine G_getI (pc := 58) (ci := 6) (C := RX7) (T := TX7) (N := 3) (f := 1) hC rfl in_X7 (Nat.le_of_ble_eq_true rfl) q1759 (fun _ h => h) dX7_item_58 hw (fun x26 hw => ?_)
    refine G_iconst (pc := 61) (v := 1) hC dX7_item_61 (by decide) ?_
    refine G_iadd (pc := 62) hC dX7_item_62 ?_
    refine G_put (pc := 63) (ci := 6) (C := RX7) (T := TX7) (N := 3) (f := 1) tyX7 hC rfl in_X7 tyX7_ok nmX7 (Nat.le_of_ble_eq_true rfl) q1759 (fun _ h => h) rfl rfl rfl dX7_item_63 hw (fun M27 hw => ?_)
    refine G_aload_n (pc := 66) (i := 0) hC dX7_item_66 rfl rfl ?_
    refine G_dup (pc := 67) hC dX7_item_67 (rf_cat _) ?_
    refine G_getI (pc := 68) (ci := 6) (C := RX7) (T := TX7) (N := 3) (f := 2) hC rfl in_X7 (Nat.le_of_ble_eq_true rfl) q1760 (fun _ h => h) dX7_item_68 hw (fun x28 hw => ?_)
    refine G_iconst (pc := 71) (v := 1) hC dX7_item_71 (by decide) ?_
    refine G_isub (pc := 72) hC dX7_item_72 ?_
    refine G_put (pc := 73) (ci := 6) (C := RX7) (T := TX7) (N := 3) (f := 2) tyX7 hC rfl in_X7 tyX7_ok nmX7 (Nat.le_of_ble_eq_true rfl) q1760 (fun _ h => h) rfl rfl rfl dX7_item_73 hw (fun M29 hw => ?_)
    refine G_goto (pc := 76) (tgt := 110) hC dX7_item_76 (by decide) ?_
    exact g_X7_item_110_r3 hJ hC hQ hin hno  x22 M29 hw
theorem g_X7_items_39_r3 {k : kT} {F : Nat} {a0 : Nat} {Q : Option Nat → hM → Prop} {X : String → Nat → hM → Prop} {K8 : (Option Nat) → hM → Prop} (hJ : JOK (kl k) (kg k)) (hC : CX k 3 cX7_items RX7 (some (.object "java/util/List")) 49 2201) (hQ : isQX k (PR Q) X) (hin : (kt k).name = "items") (hno : ∀ x ∈ (kc k).exceptionTable.toList, False) (hK8 : ∀ (v1 : Option Nat) (M : hM), K8 v1 M → GW k 3 M 8 [some (va_rf (some a0)), some (va_rf v1), none] []) : ∀ (v1 : Option Nat) (M : hM), w_X7_items_39 (kg k) F (wR_X7_item (kg k) F 3) a0 Q X K8 v1 M → GW k 3 M 39 [some (va_rf (some a0)), some (va_rf v1), none] [] := by
  intro v1 M hw
  refine G_goto (pc := 39) (tgt := 8) hC dX7_items_39 (by decide) ?_
  exact hK8 v1 M hw
theorem g_X7_items_8_r3 {k : kT} {F : Nat} {a0 : Nat} {Q : Option Nat → hM → Prop} {X : String → Nat → hM → Prop} (hJ : JOK (kl k) (kg k)) (hC : CX k 3 cX7_items RX7 (some (.object "java/util/List")) 49 2201) (hQ : isQX k (PR Q) X) (hin : (kt k).name = "items") (hno : ∀ x ∈ (kc k).exceptionTable.toList, False) : ∀ (n : Nat) (v1 : Option Nat) (M : hM), w_X7_items_8 (kg k) F (wR_X7_item (kg k) F 3) a0 Q X n v1 M → GW k 3 M 8 [some (va_rf (some a0)), some (va_rf v1), none] [] := by
  intro n
  induction n with
  | zero =>
    intro v1 M hw
    exact hw.elim
  | succ n ih =>
    intro v1 M hw
    refine G_aload_n (pc := 8) (i := 0) hC dX7_items_8 rfl rfl ?_
    obtain ⟨hb, hw⟩ := hw
    refine G_callV (pc := 9) (n := 0) (C := "MergeWorkbench$Reader") (b := a0) (As := []) (rest := []) hC (m_X7_isItem hJ hw) (lw_V q1778 q1780 qs21 q125 q1781) hd_X7_isItem (by decide) (rcv (C := RX7) (T := TX7) (N := 3) hC hb rfl) rfl rfl (st_c cat_e (Nat.le_of_ble_eq_true rfl)) dX7_items_9 (kI fun x2 M1 hw => ?_)
    refine G_if_eq (pc := 12) (tgt := 42) hC dX7_items_12 (by decide) (fun hc => ?_) (fun hc => ?_)
    · replace hw := hw.1 hc
      refine G_aload_n (pc := 42) (i := 1) hC dX7_items_42 rfl rfl ?_
      exact G_aretX (pc := 43) hC (Or.inl ⟨_, rfl⟩) hQ dX7_items_43 hw
    · replace hw := hw.2 hc
      refine G_aload_n (pc := 15) (i := 0) hC dX7_items_15 rfl rfl ?_
      obtain ⟨hb, hw⟩ := hw
      refine GX_callV (pc := 16) (n := 0) (C := "MergeWorkbench$Reader") (b := a0) (As := []) (rest := []) hC (m_X7_item_r3 hJ hw) (lw_V q1803 q1805 qs23 q125 q1806) hd_X7_item (by decide) (rcv (C := RX7) (T := TX7) (N := 3) hC hb rfl) rfl rfl (st_c cat_e (Nat.le_of_ble_eq_true rfl)) dX7_items_16 (fun E q M hx => GX_out hC hno hQ hx) (kRf fun x4 M3 hw => ?_)
      refine G_astore_n (pc := 19) (i := 2) (lw := [some (va_rf (some a0)), some (va_rf v1), some (va_rf x4)]) hC dX7_items_19 rfl (Nat.le_of_ble_eq_true rfl) rfl ?_
      refine G_aload_n (pc := 20) (i := 1) hC dX7_items_20 rfl rfl ?_
      obtain ⟨b6, rfl, hb, hw⟩ := gThis_e hw
      refine G_callF (pc := 21) (n := 0) (x := ⟨"java/util/List", "size", "()I"⟩) (C := "java/util/ArrayList") (ci := 21) (T := TJ2) (N := 3) (b := b6) (As := []) (rest := []) hC (J_L_size hJ hw) (lw_F q1846 q889 q363 q87 q364) (nw_in q888 rfl) (nw_in q887 rfl) (nw_in q891 rfl) (nw_in q890 rfl) (nw_in q259 rfl) rfl (rcv (C := RJ2) (T := TJ2) (N := 3) hC hb rfl) (by decide +kernel) (by decide) rfl rfl (st_c cat_e (Nat.le_of_ble_eq_true rfl)) dX7_items_21 (kI fun x7 M5 hw => ?_)
      refine G_bipush (pc := 26) (v := 24) hC dX7_items_26 (by decide) ?_
      refine G_icmp_gt (pc := 28) (tgt := 39) hC dX7_items_28 (by decide) (fun hc => ?_) (fun hc => ?_)
      · replace hw := hw.1 hc
        refine G_loc (lv' := [some (va_rf (some a0)), some (va_rf (some b6)), none]) ⟨Or.inr rfl, Or.inr rfl, Or.inl rfl, trivial⟩ ?_
        exact g_X7_items_39_r3 hJ hC hQ hin hno ih  (some b6) M5 hw
      · replace hw := hw.2 hc
        refine G_aload_n (pc := 31) (i := 1) hC dX7_items_31 rfl rfl ?_
        refine G_aload_n (pc := 32) (i := 2) hC dX7_items_32 rfl rfl ?_
        obtain ⟨hb, hw⟩ := hw
        refine G_callF (pc := 33) (n := 1) (x := ⟨"java/util/List", "addAll", "(Ljava/util/Collection;)Z"⟩) (C := "java/util/ArrayList") (ci := 21) (T := TJ2) (N := 3) (b := b6) (As := [va_rf x4]) (rest := []) hC (J_L_addA hJ hw) (lw_F q1848 q1851 q1853 q87 q1855) (nw_in q1850 rfl) (nw_in q1849 rfl) (nw_in q1854 rfl) (nw_in q1852 rfl) (nw_in q259 rfl) rfl (rcv (C := RJ2) (T := TJ2) (N := 3) hC hb rfl) (by decide +kernel) (by decide) rfl rfl (st_c cat_e (Nat.le_of_ble_eq_true rfl)) dX7_items_33 (kI fun x9 M8 hw => ?_)
        refine G_pop (pc := 38) hC dX7_items_38 rfl ?_
        refine G_loc (lv' := [some (va_rf (some a0)), some (va_rf (some b6)), none]) ⟨Or.inr rfl, Or.inr rfl, Or.inl rfl, trivial⟩ ?_
        exact g_X7_items_39_r3 hJ hC hQ hin hno ih  (some b6) M8 hw
theorem m_X7_items_r3 {l : Launch} {g : gT} {F : Nat} {a0 : Nat} {M : hM} {Q : Option Nat → hM → Prop} {X : String → Nat → hM → Prop} (hJ : JOK l g) (hw : w_X7_items g F (wR_X7_item g F 3) a0 M Q X) : MX l g yX7_items (ws_ yX7_items cX7_items 3 (some (.object "java/util/List"))) 49 2201 [va_rf (some a0)] M (PR Q) X := by
  refine MX_of hJ.2.1 (by decide) (cat_r cat_e) (Nat.le_of_ble_eq_true rfl) (fun k hl hg hin hno hQ hC => ?_)
  subst hl hg
  show GW k 3 M 0 [some (va_rf (some a0)), none, none] []
  refine G_new (pc := 0) (ci := 21) (C := RJ2) (T := TJ2) (N := 3) (fs := fsJ2) tyJ2 hC rfl in_J2 tyJ2_ok q1776 q161 q87 dfJ2 rfl dX7_items_0 hw (fun q1 M2 hw => ?_)
  refine G_dup (pc := 3) hC dX7_items_3 (rf_cat _) ?_
  obtain ⟨hb, hw⟩ := hw
  refine G_callI (pc := 4) (n := 0) (b := q1) (As := []) (rest := [va_rf (some q1)]) hC (J_L_new hJ hw) (lw_meth q164) q87 q1777 q163 rfl hd_J2_init.2 (by decide) rfl rfl (st_c (cat_r cat_e) (Nat.le_of_ble_eq_true rfl)) dX7_items_4 (kU fun M3 hw => ?_)
  refine G_astore_n (pc := 7) (i := 1) (lw := [some (va_rf (some a0)), some (va_rf (some q1)), none]) hC dX7_items_7 rfl (Nat.le_of_ble_eq_true rfl) rfl ?_
  exact g_X7_items_8_r3 hJ hC hQ hin hno _ (some q1) M3 hw
theorem g_X7_item_190_r4 {k : kT} {F : Nat} {a0 : Nat} {Q : Option Nat → hM → Prop} {X : String → Nat → hM → Prop} (hJ : JOK (kl k) (kg k)) (hC : CX k 5 cX7_item RX7 (some (.object "java/util/List")) 50 2223) (hQ : isQX k (PR Q) X) (hin : (kt k).name = "item") (hno : ∀ x ∈ (kc k).exceptionTable.toList, False) : ∀ (v3 : Option Nat) (M : hM), w_X7_item_190 (kg k) F (wR_X7_item (kg k) F 3) a0 Q X v3 M → GW k 5 M 190 [some (va_rf (some a0)), none, none, some (va_rf v3), none] [] := by
  intro v3 M hw
  refine G_aload_n (pc := 190) (i := 3) hC dX7_item_190 rfl rfl ?_
  exact G_aretX (pc := 191) hC (Or.inl ⟨_, rfl⟩) hQ dX7_item_191 hw
theorem g_X7_item_159_r4 {k : kT} {F : Nat} {a0 : Nat} {Q : Option Nat → hM → Prop} {X : String → Nat → hM → Prop} (hJ : JOK (kl k) (kg k)) (hC : CX k 5 cX7_item RX7 (some (.object "java/util/List")) 50 2223) (hQ : isQX k (PR Q) X) (hin : (kt k).name = "item") (hno : ∀ x ∈ (kc k).exceptionTable.toList, False) : ∀ (n : Nat) (v1 : Option Nat) (v2 : Int32) (v3 : Option Nat) (v4 : Int32) (M : hM), w_X7_item_159 (kg k) F (wR_X7_item (kg k) F 3) a0 Q X n v1 v2 v3 v4 M → GW k 5 M 159 [some (va_rf (some a0)), some (va_rf v1), some (.int v2), some (va_rf v3), some (.int v4)] [] := by
  intro n
  induction n with
  | zero =>
    intro v1 v2 v3 v4 M hw
    exact hw.elim
  | succ n ih =>
    intro v1 v2 v3 v4 M hw
    refine G_iload (pc := 159) (i := 4) hC dX7_item_159 rfl ?_
    refine G_iload_n (pc := 161) (i := 2) hC dX7_item_161 rfl rfl ?_
    refine G_icmp_ge (pc := 162) (tgt := 190) hC dX7_item_162 (by decide) (fun hc => ?_) (fun hc => ?_)
    · replace hw := hw.1 hc
      refine G_loc (lv' := [some (va_rf (some a0)), none, none, some (va_rf v3), none]) ⟨Or.inr rfl, Or.inl rfl, Or.inl rfl, Or.inr rfl, Or.inl rfl, trivial⟩ ?_
      exact g_X7_item_190_r4 hJ hC hQ hin hno  v3 M hw
    · replace hw := hw.2 hc
      refine G_aload_n (pc := 165) (i := 3) hC dX7_item_165 rfl rfl ?_
      obtain ⟨b2, rfl, hb, hw⟩ := gThis_e hw
      refine G_callF (pc := 166) (n := 0) (x := ⟨"java/util/List", "size", "()I"⟩) (C := "java/util/ArrayList") (ci := 21) (T := TJ2) (N := 3) (b := b2) (As := []) (rest := []) hC (J_L_size hJ hw) (lw_F q1846 q889 q363 q87 q364) (nw_in q888 rfl) (nw_in q887 rfl) (nw_in q891 rfl) (nw_in q890 rfl) (nw_in q259 rfl) rfl (rcv (C := RJ2) (T := TJ2) (N := 3) hC hb rfl) (by decide +kernel) (by decide) rfl rfl (st_c cat_e (Nat.le_of_ble_eq_true rfl)) dX7_item_166 (kI fun x3 M1 hw => ?_)
      refine G_bipush (pc := 171) (v := 24) hC dX7_item_171 (by decide) ?_
      refine G_icmp_gt (pc := 173) (tgt := 190) hC dX7_item_173 (by decide) (fun hc => ?_) (fun hc => ?_)
      · replace hw := hw.1 hc
        refine G_loc (lv' := [some (va_rf (some a0)), none, none, some (va_rf (some b2)), none]) ⟨Or.inr rfl, Or.inl rfl, Or.inl rfl, Or.inr rfl, Or.inl rfl, trivial⟩ ?_
        exact g_X7_item_190_r4 hJ hC hQ hin hno  (some b2) M1 hw
      · replace hw := hw.2 hc
        refine G_aload_n (pc := 176) (i := 3) hC dX7_item_176 rfl rfl ?_
        refine G_aload_n (pc := 177) (i := 1) hC dX7_item_177 rfl rfl ?_
        obtain ⟨hb, hw⟩ := hw
        refine G_callF (pc := 178) (n := 1) (x := ⟨"java/util/List", "addAll", "(Ljava/util/Collection;)Z"⟩) (C := "java/util/ArrayList") (ci := 21) (T := TJ2) (N := 3) (b := b2) (As := [va_rf v1]) (rest := []) hC (J_L_addA hJ hw) (lw_F q1848 q1851 q1853 q87 q1855) (nw_in q1850 rfl) (nw_in q1849 rfl) (nw_in q1854 rfl) (nw_in q1852 rfl) (nw_in q259 rfl) rfl (rcv (C := RJ2) (T := TJ2) (N := 3) hC hb rfl) (by decide +kernel) (by decide) rfl rfl (st_c cat_e (Nat.le_of_ble_eq_true rfl)) dX7_item_178 (kI fun x5 M4 hw => ?_)
        refine G_pop (pc := 183) hC dX7_item_183 rfl ?_
        refine G_iinc (pc := 184) (i := 4) (v := (v4 + (1 : Int32))) (lw := [some (va_rf (some a0)), some (va_rf v1), some (.int v2), some (va_rf (some b2)), some (.int (v4 + (1 : Int32)))]) hC dX7_item_184 rfl (Nat.le_of_ble_eq_true rfl) rfl rfl ?_
        refine G_goto (pc := 187) (tgt := 159) hC dX7_item_187 (by decide) ?_
        exact ih v1 v2 (some b2) (v4 + (1 : Int32)) M4 hw
theorem g_X7_item_148_r4 {k : kT} {F : Nat} {a0 : Nat} {Q : Option Nat → hM → Prop} {X : String → Nat → hM → Prop} (hJ : JOK (kl k) (kg k)) (hC : CX k 5 cX7_item RX7 (some (.object "java/util/List")) 50 2223) (hQ : isQX k (PR Q) X) (hin : (kt k).name = "item") (hno : ∀ x ∈ (kc k).exceptionTable.toList, False) : ∀ (v1 : Option Nat) (v2 : Int32) (M : hM), w_X7_item_148 (kg k) F (wR_X7_item (kg k) F 3) a0 Q X v1 v2 M → GW k 5 M 148 [some (va_rf (some a0)), some (va_rf v1), some (.int v2), none, none] [] := by
  intro v1 v2 M hw
  refine G_new (pc := 148) (ci := 21) (C := RJ2) (T := TJ2) (N := 3) (fs := fsJ2) tyJ2 hC rfl in_J2 tyJ2_ok q1776 q161 q87 dfJ2 rfl dX7_item_148 hw (fun q1 M2 hw => ?_)
  refine G_dup (pc := 151) hC dX7_item_151 (rf_cat _) ?_
  obtain ⟨hb, hw⟩ := hw
  refine G_callI (pc := 152) (n := 0) (b := q1) (As := []) (rest := [va_rf (some q1)]) hC (J_L_new hJ hw) (lw_meth q164) q87 q1777 q163 rfl hd_J2_init.2 (by decide) rfl rfl (st_c (cat_r cat_e) (Nat.le_of_ble_eq_true rfl)) dX7_item_152 (kU fun M3 hw => ?_)
  refine G_astore_n (pc := 155) (i := 3) (lw := [some (va_rf (some a0)), some (va_rf v1), some (.int v2), some (va_rf (some q1)), none]) hC dX7_item_155 rfl (Nat.le_of_ble_eq_true rfl) rfl ?_
  refine G_iconst (pc := 156) (v := 0) hC dX7_item_156 (by decide) ?_
  refine G_istore (pc := 157) (i := 4) (lw := [some (va_rf (some a0)), some (va_rf v1), some (.int v2), some (va_rf (some q1)), some (.int (0 : Int32))]) hC dX7_item_157 (Nat.le_of_ble_eq_true rfl) rfl ?_
  exact g_X7_item_159_r4 hJ hC hQ hin hno _ v1 v2 (some q1) (0 : Int32) M3 hw
theorem g_X7_item_110_r4 {k : kT} {F : Nat} {a0 : Nat} {Q : Option Nat → hM → Prop} {X : String → Nat → hM → Prop} (hJ : JOK (kl k) (kg k)) (hC : CX k 5 cX7_item RX7 (some (.object "java/util/List")) 50 2223) (hQ : isQX k (PR Q) X) (hin : (kt k).name = "item") (hno : ∀ x ∈ (kc k).exceptionTable.toList, False) : ∀ (v1 : Option Nat) (M : hM), w_X7_item_110 (kg k) F (wR_X7_item (kg k) F 3) a0 Q X v1 M → GW k 5 M 110 [some (va_rf (some a0)), some (va_rf v1), none, none, none] [] := by
  intro v1 M hw
  refine G_iconst (pc := 110) (v := 1) hC dX7_item_110 (by decide) ?_
  refine G_istore_n (pc := 111) (i := 2) (lw := [some (va_rf (some a0)), some (va_rf v1), some (.int (1 : Int32)), none, none]) hC dX7_item_111 rfl (Nat.le_of_ble_eq_true rfl) rfl ?_
  refine G_aload_n (pc := 112) (i := 0) hC dX7_item_112 rfl rfl ?_
  refine G_bipush (pc := 113) (v := 50) hC dX7_item_113 (by decide) ?_
  refine G_bipush (pc := 115) (v := 57) hC dX7_item_115 (by decide) ?_
  obtain ⟨hb, hw⟩ := hw
  refine G_callV (pc := 117) (n := 2) (C := "MergeWorkbench$Reader") (b := a0) (As := [.int (50 : Int32), .int (57 : Int32)]) (rest := []) hC (m_X7_isAt hJ hw) (lw_V q1782 q1784 qs22 q125 q1785) hd_X7_isAt (by decide) (rcv (C := RX7) (T := TX7) (N := 3) hC hb rfl) rfl rfl (st_c cat_e (Nat.le_of_ble_eq_true rfl)) dX7_item_117 (kI fun x2 M1 hw => ?_)
  refine G_if_eq (pc := 120) (tgt := 148) hC dX7_item_120 (by decide) (fun hc => ?_) (fun hc => ?_)
  · replace hw := hw.1 hc
    exact g_X7_item_148_r4 hJ hC hQ hin hno  v1 (1 : Int32) M1 hw
  · replace hw := hw.2 hc
    refine G_aload_n (pc := 123) (i := 0) hC dX7_item_123 rfl rfl ?_
    refine G_getF (pc := 124) (ci := 6) (C := RX7) (T := TX7) (N := 3) (f := 0) hC rfl in_X7 (Nat.le_of_ble_eq_true rfl) q1758 (fun _ h => h) dX7_item_124 hw (fun x3 hw => ?_)
    refine G_aload_n (pc := 127) (i := 0) hC dX7_item_127 rfl rfl ?_
    refine G_getI (pc := 128) (ci := 6) (C := RX7) (T := TX7) (N := 3) (f := 1) hC rfl in_X7 (Nat.le_of_ble_eq_true rfl) q1759 (fun _ h => h) dX7_item_128 hw (fun x4 hw => ?_)
    obtain ⟨b6, rfl, hb, hw⟩ := gThis_e hw
    refine G_callV (pc := 131) (n := 1) (C := "java/lang/String") (b := b6) (As := [.int x4]) (rest := []) hC (J_S_chr hJ hw) (lw_V q1787 q1788 q1789 q92 q1790) hd_J6_charAt (by decide) (rcv (C := RJ6) (T := TJ6) (N := 4) hC hb rfl) rfl rfl (st_c cat_e (Nat.le_of_ble_eq_true rfl)) dX7_item_131 (kI fun x7 M5 hw => ?_)
    refine G_bipush (pc := 134) (v := 48) hC dX7_item_134 (by decide) ?_
    refine G_isub (pc := 136) hC dX7_item_136 ?_
    refine G_istore_n (pc := 137) (i := 2) (lw := [some (va_rf (some a0)), some (va_rf v1), some (.int (x7 - (48 : Int32))), none, none]) hC dX7_item_137 rfl (Nat.le_of_ble_eq_true rfl) rfl ?_
    refine G_aload_n (pc := 138) (i := 0) hC dX7_item_138 rfl rfl ?_
    refine G_dup (pc := 139) hC dX7_item_139 (rf_cat _) ?_
    refine G_getI (pc := 140) (ci := 6) (C := RX7) (T := TX7) (N := 3) (f := 1) hC rfl in_X7 (Nat.le_of_ble_eq_true rfl) q1759 (fun _ h => h) dX7_item_140 hw (fun x8 hw => ?_)
    refine G_iconst (pc := 143) (v := 1) hC dX7_item_143 (by decide) ?_
    refine G_iadd (pc := 144) hC dX7_item_144 ?_
    refine G_put (pc := 145) (ci := 6) (C := RX7) (T := TX7) (N := 3) (f := 1) tyX7 hC rfl in_X7 tyX7_ok nmX7 (Nat.le_of_ble_eq_true rfl) q1759 (fun _ h => h) rfl rfl rfl dX7_item_145 hw (fun M9 hw => ?_)
    exact g_X7_item_148_r4 hJ hC hQ hin hno  v1 (x7 - (48 : Int32)) M9 hw
theorem m_X7_item_r4 {l : Launch} {g : gT} {F : Nat} {a0 : Nat} {M : hM} {Q : Option Nat → hM → Prop} {X : String → Nat → hM → Prop} (hJ : JOK l g) (hw : wR_X7_item g F 4 a0 M Q X) : MX l g yX7_item (ws_ yX7_item cX7_item 5 (some (.object "java/util/List"))) 50 2223 [va_rf (some a0)] M (PR Q) X := by
  refine MX_of hJ.2.1 (by decide) (cat_r cat_e) (Nat.le_of_ble_eq_true rfl) (fun k hl hg hin hno hQ hC => ?_)
  subst hl hg
  replace hw : w_X7_item (kg k) F (wR_X7_item (kg k) F 3) a0 M Q X := hw
  show GW k 5 M 0 [some (va_rf (some a0)), none, none, none, none] []
  refine G_aload_n (pc := 0) (i := 0) hC dX7_item_0 rfl rfl ?_
  refine G_bipush (pc := 1) (v := 40) hC dX7_item_1 (by decide) ?_
  refine G_bipush (pc := 3) (v := 40) hC dX7_item_3 (by decide) ?_
  obtain ⟨hb, hw⟩ := hw
  refine G_callV (pc := 5) (n := 2) (C := "MergeWorkbench$Reader") (b := a0) (As := [.int (40 : Int32), .int (40 : Int32)]) (rest := []) hC (m_X7_isAt hJ hw) (lw_V q1782 q1784 qs22 q125 q1785) hd_X7_isAt (by decide) (rcv (C := RX7) (T := TX7) (N := 3) hC hb rfl) rfl rfl (st_c cat_e (Nat.le_of_ble_eq_true rfl)) dX7_item_5 (kI fun x2 M1 hw => ?_)
  refine G_if_eq (pc := 8) (tgt := 79) hC dX7_item_8 (by decide) (fun hc => ?_) (fun hc => ?_)
  · replace hw := hw.1 hc
    refine G_aload_n (pc := 79) (i := 0) hC dX7_item_79 rfl rfl ?_
    refine G_getF (pc := 80) (ci := 6) (C := RX7) (T := TX7) (N := 3) (f := 0) hC rfl in_X7 (Nat.le_of_ble_eq_true rfl) q1758 (fun _ h => h) dX7_item_80 hw (fun x3 hw => ?_)
    refine G_aload_n (pc := 83) (i := 0) hC dX7_item_83 rfl rfl ?_
    refine G_getI (pc := 84) (ci := 6) (C := RX7) (T := TX7) (N := 3) (f := 1) hC rfl in_X7 (Nat.le_of_ble_eq_true rfl) q1759 (fun _ h => h) dX7_item_84 hw (fun x4 hw => ?_)
    obtain ⟨b6, rfl, hb, hw⟩ := gThis_e hw
    refine G_callV (pc := 87) (n := 1) (C := "java/lang/String") (b := b6) (As := [.int x4]) (rest := []) hC (J_S_chr hJ hw) (lw_V q1787 q1788 q1789 q92 q1790) hd_J6_charAt (by decide) (rcv (C := RJ6) (T := TJ6) (N := 4) hC hb rfl) rfl rfl (st_c cat_e (Nat.le_of_ble_eq_true rfl)) dX7_item_87 (kI fun x7 M5 hw => ?_)
    refine G_bipush (pc := 90) (v := 97) hC dX7_item_90 (by decide) ?_
    refine G_isub (pc := 92) hC dX7_item_92 ?_
    refine G_callS (pc := 93) (n := 1) (As := [.int (x7 - (97 : Int32))]) (rest := []) hC (J_B_of hJ hw) (lw_S q1830 q992 q106 q993) hd_J19_valueOf.2 (by decide) rfl rfl (st_c cat_e (Nat.le_of_ble_eq_true rfl)) dX7_item_93 (kRf fun x9 M8 hw => ?_)
    refine G_callS (pc := 96) (n := 1) (As := [va_rf x9]) (rest := []) hC (J_C_sing hJ hw) (lw_S q1831 q1832 q113 q1833) hd_J25_singletonList.2 (by decide) rfl rfl (st_c cat_e (Nat.le_of_ble_eq_true rfl)) dX7_item_96 (kRf fun x11 M10 hw => ?_)
    refine G_astore_n (pc := 99) (i := 1) (lw := [some (va_rf (some a0)), some (va_rf x11), none, none, none]) hC dX7_item_99 rfl (Nat.le_of_ble_eq_true rfl) rfl ?_
    refine G_aload_n (pc := 100) (i := 0) hC dX7_item_100 rfl rfl ?_
    refine G_dup (pc := 101) hC dX7_item_101 (rf_cat _) ?_
    refine G_getI (pc := 102) (ci := 6) (C := RX7) (T := TX7) (N := 3) (f := 1) hC rfl in_X7 (Nat.le_of_ble_eq_true rfl) q1759 (fun _ h => h) dX7_item_102 hw (fun x12 hw => ?_)
    refine G_iconst (pc := 105) (v := 1) hC dX7_item_105 (by decide) ?_
    refine G_iadd (pc := 106) hC dX7_item_106 ?_
    refine G_put (pc := 107) (ci := 6) (C := RX7) (T := TX7) (N := 3) (f := 1) tyX7 hC rfl in_X7 tyX7_ok nmX7 (Nat.le_of_ble_eq_true rfl) q1759 (fun _ h => h) rfl rfl rfl dX7_item_107 hw (fun M13 hw => ?_)
    exact g_X7_item_110_r4 hJ hC hQ hin hno  x11 M13 hw
  · replace hw := hw.2 hc
    refine G_aload_n (pc := 11) (i := 0) hC dX7_item_11 rfl rfl ?_
    refine G_dup (pc := 12) hC dX7_item_12 (rf_cat _) ?_
    refine G_getI (pc := 13) (ci := 6) (C := RX7) (T := TX7) (N := 3) (f := 1) hC rfl in_X7 (Nat.le_of_ble_eq_true rfl) q1759 (fun _ h => h) dX7_item_13 hw (fun x14 hw => ?_)
    refine G_iconst (pc := 16) (v := 1) hC dX7_item_16 (by decide) ?_
    refine G_iadd (pc := 17) hC dX7_item_17 ?_
    refine G_put (pc := 18) (ci := 6) (C := RX7) (T := TX7) (N := 3) (f := 1) tyX7 hC rfl in_X7 tyX7_ok nmX7 (Nat.le_of_ble_eq_true rfl) q1759 (fun _ h => h) rfl rfl rfl dX7_item_18 hw (fun M15 hw => ?_)
    refine G_aload_n (pc := 21) (i := 0) hC dX7_item_21 rfl rfl ?_
    refine G_dup (pc := 22) hC dX7_item_22 (rf_cat _) ?_
    refine G_getI (pc := 23) (ci := 6) (C := RX7) (T := TX7) (N := 3) (f := 2) hC rfl in_X7 (Nat.le_of_ble_eq_true rfl) q1760 (fun _ h => h) dX7_item_23 hw (fun x16 hw => ?_)
    refine G_iconst (pc := 26) (v := 1) hC dX7_item_26 (by decide) ?_
    refine G_iadd (pc := 27) hC dX7_item_27 ?_
    refine G_put (pc := 28) (ci := 6) (C := RX7) (T := TX7) (N := 3) (f := 2) tyX7 hC rfl in_X7 tyX7_ok nmX7 (Nat.le_of_ble_eq_true rfl) q1760 (fun _ h => h) rfl rfl rfl dX7_item_28 hw (fun M17 hw => ?_)
    refine G_aload_n (pc := 31) (i := 0) hC dX7_item_31 rfl rfl ?_
    refine G_aload_n (pc := 32) (i := 0) hC dX7_item_32 rfl rfl ?_
    obtain ⟨hb, hw⟩ := hw
    refine G_callV (pc := 33) (n := 0) (C := "MergeWorkbench$Reader") (b := a0) (As := []) (rest := [va_rf (some a0)]) hC (m_X7_isItem hJ hw) (lw_V q1778 q1780 qs21 q125 q1781) hd_X7_isItem (by decide) (rcv (C := RX7) (T := TX7) (N := 3) hC hb rfl) rfl rfl (st_c (cat_r cat_e) (Nat.le_of_ble_eq_true rfl)) dX7_item_33 (kI fun x19 M18 hw => ?_)
    obtain ⟨hb, hw⟩ := hw
    refine GX_callV (pc := 36) (n := 1) (C := "MergeWorkbench$Reader") (b := a0) (As := [.int x19]) (rest := []) hC (m_X7_expect hJ hw) (lw_V q1807 q1809 qs24 q125 q1810) hd_X7_expect (by decide) (rcv (C := RX7) (T := TX7) (N := 3) hC hb rfl) rfl rfl (st_c cat_e (Nat.le_of_ble_eq_true rfl)) dX7_item_36 (fun E q M hx => GX_out hC hno hQ hx) (kU fun M20 hw => ?_)
    refine G_aload_n (pc := 39) (i := 0) hC dX7_item_39 rfl rfl ?_
    obtain ⟨hb, hw⟩ := hw
    refine GX_callV (pc := 40) (n := 0) (C := "MergeWorkbench$Reader") (b := a0) (As := []) (rest := []) hC (m_X7_items_r3 hJ hw) (lw_V q1772 q1774 qs20 q125 q1775) hd_X7_items (by decide) (rcv (C := RX7) (T := TX7) (N := 3) hC hb rfl) rfl rfl (st_c cat_e (Nat.le_of_ble_eq_true rfl)) dX7_item_40 (fun E q M hx => GX_out hC hno hQ hx) (kRf fun x22 M21 hw => ?_)
    refine G_astore_n (pc := 43) (i := 1) (lw := [some (va_rf (some a0)), some (va_rf x22), none, none, none]) hC dX7_item_43 rfl (Nat.le_of_ble_eq_true rfl) rfl ?_
    refine G_aload_n (pc := 44) (i := 0) hC dX7_item_44 rfl rfl ?_
    refine G_aload_n (pc := 45) (i := 0) hC dX7_item_45 rfl rfl ?_
    refine G_bipush (pc := 46) (v := 41) hC dX7_item_46 (by decide) ?_
    refine G_bipush (pc := 48) (v := 41) hC dX7_item_48 (by decide) ?_
    obtain ⟨hb, hw⟩ := hw
    refine G_callV (pc := 50) (n := 2) (C := "MergeWorkbench$Reader") (b := a0) (As := [.int (41 : Int32), .int (41 : Int32)]) (rest := [va_rf (some a0)]) hC (m_X7_isAt hJ hw) (lw_V q1782 q1784 qs22 q125 q1785) hd_X7_isAt (by decide) (rcv (C := RX7) (T := TX7) (N := 3) hC hb rfl) rfl rfl (st_c (cat_r cat_e) (Nat.le_of_ble_eq_true rfl)) dX7_item_50 (kI fun x24 M23 hw => ?_)
    obtain ⟨hb, hw⟩ := hw
    refine GX_callV (pc := 53) (n := 1) (C := "MergeWorkbench$Reader") (b := a0) (As := [.int x24]) (rest := []) hC (m_X7_expect hJ hw) (lw_V q1807 q1809 qs24 q125 q1810) hd_X7_expect (by decide) (rcv (C := RX7) (T := TX7) (N := 3) hC hb rfl) rfl rfl (st_c cat_e (Nat.le_of_ble_eq_true rfl)) dX7_item_53 (fun E q M hx => GX_out hC hno hQ hx) (kU fun M25 hw => ?_)
    refine G_aload_n (pc := 56) (i := 0) hC dX7_item_56 rfl rfl ?_
    refine G_dup (pc := 57) hC dX7_item_57 (rf_cat _) ?_
    refine G_getI (pc := 58) (ci := 6) (C := RX7) (T := TX7) (N := 3) (f := 1) hC rfl in_X7 (Nat.le_of_ble_eq_true rfl) q1759 (fun _ h => h) dX7_item_58 hw (fun x26 hw => ?_)
    refine G_iconst (pc := 61) (v := 1) hC dX7_item_61 (by decide) ?_
    refine G_iadd (pc := 62) hC dX7_item_62 ?_
    refine G_put (pc := 63) (ci := 6) (C := RX7) (T := TX7) (N := 3) (f := 1) tyX7 hC rfl in_X7 tyX7_ok nmX7 (Nat.le_of_ble_eq_true rfl) q1759 (fun _ h => h) rfl rfl rfl dX7_item_63 hw (fun M27 hw => ?_)
    refine G_aload_n (pc := 66) (i := 0) hC dX7_item_66 rfl rfl ?_
    refine G_dup (pc := 67) hC dX7_item_67 (rf_cat _) ?_
    refine G_getI (pc := 68) (ci := 6) (C := RX7) (T := TX7) (N := 3) (f := 2) hC rfl in_X7 (Nat.le_of_ble_eq_true rfl) q1760 (fun _ h => h) dX7_item_68 hw (fun x28 hw => ?_)
    refine G_iconst (pc := 71) (v := 1) hC dX7_item_71 (by decide) ?_
    refine G_isub (pc := 72) hC dX7_item_72 ?_
    refine G_put (pc := 73) (ci := 6) (C := RX7) (T := TX7) (N := 3) (f := 2) tyX7 hC rfl in_X7 tyX7_ok nmX7 (Nat.le_of_ble_eq_true rfl) q1760 (fun _ h => h) rfl rfl rfl dX7_item_73 hw (fun M29 hw => ?_)
    refine G_goto (pc := 76) (tgt := 110) hC dX7_item_76 (by decide) ?_
    exact g_X7_item_110_r4 hJ hC hQ hin hno  x22 M29 hw
theorem g_X7_items_39_r4 {k : kT} {F : Nat} {a0 : Nat} {Q : Option Nat → hM → Prop} {X : String → Nat → hM → Prop} {K8 : (Option Nat) → hM → Prop} (hJ : JOK (kl k) (kg k)) (hC : CX k 3 cX7_items RX7 (some (.object "java/util/List")) 51 2247) (hQ : isQX k (PR Q) X) (hin : (kt k).name = "items") (hno : ∀ x ∈ (kc k).exceptionTable.toList, False) (hK8 : ∀ (v1 : Option Nat) (M : hM), K8 v1 M → GW k 3 M 8 [some (va_rf (some a0)), some (va_rf v1), none] []) : ∀ (v1 : Option Nat) (M : hM), w_X7_items_39 (kg k) F (wR_X7_item (kg k) F 4) a0 Q X K8 v1 M → GW k 3 M 39 [some (va_rf (some a0)), some (va_rf v1), none] [] := by
  intro v1 M hw
  refine G_goto (pc := 39) (tgt := 8) hC dX7_items_39 (by decide) ?_
  exact hK8 v1 M hw
theorem g_X7_items_8_r4 {k : kT} {F : Nat} {a0 : Nat} {Q : Option Nat → hM → Prop} {X : String → Nat → hM → Prop} (hJ : JOK (kl k) (kg k)) (hC : CX k 3 cX7_items RX7 (some (.object "java/util/List")) 51 2247) (hQ : isQX k (PR Q) X) (hin : (kt k).name = "items") (hno : ∀ x ∈ (kc k).exceptionTable.toList, False) : ∀ (n : Nat) (v1 : Option Nat) (M : hM), w_X7_items_8 (kg k) F (wR_X7_item (kg k) F 4) a0 Q X n v1 M → GW k 3 M 8 [some (va_rf (some a0)), some (va_rf v1), none] [] := by
  intro n
  induction n with
  | zero =>
    intro v1 M hw
    exact hw.elim
  | succ n ih =>
    intro v1 M hw
    refine G_aload_n (pc := 8) (i := 0) hC dX7_items_8 rfl rfl ?_
    obtain ⟨hb, hw⟩ := hw
    refine G_callV (pc := 9) (n := 0) (C := "MergeWorkbench$Reader") (b := a0) (As := []) (rest := []) hC (m_X7_isItem hJ hw) (lw_V q1778 q1780 qs21 q125 q1781) hd_X7_isItem (by decide) (rcv (C := RX7) (T := TX7) (N := 3) hC hb rfl) rfl rfl (st_c cat_e (Nat.le_of_ble_eq_true rfl)) dX7_items_9 (kI fun x2 M1 hw => ?_)
    refine G_if_eq (pc := 12) (tgt := 42) hC dX7_items_12 (by decide) (fun hc => ?_) (fun hc => ?_)
    · replace hw := hw.1 hc
      refine G_aload_n (pc := 42) (i := 1) hC dX7_items_42 rfl rfl ?_
      exact G_aretX (pc := 43) hC (Or.inl ⟨_, rfl⟩) hQ dX7_items_43 hw
    · replace hw := hw.2 hc
      refine G_aload_n (pc := 15) (i := 0) hC dX7_items_15 rfl rfl ?_
      obtain ⟨hb, hw⟩ := hw
      refine GX_callV (pc := 16) (n := 0) (C := "MergeWorkbench$Reader") (b := a0) (As := []) (rest := []) hC (m_X7_item_r4 hJ hw) (lw_V q1803 q1805 qs23 q125 q1806) hd_X7_item (by decide) (rcv (C := RX7) (T := TX7) (N := 3) hC hb rfl) rfl rfl (st_c cat_e (Nat.le_of_ble_eq_true rfl)) dX7_items_16 (fun E q M hx => GX_out hC hno hQ hx) (kRf fun x4 M3 hw => ?_)
      refine G_astore_n (pc := 19) (i := 2) (lw := [some (va_rf (some a0)), some (va_rf v1), some (va_rf x4)]) hC dX7_items_19 rfl (Nat.le_of_ble_eq_true rfl) rfl ?_
      refine G_aload_n (pc := 20) (i := 1) hC dX7_items_20 rfl rfl ?_
      obtain ⟨b6, rfl, hb, hw⟩ := gThis_e hw
      refine G_callF (pc := 21) (n := 0) (x := ⟨"java/util/List", "size", "()I"⟩) (C := "java/util/ArrayList") (ci := 21) (T := TJ2) (N := 3) (b := b6) (As := []) (rest := []) hC (J_L_size hJ hw) (lw_F q1846 q889 q363 q87 q364) (nw_in q888 rfl) (nw_in q887 rfl) (nw_in q891 rfl) (nw_in q890 rfl) (nw_in q259 rfl) rfl (rcv (C := RJ2) (T := TJ2) (N := 3) hC hb rfl) (by decide +kernel) (by decide) rfl rfl (st_c cat_e (Nat.le_of_ble_eq_true rfl)) dX7_items_21 (kI fun x7 M5 hw => ?_)
      refine G_bipush (pc := 26) (v := 24) hC dX7_items_26 (by decide) ?_
      refine G_icmp_gt (pc := 28) (tgt := 39) hC dX7_items_28 (by decide) (fun hc => ?_) (fun hc => ?_)
      · replace hw := hw.1 hc
        refine G_loc (lv' := [some (va_rf (some a0)), some (va_rf (some b6)), none]) ⟨Or.inr rfl, Or.inr rfl, Or.inl rfl, trivial⟩ ?_
        exact g_X7_items_39_r4 hJ hC hQ hin hno ih  (some b6) M5 hw
      · replace hw := hw.2 hc
        refine G_aload_n (pc := 31) (i := 1) hC dX7_items_31 rfl rfl ?_
        refine G_aload_n (pc := 32) (i := 2) hC dX7_items_32 rfl rfl ?_
        obtain ⟨hb, hw⟩ := hw
        refine G_callF (pc := 33) (n := 1) (x := ⟨"java/util/List", "addAll", "(Ljava/util/Collection;)Z"⟩) (C := "java/util/ArrayList") (ci := 21) (T := TJ2) (N := 3) (b := b6) (As := [va_rf x4]) (rest := []) hC (J_L_addA hJ hw) (lw_F q1848 q1851 q1853 q87 q1855) (nw_in q1850 rfl) (nw_in q1849 rfl) (nw_in q1854 rfl) (nw_in q1852 rfl) (nw_in q259 rfl) rfl (rcv (C := RJ2) (T := TJ2) (N := 3) hC hb rfl) (by decide +kernel) (by decide) rfl rfl (st_c cat_e (Nat.le_of_ble_eq_true rfl)) dX7_items_33 (kI fun x9 M8 hw => ?_)
        refine G_pop (pc := 38) hC dX7_items_38 rfl ?_
        refine G_loc (lv' := [some (va_rf (some a0)), some (va_rf (some b6)), none]) ⟨Or.inr rfl, Or.inr rfl, Or.inl rfl, trivial⟩ ?_
        exact g_X7_items_39_r4 hJ hC hQ hin hno ih  (some b6) M8 hw
theorem m_X7_items_r4 {l : Launch} {g : gT} {F : Nat} {a0 : Nat} {M : hM} {Q : Option Nat → hM → Prop} {X : String → Nat → hM → Prop} (hJ : JOK l g) (hw : w_X7_items g F (wR_X7_item g F 4) a0 M Q X) : MX l g yX7_items (ws_ yX7_items cX7_items 3 (some (.object "java/util/List"))) 51 2247 [va_rf (some a0)] M (PR Q) X := by
  refine MX_of hJ.2.1 (by decide) (cat_r cat_e) (Nat.le_of_ble_eq_true rfl) (fun k hl hg hin hno hQ hC => ?_)
  subst hl hg
  show GW k 3 M 0 [some (va_rf (some a0)), none, none] []
  refine G_new (pc := 0) (ci := 21) (C := RJ2) (T := TJ2) (N := 3) (fs := fsJ2) tyJ2 hC rfl in_J2 tyJ2_ok q1776 q161 q87 dfJ2 rfl dX7_items_0 hw (fun q1 M2 hw => ?_)
  refine G_dup (pc := 3) hC dX7_items_3 (rf_cat _) ?_
  obtain ⟨hb, hw⟩ := hw
  refine G_callI (pc := 4) (n := 0) (b := q1) (As := []) (rest := [va_rf (some q1)]) hC (J_L_new hJ hw) (lw_meth q164) q87 q1777 q163 rfl hd_J2_init.2 (by decide) rfl rfl (st_c (cat_r cat_e) (Nat.le_of_ble_eq_true rfl)) dX7_items_4 (kU fun M3 hw => ?_)
  refine G_astore_n (pc := 7) (i := 1) (lw := [some (va_rf (some a0)), some (va_rf (some q1)), none]) hC dX7_items_7 rfl (Nat.le_of_ble_eq_true rfl) rfl ?_
  exact g_X7_items_8_r4 hJ hC hQ hin hno _ (some q1) M3 hw
theorem g_X7_item_190_r5 {k : kT} {F : Nat} {a0 : Nat} {Q : Option Nat → hM → Prop} {X : String → Nat → hM → Prop} (hJ : JOK (kl k) (kg k)) (hC : CX k 5 cX7_item RX7 (some (.object "java/util/List")) 52 2269) (hQ : isQX k (PR Q) X) (hin : (kt k).name = "item") (hno : ∀ x ∈ (kc k).exceptionTable.toList, False) : ∀ (v3 : Option Nat) (M : hM), w_X7_item_190 (kg k) F (wR_X7_item (kg k) F 4) a0 Q X v3 M → GW k 5 M 190 [some (va_rf (some a0)), none, none, some (va_rf v3), none] [] := by
  intro v3 M hw
  refine G_aload_n (pc := 190) (i := 3) hC dX7_item_190 rfl rfl ?_
  exact G_aretX (pc := 191) hC (Or.inl ⟨_, rfl⟩) hQ dX7_item_191 hw
theorem g_X7_item_159_r5 {k : kT} {F : Nat} {a0 : Nat} {Q : Option Nat → hM → Prop} {X : String → Nat → hM → Prop} (hJ : JOK (kl k) (kg k)) (hC : CX k 5 cX7_item RX7 (some (.object "java/util/List")) 52 2269) (hQ : isQX k (PR Q) X) (hin : (kt k).name = "item") (hno : ∀ x ∈ (kc k).exceptionTable.toList, False) : ∀ (n : Nat) (v1 : Option Nat) (v2 : Int32) (v3 : Option Nat) (v4 : Int32) (M : hM), w_X7_item_159 (kg k) F (wR_X7_item (kg k) F 4) a0 Q X n v1 v2 v3 v4 M → GW k 5 M 159 [some (va_rf (some a0)), some (va_rf v1), some (.int v2), some (va_rf v3), some (.int v4)] [] := by
  intro n
  induction n with
  | zero =>
    intro v1 v2 v3 v4 M hw
    exact hw.elim
  | succ n ih =>
    intro v1 v2 v3 v4 M hw
    refine G_iload (pc := 159) (i := 4) hC dX7_item_159 rfl ?_
    refine G_iload_n (pc := 161) (i := 2) hC dX7_item_161 rfl rfl ?_
    refine G_icmp_ge (pc := 162) (tgt := 190) hC dX7_item_162 (by decide) (fun hc => ?_) (fun hc => ?_)
    · replace hw := hw.1 hc
      refine G_loc (lv' := [some (va_rf (some a0)), none, none, some (va_rf v3), none]) ⟨Or.inr rfl, Or.inl rfl, Or.inl rfl, Or.inr rfl, Or.inl rfl, trivial⟩ ?_
      exact g_X7_item_190_r5 hJ hC hQ hin hno  v3 M hw
    · replace hw := hw.2 hc
      refine G_aload_n (pc := 165) (i := 3) hC dX7_item_165 rfl rfl ?_
      obtain ⟨b2, rfl, hb, hw⟩ := gThis_e hw
      refine G_callF (pc := 166) (n := 0) (x := ⟨"java/util/List", "size", "()I"⟩) (C := "java/util/ArrayList") (ci := 21) (T := TJ2) (N := 3) (b := b2) (As := []) (rest := []) hC (J_L_size hJ hw) (lw_F q1846 q889 q363 q87 q364) (nw_in q888 rfl) (nw_in q887 rfl) (nw_in q891 rfl) (nw_in q890 rfl) (nw_in q259 rfl) rfl (rcv (C := RJ2) (T := TJ2) (N := 3) hC hb rfl) (by decide +kernel) (by decide) rfl rfl (st_c cat_e (Nat.le_of_ble_eq_true rfl)) dX7_item_166 (kI fun x3 M1 hw => ?_)
      refine G_bipush (pc := 171) (v := 24) hC dX7_item_171 (by decide) ?_
      refine G_icmp_gt (pc := 173) (tgt := 190) hC dX7_item_173 (by decide) (fun hc => ?_) (fun hc => ?_)
      · replace hw := hw.1 hc
        refine G_loc (lv' := [some (va_rf (some a0)), none, none, some (va_rf (some b2)), none]) ⟨Or.inr rfl, Or.inl rfl, Or.inl rfl, Or.inr rfl, Or.inl rfl, trivial⟩ ?_
        exact g_X7_item_190_r5 hJ hC hQ hin hno  (some b2) M1 hw
      · replace hw := hw.2 hc
        refine G_aload_n (pc := 176) (i := 3) hC dX7_item_176 rfl rfl ?_
        refine G_aload_n (pc := 177) (i := 1) hC dX7_item_177 rfl rfl ?_
        obtain ⟨hb, hw⟩ := hw
        refine G_callF (pc := 178) (n := 1) (x := ⟨"java/util/List", "addAll", "(Ljava/util/Collection;)Z"⟩) (C := "java/util/ArrayList") (ci := 21) (T := TJ2) (N := 3) (b := b2) (As := [va_rf v1]) (rest := []) hC (J_L_addA hJ hw) (lw_F q1848 q1851 q1853 q87 q1855) (nw_in q1850 rfl) (nw_in q1849 rfl) (nw_in q1854 rfl) (nw_in q1852 rfl) (nw_in q259 rfl) rfl (rcv (C := RJ2) (T := TJ2) (N := 3) hC hb rfl) (by decide +kernel) (by decide) rfl rfl (st_c cat_e (Nat.le_of_ble_eq_true rfl)) dX7_item_178 (kI fun x5 M4 hw => ?_)
        refine G_pop (pc := 183) hC dX7_item_183 rfl ?_
        refine G_iinc (pc := 184) (i := 4) (v := (v4 + (1 : Int32))) (lw := [some (va_rf (some a0)), some (va_rf v1), some (.int v2), some (va_rf (some b2)), some (.int (v4 + (1 : Int32)))]) hC dX7_item_184 rfl (Nat.le_of_ble_eq_true rfl) rfl rfl ?_
        refine G_goto (pc := 187) (tgt := 159) hC dX7_item_187 (by decide) ?_
        exact ih v1 v2 (some b2) (v4 + (1 : Int32)) M4 hw
theorem g_X7_item_148_r5 {k : kT} {F : Nat} {a0 : Nat} {Q : Option Nat → hM → Prop} {X : String → Nat → hM → Prop} (hJ : JOK (kl k) (kg k)) (hC : CX k 5 cX7_item RX7 (some (.object "java/util/List")) 52 2269) (hQ : isQX k (PR Q) X) (hin : (kt k).name = "item") (hno : ∀ x ∈ (kc k).exceptionTable.toList, False) : ∀ (v1 : Option Nat) (v2 : Int32) (M : hM), w_X7_item_148 (kg k) F (wR_X7_item (kg k) F 4) a0 Q X v1 v2 M → GW k 5 M 148 [some (va_rf (some a0)), some (va_rf v1), some (.int v2), none, none] [] := by
  intro v1 v2 M hw
  refine G_new (pc := 148) (ci := 21) (C := RJ2) (T := TJ2) (N := 3) (fs := fsJ2) tyJ2 hC rfl in_J2 tyJ2_ok q1776 q161 q87 dfJ2 rfl dX7_item_148 hw (fun q1 M2 hw => ?_)
  refine G_dup (pc := 151) hC dX7_item_151 (rf_cat _) ?_
  obtain ⟨hb, hw⟩ := hw
  refine G_callI (pc := 152) (n := 0) (b := q1) (As := []) (rest := [va_rf (some q1)]) hC (J_L_new hJ hw) (lw_meth q164) q87 q1777 q163 rfl hd_J2_init.2 (by decide) rfl rfl (st_c (cat_r cat_e) (Nat.le_of_ble_eq_true rfl)) dX7_item_152 (kU fun M3 hw => ?_)
  refine G_astore_n (pc := 155) (i := 3) (lw := [some (va_rf (some a0)), some (va_rf v1), some (.int v2), some (va_rf (some q1)), none]) hC dX7_item_155 rfl (Nat.le_of_ble_eq_true rfl) rfl ?_
  refine G_iconst (pc := 156) (v := 0) hC dX7_item_156 (by decide) ?_
  refine G_istore (pc := 157) (i := 4) (lw := [some (va_rf (some a0)), some (va_rf v1), some (.int v2), some (va_rf (some q1)), some (.int (0 : Int32))]) hC dX7_item_157 (Nat.le_of_ble_eq_true rfl) rfl ?_
  exact g_X7_item_159_r5 hJ hC hQ hin hno _ v1 v2 (some q1) (0 : Int32) M3 hw
theorem g_X7_item_110_r5 {k : kT} {F : Nat} {a0 : Nat} {Q : Option Nat → hM → Prop} {X : String → Nat → hM → Prop} (hJ : JOK (kl k) (kg k)) (hC : CX k 5 cX7_item RX7 (some (.object "java/util/List")) 52 2269) (hQ : isQX k (PR Q) X) (hin : (kt k).name = "item") (hno : ∀ x ∈ (kc k).exceptionTable.toList, False) : ∀ (v1 : Option Nat) (M : hM), w_X7_item_110 (kg k) F (wR_X7_item (kg k) F 4) a0 Q X v1 M → GW k 5 M 110 [some (va_rf (some a0)), some (va_rf v1), none, none, none] [] := by
  intro v1 M hw
  refine G_iconst (pc := 110) (v := 1) hC dX7_item_110 (by decide) ?_
  refine G_istore_n (pc := 111) (i := 2) (lw := [some (va_rf (some a0)), some (va_rf v1), some (.int (1 : Int32)), none, none]) hC dX7_item_111 rfl (Nat.le_of_ble_eq_true rfl) rfl ?_
  refine G_aload_n (pc := 112) (i := 0) hC dX7_item_112 rfl rfl ?_
  refine G_bipush (pc := 113) (v := 50) hC dX7_item_113 (by decide) ?_
  refine G_bipush (pc := 115) (v := 57) hC dX7_item_115 (by decide) ?_
  obtain ⟨hb, hw⟩ := hw
  refine G_callV (pc := 117) (n := 2) (C := "MergeWorkbench$Reader") (b := a0) (As := [.int (50 : Int32), .int (57 : Int32)]) (rest := []) hC (m_X7_isAt hJ hw) (lw_V q1782 q1784 qs22 q125 q1785) hd_X7_isAt (by decide) (rcv (C := RX7) (T := TX7) (N := 3) hC hb rfl) rfl rfl (st_c cat_e (Nat.le_of_ble_eq_true rfl)) dX7_item_117 (kI fun x2 M1 hw => ?_)
  refine G_if_eq (pc := 120) (tgt := 148) hC dX7_item_120 (by decide) (fun hc => ?_) (fun hc => ?_)
  · replace hw := hw.1 hc
    exact g_X7_item_148_r5 hJ hC hQ hin hno  v1 (1 : Int32) M1 hw
  · replace hw := hw.2 hc
    refine G_aload_n (pc := 123) (i := 0) hC dX7_item_123 rfl rfl ?_
    refine G_getF (pc := 124) (ci := 6) (C := RX7) (T := TX7) (N := 3) (f := 0) hC rfl in_X7 (Nat.le_of_ble_eq_true rfl) q1758 (fun _ h => h) dX7_item_124 hw (fun x3 hw => ?_)
    refine G_aload_n (pc := 127) (i := 0) hC dX7_item_127 rfl rfl ?_
    refine G_getI (pc := 128) (ci := 6) (C := RX7) (T := TX7) (N := 3) (f := 1) hC rfl in_X7 (Nat.le_of_ble_eq_true rfl) q1759 (fun _ h => h) dX7_item_128 hw (fun x4 hw => ?_)
    obtain ⟨b6, rfl, hb, hw⟩ := gThis_e hw
    refine G_callV (pc := 131) (n := 1) (C := "java/lang/String") (b := b6) (As := [.int x4]) (rest := []) hC (J_S_chr hJ hw) (lw_V q1787 q1788 q1789 q92 q1790) hd_J6_charAt (by decide) (rcv (C := RJ6) (T := TJ6) (N := 4) hC hb rfl) rfl rfl (st_c cat_e (Nat.le_of_ble_eq_true rfl)) dX7_item_131 (kI fun x7 M5 hw => ?_)
    refine G_bipush (pc := 134) (v := 48) hC dX7_item_134 (by decide) ?_
    refine G_isub (pc := 136) hC dX7_item_136 ?_
    refine G_istore_n (pc := 137) (i := 2) (lw := [some (va_rf (some a0)), some (va_rf v1), some (.int (x7 - (48 : Int32))), none, none]) hC dX7_item_137 rfl (Nat.le_of_ble_eq_true rfl) rfl ?_
    refine G_aload_n (pc := 138) (i := 0) hC dX7_item_138 rfl rfl ?_
    refine G_dup (pc := 139) hC dX7_item_139 (rf_cat _) ?_
    refine G_getI (pc := 140) (ci := 6) (C := RX7) (T := TX7) (N := 3) (f := 1) hC rfl in_X7 (Nat.le_of_ble_eq_true rfl) q1759 (fun _ h => h) dX7_item_140 hw (fun x8 hw => ?_)
    refine G_iconst (pc := 143) (v := 1) hC dX7_item_143 (by decide) ?_
    refine G_iadd (pc := 144) hC dX7_item_144 ?_
    refine G_put (pc := 145) (ci := 6) (C := RX7) (T := TX7) (N := 3) (f := 1) tyX7 hC rfl in_X7 tyX7_ok nmX7 (Nat.le_of_ble_eq_true rfl) q1759 (fun _ h => h) rfl rfl rfl dX7_item_145 hw (fun M9 hw => ?_)
    exact g_X7_item_148_r5 hJ hC hQ hin hno  v1 (x7 - (48 : Int32)) M9 hw
theorem m_X7_item_r5 {l : Launch} {g : gT} {F : Nat} {a0 : Nat} {M : hM} {Q : Option Nat → hM → Prop} {X : String → Nat → hM → Prop} (hJ : JOK l g) (hw : wR_X7_item g F 5 a0 M Q X) : MX l g yX7_item (ws_ yX7_item cX7_item 5 (some (.object "java/util/List"))) 52 2269 [va_rf (some a0)] M (PR Q) X := by
  refine MX_of hJ.2.1 (by decide) (cat_r cat_e) (Nat.le_of_ble_eq_true rfl) (fun k hl hg hin hno hQ hC => ?_)
  subst hl hg
  replace hw : w_X7_item (kg k) F (wR_X7_item (kg k) F 4) a0 M Q X := hw
  show GW k 5 M 0 [some (va_rf (some a0)), none, none, none, none] []
  refine G_aload_n (pc := 0) (i := 0) hC dX7_item_0 rfl rfl ?_
  refine G_bipush (pc := 1) (v := 40) hC dX7_item_1 (by decide) ?_
  refine G_bipush (pc := 3) (v := 40) hC dX7_item_3 (by decide) ?_
  obtain ⟨hb, hw⟩ := hw
  refine G_callV (pc := 5) (n := 2) (C := "MergeWorkbench$Reader") (b := a0) (As := [.int (40 : Int32), .int (40 : Int32)]) (rest := []) hC (m_X7_isAt hJ hw) (lw_V q1782 q1784 qs22 q125 q1785) hd_X7_isAt (by decide) (rcv (C := RX7) (T := TX7) (N := 3) hC hb rfl) rfl rfl (st_c cat_e (Nat.le_of_ble_eq_true rfl)) dX7_item_5 (kI fun x2 M1 hw => ?_)
  refine G_if_eq (pc := 8) (tgt := 79) hC dX7_item_8 (by decide) (fun hc => ?_) (fun hc => ?_)
  · replace hw := hw.1 hc
    refine G_aload_n (pc := 79) (i := 0) hC dX7_item_79 rfl rfl ?_
    refine G_getF (pc := 80) (ci := 6) (C := RX7) (T := TX7) (N := 3) (f := 0) hC rfl in_X7 (Nat.le_of_ble_eq_true rfl) q1758 (fun _ h => h) dX7_item_80 hw (fun x3 hw => ?_)
    refine G_aload_n (pc := 83) (i := 0) hC dX7_item_83 rfl rfl ?_
    refine G_getI (pc := 84) (ci := 6) (C := RX7) (T := TX7) (N := 3) (f := 1) hC rfl in_X7 (Nat.le_of_ble_eq_true rfl) q1759 (fun _ h => h) dX7_item_84 hw (fun x4 hw => ?_)
    obtain ⟨b6, rfl, hb, hw⟩ := gThis_e hw
    refine G_callV (pc := 87) (n := 1) (C := "java/lang/String") (b := b6) (As := [.int x4]) (rest := []) hC (J_S_chr hJ hw) (lw_V q1787 q1788 q1789 q92 q1790) hd_J6_charAt (by decide) (rcv (C := RJ6) (T := TJ6) (N := 4) hC hb rfl) rfl rfl (st_c cat_e (Nat.le_of_ble_eq_true rfl)) dX7_item_87 (kI fun x7 M5 hw => ?_)
    refine G_bipush (pc := 90) (v := 97) hC dX7_item_90 (by decide) ?_
    refine G_isub (pc := 92) hC dX7_item_92 ?_
    refine G_callS (pc := 93) (n := 1) (As := [.int (x7 - (97 : Int32))]) (rest := []) hC (J_B_of hJ hw) (lw_S q1830 q992 q106 q993) hd_J19_valueOf.2 (by decide) rfl rfl (st_c cat_e (Nat.le_of_ble_eq_true rfl)) dX7_item_93 (kRf fun x9 M8 hw => ?_)
    refine G_callS (pc := 96) (n := 1) (As := [va_rf x9]) (rest := []) hC (J_C_sing hJ hw) (lw_S q1831 q1832 q113 q1833) hd_J25_singletonList.2 (by decide) rfl rfl (st_c cat_e (Nat.le_of_ble_eq_true rfl)) dX7_item_96 (kRf fun x11 M10 hw => ?_)
    refine G_astore_n (pc := 99) (i := 1) (lw := [some (va_rf (some a0)), some (va_rf x11), none, none, none]) hC dX7_item_99 rfl (Nat.le_of_ble_eq_true rfl) rfl ?_
    refine G_aload_n (pc := 100) (i := 0) hC dX7_item_100 rfl rfl ?_
    refine G_dup (pc := 101) hC dX7_item_101 (rf_cat _) ?_
    refine G_getI (pc := 102) (ci := 6) (C := RX7) (T := TX7) (N := 3) (f := 1) hC rfl in_X7 (Nat.le_of_ble_eq_true rfl) q1759 (fun _ h => h) dX7_item_102 hw (fun x12 hw => ?_)
    refine G_iconst (pc := 105) (v := 1) hC dX7_item_105 (by decide) ?_
    refine G_iadd (pc := 106) hC dX7_item_106 ?_
    refine G_put (pc := 107) (ci := 6) (C := RX7) (T := TX7) (N := 3) (f := 1) tyX7 hC rfl in_X7 tyX7_ok nmX7 (Nat.le_of_ble_eq_true rfl) q1759 (fun _ h => h) rfl rfl rfl dX7_item_107 hw (fun M13 hw => ?_)
    exact g_X7_item_110_r5 hJ hC hQ hin hno  x11 M13 hw
  · replace hw := hw.2 hc
    refine G_aload_n (pc := 11) (i := 0) hC dX7_item_11 rfl rfl ?_
    refine G_dup (pc := 12) hC dX7_item_12 (rf_cat _) ?_
    refine G_getI (pc := 13) (ci := 6) (C := RX7) (T := TX7) (N := 3) (f := 1) hC rfl in_X7 (Nat.le_of_ble_eq_true rfl) q1759 (fun _ h => h) dX7_item_13 hw (fun x14 hw => ?_)
    refine G_iconst (pc := 16) (v := 1) hC dX7_item_16 (by decide) ?_
    refine G_iadd (pc := 17) hC dX7_item_17 ?_
    refine G_put (pc := 18) (ci := 6) (C := RX7) (T := TX7) (N := 3) (f := 1) tyX7 hC rfl in_X7 tyX7_ok nmX7 (Nat.le_of_ble_eq_true rfl) q1759 (fun _ h => h) rfl rfl rfl dX7_item_18 hw (fun M15 hw => ?_)
    refine G_aload_n (pc := 21) (i := 0) hC dX7_item_21 rfl rfl ?_
    refine G_dup (pc := 22) hC dX7_item_22 (rf_cat _) ?_
    refine G_getI (pc := 23) (ci := 6) (C := RX7) (T := TX7) (N := 3) (f := 2) hC rfl in_X7 (Nat.le_of_ble_eq_true rfl) q1760 (fun _ h => h) dX7_item_23 hw (fun x16 hw => ?_)
    refine G_iconst (pc := 26) (v := 1) hC dX7_item_26 (by decide) ?_
    refine G_iadd (pc := 27) hC dX7_item_27 ?_
    refine G_put (pc := 28) (ci := 6) (C := RX7) (T := TX7) (N := 3) (f := 2) tyX7 hC rfl in_X7 tyX7_ok nmX7 (Nat.le_of_ble_eq_true rfl) q1760 (fun _ h => h) rfl rfl rfl dX7_item_28 hw (fun M17 hw => ?_)
    refine G_aload_n (pc := 31) (i := 0) hC dX7_item_31 rfl rfl ?_
    refine G_aload_n (pc := 32) (i := 0) hC dX7_item_32 rfl rfl ?_
    obtain ⟨hb, hw⟩ := hw
    refine G_callV (pc := 33) (n := 0) (C := "MergeWorkbench$Reader") (b := a0) (As := []) (rest := [va_rf (some a0)]) hC (m_X7_isItem hJ hw) (lw_V q1778 q1780 qs21 q125 q1781) hd_X7_isItem (by decide) (rcv (C := RX7) (T := TX7) (N := 3) hC hb rfl) rfl rfl (st_c (cat_r cat_e) (Nat.le_of_ble_eq_true rfl)) dX7_item_33 (kI fun x19 M18 hw => ?_)
    obtain ⟨hb, hw⟩ := hw
    refine GX_callV (pc := 36) (n := 1) (C := "MergeWorkbench$Reader") (b := a0) (As := [.int x19]) (rest := []) hC (m_X7_expect hJ hw) (lw_V q1807 q1809 qs24 q125 q1810) hd_X7_expect (by decide) (rcv (C := RX7) (T := TX7) (N := 3) hC hb rfl) rfl rfl (st_c cat_e (Nat.le_of_ble_eq_true rfl)) dX7_item_36 (fun E q M hx => GX_out hC hno hQ hx) (kU fun M20 hw => ?_)
    refine G_aload_n (pc := 39) (i := 0) hC dX7_item_39 rfl rfl ?_
    obtain ⟨hb, hw⟩ := hw
    refine GX_callV (pc := 40) (n := 0) (C := "MergeWorkbench$Reader") (b := a0) (As := []) (rest := []) hC (m_X7_items_r4 hJ hw) (lw_V q1772 q1774 qs20 q125 q1775) hd_X7_items (by decide) (rcv (C := RX7) (T := TX7) (N := 3) hC hb rfl) rfl rfl (st_c cat_e (Nat.le_of_ble_eq_true rfl)) dX7_item_40 (fun E q M hx => GX_out hC hno hQ hx) (kRf fun x22 M21 hw => ?_)
    refine G_astore_n (pc := 43) (i := 1) (lw := [some (va_rf (some a0)), some (va_rf x22), none, none, none]) hC dX7_item_43 rfl (Nat.le_of_ble_eq_true rfl) rfl ?_
    refine G_aload_n (pc := 44) (i := 0) hC dX7_item_44 rfl rfl ?_
    refine G_aload_n (pc := 45) (i := 0) hC dX7_item_45 rfl rfl ?_
    refine G_bipush (pc := 46) (v := 41) hC dX7_item_46 (by decide) ?_
    refine G_bipush (pc := 48) (v := 41) hC dX7_item_48 (by decide) ?_
    obtain ⟨hb, hw⟩ := hw
    refine G_callV (pc := 50) (n := 2) (C := "MergeWorkbench$Reader") (b := a0) (As := [.int (41 : Int32), .int (41 : Int32)]) (rest := [va_rf (some a0)]) hC (m_X7_isAt hJ hw) (lw_V q1782 q1784 qs22 q125 q1785) hd_X7_isAt (by decide) (rcv (C := RX7) (T := TX7) (N := 3) hC hb rfl) rfl rfl (st_c (cat_r cat_e) (Nat.le_of_ble_eq_true rfl)) dX7_item_50 (kI fun x24 M23 hw => ?_)
    obtain ⟨hb, hw⟩ := hw
    refine GX_callV (pc := 53) (n := 1) (C := "MergeWorkbench$Reader") (b := a0) (As := [.int x24]) (rest := []) hC (m_X7_expect hJ hw) (lw_V q1807 q1809 qs24 q125 q1810) hd_X7_expect (by decide) (rcv (C := RX7) (T := TX7) (N := 3) hC hb rfl) rfl rfl (st_c cat_e (Nat.le_of_ble_eq_true rfl)) dX7_item_53 (fun E q M hx => GX_out hC hno hQ hx) (kU fun M25 hw => ?_)
    refine G_aload_n (pc := 56) (i := 0) hC dX7_item_56 rfl rfl ?_
    refine G_dup (pc := 57) hC dX7_item_57 (rf_cat _) ?_
    refine G_getI (pc := 58) (ci := 6) (C := RX7) (T := TX7) (N := 3) (f := 1) hC rfl in_X7 (Nat.le_of_ble_eq_true rfl) q1759 (fun _ h => h) dX7_item_58 hw (fun x26 hw => ?_)
    refine G_iconst (pc := 61) (v := 1) hC dX7_item_61 (by decide) ?_
    refine G_iadd (pc := 62) hC dX7_item_62 ?_
    refine G_put (pc := 63) (ci := 6) (C := RX7) (T := TX7) (N := 3) (f := 1) tyX7 hC rfl in_X7 tyX7_ok nmX7 (Nat.le_of_ble_eq_true rfl) q1759 (fun _ h => h) rfl rfl rfl dX7_item_63 hw (fun M27 hw => ?_)
    refine G_aload_n (pc := 66) (i := 0) hC dX7_item_66 rfl rfl ?_
    refine G_dup (pc := 67) hC dX7_item_67 (rf_cat _) ?_
    refine G_getI (pc := 68) (ci := 6) (C := RX7) (T := TX7) (N := 3) (f := 2) hC rfl in_X7 (Nat.le_of_ble_eq_true rfl) q1760 (fun _ h => h) dX7_item_68 hw (fun x28 hw => ?_)
    refine G_iconst (pc := 71) (v := 1) hC dX7_item_71 (by decide) ?_
    refine G_isub (pc := 72) hC dX7_item_72 ?_
    refine G_put (pc := 73) (ci := 6) (C := RX7) (T := TX7) (N := 3) (f := 2) tyX7 hC rfl in_X7 tyX7_ok nmX7 (Nat.le_of_ble_eq_true rfl) q1760 (fun _ h => h) rfl rfl rfl dX7_item_73 hw (fun M29 hw => ?_)
    refine G_goto (pc := 76) (tgt := 110) hC dX7_item_76 (by decide) ?_
    exact g_X7_item_110_r5 hJ hC hQ hin hno  x22 M29 hw
theorem g_X7_items_39_r5 {k : kT} {F : Nat} {a0 : Nat} {Q : Option Nat → hM → Prop} {X : String → Nat → hM → Prop} {K8 : (Option Nat) → hM → Prop} (hJ : JOK (kl k) (kg k)) (hC : CX k 3 cX7_items RX7 (some (.object "java/util/List")) 53 2293) (hQ : isQX k (PR Q) X) (hin : (kt k).name = "items") (hno : ∀ x ∈ (kc k).exceptionTable.toList, False) (hK8 : ∀ (v1 : Option Nat) (M : hM), K8 v1 M → GW k 3 M 8 [some (va_rf (some a0)), some (va_rf v1), none] []) : ∀ (v1 : Option Nat) (M : hM), w_X7_items_39 (kg k) F (wR_X7_item (kg k) F 5) a0 Q X K8 v1 M → GW k 3 M 39 [some (va_rf (some a0)), some (va_rf v1), none] [] := by
  intro v1 M hw
  refine G_goto (pc := 39) (tgt := 8) hC dX7_items_39 (by decide) ?_
  exact hK8 v1 M hw
theorem g_X7_items_8_r5 {k : kT} {F : Nat} {a0 : Nat} {Q : Option Nat → hM → Prop} {X : String → Nat → hM → Prop} (hJ : JOK (kl k) (kg k)) (hC : CX k 3 cX7_items RX7 (some (.object "java/util/List")) 53 2293) (hQ : isQX k (PR Q) X) (hin : (kt k).name = "items") (hno : ∀ x ∈ (kc k).exceptionTable.toList, False) : ∀ (n : Nat) (v1 : Option Nat) (M : hM), w_X7_items_8 (kg k) F (wR_X7_item (kg k) F 5) a0 Q X n v1 M → GW k 3 M 8 [some (va_rf (some a0)), some (va_rf v1), none] [] := by
  intro n
  induction n with
  | zero =>
    intro v1 M hw
    exact hw.elim
  | succ n ih =>
    intro v1 M hw
    refine G_aload_n (pc := 8) (i := 0) hC dX7_items_8 rfl rfl ?_
    obtain ⟨hb, hw⟩ := hw
    refine G_callV (pc := 9) (n := 0) (C := "MergeWorkbench$Reader") (b := a0) (As := []) (rest := []) hC (m_X7_isItem hJ hw) (lw_V q1778 q1780 qs21 q125 q1781) hd_X7_isItem (by decide) (rcv (C := RX7) (T := TX7) (N := 3) hC hb rfl) rfl rfl (st_c cat_e (Nat.le_of_ble_eq_true rfl)) dX7_items_9 (kI fun x2 M1 hw => ?_)
    refine G_if_eq (pc := 12) (tgt := 42) hC dX7_items_12 (by decide) (fun hc => ?_) (fun hc => ?_)
    · replace hw := hw.1 hc
      refine G_aload_n (pc := 42) (i := 1) hC dX7_items_42 rfl rfl ?_
      exact G_aretX (pc := 43) hC (Or.inl ⟨_, rfl⟩) hQ dX7_items_43 hw
    · replace hw := hw.2 hc
      refine G_aload_n (pc := 15) (i := 0) hC dX7_items_15 rfl rfl ?_
      obtain ⟨hb, hw⟩ := hw
      refine GX_callV (pc := 16) (n := 0) (C := "MergeWorkbench$Reader") (b := a0) (As := []) (rest := []) hC (m_X7_item_r5 hJ hw) (lw_V q1803 q1805 qs23 q125 q1806) hd_X7_item (by decide) (rcv (C := RX7) (T := TX7) (N := 3) hC hb rfl) rfl rfl (st_c cat_e (Nat.le_of_ble_eq_true rfl)) dX7_items_16 (fun E q M hx => GX_out hC hno hQ hx) (kRf fun x4 M3 hw => ?_)
      refine G_astore_n (pc := 19) (i := 2) (lw := [some (va_rf (some a0)), some (va_rf v1), some (va_rf x4)]) hC dX7_items_19 rfl (Nat.le_of_ble_eq_true rfl) rfl ?_
      refine G_aload_n (pc := 20) (i := 1) hC dX7_items_20 rfl rfl ?_
      obtain ⟨b6, rfl, hb, hw⟩ := gThis_e hw
      refine G_callF (pc := 21) (n := 0) (x := ⟨"java/util/List", "size", "()I"⟩) (C := "java/util/ArrayList") (ci := 21) (T := TJ2) (N := 3) (b := b6) (As := []) (rest := []) hC (J_L_size hJ hw) (lw_F q1846 q889 q363 q87 q364) (nw_in q888 rfl) (nw_in q887 rfl) (nw_in q891 rfl) (nw_in q890 rfl) (nw_in q259 rfl) rfl (rcv (C := RJ2) (T := TJ2) (N := 3) hC hb rfl) (by decide +kernel) (by decide) rfl rfl (st_c cat_e (Nat.le_of_ble_eq_true rfl)) dX7_items_21 (kI fun x7 M5 hw => ?_)
      refine G_bipush (pc := 26) (v := 24) hC dX7_items_26 (by decide) ?_
      refine G_icmp_gt (pc := 28) (tgt := 39) hC dX7_items_28 (by decide) (fun hc => ?_) (fun hc => ?_)
      · replace hw := hw.1 hc
        refine G_loc (lv' := [some (va_rf (some a0)), some (va_rf (some b6)), none]) ⟨Or.inr rfl, Or.inr rfl, Or.inl rfl, trivial⟩ ?_
        exact g_X7_items_39_r5 hJ hC hQ hin hno ih  (some b6) M5 hw
      · replace hw := hw.2 hc
        refine G_aload_n (pc := 31) (i := 1) hC dX7_items_31 rfl rfl ?_
        refine G_aload_n (pc := 32) (i := 2) hC dX7_items_32 rfl rfl ?_
        obtain ⟨hb, hw⟩ := hw
        refine G_callF (pc := 33) (n := 1) (x := ⟨"java/util/List", "addAll", "(Ljava/util/Collection;)Z"⟩) (C := "java/util/ArrayList") (ci := 21) (T := TJ2) (N := 3) (b := b6) (As := [va_rf x4]) (rest := []) hC (J_L_addA hJ hw) (lw_F q1848 q1851 q1853 q87 q1855) (nw_in q1850 rfl) (nw_in q1849 rfl) (nw_in q1854 rfl) (nw_in q1852 rfl) (nw_in q259 rfl) rfl (rcv (C := RJ2) (T := TJ2) (N := 3) hC hb rfl) (by decide +kernel) (by decide) rfl rfl (st_c cat_e (Nat.le_of_ble_eq_true rfl)) dX7_items_33 (kI fun x9 M8 hw => ?_)
        refine G_pop (pc := 38) hC dX7_items_38 rfl ?_
        refine G_loc (lv' := [some (va_rf (some a0)), some (va_rf (some b6)), none]) ⟨Or.inr rfl, Or.inr rfl, Or.inl rfl, trivial⟩ ?_
        exact g_X7_items_39_r5 hJ hC hQ hin hno ih  (some b6) M8 hw
theorem m_X7_items_r5 {l : Launch} {g : gT} {F : Nat} {a0 : Nat} {M : hM} {Q : Option Nat → hM → Prop} {X : String → Nat → hM → Prop} (hJ : JOK l g) (hw : w_X7_items g F (wR_X7_item g F 5) a0 M Q X) : MX l g yX7_items (ws_ yX7_items cX7_items 3 (some (.object "java/util/List"))) 53 2293 [va_rf (some a0)] M (PR Q) X := by
  refine MX_of hJ.2.1 (by decide) (cat_r cat_e) (Nat.le_of_ble_eq_true rfl) (fun k hl hg hin hno hQ hC => ?_)
  subst hl hg
  show GW k 3 M 0 [some (va_rf (some a0)), none, none] []
  refine G_new (pc := 0) (ci := 21) (C := RJ2) (T := TJ2) (N := 3) (fs := fsJ2) tyJ2 hC rfl in_J2 tyJ2_ok q1776 q161 q87 dfJ2 rfl dX7_items_0 hw (fun q1 M2 hw => ?_)
  refine G_dup (pc := 3) hC dX7_items_3 (rf_cat _) ?_
  obtain ⟨hb, hw⟩ := hw
  refine G_callI (pc := 4) (n := 0) (b := q1) (As := []) (rest := [va_rf (some q1)]) hC (J_L_new hJ hw) (lw_meth q164) q87 q1777 q163 rfl hd_J2_init.2 (by decide) rfl rfl (st_c (cat_r cat_e) (Nat.le_of_ble_eq_true rfl)) dX7_items_4 (kU fun M3 hw => ?_)
  refine G_astore_n (pc := 7) (i := 1) (lw := [some (va_rf (some a0)), some (va_rf (some q1)), none]) hC dX7_items_7 rfl (Nat.le_of_ble_eq_true rfl) rfl ?_
  exact g_X7_items_8_r5 hJ hC hQ hin hno _ (some q1) M3 hw
