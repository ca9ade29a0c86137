/-! STAGE 1, printed by wip/D-93524w/genall.py: component, part 2 -/
set_option maxRecDepth 100000
def w_X17_isUnresolved_20 (g : gT) (F : Nat) (a0 : Nat) (Q : Int32 → hM → Prop) (s0 : Int32) (M : hM) : Prop :=
  ((s0 = 0 ∨ s0 = 1) ∧ Q s0 M)
def w_X17_isUnresolved_19 (g : gT) (F : Nat) (a0 : Nat) (Q : Int32 → hM → Prop) (M : hM) : Prop :=
  w_X17_isUnresolved_20 g F a0 Q (0 : Int32) M
def w_X17_isUnresolved (g : gT) (F : Nat) (a0 : Nat) (M : hM) (Q : Int32 → hM → Prop) : Prop :=
  gI M (some a0) 16 0 fun x1 => ((¬ x1 = (4 : Int32) → w_X17_isUnresolved_19 g F a0 Q M) ∧ (x1 = (4 : Int32) → gI M (some a0) 16 4 fun x2 => ((0 ≤ x2 → w_X17_isUnresolved_19 g F a0 Q M) ∧ (¬ (0 ≤ x2) → w_X17_isUnresolved_20 g F a0 Q (1 : Int32) M))))
theorem g_X17_isUnresolved_20 {k : kT} {F : Nat} {a0 : Nat} {Q : Int32 → hM → Prop} (hJ : JOK (kl k) (kg k)) (hC : CX k 1 cX17_isUnresolved RX17 (some .boolean) 1 12) (hQ : isQ k (PI Q)) (hin : (kt k).name = "isUnresolved") : ∀ (s0 : Int32) (M : hM), w_X17_isUnresolved_20 (kg k) F a0 Q s0 M → GW k 1 M 20 [some (va_rf (some a0))] [.int s0] := by
  intro s0 M hw
  obtain ⟨hz, hw⟩ := hw
  exact G_iret (pc := 20) hC (nz_n hz) hQ dX17_isUnresolved_20 hw
theorem g_X17_isUnresolved_19 {k : kT} {F : Nat} {a0 : Nat} {Q : Int32 → hM → Prop} (hJ : JOK (kl k) (kg k)) (hC : CX k 1 cX17_isUnresolved RX17 (some .boolean) 1 12) (hQ : isQ k (PI Q)) (hin : (kt k).name = "isUnresolved") : ∀  (M : hM), w_X17_isUnresolved_19 (kg k) F a0 Q  M → GW k 1 M 19 [some (va_rf (some a0))] [] := by
  intro  M hw
  refine G_iconst (pc := 19) (v := 0) hC dX17_isUnresolved_19 (by decide) ?_
  exact g_X17_isUnresolved_20 hJ hC hQ hin  (0 : Int32) M hw
theorem m_X17_isUnresolved {l : Launch} {g : gT} {F : Nat} {a0 : Nat} {M : hM} {Q : Int32 → hM → Prop} (hJ : JOK l g) (hw : w_X17_isUnresolved g F a0 M Q) : MG l g yX17_isUnresolved (ws_ yX17_isUnresolved cX17_isUnresolved 1 (some .boolean)) 1 12 [va_rf (some a0)] M (PI Q) := by
  refine MG_of hJ.2.1 (by decide) (cat_r cat_e) (Nat.le_of_ble_eq_true rfl) (fun k hl hg hin hQ hC => ?_)
  subst hl hg
  show GW k 1 M 0 [some (va_rf (some a0))] []
  refine G_aload_n (pc := 0) (i := 0) hC dX17_isUnresolved_0 rfl rfl ?_
  refine G_getI (pc := 1) (ci := 16) (C := RX17) (T := TX17) (N := 5) (f := 0) hC rfl in_X17 (Nat.le_of_ble_eq_true rfl) q2910 (fun _ h => h) dX17_isUnresolved_1 hw (fun x1 hw => ?_)
  refine G_iconst (pc := 4) (v := 4) hC dX17_isUnresolved_4 (by decide) ?_
  refine G_icmp_ne (pc := 5) (tgt := 19) hC dX17_isUnresolved_5 (by decide) (fun hc => ?_) (fun hc => ?_)
  · replace hw := hw.1 hc
    exact g_X17_isUnresolved_19 hJ hC hQ hin   M hw
  · replace hw := hw.2 hc
    refine G_aload_n (pc := 8) (i := 0) hC dX17_isUnresolved_8 rfl rfl ?_
    refine G_getI (pc := 9) (ci := 16) (C := RX17) (T := TX17) (N := 5) (f := 4) hC rfl in_X17 (Nat.le_of_ble_eq_true rfl) q2918 (fun _ h => h) dX17_isUnresolved_9 hw (fun x2 hw => ?_)
    refine G_if_ge (pc := 12) (tgt := 19) hC dX17_isUnresolved_12 (by decide) (fun hc => ?_) (fun hc => ?_)
    · replace hw := hw.1 hc
      exact g_X17_isUnresolved_19 hJ hC hQ hin   M hw
    · replace hw := hw.2 hc
      refine G_iconst (pc := 15) (v := 1) hC dX17_isUnresolved_15 (by decide) ?_
      refine G_goto (pc := 16) (tgt := 20) hC dX17_isUnresolved_16 (by decide) ?_
      exact g_X17_isUnresolved_20 hJ hC hQ hin  (1 : Int32) M hw
theorem hd_X17_isUnresolved : yX17_isUnresolved.cls = "MergeWorkbench$Chunk" ∧ yX17_isUnresolved.cls ≠ "java/lang/invoke/MethodHandle" ∧ yX17_isUnresolved.cls ≠ "java/lang/invoke/VarHandle" ∧ (parseMethodDescriptor yX17_isUnresolved.desc).map (fun d => d.parameters.length) = some 0 := by decide +kernel
def w_X16_unresolved_44 (g : gT) (F : Nat) (a0 : Nat) (Q : Int32 → hM → Prop) (K12 : Int32 → (Option Nat) → hM → Prop) (v2 : Option Nat) (s0 : Int32) (s1 : Int32) (M : hM) : Prop :=
  K12 (s0 + s1) v2 M
def w_X16_unresolved_12 (g : gT) (F : Nat) (a0 : Nat) (Q : Int32 → hM → Prop) : Nat → Int32 → (Option Nat) → hM → Prop
  | 0, _, _, _ => False
  | n + 1, v1, v2, M => gThis M v2 26 fun b2 => T_has g b2  M (fun x3 M1 => ((x3 = 0 → Q v1 M1) ∧ (¬ (x3 = 0) → (isC M1 b2 26 ∧ T_next g b2  M1 (fun x5 M4 => ckC M4 x5 16 (gThis M4 x5 16 fun b7 => w_X17_isUnresolved g F b7  M4 (fun x8 M6 => ((x8 = 0 → w_X16_unresolved_44 g F a0 Q (fun v1 v2 M => w_X16_unresolved_12 g F a0 Q n v1 v2 M) (some b2) v1 (0 : Int32) M6) ∧ (¬ (x8 = 0) → w_X16_unresolved_44 g F a0 Q (fun v1 v2 M => w_X16_unresolved_12 g F a0 Q n v1 v2 M) (some b2) v1 (1 : Int32) M6)))))))))
def w_X16_unresolved (g : gT) (F : Nat) (a0 : Nat) (M : hM) (Q : Int32 → hM → Prop) : Prop :=
  gF M (some a0) 15 4 fun x1 => gThis M x1 21 fun b3 => L_itr g b3  M (fun x4 M2 => w_X16_unresolved_12 g F a0 Q F (0 : Int32) x4 M2)
theorem g_X16_unresolved_44 {k : kT} {F : Nat} {a0 : Nat} {Q : Int32 → hM → Prop} {K12 : Int32 → (Option Nat) → hM → Prop} (hJ : JOK (kl k) (kg k)) (hC : CX k 4 cX16_unresolved RX16 (some .int) 41 2022) (hQ : isQ k (PI Q)) (hin : (kt k).name = "unresolved") (hK12 : ∀ (v1 : Int32) (v2 : Option Nat) (M : hM), K12 v1 v2 M → GW k 4 M 12 [some (va_rf (some a0)), some (.int v1), some (va_rf v2), none] []) : ∀ (v2 : Option Nat) (s0 : Int32) (s1 : Int32) (M : hM), w_X16_unresolved_44 (kg k) F a0 Q K12 v2 s0 s1 M → GW k 4 M 44 [some (va_rf (some a0)), none, some (va_rf v2), none] [.int s1, .int s0] := by
  intro v2 s0 s1 M hw
  refine G_iadd (pc := 44) hC dX16_unresolved_44 ?_
  refine G_istore_n (pc := 45) (i := 1) (lw := [some (va_rf (some a0)), some (.int (s0 + s1)), some (va_rf v2), none]) hC dX16_unresolved_45 rfl (Nat.le_of_ble_eq_true rfl) rfl ?_
  refine G_goto (pc := 46) (tgt := 12) hC dX16_unresolved_46 (by decide) ?_
  exact hK12 (s0 + s1) v2 M hw
theorem g_X16_unresolved_12 {k : kT} {F : Nat} {a0 : Nat} {Q : Int32 → hM → Prop} (hJ : JOK (kl k) (kg k)) (hC : CX k 4 cX16_unresolved RX16 (some .int) 41 2022) (hQ : isQ k (PI Q)) (hin : (kt k).name = "unresolved") : ∀ (n : Nat) (v1 : Int32) (v2 : Option Nat) (M : hM), w_X16_unresolved_12 (kg k) F a0 Q n v1 v2 M → GW k 4 M 12 [some (va_rf (some a0)), some (.int v1), some (va_rf v2), none] [] := by
  intro n
  induction n with
  | zero =>
    intro v1 v2 M hw
    exact hw.elim
  | succ n ih =>
    intro v1 v2 M hw
    refine G_aload_n (pc := 12) (i := 2) hC dX16_unresolved_12 rfl rfl ?_
    obtain ⟨b2, rfl, hb, hw⟩ := gThis_e hw
    refine G_callF (pc := 13) (n := 0) (x := ⟨"java/util/Iterator", "hasNext", "()Z"⟩) (C := "java/util/ArrayList$Itr") (ci := 26) (T := TJ24) (N := 4) (b := b2) (As := []) (rest := []) hC (J_T_has hJ hw) (lw_F q3051 q909 q911 q112 q913) (nw_in q878 rfl) (nw_in q877 rfl) (nw_in q912 rfl) (nw_in q910 rfl) (nw_in q908 rfl) rfl (rcv (C := RJ24) (T := TJ24) (N := 4) hC hb rfl) (by decide +kernel) (by decide) rfl rfl (st_c cat_e (Nat.le_of_ble_eq_true rfl)) dX16_unresolved_13 (kI fun x3 M1 hw => ?_)
    refine G_if_eq (pc := 18) (tgt := 49) hC dX16_unresolved_18 (by decide) (fun hc => ?_) (fun hc => ?_)
    · replace hw := hw.1 hc
      refine G_iload_n (pc := 49) (i := 1) hC dX16_unresolved_49 rfl rfl ?_
      exact G_iret (pc := 50) hC rfl hQ dX16_unresolved_50 hw
    · replace hw := hw.2 hc
      refine G_aload_n (pc := 21) (i := 2) hC dX16_unresolved_21 rfl rfl ?_
      obtain ⟨hb, hw⟩ := hw
      refine G_callF (pc := 22) (n := 0) (x := ⟨"java/util/Iterator", "next", "()Ljava/lang/Object;"⟩) (C := "java/util/ArrayList$Itr") (ci := 26) (T := TJ24) (N := 4) (b := b2) (As := []) (rest := []) hC (J_T_next hJ hw) (lw_F q3053 q1119 q1121 q112 q1123) (nw_in q937 rfl) (nw_in q936 rfl) (nw_in q1122 rfl) (nw_in q1120 rfl) (nw_in q908 rfl) rfl (rcv (C := RJ24) (T := TJ24) (N := 4) hC hb rfl) (by decide +kernel) (by decide) rfl rfl (st_c cat_e (Nat.le_of_ble_eq_true rfl)) dX16_unresolved_22 (kRf fun x5 M4 hw => ?_)
      obtain ⟨hb, hw⟩ := hw
      refine G_castCS (pc := 27) (C := RX17) (T := TX17) (N := 5) hC rfl q2904 hb dX16_unresolved_27 ?_
      refine G_astore_n (pc := 30) (i := 3) (lw := [some (va_rf (some a0)), some (.int v1), some (va_rf (some b2)), some (va_rf x5)]) hC dX16_unresolved_30 rfl (Nat.le_of_ble_eq_true rfl) rfl ?_
      refine G_iload_n (pc := 31) (i := 1) hC dX16_unresolved_31 rfl rfl ?_
      refine G_aload_n (pc := 32) (i := 3) hC dX16_unresolved_32 rfl rfl ?_
      obtain ⟨b7, rfl, hb, hw⟩ := gThis_e hw
      refine G_callV (pc := 33) (n := 0) (C := "MergeWorkbench$Chunk") (b := b7) (As := []) (rest := [.int v1]) hC (m_X17_isUnresolved hJ hw) (lw_V q3054 q3055 q3056 q147 q3057) hd_X17_isUnresolved (by decide) (rcv (C := RX17) (T := TX17) (N := 5) hC hb rfl) rfl rfl (st_c (cat_i cat_e) (Nat.le_of_ble_eq_true rfl)) dX16_unresolved_33 (kI fun x8 M6 hw => ?_)
      refine G_if_eq (pc := 36) (tgt := 43) hC dX16_unresolved_36 (by decide) (fun hc => ?_) (fun hc => ?_)
      · replace hw := hw.1 hc
        refine G_iconst (pc := 43) (v := 0) hC dX16_unresolved_43 (by decide) ?_
        refine G_loc (lv' := [some (va_rf (some a0)), none, some (va_rf (some b2)), none]) ⟨Or.inr rfl, Or.inl rfl, Or.inr rfl, Or.inl rfl, trivial⟩ ?_
        exact g_X16_unresolved_44 hJ hC hQ hin ih  (some b2) v1 (0 : Int32) M6 hw
      · replace hw := hw.2 hc
        refine G_iconst (pc := 39) (v := 1) hC dX16_unresolved_39 (by decide) ?_
        refine G_goto (pc := 40) (tgt := 44) hC dX16_unresolved_40 (by decide) ?_
        refine G_loc (lv' := [some (va_rf (some a0)), none, some (va_rf (some b2)), none]) ⟨Or.inr rfl, Or.inl rfl, Or.inr rfl, Or.inl rfl, trivial⟩ ?_
        exact g_X16_unresolved_44 hJ hC hQ hin ih  (some b2) v1 (1 : Int32) M6 hw
theorem m_X16_unresolved {l : Launch} {g : gT} {F : Nat} {a0 : Nat} {M : hM} {Q : Int32 → hM → Prop} (hJ : JOK l g) (hw : w_X16_unresolved g F a0 M Q) : MG l g yX16_unresolved (ws_ yX16_unresolved cX16_unresolved 4 (some .int)) 41 2022 [va_rf (some a0)] M (PI Q) := by
  refine MG_of hJ.2.1 (by decide) (cat_r cat_e) (Nat.le_of_ble_eq_true rfl) (fun k hl hg hin hQ hC => ?_)
  subst hl hg
  show GW k 4 M 0 [some (va_rf (some a0)), none, none, none] []
  refine G_iconst (pc := 0) (v := 0) hC dX16_unresolved_0 (by decide) ?_
  refine G_istore_n (pc := 1) (i := 1) (lw := [some (va_rf (some a0)), some (.int (0 : Int32)), none, none]) hC dX16_unresolved_1 rfl (Nat.le_of_ble_eq_true rfl) rfl ?_
  refine G_aload_n (pc := 2) (i := 0) hC dX16_unresolved_2 rfl rfl ?_
  refine G_getF (pc := 3) (ci := 15) (C := RX16) (T := TX16) (N := 5) (f := 4) hC rfl in_X16 (Nat.le_of_ble_eq_true rfl) q2981 (fun _ h => h) dX16_unresolved_3 hw (fun x1 hw => ?_)
  obtain ⟨b3, rfl, hb, hw⟩ := gThis_e hw
  refine G_callF (pc := 6) (n := 0) (x := ⟨"java/util/List", "iterator", "()Ljava/util/Iterator;"⟩) (C := "java/util/ArrayList") (ci := 21) (T := TJ2) (N := 3) (b := b3) (As := []) (rest := []) hC (J_L_itr hJ hw) (lw_F q3049 q1193 q803 q87 q804) (nw_in q1192 rfl) (nw_in q1191 rfl) (nw_in q1195 rfl) (nw_in q1194 rfl) (nw_in q259 rfl) rfl (rcv (C := RJ2) (T := TJ2) (N := 3) hC hb rfl) (by decide +kernel) (by decide) rfl rfl (st_c cat_e (Nat.le_of_ble_eq_true rfl)) dX16_unresolved_6 (kRf fun x4 M2 hw => ?_)
  refine G_astore_n (pc := 11) (i := 2) (lw := [some (va_rf (some a0)), some (.int (0 : Int32)), some (va_rf x4), none]) hC dX16_unresolved_11 rfl (Nat.le_of_ble_eq_true rfl) rfl ?_
  exact g_X16_unresolved_12 hJ hC hQ hin _ (0 : Int32) x4 M2 hw
theorem hd_X11_addTo : yX11_addTo.cls = "MergeWorkbench$Part" ∧ yX11_addTo.cls ≠ "java/lang/invoke/MethodHandle" ∧ yX11_addTo.cls ≠ "java/lang/invoke/VarHandle" ∧ (parseMethodDescriptor yX11_addTo.desc).map (fun d => d.parameters.length) = some 1 := by decide +kernel
theorem sw_out9_3 {x : Int32} (h0 : ¬ x = (-1 : Int32)) (h1 : ¬ x = (0 : Int32)) (h2 : ¬ x = (1 : Int32)) (h3 : ¬ x = (2 : Int32)) (h4 : ¬ x = (3 : Int32)) : x.toInt < -1 ∨ 3 < x.toInt := by
  rcases Int.lt_or_le x.toInt (-1) with hy | hy
  · exact Or.inl hy
  · rcases Int.lt_or_le (3) x.toInt with hz | hz
    · exact Or.inr hz
    · exfalso
      rcases (show x.toInt = -1 ∨ x.toInt = 0 ∨ x.toInt = 1 ∨ x.toInt = 2 ∨ x.toInt = 3 by omega) with e | e | e | e | e
      · exact h0 (sw_toInt e (by decide))
      · exact h1 (sw_toInt e (by decide))
      · exact h2 (sw_toInt e (by decide))
      · exact h3 (sw_toInt e (by decide))
      · exact h4 (sw_toInt e (by decide))
def w_X17_addResult_194 (g : gT) (F : Nat) (a0 : Nat) (p1 : Option Nat) (Q : hM → Prop) (M : hM) : Prop :=
  Q M
def w_X17_addResult_27 (g : gT) (F : Nat) (a0 : Nat) (p1 : Option Nat) (Q : hM → Prop) (s0 : Option Nat) (M : hM) : Prop :=
  gThis M s0 10 fun b2 => w_X11_addTo g F b2 p1 M (fun M1 => Q M1)
def w_X17_addResult (g : gT) (F : Nat) (a0 : Nat) (p1 : Option Nat) (M : hM) (Q : hM → Prop) : Prop :=
  gI M (some a0) 16 0 fun x1 => ((x1 = (4 : Int32) → gI M (some a0) 16 4 fun x2 => ((x2 = (-1 : Int32) → B_of g (-1 : Int32) M (fun x4 M3 => gThis M3 p1 21 fun b6 => L_add g b6 x4 M3 (fun x7 M5 => gF M5 (some a0) 16 2 fun x8 => gThis M5 x8 10 fun b10 => w_X11_addTo g F b10 (some b6) M5 (fun M9 => B_of g (-2 : Int32) M9 (fun x12 M11 => (isC M11 b6 21 ∧ L_add g b6 x12 M11 (fun x14 M13 => gF M13 (some a0) 16 3 fun x15 => gThis M13 x15 10 fun b17 => w_X11_addTo g F b17 (some b6) M13 (fun M16 => B_of g (-3 : Int32) M16 (fun x19 M18 => (isC M18 b6 21 ∧ L_add g b6 x19 M18 (fun x21 M20 => w_X17_addResult_194 g F a0 p1 Q M20))))))))))) ∧ (x2 = (0 : Int32) → gF M (some a0) 16 2 fun x22 => gThis M x22 10 fun b24 => w_X11_addTo g F b24 p1 M (fun M23 => w_X17_addResult_194 g F a0 p1 Q M23)) ∧ (x2 = (1 : Int32) → gF M (some a0) 16 3 fun x25 => gThis M x25 10 fun b27 => w_X11_addTo g F b27 p1 M (fun M26 => w_X17_addResult_194 g F a0 p1 Q M26)) ∧ (x2 = (2 : Int32) → gF M (some a0) 16 2 fun x28 => gThis M x28 10 fun b30 => w_X11_addTo g F b30 p1 M (fun M29 => gF M29 (some a0) 16 3 fun x31 => gThis M29 x31 10 fun b33 => w_X11_addTo g F b33 p1 M29 (fun M32 => w_X17_addResult_194 g F a0 p1 Q M32))) ∧ (x2 = (3 : Int32) → gF M (some a0) 16 3 fun x34 => gThis M x34 10 fun b36 => w_X11_addTo g F b36 p1 M (fun M35 => gF M35 (some a0) 16 2 fun x37 => gThis M35 x37 10 fun b39 => w_X11_addTo g F b39 p1 M35 (fun M38 => w_X17_addResult_194 g F a0 p1 Q M38))) ∧ (¬ x2 = (-1 : Int32) → ¬ x2 = (0 : Int32) → ¬ x2 = (1 : Int32) → ¬ x2 = (2 : Int32) → ¬ x2 = (3 : Int32) → gF M (some a0) 16 1 fun x40 => gThis M x40 10 fun b42 => w_X11_addTo g F b42 p1 M (fun M41 => w_X17_addResult_194 g F a0 p1 Q M41)))) ∧ (¬ (x1 = (4 : Int32)) → gI M (some a0) 16 0 fun x43 => ((¬ x43 = (2 : Int32) → gF M (some a0) 16 2 fun x44 => w_X17_addResult_27 g F a0 p1 Q x44 M) ∧ (x43 = (2 : Int32) → gF M (some a0) 16 3 fun x45 => w_X17_addResult_27 g F a0 p1 Q x45 M))))
theorem g_X17_addResult_194 {k : kT} {F : Nat} {a0 : Nat} {p1 : Option Nat} {Q : hM → Prop} (hJ : JOK (kl k) (kg k)) (hC : CX k 2 cX17_addResult RX17 none 42 2043) (hQ : isQ k (PU Q)) (hin : (kt k).name = "addResult") : ∀  (M : hM), w_X17_addResult_194 (kg k) F a0 p1 Q  M → GW k 2 M 194 [some (va_rf (some a0)), some (va_rf p1)] [] := by
  intro  M hw
  exact G_ret (pc := 194) hC hQ dX17_addResult_194 hw
theorem g_X17_addResult_27 {k : kT} {F : Nat} {a0 : Nat} {p1 : Option Nat} {Q : hM → Prop} (hJ : JOK (kl k) (kg k)) (hC : CX k 2 cX17_addResult RX17 none 42 2043) (hQ : isQ k (PU Q)) (hin : (kt k).name = "addResult") : ∀ (s0 : Option Nat) (M : hM), w_X17_addResult_27 (kg k) F a0 p1 Q s0 M → GW k 2 M 27 [some (va_rf (some a0)), some (va_rf p1)] [va_rf s0] := by
  intro s0 M hw
  refine G_aload_n (pc := 27) (i := 1) hC dX17_addResult_27 rfl rfl ?_
  obtain ⟨b2, rfl, hb, hw⟩ := gThis_e hw
  refine G_callV (pc := 28) (n := 1) (C := "MergeWorkbench$Part") (b := b2) (As := [va_rf p1]) (rest := []) hC (m_X11_addTo hJ hw) (lw_V q3028 q3029 q3030 q139 q3031) hd_X11_addTo (by decide) (rcv (C := RX11) (T := TX11) (N := 3) hC hb rfl) rfl rfl (st_c cat_e (Nat.le_of_ble_eq_true rfl)) dX17_addResult_28 (kU fun M1 hw => ?_)
  exact G_ret (pc := 31) hC hQ dX17_addResult_31 hw
theorem m_X17_addResult {l : Launch} {g : gT} {F : Nat} {a0 : Nat} {p1 : Option Nat} {M : hM} {Q : hM → Prop} (hJ : JOK l g) (hw : w_X17_addResult g F a0 p1 M Q) : MG l g yX17_addResult (ws_ yX17_addResult cX17_addResult 2 none) 42 2043 [va_rf (some a0), va_rf p1] M (PU Q) := by
  refine MG_of hJ.2.1 (by decide) (cat_r (cat_r cat_e)) (Nat.le_of_ble_eq_true rfl) (fun k hl hg hin hQ hC => ?_)
  subst hl hg
  show GW k 2 M 0 [some (va_rf (some a0)), some (va_rf p1)] []
  refine G_aload_n (pc := 0) (i := 0) hC dX17_addResult_0 rfl rfl ?_
  refine G_getI (pc := 1) (ci := 16) (C := RX17) (T := TX17) (N := 5) (f := 0) hC rfl in_X17 (Nat.le_of_ble_eq_true rfl) q2910 (fun _ h => h) dX17_addResult_1 hw (fun x1 hw => ?_)
  refine G_iconst (pc := 4) (v := 4) hC dX17_addResult_4 (by decide) ?_
  refine G_icmp_eq (pc := 5) (tgt := 32) hC dX17_addResult_5 (by decide) (fun hc => ?_) (fun hc => ?_)
  · replace hw := hw.1 hc
    refine G_aload_n (pc := 32) (i := 0) hC dX17_addResult_32 rfl rfl ?_
    refine G_getI (pc := 33) (ci := 16) (C := RX17) (T := TX17) (N := 5) (f := 4) hC rfl in_X17 (Nat.le_of_ble_eq_true rfl) q2918 (fun _ h => h) dX17_addResult_33 hw (fun x2 hw => ?_)
    by_cases hc0 : x2 = (-1 : Int32)
    · replace hw := hw.1 hc0
      refine G_tableIn (pc := 36) (off := 36) (tgt := 72) hC dX17_addResult_36 (by rw [hc0]; decide) (by rw [hc0]; decide) (by rw [hc0]; rfl) (by decide) ?_
      refine G_aload_n (pc := 72) (i := 1) hC dX17_addResult_72 rfl rfl ?_
      refine G_iconst (pc := 73) (v := -1) hC dX17_addResult_73 (by decide) ?_
      refine G_callS (pc := 74) (n := 1) (As := [.int (-1 : Int32)]) (rest := [va_rf p1]) hC (J_B_of hJ hw) (lw_S q3034 q992 q106 q993) hd_J19_valueOf.2 (by decide) rfl rfl (st_c (cat_r cat_e) (Nat.le_of_ble_eq_true rfl)) dX17_addResult_74 (kRf fun x4 M3 hw => ?_)
      obtain ⟨b6, rfl, hb, hw⟩ := gThis_e hw
      refine G_callF (pc := 77) (n := 1) (x := ⟨"java/util/List", "add", "(Ljava/lang/Object;)Z"⟩) (C := "java/util/ArrayList") (ci := 21) (T := TJ2) (N := 3) (b := b6) (As := [va_rf x4]) (rest := []) hC (J_L_add hJ hw) (lw_F q3036 q260 q262 q87 q264) (nw_in q258 rfl) (nw_in q257 rfl) (nw_in q263 rfl) (nw_in q261 rfl) (nw_in q259 rfl) rfl (rcv (C := RJ2) (T := TJ2) (N := 3) hC hb rfl) (by decide +kernel) (by decide) rfl rfl (st_c cat_e (Nat.le_of_ble_eq_true rfl)) dX17_addResult_77 (kI fun x7 M5 hw => ?_)
      refine G_pop (pc := 82) hC dX17_addResult_82 rfl ?_
      refine G_aload_n (pc := 83) (i := 0) hC dX17_addResult_83 rfl rfl ?_
      refine G_getF (pc := 84) (ci := 16) (C := RX17) (T := TX17) (N := 5) (f := 2) hC rfl in_X17 (Nat.le_of_ble_eq_true rfl) q2914 (fun _ h => h) dX17_addResult_84 hw (fun x8 hw => ?_)
      refine G_aload_n (pc := 87) (i := 1) hC dX17_addResult_87 rfl rfl ?_
      obtain ⟨b10, rfl, hb, hw⟩ := gThis_e hw
      refine G_callV (pc := 88) (n := 1) (C := "MergeWorkbench$Part") (b := b10) (As := [va_rf (some b6)]) (rest := []) hC (m_X11_addTo hJ hw) (lw_V q3028 q3029 q3030 q139 q3031) hd_X11_addTo (by decide) (rcv (C := RX11) (T := TX11) (N := 3) hC hb rfl) rfl rfl (st_c cat_e (Nat.le_of_ble_eq_true rfl)) dX17_addResult_88 (kU fun M9 hw => ?_)
      refine G_aload_n (pc := 91) (i := 1) hC dX17_addResult_91 rfl rfl ?_
      refine G_bipush (pc := 92) (v := -2) hC dX17_addResult_92 (by decide) ?_
      refine G_callS (pc := 94) (n := 1) (As := [.int (-2 : Int32)]) (rest := [va_rf (some b6)]) hC (J_B_of hJ hw) (lw_S q3034 q992 q106 q993) hd_J19_valueOf.2 (by decide) rfl rfl (st_c (cat_r cat_e) (Nat.le_of_ble_eq_true rfl)) dX17_addResult_94 (kRf fun x12 M11 hw => ?_)
      obtain ⟨hb, hw⟩ := hw
      refine G_callF (pc := 97) (n := 1) (x := ⟨"java/util/List", "add", "(Ljava/lang/Object;)Z"⟩) (C := "java/util/ArrayList") (ci := 21) (T := TJ2) (N := 3) (b := b6) (As := [va_rf x12]) (rest := []) hC (J_L_add hJ hw) (lw_F q3036 q260 q262 q87 q264) (nw_in q258 rfl) (nw_in q257 rfl) (nw_in q263 rfl) (nw_in q261 rfl) (nw_in q259 rfl) rfl (rcv (C := RJ2) (T := TJ2) (N := 3) hC hb rfl) (by decide +kernel) (by decide) rfl rfl (st_c cat_e (Nat.le_of_ble_eq_true rfl)) dX17_addResult_97 (kI fun x14 M13 hw => ?_)
      refine G_pop (pc := 102) hC dX17_addResult_102 rfl ?_
      refine G_aload_n (pc := 103) (i := 0) hC dX17_addResult_103 rfl rfl ?_
      refine G_getF (pc := 104) (ci := 16) (C := RX17) (T := TX17) (N := 5) (f := 3) hC rfl in_X17 (Nat.le_of_ble_eq_true rfl) q2916 (fun _ h => h) dX17_addResult_104 hw (fun x15 hw => ?_)
      refine G_aload_n (pc := 107) (i := 1) hC dX17_addResult_107 rfl rfl ?_
      obtain ⟨b17, rfl, hb, hw⟩ := gThis_e hw
      refine G_callV (pc := 108) (n := 1) (C := "MergeWorkbench$Part") (b := b17) (As := [va_rf (some b6)]) (rest := []) hC (m_X11_addTo hJ hw) (lw_V q3028 q3029 q3030 q139 q3031) hd_X11_addTo (by decide) (rcv (C := RX11) (T := TX11) (N := 3) hC hb rfl) rfl rfl (st_c cat_e (Nat.le_of_ble_eq_true rfl)) dX17_addResult_108 (kU fun M16 hw => ?_)
      refine G_aload_n (pc := 111) (i := 1) hC dX17_addResult_111 rfl rfl ?_
      refine G_bipush (pc := 112) (v := -3) hC dX17_addResult_112 (by decide) ?_
      refine G_callS (pc := 114) (n := 1) (As := [.int (-3 : Int32)]) (rest := [va_rf (some b6)]) hC (J_B_of hJ hw) (lw_S q3034 q992 q106 q993) hd_J19_valueOf.2 (by decide) rfl rfl (st_c (cat_r cat_e) (Nat.le_of_ble_eq_true rfl)) dX17_addResult_114 (kRf fun x19 M18 hw => ?_)
      obtain ⟨hb, hw⟩ := hw
      refine G_callF (pc := 117) (n := 1) (x := ⟨"java/util/List", "add", "(Ljava/lang/Object;)Z"⟩) (C := "java/util/ArrayList") (ci := 21) (T := TJ2) (N := 3) (b := b6) (As := [va_rf x19]) (rest := []) hC (J_L_add hJ hw) (lw_F q3036 q260 q262 q87 q264) (nw_in q258 rfl) (nw_in q257 rfl) (nw_in q263 rfl) (nw_in q261 rfl) (nw_in q259 rfl) rfl (rcv (C := RJ2) (T := TJ2) (N := 3) hC hb rfl) (by decide +kernel) (by decide) rfl rfl (st_c cat_e (Nat.le_of_ble_eq_true rfl)) dX17_addResult_117 (kI fun x21 M20 hw => ?_)
      refine G_pop (pc := 122) hC dX17_addResult_122 rfl ?_
      refine G_goto (pc := 123) (tgt := 194) hC dX17_addResult_123 (by decide) ?_
      exact g_X17_addResult_194 hJ hC hQ hin   M20 hw
    by_cases hc1 : x2 = (0 : Int32)
    · replace hw := hw.2.1 hc1
      refine G_tableIn (pc := 36) (off := 90) (tgt := 126) hC dX17_addResult_36 (by rw [hc1]; decide) (by rw [hc1]; decide) (by rw [hc1]; rfl) (by decide) ?_
      refine G_aload_n (pc := 126) (i := 0) hC dX17_addResult_126 rfl rfl ?_
      refine G_getF (pc := 127) (ci := 16) (C := RX17) (T := TX17) (N := 5) (f := 2) hC rfl in_X17 (Nat.le_of_ble_eq_true rfl) q2914 (fun _ h => h) dX17_addResult_127 hw (fun x22 hw => ?_)
      refine G_aload_n (pc := 130) (i := 1) hC dX17_addResult_130 rfl rfl ?_
      obtain ⟨b24, rfl, hb, hw⟩ := gThis_e hw
      refine G_callV (pc := 131) (n := 1) (C := "MergeWorkbench$Part") (b := b24) (As := [va_rf p1]) (rest := []) hC (m_X11_addTo hJ hw) (lw_V q3028 q3029 q3030 q139 q3031) hd_X11_addTo (by decide) (rcv (C := RX11) (T := TX11) (N := 3) hC hb rfl) rfl rfl (st_c cat_e (Nat.le_of_ble_eq_true rfl)) dX17_addResult_131 (kU fun M23 hw => ?_)
      refine G_goto (pc := 134) (tgt := 194) hC dX17_addResult_134 (by decide) ?_
      exact g_X17_addResult_194 hJ hC hQ hin   M23 hw
    by_cases hc2 : x2 = (1 : Int32)
    · replace hw := hw.2.2.1 hc2
      refine G_tableIn (pc := 36) (off := 101) (tgt := 137) hC dX17_addResult_36 (by rw [hc2]; decide) (by rw [hc2]; decide) (by rw [hc2]; rfl) (by decide) ?_
      refine G_aload_n (pc := 137) (i := 0) hC dX17_addResult_137 rfl rfl ?_
      refine G_getF (pc := 138) (ci := 16) (C := RX17) (T := TX17) (N := 5) (f := 3) hC rfl in_X17 (Nat.le_of_ble_eq_true rfl) q2916 (fun _ h => h) dX17_addResult_138 hw (fun x25 hw => ?_)
      refine G_aload_n (pc := 141) (i := 1) hC dX17_addResult_141 rfl rfl ?_
      obtain ⟨b27, rfl, hb, hw⟩ := gThis_e hw
      refine G_callV (pc := 142) (n := 1) (C := "MergeWorkbench$Part") (b := b27) (As := [va_rf p1]) (rest := []) hC (m_X11_addTo hJ hw) (lw_V q3028 q3029 q3030 q139 q3031) hd_X11_addTo (by decide) (rcv (C := RX11) (T := TX11) (N := 3) hC hb rfl) rfl rfl (st_c cat_e (Nat.le_of_ble_eq_true rfl)) dX17_addResult_142 (kU fun M26 hw => ?_)
      refine G_goto (pc := 145) (tgt := 194) hC dX17_addResult_145 (by decide) ?_
      exact g_X17_addResult_194 hJ hC hQ hin   M26 hw
    by_cases hc3 : x2 = (2 : Int32)
    · replace hw := hw.2.2.2.1 hc3
      refine G_tableIn (pc := 36) (off := 112) (tgt := 148) hC dX17_addResult_36 (by rw [hc3]; decide) (by rw [hc3]; decide) (by rw [hc3]; rfl) (by decide) ?_
      refine G_aload_n (pc := 148) (i := 0) hC dX17_addResult_148 rfl rfl ?_
      refine G_getF (pc := 149) (ci := 16) (C := RX17) (T := TX17) (N := 5) (f := 2) hC rfl in_X17 (Nat.le_of_ble_eq_true rfl) q2914 (fun _ h => h) dX17_addResult_149 hw (fun x28 hw => ?_)
      refine G_aload_n (pc := 152) (i := 1) hC dX17_addResult_152 rfl rfl ?_
      obtain ⟨b30, rfl, hb, hw⟩ := gThis_e hw
      refine G_callV (pc := 153) (n := 1) (C := "MergeWorkbench$Part") (b := b30) (As := [va_rf p1]) (rest := []) hC (m_X11_addTo hJ hw) (lw_V q3028 q3029 q3030 q139 q3031) hd_X11_addTo (by decide) (rcv (C := RX11) (T := TX11) (N := 3) hC hb rfl) rfl rfl (st_c cat_e (Nat.le_of_ble_eq_true rfl)) dX17_addResult_153 (kU fun M29 hw => ?_)
      refine G_aload_n (pc := 156) (i := 0) hC dX17_addResult_156 rfl rfl ?_
      refine G_getF (pc := 157) (ci := 16) (C := RX17) (T := TX17) (N := 5) (f := 3) hC rfl in_X17 (Nat.le_of_ble_eq_true rfl) q2916 (fun _ h => h) dX17_addResult_157 hw (fun x31 hw => ?_)
      refine G_aload_n (pc := 160) (i := 1) hC dX17_addResult_160 rfl rfl ?_
      obtain ⟨b33, rfl, hb, hw⟩ := gThis_e hw
      refine G_callV (pc := 161) (n := 1) (C := "MergeWorkbench$Part") (b := b33) (As := [va_rf p1]) (rest := []) hC (m_X11_addTo hJ hw) (lw_V q3028 q3029 q3030 q139 q3031) hd_X11_addTo (by decide) (rcv (C := RX11) (T := TX11) (N := 3) hC hb rfl) rfl rfl (st_c cat_e (Nat.le_of_ble_eq_true rfl)) dX17_addResult_161 (kU fun M32 hw => ?_)
      refine G_goto (pc := 164) (tgt := 194) hC dX17_addResult_164 (by decide) ?_
      exact g_X17_addResult_194 hJ hC hQ hin   M32 hw
    by_cases hc4 : x2 = (3 : Int32)
    · replace hw := hw.2.2.2.2.1 hc4
      refine G_tableIn (pc := 36) (off := 131) (tgt := 167) hC dX17_addResult_36 (by rw [hc4]; decide) (by rw [hc4]; decide) (by rw [hc4]; rfl) (by decide) ?_
      refine G_aload_n (pc := 167) (i := 0) hC dX17_addResult_167 rfl rfl ?_
      refine G_getF (pc := 168) (ci := 16) (C := RX17) (T := TX17) (N := 5) (f := 3) hC rfl in_X17 (Nat.le_of_ble_eq_true rfl) q2916 (fun _ h => h) dX17_addResult_168 hw (fun x34 hw => ?_)
      refine G_aload_n (pc := 171) (i := 1) hC dX17_addResult_171 rfl rfl ?_
      obtain ⟨b36, rfl, hb, hw⟩ := gThis_e hw
      refine G_callV (pc := 172) (n := 1) (C := "MergeWorkbench$Part") (b := b36) (As := [va_rf p1]) (rest := []) hC (m_X11_addTo hJ hw) (lw_V q3028 q3029 q3030 q139 q3031) hd_X11_addTo (by decide) (rcv (C := RX11) (T := TX11) (N := 3) hC hb rfl) rfl rfl (st_c cat_e (Nat.le_of_ble_eq_true rfl)) dX17_addResult_172 (kU fun M35 hw => ?_)
      refine G_aload_n (pc := 175) (i := 0) hC dX17_addResult_175 rfl rfl ?_
      refine G_getF (pc := 176) (ci := 16) (C := RX17) (T := TX17) (N := 5) (f := 2) hC rfl in_X17 (Nat.le_of_ble_eq_true rfl) q2914 (fun _ h => h) dX17_addResult_176 hw (fun x37 hw => ?_)
      refine G_aload_n (pc := 179) (i := 1) hC dX17_addResult_179 rfl rfl ?_
      obtain ⟨b39, rfl, hb, hw⟩ := gThis_e hw
      refine G_callV (pc := 180) (n := 1) (C := "MergeWorkbench$Part") (b := b39) (As := [va_rf p1]) (rest := []) hC (m_X11_addTo hJ hw) (lw_V q3028 q3029 q3030 q139 q3031) hd_X11_addTo (by decide) (rcv (C := RX11) (T := TX11) (N := 3) hC hb rfl) rfl rfl (st_c cat_e (Nat.le_of_ble_eq_true rfl)) dX17_addResult_180 (kU fun M38 hw => ?_)
      refine G_goto (pc := 183) (tgt := 194) hC dX17_addResult_183 (by decide) ?_
      exact g_X17_addResult_194 hJ hC hQ hin   M38 hw
    replace hw := hw.2.2.2.2.2 hc0 hc1 hc2 hc3 hc4
    refine G_tableOut (pc := 36) (tgt := 186) hC dX17_addResult_36 (sw_out9_3 hc0 hc1 hc2 hc3 hc4) (by decide) ?_
    refine G_aload_n (pc := 186) (i := 0) hC dX17_addResult_186 rfl rfl ?_
    refine G_getF (pc := 187) (ci := 16) (C := RX17) (T := TX17) (N := 5) (f := 1) hC rfl in_X17 (Nat.le_of_ble_eq_true rfl) q2912 (fun _ h => h) dX17_addResult_187 hw (fun x40 hw => ?_)
    refine G_aload_n (pc := 190) (i := 1) hC dX17_addResult_190 rfl rfl ?_
    obtain ⟨b42, rfl, hb, hw⟩ := gThis_e hw
    refine G_callV (pc := 191) (n := 1) (C := "MergeWorkbench$Part") (b := b42) (As := [va_rf p1]) (rest := []) hC (m_X11_addTo hJ hw) (lw_V q3028 q3029 q3030 q139 q3031) hd_X11_addTo (by decide) (rcv (C := RX11) (T := TX11) (N := 3) hC hb rfl) rfl rfl (st_c cat_e (Nat.le_of_ble_eq_true rfl)) dX17_addResult_191 (kU fun M41 hw => ?_)
    exact g_X17_addResult_194 hJ hC hQ hin   M41 hw
  · replace hw := hw.2 hc
    refine G_aload_n (pc := 8) (i := 0) hC dX17_addResult_8 rfl rfl ?_
    refine G_getI (pc := 9) (ci := 16) (C := RX17) (T := TX17) (N := 5) (f := 0) hC rfl in_X17 (Nat.le_of_ble_eq_true rfl) q2910 (fun _ h => h) dX17_addResult_9 hw (fun x43 hw => ?_)
    refine G_iconst (pc := 12) (v := 2) hC dX17_addResult_12 (by decide) ?_
    refine G_icmp_ne (pc := 13) (tgt := 23) hC dX17_addResult_13 (by decide) (fun hc => ?_) (fun hc => ?_)
    · replace hw := hw.1 hc
      refine G_aload_n (pc := 23) (i := 0) hC dX17_addResult_23 rfl rfl ?_
      refine G_getF (pc := 24) (ci := 16) (C := RX17) (T := TX17) (N := 5) (f := 2) hC rfl in_X17 (Nat.le_of_ble_eq_true rfl) q2914 (fun _ h => h) dX17_addResult_24 hw (fun x44 hw => ?_)
      exact g_X17_addResult_27 hJ hC hQ hin  x44 M hw
    · replace hw := hw.2 hc
      refine G_aload_n (pc := 16) (i := 0) hC dX17_addResult_16 rfl rfl ?_
      refine G_getF (pc := 17) (ci := 16) (C := RX17) (T := TX17) (N := 5) (f := 3) hC rfl in_X17 (Nat.le_of_ble_eq_true rfl) q2916 (fun _ h => h) dX17_addResult_17 hw (fun x45 hw => ?_)
      refine G_goto (pc := 20) (tgt := 27) hC dX17_addResult_20 (by decide) ?_
      exact g_X17_addResult_27 hJ hC hQ hin  x45 M hw
theorem hd_X17_addResult : yX17_addResult.cls = "MergeWorkbench$Chunk" ∧ yX17_addResult.cls ≠ "java/lang/invoke/MethodHandle" ∧ yX17_addResult.cls ≠ "java/lang/invoke/VarHandle" ∧ (parseMethodDescriptor yX17_addResult.desc).map (fun d => d.parameters.length) = some 1 := by decide +kernel
def w_X16_result_18 (g : gT) (F : Nat) (a0 : Nat) (Q : Option Nat → hM → Prop) : Nat → (Option Nat) → (Option Nat) → hM → Prop
  | 0, _, _, _ => False
  | n + 1, v1, v2, M => gThis M v2 26 fun b2 => T_has g b2  M (fun x3 M1 => ((x3 = 0 → Q v1 M1) ∧ (¬ (x3 = 0) → (isC M1 b2 26 ∧ T_next g b2  M1 (fun x5 M4 => ckC M4 x5 16 (gThis M4 x5 16 fun b7 => w_X17_addResult g F b7 v1 M4 (fun M6 => w_X16_result_18 g F a0 Q n v1 (some b2) M6)))))))
def w_X16_result (g : gT) (F : Nat) (a0 : Nat) (M : hM) (Q : Option Nat → hM → Prop) : Prop :=
  nW M 21 fsJ2 fun q1 M2 => (isC M2 q1 21 ∧ L_new g q1  M2 (fun M3 => gF M3 (some a0) 15 3 fun x4 => gThis M3 x4 21 fun b6 => L_itr g b6  M3 (fun x7 M5 => w_X16_result_18 g F a0 Q F (some q1) x7 M5)))
theorem g_X16_result_18 {k : kT} {F : Nat} {a0 : Nat} {Q : Option Nat → hM → Prop} (hJ : JOK (kl k) (kg k)) (hC : CX k 4 cX16_result RX16 (some (.object "java/util/List")) 43 2064) (hQ : isQ k (PR Q)) (hin : (kt k).name = "result") : ∀ (n : Nat) (v1 : Option Nat) (v2 : Option Nat) (M : hM), w_X16_result_18 (kg k) F a0 Q n v1 v2 M → GW k 4 M 18 [some (va_rf (some a0)), some (va_rf v1), some (va_rf v2), none] [] := by
  intro n
  induction n with
  | zero =>
    intro v1 v2 M hw
    exact hw.elim
  | succ n ih =>
    intro v1 v2 M hw
    refine G_aload_n (pc := 18) (i := 2) hC dX16_result_18 rfl rfl ?_
    obtain ⟨b2, rfl, hb, hw⟩ := gThis_e hw
    refine G_callF (pc := 19) (n := 0) (x := ⟨"java/util/Iterator", "hasNext", "()Z"⟩) (C := "java/util/ArrayList$Itr") (ci := 26) (T := TJ24) (N := 4) (b := b2) (As := []) (rest := []) hC (J_T_has hJ hw) (lw_F q3051 q909 q911 q112 q913) (nw_in q878 rfl) (nw_in q877 rfl) (nw_in q912 rfl) (nw_in q910 rfl) (nw_in q908 rfl) rfl (rcv (C := RJ24) (T := TJ24) (N := 4) hC hb rfl) (by decide +kernel) (by decide) rfl rfl (st_c cat_e (Nat.le_of_ble_eq_true rfl)) dX16_result_19 (kI fun x3 M1 hw => ?_)
    refine G_if_eq (pc := 24) (tgt := 45) hC dX16_result_24 (by decide) (fun hc => ?_) (fun hc => ?_)
    · replace hw := hw.1 hc
      refine G_aload_n (pc := 45) (i := 1) hC dX16_result_45 rfl rfl ?_
      exact G_aret (pc := 46) hC (Or.inl ⟨_, rfl⟩) hQ dX16_result_46 hw
    · replace hw := hw.2 hc
      refine G_aload_n (pc := 27) (i := 2) hC dX16_result_27 rfl rfl ?_
      obtain ⟨hb, hw⟩ := hw
      refine G_callF (pc := 28) (n := 0) (x := ⟨"java/util/Iterator", "next", "()Ljava/lang/Object;"⟩) (C := "java/util/ArrayList$Itr") (ci := 26) (T := TJ24) (N := 4) (b := b2) (As := []) (rest := []) hC (J_T_next hJ hw) (lw_F q3053 q1119 q1121 q112 q1123) (nw_in q937 rfl) (nw_in q936 rfl) (nw_in q1122 rfl) (nw_in q1120 rfl) (nw_in q908 rfl) rfl (rcv (C := RJ24) (T := TJ24) (N := 4) hC hb rfl) (by decide +kernel) (by decide) rfl rfl (st_c cat_e (Nat.le_of_ble_eq_true rfl)) dX16_result_28 (kRf fun x5 M4 hw => ?_)
      obtain ⟨hb, hw⟩ := hw
      refine G_castCS (pc := 33) (C := RX17) (T := TX17) (N := 5) hC rfl q2904 hb dX16_result_33 ?_
      refine G_astore_n (pc := 36) (i := 3) (lw := [some (va_rf (some a0)), some (va_rf v1), some (va_rf (some b2)), some (va_rf x5)]) hC dX16_result_36 rfl (Nat.le_of_ble_eq_true rfl) rfl ?_
      refine G_aload_n (pc := 37) (i := 3) hC dX16_result_37 rfl rfl ?_
      refine G_aload_n (pc := 38) (i := 1) hC dX16_result_38 rfl rfl ?_
      obtain ⟨b7, rfl, hb, hw⟩ := gThis_e hw
      refine G_callV (pc := 39) (n := 1) (C := "MergeWorkbench$Chunk") (b := b7) (As := [va_rf v1]) (rest := []) hC (m_X17_addResult hJ hw) (lw_V q3069 q3025 q3026 q147 q3027) hd_X17_addResult (by decide) (rcv (C := RX17) (T := TX17) (N := 5) hC hb rfl) rfl rfl (st_c cat_e (Nat.le_of_ble_eq_true rfl)) dX16_result_39 (kU fun M6 hw => ?_)
      refine G_goto (pc := 42) (tgt := 18) hC dX16_result_42 (by decide) ?_
      refine G_loc (lv' := [some (va_rf (some a0)), some (va_rf v1), some (va_rf (some b2)), none]) ⟨Or.inr rfl, Or.inr rfl, Or.inr rfl, Or.inl rfl, trivial⟩ ?_
      exact ih v1 (some b2) M6 hw
theorem m_X16_result {l : Launch} {g : gT} {F : Nat} {a0 : Nat} {M : hM} {Q : Option Nat → hM → Prop} (hJ : JOK l g) (hw : w_X16_result g F a0 M Q) : MG l g yX16_result (ws_ yX16_result cX16_result 4 (some (.object "java/util/List"))) 43 2064 [va_rf (some a0)] M (PR Q) := by
  refine MG_of hJ.2.1 (by decide) (cat_r cat_e) (Nat.le_of_ble_eq_true rfl) (fun k hl hg hin hQ hC => ?_)
  subst hl hg
  show GW k 4 M 0 [some (va_rf (some a0)), none, none, none] []
  refine G_new (pc := 0) (ci := 21) (C := RJ2) (T := TJ2) (N := 3) (fs := fsJ2) tyJ2 hC rfl in_J2 tyJ2_ok q2792 q161 q87 dfJ2 rfl dX16_result_0 hw (fun q1 M2 hw => ?_)
  refine G_dup (pc := 3) hC dX16_result_3 (rf_cat _) ?_
  obtain ⟨hb, hw⟩ := hw
  refine G_callI (pc := 4) (n := 0) (b := q1) (As := []) (rest := [va_rf (some q1)]) hC (J_L_new hJ hw) (lw_meth q164) q87 q2793 q163 rfl hd_J2_init.2 (by decide) rfl rfl (st_c (cat_r cat_e) (Nat.le_of_ble_eq_true rfl)) dX16_result_4 (kU fun M3 hw => ?_)
  refine G_astore_n (pc := 7) (i := 1) (lw := [some (va_rf (some a0)), some (va_rf (some q1)), none, none]) hC dX16_result_7 rfl (Nat.le_of_ble_eq_true rfl) rfl ?_
  refine G_aload_n (pc := 8) (i := 0) hC dX16_result_8 rfl rfl ?_
  refine G_getF (pc := 9) (ci := 15) (C := RX16) (T := TX16) (N := 5) (f := 3) hC rfl in_X16 (Nat.le_of_ble_eq_true rfl) q2979 (fun _ h => h) dX16_result_9 hw (fun x4 hw => ?_)
  obtain ⟨b6, rfl, hb, hw⟩ := gThis_e hw
  refine G_callF (pc := 12) (n := 0) (x := ⟨"java/util/List", "iterator", "()Ljava/util/Iterator;"⟩) (C := "java/util/ArrayList") (ci := 21) (T := TJ2) (N := 3) (b := b6) (As := []) (rest := []) hC (J_L_itr hJ hw) (lw_F q3049 q1193 q803 q87 q804) (nw_in q1192 rfl) (nw_in q1191 rfl) (nw_in q1195 rfl) (nw_in q1194 rfl) (nw_in q259 rfl) rfl (rcv (C := RJ2) (T := TJ2) (N := 3) hC hb rfl) (by decide +kernel) (by decide) rfl rfl (st_c cat_e (Nat.le_of_ble_eq_true rfl)) dX16_result_12 (kRf fun x7 M5 hw => ?_)
  refine G_astore_n (pc := 17) (i := 2) (lw := [some (va_rf (some a0)), some (va_rf (some q1)), some (va_rf x7), none]) hC dX16_result_17 rfl (Nat.le_of_ble_eq_true rfl) rfl ?_
  exact g_X16_result_18 hJ hC hQ hin _ (some q1) x7 M5 hw
theorem sw_out0_5 {x : Int32} (h0 : ¬ x = (0 : Int32)) (h1 : ¬ x = (1 : Int32)) (h2 : ¬ x = (2 : Int32)) (h3 : ¬ x = (3 : Int32)) (h4 : ¬ x = (4 : Int32)) (h5 : ¬ x = (5 : Int32)) : x.toInt < 0 ∨ 5 < x.toInt := by
  rcases Int.lt_or_le x.toInt (0) with hy | hy
  · exact Or.inl hy
  · rcases Int.lt_or_le (5) x.toInt with hz | hz
    · exact Or.inr hz
    · exfalso
      rcases (show x.toInt = 0 ∨ x.toInt = 1 ∨ x.toInt = 2 ∨ x.toInt = 3 ∨ x.toInt = 4 ∨ x.toInt = 5 by omega) with e | e | e | e | e | e
      · exact h0 (sw_toInt e (by decide))
      · exact h1 (sw_toInt e (by decide))
      · exact h2 (sw_toInt e (by decide))
      · exact h3 (sw_toInt e (by decide))
      · exact h4 (sw_toInt e (by decide))
      · exact h5 (sw_toInt e (by decide))
def w_X17_property (g : gT) (F : Nat) (a0 : Nat) (p1 : Int32) (M : hM) (Q : Int32 → hM → Prop) : Prop :=
  ((p1 = (0 : Int32) → gI M (some a0) 16 0 fun x1 => Q x1 M) ∧ (p1 = (1 : Int32) → gF M (some a0) 16 1 fun x2 => gI M x2 10 1 fun x3 => Q x3 M) ∧ (p1 = (2 : Int32) → gF M (some a0) 16 1 fun x4 => gI M x4 10 2 fun x5 => Q x5 M) ∧ (p1 = (3 : Int32) → gF M (some a0) 16 2 fun x6 => gI M x6 10 1 fun x7 => Q x7 M) ∧ (p1 = (4 : Int32) → gF M (some a0) 16 2 fun x8 => gI M x8 10 2 fun x9 => Q x9 M) ∧ (p1 = (5 : Int32) → gF M (some a0) 16 3 fun x10 => gI M x10 10 1 fun x11 => Q x11 M) ∧ (¬ p1 = (0 : Int32) → ¬ p1 = (1 : Int32) → ¬ p1 = (2 : Int32) → ¬ p1 = (3 : Int32) → ¬ p1 = (4 : Int32) → ¬ p1 = (5 : Int32) → gF M (some a0) 16 3 fun x12 => gI M x12 10 2 fun x13 => Q x13 M))
theorem m_X17_property {l : Launch} {g : gT} {F : Nat} {a0 : Nat} {p1 : Int32} {M : hM} {Q : Int32 → hM → Prop} (hJ : JOK l g) (hw : w_X17_property g F a0 p1 M Q) : MG l g yX17_property (ws_ yX17_property cX17_property 2 (some .int)) 1 12 [va_rf (some a0), .int p1] M (PI Q) := by
  refine MG_of hJ.2.1 (by decide) (cat_r (cat_i cat_e)) (Nat.le_of_ble_eq_true rfl) (fun k hl hg hin hQ hC => ?_)
  subst hl hg
  show GW k 2 M 0 [some (va_rf (some a0)), some (.int p1)] []
  refine G_iload_n (pc := 0) (i := 1) hC dX17_property_0 rfl rfl ?_
  by_cases hc0 : p1 = (0 : Int32)
  · replace hw := hw.1 hc0
    refine G_tableIn (pc := 1) (off := 39) (tgt := 40) hC dX17_property_1 (by rw [hc0]; decide) (by rw [hc0]; decide) (by rw [hc0]; rfl) (by decide) ?_
    refine G_aload_n (pc := 40) (i := 0) hC dX17_property_40 rfl rfl ?_
    refine G_getI (pc := 41) (ci := 16) (C := RX17) (T := TX17) (N := 5) (f := 0) hC rfl in_X17 (Nat.le_of_ble_eq_true rfl) q2910 (fun _ h => h) dX17_property_41 hw (fun x1 hw => ?_)
    exact G_iret (pc := 44) hC rfl hQ dX17_property_44 hw
  by_cases hc1 : p1 = (1 : Int32)
  · replace hw := hw.2.1 hc1
    refine G_tableIn (pc := 1) (off := 44) (tgt := 45) hC dX17_property_1 (by rw [hc1]; decide) (by rw [hc1]; decide) (by rw [hc1]; rfl) (by decide) ?_
    refine G_aload_n (pc := 45) (i := 0) hC dX17_property_45 rfl rfl ?_
    refine G_getF (pc := 46) (ci := 16) (C := RX17) (T := TX17) (N := 5) (f := 1) hC rfl in_X17 (Nat.le_of_ble_eq_true rfl) q2912 (fun _ h => h) dX17_property_46 hw (fun x2 hw => ?_)
    refine G_getIN (pc := 49) (ci := 10) (C := RX11) (T := TX11) (N := 3) (f := 1) hC rfl in_X11 (Nat.le_of_ble_eq_true rfl) (nw_in q2378 rfl) (fun _ h => h) dX17_property_49 hw (fun x3 hw => ?_)
    exact G_iret (pc := 52) hC rfl hQ dX17_property_52 hw
  by_cases hc2 : p1 = (2 : Int32)
  · replace hw := hw.2.2.1 hc2
    refine G_tableIn (pc := 1) (off := 52) (tgt := 53) hC dX17_property_1 (by rw [hc2]; decide) (by rw [hc2]; decide) (by rw [hc2]; rfl) (by decide) ?_
    refine G_aload_n (pc := 53) (i := 0) hC dX17_property_53 rfl rfl ?_
    refine G_getF (pc := 54) (ci := 16) (C := RX17) (T := TX17) (N := 5) (f := 1) hC rfl in_X17 (Nat.le_of_ble_eq_true rfl) q2912 (fun _ h => h) dX17_property_54 hw (fun x4 hw => ?_)
    refine G_getIN (pc := 57) (ci := 10) (C := RX11) (T := TX11) (N := 3) (f := 2) hC rfl in_X11 (Nat.le_of_ble_eq_true rfl) (nw_in q2386 rfl) (fun _ h => h) dX17_property_57 hw (fun x5 hw => ?_)
    exact G_iret (pc := 60) hC rfl hQ dX17_property_60 hw
  by_cases hc3 : p1 = (3 : Int32)
  · replace hw := hw.2.2.2.1 hc3
    refine G_tableIn (pc := 1) (off := 60) (tgt := 61) hC dX17_property_1 (by rw [hc3]; decide) (by rw [hc3]; decide) (by rw [hc3]; rfl) (by decide) ?_
    refine G_aload_n (pc := 61) (i := 0) hC dX17_property_61 rfl rfl ?_
    refine G_getF (pc := 62) (ci := 16) (C := RX17) (T := TX17) (N := 5) (f := 2) hC rfl in_X17 (Nat.le_of_ble_eq_true rfl) q2914 (fun _ h => h) dX17_property_62 hw (fun x6 hw => ?_)
    refine G_getIN (pc := 65) (ci := 10) (C := RX11) (T := TX11) (N := 3) (f := 1) hC rfl in_X11 (Nat.le_of_ble_eq_true rfl) (nw_in q2378 rfl) (fun _ h => h) dX17_property_65 hw (fun x7 hw => ?_)
    exact G_iret (pc := 68) hC rfl hQ dX17_property_68 hw
  by_cases hc4 : p1 = (4 : Int32)
  · replace hw := hw.2.2.2.2.1 hc4
    refine G_tableIn (pc := 1) (off := 68) (tgt := 69) hC dX17_property_1 (by rw [hc4]; decide) (by rw [hc4]; decide) (by rw [hc4]; rfl) (by decide) ?_
    refine G_aload_n (pc := 69) (i := 0) hC dX17_property_69 rfl rfl ?_
    refine G_getF (pc := 70) (ci := 16) (C := RX17) (T := TX17) (N := 5) (f := 2) hC rfl in_X17 (Nat.le_of_ble_eq_true rfl) q2914 (fun _ h => h) dX17_property_70 hw (fun x8 hw => ?_)
    refine G_getIN (pc := 73) (ci := 10) (C := RX11) (T := TX11) (N := 3) (f := 2) hC rfl in_X11 (Nat.le_of_ble_eq_true rfl) (nw_in q2386 rfl) (fun _ h => h) dX17_property_73 hw (fun x9 hw => ?_)
    exact G_iret (pc := 76) hC rfl hQ dX17_property_76 hw
  by_cases hc5 : p1 = (5 : Int32)
  · replace hw := hw.2.2.2.2.2.1 hc5
    refine G_tableIn (pc := 1) (off := 76) (tgt := 77) hC dX17_property_1 (by rw [hc5]; decide) (by rw [hc5]; decide) (by rw [hc5]; rfl) (by decide) ?_
    refine G_aload_n (pc := 77) (i := 0) hC dX17_property_77 rfl rfl ?_
    refine G_getF (pc := 78) (ci := 16) (C := RX17) (T := TX17) (N := 5) (f := 3) hC rfl in_X17 (Nat.le_of_ble_eq_true rfl) q2916 (fun _ h => h) dX17_property_78 hw (fun x10 hw => ?_)
    refine G_getIN (pc := 81) (ci := 10) (C := RX11) (T := TX11) (N := 3) (f := 1) hC rfl in_X11 (Nat.le_of_ble_eq_true rfl) (nw_in q2378 rfl) (fun _ h => h) dX17_property_81 hw (fun x11 hw => ?_)
    exact G_iret (pc := 84) hC rfl hQ dX17_property_84 hw
  replace hw := hw.2.2.2.2.2.2 hc0 hc1 hc2 hc3 hc4 hc5
  refine G_tableOut (pc := 1) (tgt := 85) hC dX17_property_1 (sw_out0_5 hc0 hc1 hc2 hc3 hc4 hc5) (by decide) ?_
  refine G_aload_n (pc := 85) (i := 0) hC dX17_property_85 rfl rfl ?_
  refine G_getF (pc := 86) (ci := 16) (C := RX17) (T := TX17) (N := 5) (f := 3) hC rfl in_X17 (Nat.le_of_ble_eq_true rfl) q2916 (fun _ h => h) dX17_property_86 hw (fun x12 hw => ?_)
  refine G_getIN (pc := 89) (ci := 10) (C := RX11) (T := TX11) (N := 3) (f := 2) hC rfl in_X11 (Nat.le_of_ble_eq_true rfl) (nw_in q2386 rfl) (fun _ h => h) dX17_property_89 hw (fun x13 hw => ?_)
  exact G_iret (pc := 92) hC rfl hQ dX17_property_92 hw
def w_X19_init (g : gT) (F : Nat) (a0 : Nat) (p1 : Option Nat) (p2 : Option Nat) (p3 : Int32) (p4 : Int32) (M : hM) (Q : hM → Prop) : Prop :=
  pV M (some a0) 18 0 (va_rf p1) fun M1 => pV M1 (some a0) 18 1 (va_rf p2) fun M2 => pV M2 (some a0) 18 2 (.int p3) fun M3 => pV M3 (some a0) 18 3 (.int p4) fun M4 => Q M4
theorem m_X19_init {l : Launch} {g : gT} {F : Nat} {a0 : Nat} {p1 : Option Nat} {p2 : Option Nat} {p3 : Int32} {p4 : Int32} {M : hM} {Q : hM → Prop} (hJ : JOK l g) (hw : w_X19_init g F a0 p1 p2 p3 p4 M Q) : MG l g yX19_init (ws_ yX19_init cX19_init 5 none) 1 20 [va_rf (some a0), va_rf p1, va_rf p2, .int p3, .int p4] M (PU Q) := by
  refine MG_of hJ.2.1 (by decide) (cat_r (cat_r (cat_r (cat_i (cat_i cat_e))))) (Nat.le_of_ble_eq_true rfl) (fun k hl hg hin hQ hC => ?_)
  subst hl hg
  show GW k 5 M 0 [some (va_rf (some a0)), some (va_rf p1), some (va_rf p2), some (.int p3), some (.int p4)] []
  refine G_aload_n (pc := 0) (i := 0) hC dX19_init_0 rfl rfl ?_
  refine G_objInit (pc := 1) hC q3118 q158 q159 rfl rfl (st_c cat_e (Nat.le_of_ble_eq_true rfl)) dX19_init_1 ?_
  refine G_aload_n (pc := 4) (i := 0) hC dX19_init_4 rfl rfl ?_
  refine G_aload_n (pc := 5) (i := 1) hC dX19_init_5 rfl rfl ?_
  refine G_putF (pc := 6) (ci := 18) (C := RX19) (T := TX19) (N := 4) (f := 0) tyX19 hC rfl in_X19 tyX19_ok nmX19 (Nat.le_of_ble_eq_true rfl) q3119 (fun _ h => h) rfl hin rfl (nR_o _ _) (fR_o _ _) dX19_init_6 hw (fun M1 hw => ?_)
  refine G_aload_n (pc := 9) (i := 0) hC dX19_init_9 rfl rfl ?_
  refine G_aload_n (pc := 10) (i := 2) hC dX19_init_10 rfl rfl ?_
  refine G_putF (pc := 11) (ci := 18) (C := RX19) (T := TX19) (N := 4) (f := 1) tyX19 hC rfl in_X19 tyX19_ok nmX19 (Nat.le_of_ble_eq_true rfl) q3121 (fun _ h => h) rfl hin rfl (nR_o _ _) (fR_o _ _) dX19_init_11 hw (fun M2 hw => ?_)
  refine G_aload_n (pc := 14) (i := 0) hC dX19_init_14 rfl rfl ?_
  refine G_iload_n (pc := 15) (i := 3) hC dX19_init_15 rfl rfl ?_
  refine G_putF (pc := 16) (ci := 18) (C := RX19) (T := TX19) (N := 4) (f := 2) tyX19 hC rfl in_X19 tyX19_ok nmX19 (Nat.le_of_ble_eq_true rfl) q3123 (fun _ h => h) rfl hin rfl rfl rfl dX19_init_16 hw (fun M3 hw => ?_)
  refine G_aload_n (pc := 19) (i := 0) hC dX19_init_19 rfl rfl ?_
  refine G_iload (pc := 20) (i := 4) hC dX19_init_20 rfl ?_
  refine G_putF (pc := 22) (ci := 18) (C := RX19) (T := TX19) (N := 4) (f := 3) tyX19 hC rfl in_X19 tyX19_ok nmX19 (Nat.le_of_ble_eq_true rfl) q3124 (fun _ h => h) rfl hin rfl rfl rfl dX19_init_22 hw (fun M4 hw => ?_)
  exact G_ret (pc := 25) hC hQ dX19_init_25 hw
theorem hd_X19_init : yX19_init.cls = "MergeWorkbench$Hunk" ∧ yX19_init.cls ≠ "java/lang/invoke/MethodHandle" ∧ yX19_init.cls ≠ "java/lang/invoke/VarHandle" ∧ (parseMethodDescriptor yX19_init.desc).map (fun d => d.parameters.length) = some 4 := by decide +kernel
def w_X18_hunk (g : gT) (F : Nat) (p0 : Option Nat) (p1 : Option Nat) (p2 : Option Nat) (p3 : Int32) (M : hM) (Q : Option Nat → hM → Prop) : Prop :=
  gF M p1 9 0 fun x1 => gI M x1 10 1 fun x2 => gF M p0 8 0 fun x3 => gThis M x3 21 fun b5 => L_size g b5  M (fun x6 M4 => gF M4 p2 9 0 fun x7 => gI M4 x7 10 2 fun x8 => nW M4 10 fsX11 fun q9 M10 => gF M10 p0 8 0 fun x11 => gF M10 p1 9 0 fun x12 => gI M10 x12 10 1 fun x13 => gF M10 p2 9 0 fun x14 => gI M10 x14 10 2 fun x15 => (isC M10 q9 10 ∧ w_X11_init g F q9 x11 (x13 - (if x2 < p3 then x2 else p3)) (x15 + (if (x6 - x8) < p3 then (x6 - x8) else p3)) M10 (fun M16 => nW M16 10 fsX11 fun q17 M18 => gF M18 p0 8 1 fun x19 => gF M18 p1 9 1 fun x20 => gI M18 x20 10 1 fun x21 => gF M18 p2 9 1 fun x22 => gI M18 x22 10 2 fun x23 => (isC M18 q17 10 ∧ w_X11_init g F q17 x19 (x21 - (if x2 < p3 then x2 else p3)) (x23 + (if (x6 - x8) < p3 then (x6 - x8) else p3)) M18 (fun M24 => nW M24 18 fsX19 fun q25 M26 => (isC M26 q25 18 ∧ w_X19_init g F q25 (some q9) (some q17) (if x2 < p3 then x2 else p3) (if (x6 - x8) < p3 then (x6 - x8) else p3) M26 (fun M27 => Q (some q25) M27)))))))
theorem m_X18_hunk {l : Launch} {g : gT} {F : Nat} {p0 : Option Nat} {p1 : Option Nat} {p2 : Option Nat} {p3 : Int32} {M : hM} {Q : Option Nat → hM → Prop} (hJ : JOK l g) (hw : w_X18_hunk g F p0 p1 p2 p3 M Q) : MG l g yX18_hunk (ws_ yX18_hunk cX18_hunk 8 (some (.object "MergeWorkbench$Hunk"))) 41 2020 [va_rf p0, va_rf p1, va_rf p2, .int p3] M (PR Q) := by
  refine MG_of hJ.2.1 (by decide) (cat_r (cat_r (cat_r (cat_i cat_e)))) (Nat.le_of_ble_eq_true rfl) (fun k hl hg hin hQ hC => ?_)
  subst hl hg
  show GW k 8 M 0 [some (va_rf p0), some (va_rf p1), some (va_rf p2), some (.int p3), none, none, none, none] []
  refine G_iload_n (pc := 0) (i := 3) hC dX18_hunk_0 rfl rfl ?_
  refine G_aload_n (pc := 1) (i := 1) hC dX18_hunk_1 rfl rfl ?_
  refine G_getFN (pc := 2) (ci := 9) (C := RX10) (T := TX10) (N := 2) (f := 0) hC rfl in_X10 (Nat.le_of_ble_eq_true rfl) (nw_in q2399 rfl) (fun _ h => h) dX18_hunk_2 hw (fun x1 hw => ?_)
  refine G_getIN (pc := 5) (ci := 10) (C := RX11) (T := TX11) (N := 3) (f := 1) hC rfl in_X11 (Nat.le_of_ble_eq_true rfl) (nw_in q2375 rfl) (fun _ h => h) dX18_hunk_5 hw (fun x2 hw => ?_)
  refine G_min (pc := 8) hC q3110 q346 q95 q347 rfl rfl (st_c cat_e (Nat.le_of_ble_eq_true rfl)) dX18_hunk_8 ?_
  refine G_istore (pc := 11) (i := 4) (lw := [some (va_rf p0), some (va_rf p1), some (va_rf p2), some (.int p3), some (.int (if x2 < p3 then x2 else p3)), none, none, none]) hC dX18_hunk_11 (Nat.le_of_ble_eq_true rfl) rfl ?_
  refine G_iload_n (pc := 13) (i := 3) hC dX18_hunk_13 rfl rfl ?_
  refine G_aload_n (pc := 14) (i := 0) hC dX18_hunk_14 rfl rfl ?_
  refine G_getFN (pc := 15) (ci := 8) (C := RX9) (T := TX9) (N := 6) (f := 0) hC rfl in_X9 (Nat.le_of_ble_eq_true rfl) (nw_in q2416 rfl) (fun _ h => h) dX18_hunk_15 hw (fun x3 hw => ?_)
  obtain ⟨b5, rfl, hb, hw⟩ := gThis_e hw
  refine G_callF (pc := 18) (n := 0) (x := ⟨"java/util/List", "size", "()I"⟩) (C := "java/util/ArrayList") (ci := 21) (T := TJ2) (N := 3) (b := b5) (As := []) (rest := [.int p3]) hC (J_L_size hJ hw) (lw_F q3103 q889 q363 q87 q364) (nw_in q888 rfl) (nw_in q887 rfl) (nw_in q891 rfl) (nw_in q890 rfl) (nw_in q259 rfl) rfl (rcv (C := RJ2) (T := TJ2) (N := 3) hC hb rfl) (by decide +kernel) (by decide) rfl rfl (st_c (cat_i cat_e) (Nat.le_of_ble_eq_true rfl)) dX18_hunk_18 (kI fun x6 M4 hw => ?_)
  refine G_aload_n (pc := 23) (i := 2) hC dX18_hunk_23 rfl rfl ?_
  refine G_getFN (pc := 24) (ci := 9) (C := RX10) (T := TX10) (N := 2) (f := 0) hC rfl in_X10 (Nat.le_of_ble_eq_true rfl) (nw_in q2399 rfl) (fun _ h => h) dX18_hunk_24 hw (fun x7 hw => ?_)
  refine G_getIN (pc := 27) (ci := 10) (C := RX11) (T := TX11) (N := 3) (f := 2) hC rfl in_X11 (Nat.le_of_ble_eq_true rfl) (nw_in q2383 rfl) (fun _ h => h) dX18_hunk_27 hw (fun x8 hw => ?_)
  refine G_isub (pc := 30) hC dX18_hunk_30 ?_
  refine G_min (pc := 31) hC q3110 q346 q95 q347 rfl rfl (st_c cat_e (Nat.le_of_ble_eq_true rfl)) dX18_hunk_31 ?_
  refine G_istore (pc := 34) (i := 5) (lw := [some (va_rf p0), some (va_rf p1), some (va_rf p2), some (.int p3), some (.int (if x2 < p3 then x2 else p3)), some (.int (if (x6 - x8) < p3 then (x6 - x8) else p3)), none, none]) hC dX18_hunk_34 (Nat.le_of_ble_eq_true rfl) rfl ?_
  refine G_new (pc := 36) (ci := 10) (C := RX11) (T := TX11) (N := 3) (fs := fsX11) tyX11 hC rfl in_X11 tyX11_ok q3111 q2368 q139 dfX11 rfl dX18_hunk_36 hw (fun q9 M10 hw => ?_)
  refine G_dup (pc := 39) hC dX18_hunk_39 (rf_cat _) ?_
  refine G_aload_n (pc := 40) (i := 0) hC dX18_hunk_40 rfl rfl ?_
  refine G_getFN (pc := 41) (ci := 8) (C := RX9) (T := TX9) (N := 6) (f := 0) hC rfl in_X9 (Nat.le_of_ble_eq_true rfl) (nw_in q2416 rfl) (fun _ h => h) dX18_hunk_41 hw (fun x11 hw => ?_)
  refine G_aload_n (pc := 44) (i := 1) hC dX18_hunk_44 rfl rfl ?_
  refine G_getFN (pc := 45) (ci := 9) (C := RX10) (T := TX10) (N := 2) (f := 0) hC rfl in_X10 (Nat.le_of_ble_eq_true rfl) (nw_in q2399 rfl) (fun _ h => h) dX18_hunk_45 hw (fun x12 hw => ?_)
  refine G_getIN (pc := 48) (ci := 10) (C := RX11) (T := TX11) (N := 3) (f := 1) hC rfl in_X11 (Nat.le_of_ble_eq_true rfl) (nw_in q2375 rfl) (fun _ h => h) dX18_hunk_48 hw (fun x13 hw => ?_)
  refine G_iload (pc := 51) (i := 4) hC dX18_hunk_51 rfl ?_
  refine G_isub (pc := 53) hC dX18_hunk_53 ?_
  refine G_aload_n (pc := 54) (i := 2) hC dX18_hunk_54 rfl rfl ?_
  refine G_getFN (pc := 55) (ci := 9) (C := RX10) (T := TX10) (N := 2) (f := 0) hC rfl in_X10 (Nat.le_of_ble_eq_true rfl) (nw_in q2399 rfl) (fun _ h => h) dX18_hunk_55 hw (fun x14 hw => ?_)
  refine G_getIN (pc := 58) (ci := 10) (C := RX11) (T := TX11) (N := 3) (f := 2) hC rfl in_X11 (Nat.le_of_ble_eq_true rfl) (nw_in q2383 rfl) (fun _ h => h) dX18_hunk_58 hw (fun x15 hw => ?_)
  refine G_iload (pc := 61) (i := 5) hC dX18_hunk_61 rfl ?_
  refine G_iadd (pc := 63) hC dX18_hunk_63 ?_
  obtain ⟨hb, hw⟩ := hw
  refine G_callI (pc := 64) (n := 3) (b := q9) (As := [va_rf x11, .int (x13 - (if x2 < p3 then x2 else p3)), .int (x15 + (if (x6 - x8) < p3 then (x6 - x8) else p3))]) (rest := [va_rf (some q9)]) hC (m_X11_init hJ hw) (lw_meth q2371) q139 q3112 q2370 rfl hd_X11_init.2 (by decide) rfl rfl (st_c (cat_r cat_e) (Nat.le_of_ble_eq_true rfl)) dX18_hunk_64 (kU fun M16 hw => ?_)
  refine G_astore (pc := 67) (i := 6) (lw := [some (va_rf p0), some (va_rf p1), some (va_rf p2), some (.int p3), some (.int (if x2 < p3 then x2 else p3)), some (.int (if (x6 - x8) < p3 then (x6 - x8) else p3)), some (va_rf (some q9)), none]) hC dX18_hunk_67 (Nat.le_of_ble_eq_true rfl) rfl ?_
  refine G_new (pc := 69) (ci := 10) (C := RX11) (T := TX11) (N := 3) (fs := fsX11) tyX11 hC rfl in_X11 tyX11_ok q3111 q2368 q139 dfX11 rfl dX18_hunk_69 hw (fun q17 M18 hw => ?_)
  refine G_dup (pc := 72) hC dX18_hunk_72 (rf_cat _) ?_
  refine G_aload_n (pc := 73) (i := 0) hC dX18_hunk_73 rfl rfl ?_
  refine G_getFN (pc := 74) (ci := 8) (C := RX9) (T := TX9) (N := 6) (f := 1) hC rfl in_X9 (Nat.le_of_ble_eq_true rfl) (nw_in q2422 rfl) (fun _ h => h) dX18_hunk_74 hw (fun x19 hw => ?_)
  refine G_aload_n (pc := 77) (i := 1) hC dX18_hunk_77 rfl rfl ?_
  refine G_getFN (pc := 78) (ci := 9) (C := RX10) (T := TX10) (N := 2) (f := 1) hC rfl in_X10 (Nat.le_of_ble_eq_true rfl) (nw_in q2403 rfl) (fun _ h => h) dX18_hunk_78 hw (fun x20 hw => ?_)
  refine G_getIN (pc := 81) (ci := 10) (C := RX11) (T := TX11) (N := 3) (f := 1) hC rfl in_X11 (Nat.le_of_ble_eq_true rfl) (nw_in q2375 rfl) (fun _ h => h) dX18_hunk_81 hw (fun x21 hw => ?_)
  refine G_iload (pc := 84) (i := 4) hC dX18_hunk_84 rfl ?_
  refine G_isub (pc := 86) hC dX18_hunk_86 ?_
  refine G_aload_n (pc := 87) (i := 2) hC dX18_hunk_87 rfl rfl ?_
  refine G_getFN (pc := 88) (ci := 9) (C := RX10) (T := TX10) (N := 2) (f := 1) hC rfl in_X10 (Nat.le_of_ble_eq_true rfl) (nw_in q2403 rfl) (fun _ h => h) dX18_hunk_88 hw (fun x22 hw => ?_)
  refine G_getIN (pc := 91) (ci := 10) (C := RX11) (T := TX11) (N := 3) (f := 2) hC rfl in_X11 (Nat.le_of_ble_eq_true rfl) (nw_in q2383 rfl) (fun _ h => h) dX18_hunk_91 hw (fun x23 hw => ?_)
  refine G_iload (pc := 94) (i := 5) hC dX18_hunk_94 rfl ?_
  refine G_iadd (pc := 96) hC dX18_hunk_96 ?_
  obtain ⟨hb, hw⟩ := hw
  refine G_callI (pc := 97) (n := 3) (b := q17) (As := [va_rf x19, .int (x21 - (if x2 < p3 then x2 else p3)), .int (x23 + (if (x6 - x8) < p3 then (x6 - x8) else p3))]) (rest := [va_rf (some q17)]) hC (m_X11_init hJ hw) (lw_meth q2371) q139 q3112 q2370 rfl hd_X11_init.2 (by decide) rfl rfl (st_c (cat_r cat_e) (Nat.le_of_ble_eq_true rfl)) dX18_hunk_97 (kU fun M24 hw => ?_)
  refine G_astore (pc := 100) (i := 7) (lw := [some (va_rf p0), some (va_rf p1), some (va_rf p2), some (.int p3), some (.int (if x2 < p3 then x2 else p3)), some (.int (if (x6 - x8) < p3 then (x6 - x8) else p3)), some (va_rf (some q9)), some (va_rf (some q17))]) hC dX18_hunk_100 (Nat.le_of_ble_eq_true rfl) rfl ?_
  refine G_new (pc := 102) (ci := 18) (C := RX19) (T := TX19) (N := 4) (fs := fsX19) tyX19 hC rfl in_X19 tyX19_ok q3113 q3114 q149 dfX19 rfl dX18_hunk_102 hw (fun q25 M26 hw => ?_)
  refine G_dup (pc := 105) hC dX18_hunk_105 (rf_cat _) ?_
  refine G_aload (pc := 106) (i := 6) hC dX18_hunk_106 rfl ?_
  refine G_aload (pc := 108) (i := 7) hC dX18_hunk_108 rfl ?_
  refine G_iload (pc := 110) (i := 4) hC dX18_hunk_110 rfl ?_
  refine G_iload (pc := 112) (i := 5) hC dX18_hunk_112 rfl ?_
  obtain ⟨hb, hw⟩ := hw
  refine G_callI (pc := 114) (n := 4) (b := q25) (As := [va_rf (some q9), va_rf (some q17), .int (if x2 < p3 then x2 else p3), .int (if (x6 - x8) < p3 then (x6 - x8) else p3)]) (rest := [va_rf (some q25)]) hC (m_X19_init hJ hw) (lw_meth q3117) q149 q3115 q3116 rfl hd_X19_init.2 (by decide) rfl rfl (st_c (cat_r cat_e) (Nat.le_of_ble_eq_true rfl)) dX18_hunk_114 (kU fun M27 hw => ?_)
  exact G_aret (pc := 117) hC (Or.inl ⟨_, rfl⟩) hQ dX18_hunk_117 hw
theorem hd_X18_hunk : yX18_hunk.cls = "MergeWorkbench$Patch" ∧ yX18_hunk.cls ≠ "java/lang/invoke/MethodHandle" ∧ yX18_hunk.cls ≠ "java/lang/invoke/VarHandle" ∧ (parseMethodDescriptor yX18_hunk.desc).map (fun d => d.parameters.length) = some 4 := by decide +kernel
def w_X18_init_148 (g : gT) (F : Nat) (a0 : Nat) (p1 : Option Nat) (p2 : Int32) (Q : hM → Prop) (K26 : (Option Nat) → Int32 → Int32 → hM → Prop) (v3 : Option Nat) (v4 : Int32) (v5 : Int32) (M : hM) : Prop :=
  K26 v3 v4 (v5 + (1 : Int32)) M
def w_X18_init_98 (g : gT) (F : Nat) (a0 : Nat) (p1 : Option Nat) (p2 : Int32) (Q : hM → Prop) (K26 : (Option Nat) → Int32 → Int32 → hM → Prop) (v3 : Option Nat) (v4 : Int32) (v5 : Int32) (s0 : Int32) (M : hM) : Prop :=
  ((s0 = 0 → w_X18_init_148 g F a0 p1 p2 Q K26 v3 v4 v5 M) ∧ (¬ (s0 = 0) → gF M (some a0) 17 0 fun x1 => gThis M v3 21 fun b3 => L_get g b3 v4 M (fun x4 M2 => ckC M2 x4 9 ((isC M2 b3 21 ∧ L_get g b3 v5 M2 (fun x6 M5 => ckC M5 x6 9 (w_X18_hunk g F p1 x4 x6 p2 M5 (fun x8 M7 => gThis M7 x1 21 fun b10 => L_add g b10 x8 M7 (fun x11 M9 => w_X18_init_148 g F a0 p1 p2 Q K26 (some b3) (v5 + (1 : Int32)) v5 M9)))))))))
def w_X18_init_93 (g : gT) (F : Nat) (a0 : Nat) (p1 : Option Nat) (p2 : Int32) (Q : hM → Prop) (K26 : (Option Nat) → Int32 → Int32 → hM → Prop) (v3 : Option Nat) (v4 : Int32) (v5 : Int32) (M : hM) : Prop :=
  w_X18_init_98 g F a0 p1 p2 Q K26 v3 v4 v5 (1 : Int32) M
def w_X18_init_26 (g : gT) (F : Nat) (a0 : Nat) (p1 : Option Nat) (p2 : Int32) (Q : hM → Prop) : Nat → (Option Nat) → Int32 → Int32 → hM → Prop
  | 0, _, _, _, _ => False
  | n + 1, v3, v4, v5, M => gThis M v3 21 fun b2 => L_size g b2  M (fun x3 M1 => ((x3 ≤ v5 → Q M1) ∧ (¬ (x3 ≤ v5) → (isC M1 b2 21 ∧ L_size g b2  M1 (fun x5 M4 => (((v5 + (1 : Int32)) = x5 → w_X18_init_93 g F a0 p1 p2 Q (fun v3 v4 v5 M => w_X18_init_26 g F a0 p1 p2 Q n v3 v4 v5 M) (some b2) v4 v5 M4) ∧ (¬ ((v5 + (1 : Int32)) = x5) → (isC M4 b2 21 ∧ L_get g b2 (v5 + (1 : Int32)) M4 (fun x7 M6 => ckC M6 x7 9 (gF M6 x7 9 0 fun x8 => gI M6 x8 10 1 fun x9 => (isC M6 b2 21 ∧ L_get g b2 v5 M6 (fun x11 M10 => ckC M10 x11 9 (gF M10 x11 9 0 fun x12 => gI M10 x12 10 2 fun x13 => (((x9 - x13) ≤ ((2 : Int32) * p2) → w_X18_init_98 g F a0 p1 p2 Q (fun v3 v4 v5 M => w_X18_init_26 g F a0 p1 p2 Q n v3 v4 v5 M) (some b2) v4 v5 (0 : Int32) M10) ∧ (¬ ((x9 - x13) ≤ ((2 : Int32) * p2)) → w_X18_init_93 g F a0 p1 p2 Q (fun v3 v4 v5 M => w_X18_init_26 g F a0 p1 p2 Q n v3 v4 v5 M) (some b2) v4 v5 M10)))))))))))))))
def w_X18_init (g : gT) (F : Nat) (a0 : Nat) (p1 : Option Nat) (p2 : Int32) (M : hM) (Q : hM → Prop) : Prop :=
  nW M 21 fsJ2 fun q1 M2 => (isC M2 q1 21 ∧ L_new g q1  M2 (fun M3 => pV M3 (some a0) 17 0 (va_rf (some q1)) fun M4 => gF M4 p1 8 4 fun x5 => w_X18_init_26 g F a0 p1 p2 Q F x5 (0 : Int32) (0 : Int32) M4))
theorem g_X18_init_148 {k : kT} {F : Nat} {a0 : Nat} {p1 : Option Nat} {p2 : Int32} {Q : hM → Prop} {K26 : (Option Nat) → Int32 → Int32 → hM → Prop} (hJ : JOK (kl k) (kg k)) (hC : CX k 7 cX18_init RX18 none 42 2047) (hQ : isQ k (PU Q)) (hin : (kt k).name = "<init>") (hK26 : ∀ (v3 : Option Nat) (v4 : Int32) (v5 : Int32) (M : hM), K26 v3 v4 v5 M → GW k 7 M 26 [some (va_rf (some a0)), some (va_rf p1), some (.int p2), some (va_rf v3), some (.int v4), some (.int v5), none] []) : ∀ (v3 : Option Nat) (v4 : Int32) (v5 : Int32) (M : hM), w_X18_init_148 (kg k) F a0 p1 p2 Q K26 v3 v4 v5 M → GW k 7 M 148 [some (va_rf (some a0)), some (va_rf p1), some (.int p2), some (va_rf v3), some (.int v4), some (.int v5), none] [] := by
  intro v3 v4 v5 M hw
  refine G_iinc (pc := 148) (i := 5) (v := (v5 + (1 : Int32))) (lw := [some (va_rf (some a0)), some (va_rf p1), some (.int p2), some (va_rf v3), some (.int v4), some (.int (v5 + (1 : Int32))), none]) hC dX18_init_148 rfl (Nat.le_of_ble_eq_true rfl) rfl rfl ?_
  refine G_goto (pc := 151) (tgt := 26) hC dX18_init_151 (by decide) ?_
  exact hK26 v3 v4 (v5 + (1 : Int32)) M hw
theorem g_X18_init_98 {k : kT} {F : Nat} {a0 : Nat} {p1 : Option Nat} {p2 : Int32} {Q : hM → Prop} {K26 : (Option Nat) → Int32 → Int32 → hM → Prop} (hJ : JOK (kl k) (kg k)) (hC : CX k 7 cX18_init RX18 none 42 2047) (hQ : isQ k (PU Q)) (hin : (kt k).name = "<init>") (hK26 : ∀ (v3 : Option Nat) (v4 : Int32) (v5 : Int32) (M : hM), K26 v3 v4 v5 M → GW k 7 M 26 [some (va_rf (some a0)), some (va_rf p1), some (.int p2), some (va_rf v3), some (.int v4), some (.int v5), none] []) : ∀ (v3 : Option Nat) (v4 : Int32) (v5 : Int32) (s0 : Int32) (M : hM), w_X18_init_98 (kg k) F a0 p1 p2 Q K26 v3 v4 v5 s0 M → GW k 7 M 98 [some (va_rf (some a0)), some (va_rf p1), some (.int p2), some (va_rf v3), some (.int v4), some (.int v5), none] [.int s0] := by
  intro v3 v4 v5 s0 M hw
  refine G_istore (pc := 98) (i := 6) (lw := [some (va_rf (some a0)), some (va_rf p1), some (.int p2), some (va_rf v3), some (.int v4), some (.int v5), some (.int s0)]) hC dX18_init_98 (Nat.le_of_ble_eq_true rfl) rfl ?_
  refine G_iload (pc := 100) (i := 6) hC dX18_init_100 rfl ?_
  refine G_if_eq (pc := 102) (tgt := 148) hC dX18_init_102 (by decide) (fun hc => ?_) (fun hc => ?_)
  · replace hw := hw.1 hc
    refine G_loc (lv' := [some (va_rf (some a0)), some (va_rf p1), some (.int p2), some (va_rf v3), some (.int v4), some (.int v5), none]) ⟨Or.inr rfl, Or.inr rfl, Or.inr rfl, Or.inr rfl, Or.inr rfl, Or.inr rfl, Or.inl rfl, trivial⟩ ?_
    exact g_X18_init_148 hJ hC hQ hin hK26  v3 v4 v5 M hw
  · replace hw := hw.2 hc
    refine G_aload_n (pc := 105) (i := 0) hC dX18_init_105 rfl rfl ?_
    refine G_getF (pc := 106) (ci := 17) (C := RX18) (T := TX18) (N := 2) (f := 0) hC rfl in_X18 (Nat.le_of_ble_eq_true rfl) q3136 (fun _ h => h) dX18_init_106 hw (fun x1 hw => ?_)
    refine G_aload_n (pc := 109) (i := 1) hC dX18_init_109 rfl rfl ?_
    refine G_aload_n (pc := 110) (i := 3) hC dX18_init_110 rfl rfl ?_
    refine G_iload (pc := 111) (i := 4) hC dX18_init_111 rfl ?_
    obtain ⟨b3, rfl, hb, hw⟩ := gThis_e hw
    refine G_callF (pc := 113) (n := 1) (x := ⟨"java/util/List", "get", "(I)Ljava/lang/Object;"⟩) (C := "java/util/ArrayList") (ci := 21) (T := TJ2) (N := 3) (b := b3) (As := [.int v4]) (rest := [va_rf p1, va_rf x1]) hC (J_L_get hJ hw) (lw_F q3105 q956 q958 q87 q960) (nw_in q955 rfl) (nw_in q954 rfl) (nw_in q959 rfl) (nw_in q957 rfl) (nw_in q259 rfl) rfl (rcv (C := RJ2) (T := TJ2) (N := 3) hC hb rfl) (by decide +kernel) (by decide) rfl rfl (st_c (cat_r (cat_r cat_e)) (Nat.le_of_ble_eq_true rfl)) dX18_init_113 (kRf fun x4 M2 hw => ?_)
    obtain ⟨hb, hw⟩ := hw
    refine G_castCS (pc := 118) (C := RX10) (T := TX10) (N := 2) hC rfl q3106 hb dX18_init_118 ?_
    refine G_aload_n (pc := 121) (i := 3) hC dX18_init_121 rfl rfl ?_
    refine G_iload (pc := 122) (i := 5) hC dX18_init_122 rfl ?_
    obtain ⟨hb, hw⟩ := hw
    refine G_callF (pc := 124) (n := 1) (x := ⟨"java/util/List", "get", "(I)Ljava/lang/Object;"⟩) (C := "java/util/ArrayList") (ci := 21) (T := TJ2) (N := 3) (b := b3) (As := [.int v5]) (rest := [va_rf x4, va_rf p1, va_rf x1]) hC (J_L_get hJ hw) (lw_F q3105 q956 q958 q87 q960) (nw_in q955 rfl) (nw_in q954 rfl) (nw_in q959 rfl) (nw_in q957 rfl) (nw_in q259 rfl) rfl (rcv (C := RJ2) (T := TJ2) (N := 3) hC hb rfl) (by decide +kernel) (by decide) rfl rfl (st_c (cat_r (cat_r (cat_r cat_e))) (Nat.le_of_ble_eq_true rfl)) dX18_init_124 (kRf fun x6 M5 hw => ?_)
    obtain ⟨hb, hw⟩ := hw
    refine G_castCS (pc := 129) (C := RX10) (T := TX10) (N := 2) hC rfl q3106 hb dX18_init_129 ?_
    refine G_iload_n (pc := 132) (i := 2) hC dX18_init_132 rfl rfl ?_
    refine G_callS (pc := 133) (n := 4) (As := [va_rf p1, va_rf x4, va_rf x6, .int p2]) (rest := [va_rf x1]) hC (m_X18_hunk hJ hw) (lw_S q3107 q3108 q148 q3109) hd_X18_hunk.2 (by decide) rfl rfl (st_c (cat_r cat_e) (Nat.le_of_ble_eq_true rfl)) dX18_init_133 (kRf fun x8 M7 hw => ?_)
    obtain ⟨b10, rfl, hb, hw⟩ := gThis_e hw
    refine G_callF (pc := 136) (n := 1) (x := ⟨"java/util/List", "add", "(Ljava/lang/Object;)Z"⟩) (C := "java/util/ArrayList") (ci := 21) (T := TJ2) (N := 3) (b := b10) (As := [va_rf x8]) (rest := []) hC (J_L_add hJ hw) (lw_F q3135 q260 q262 q87 q264) (nw_in q258 rfl) (nw_in q257 rfl) (nw_in q263 rfl) (nw_in q261 rfl) (nw_in q259 rfl) rfl (rcv (C := RJ2) (T := TJ2) (N := 3) hC hb rfl) (by decide +kernel) (by decide) rfl rfl (st_c cat_e (Nat.le_of_ble_eq_true rfl)) dX18_init_136 (kI fun x11 M9 hw => ?_)
    refine G_pop (pc := 141) hC dX18_init_141 rfl ?_
    refine G_iload (pc := 142) (i := 5) hC dX18_init_142 rfl ?_
    refine G_iconst (pc := 144) (v := 1) hC dX18_init_144 (by decide) ?_
    refine G_iadd (pc := 145) hC dX18_init_145 ?_
    refine G_istore (pc := 146) (i := 4) (lw := [some (va_rf (some a0)), some (va_rf p1), some (.int p2), some (va_rf (some b3)), some (.int (v5 + (1 : Int32))), some (.int v5), some (.int s0)]) hC dX18_init_146 (Nat.le_of_ble_eq_true rfl) rfl ?_
    refine G_loc (lv' := [some (va_rf (some a0)), some (va_rf p1), some (.int p2), some (va_rf (some b3)), some (.int (v5 + (1 : Int32))), some (.int v5), none]) ⟨Or.inr rfl, Or.inr rfl, Or.inr rfl, Or.inr rfl, Or.inr rfl, Or.inr rfl, Or.inl rfl, trivial⟩ ?_
    exact g_X18_init_148 hJ hC hQ hin hK26  (some b3) (v5 + (1 : Int32)) v5 M9 hw
theorem g_X18_init_93 {k : kT} {F : Nat} {a0 : Nat} {p1 : Option Nat} {p2 : Int32} {Q : hM → Prop} {K26 : (Option Nat) → Int32 → Int32 → hM → Prop} (hJ : JOK (kl k) (kg k)) (hC : CX k 7 cX18_init RX18 none 42 2047) (hQ : isQ k (PU Q)) (hin : (kt k).name = "<init>") (hK26 : ∀ (v3 : Option Nat) (v4 : Int32) (v5 : Int32) (M : hM), K26 v3 v4 v5 M → GW k 7 M 26 [some (va_rf (some a0)), some (va_rf p1), some (.int p2), some (va_rf v3), some (.int v4), some (.int v5), none] []) : ∀ (v3 : Option Nat) (v4 : Int32) (v5 : Int32) (M : hM), w_X18_init_93 (kg k) F a0 p1 p2 Q K26 v3 v4 v5 M → GW k 7 M 93 [some (va_rf (some a0)), some (va_rf p1), some (.int p2), some (va_rf v3), some (.int v4), some (.int v5), none] [] := by
  intro v3 v4 v5 M hw
  refine G_iconst (pc := 93) (v := 1) hC dX18_init_93 (by decide) ?_
  refine G_goto (pc := 94) (tgt := 98) hC dX18_init_94 (by decide) ?_
  exact g_X18_init_98 hJ hC hQ hin hK26  v3 v4 v5 (1 : Int32) M hw
theorem g_X18_init_26 {k : kT} {F : Nat} {a0 : Nat} {p1 : Option Nat} {p2 : Int32} {Q : hM → Prop} (hJ : JOK (kl k) (kg k)) (hC : CX k 7 cX18_init RX18 none 42 2047) (hQ : isQ k (PU Q)) (hin : (kt k).name = "<init>") : ∀ (n : Nat) (v3 : Option Nat) (v4 : Int32) (v5 : Int32) (M : hM), w_X18_init_26 (kg k) F a0 p1 p2 Q n v3 v4 v5 M → GW k 7 M 26 [some (va_rf (some a0)), some (va_rf p1), some (.int p2), some (va_rf v3), some (.int v4), some (.int v5), none] [] := by
  intro n
  induction n with
  | zero =>
    intro v3 v4 v5 M hw
    exact hw.elim
  | succ n ih =>
    intro v3 v4 v5 M hw
    refine G_iload (pc := 26) (i := 5) hC dX18_init_26 rfl ?_
    refine G_aload_n (pc := 28) (i := 3) hC dX18_init_28 rfl rfl ?_
    obtain ⟨b2, rfl, hb, hw⟩ := gThis_e hw
    refine G_callF (pc := 29) (n := 0) (x := ⟨"java/util/List", "size", "()I"⟩) (C := "java/util/ArrayList") (ci := 21) (T := TJ2) (N := 3) (b := b2) (As := []) (rest := [.int v5]) hC (J_L_size hJ hw) (lw_F q3103 q889 q363 q87 q364) (nw_in q888 rfl) (nw_in q887 rfl) (nw_in q891 rfl) (nw_in q890 rfl) (nw_in q259 rfl) rfl (rcv (C := RJ2) (T := TJ2) (N := 3) hC hb rfl) (by decide +kernel) (by decide) rfl rfl (st_c (cat_i cat_e) (Nat.le_of_ble_eq_true rfl)) dX18_init_29 (kI fun x3 M1 hw => ?_)
    refine G_icmp_ge (pc := 34) (tgt := 154) hC dX18_init_34 (by decide) (fun hc => ?_) (fun hc => ?_)
    · replace hw := hw.1 hc
      exact G_ret (pc := 154) hC hQ dX18_init_154 hw
    · replace hw := hw.2 hc
      refine G_iload (pc := 37) (i := 5) hC dX18_init_37 rfl ?_
      refine G_iconst (pc := 39) (v := 1) hC dX18_init_39 (by decide) ?_
      refine G_iadd (pc := 40) hC dX18_init_40 ?_
      refine G_aload_n (pc := 41) (i := 3) hC dX18_init_41 rfl rfl ?_
      obtain ⟨hb, hw⟩ := hw
      refine G_callF (pc := 42) (n := 0) (x := ⟨"java/util/List", "size", "()I"⟩) (C := "java/util/ArrayList") (ci := 21) (T := TJ2) (N := 3) (b := b2) (As := []) (rest := [.int (v5 + (1 : Int32))]) hC (J_L_size hJ hw) (lw_F q3103 q889 q363 q87 q364) (nw_in q888 rfl) (nw_in q887 rfl) (nw_in q891 rfl) (nw_in q890 rfl) (nw_in q259 rfl) rfl (rcv (C := RJ2) (T := TJ2) (N := 3) hC hb rfl) (by decide +kernel) (by decide) rfl rfl (st_c (cat_i cat_e) (Nat.le_of_ble_eq_true rfl)) dX18_init_42 (kI fun x5 M4 hw => ?_)
      refine G_icmp_eq (pc := 47) (tgt := 93) hC dX18_init_47 (by decide) (fun hc => ?_) (fun hc => ?_)
      · replace hw := hw.1 hc
        exact g_X18_init_93 hJ hC hQ hin ih  (some b2) v4 v5 M4 hw
      · replace hw := hw.2 hc
        refine G_aload_n (pc := 50) (i := 3) hC dX18_init_50 rfl rfl ?_
        refine G_iload (pc := 51) (i := 5) hC dX18_init_51 rfl ?_
        refine G_iconst (pc := 53) (v := 1) hC dX18_init_53 (by decide) ?_
        refine G_iadd (pc := 54) hC dX18_init_54 ?_
        obtain ⟨hb, hw⟩ := hw
        refine G_callF (pc := 55) (n := 1) (x := ⟨"java/util/List", "get", "(I)Ljava/lang/Object;"⟩) (C := "java/util/ArrayList") (ci := 21) (T := TJ2) (N := 3) (b := b2) (As := [.int (v5 + (1 : Int32))]) (rest := []) hC (J_L_get hJ hw) (lw_F q3105 q956 q958 q87 q960) (nw_in q955 rfl) (nw_in q954 rfl) (nw_in q959 rfl) (nw_in q957 rfl) (nw_in q259 rfl) rfl (rcv (C := RJ2) (T := TJ2) (N := 3) hC hb rfl) (by decide +kernel) (by decide) rfl rfl (st_c cat_e (Nat.le_of_ble_eq_true rfl)) dX18_init_55 (kRf fun x7 M6 hw => ?_)
        obtain ⟨hb, hw⟩ := hw
        refine G_castCS (pc := 60) (C := RX10) (T := TX10) (N := 2) hC rfl q3106 hb dX18_init_60 ?_
        refine G_getFN (pc := 63) (ci := 9) (C := RX10) (T := TX10) (N := 2) (f := 0) hC rfl in_X10 (Nat.le_of_ble_eq_true rfl) (nw_in q2399 rfl) (fun _ h => h) dX18_init_63 hw (fun x8 hw => ?_)
        refine G_getIN (pc := 66) (ci := 10) (C := RX11) (T := TX11) (N := 3) (f := 1) hC rfl in_X11 (Nat.le_of_ble_eq_true rfl) (nw_in q2375 rfl) (fun _ h => h) dX18_init_66 hw (fun x9 hw => ?_)
        refine G_aload_n (pc := 69) (i := 3) hC dX18_init_69 rfl rfl ?_
        refine G_iload (pc := 70) (i := 5) hC dX18_init_70 rfl ?_
        obtain ⟨hb, hw⟩ := hw
        refine G_callF (pc := 72) (n := 1) (x := ⟨"java/util/List", "get", "(I)Ljava/lang/Object;"⟩) (C := "java/util/ArrayList") (ci := 21) (T := TJ2) (N := 3) (b := b2) (As := [.int v5]) (rest := [.int x9]) hC (J_L_get hJ hw) (lw_F q3105 q956 q958 q87 q960) (nw_in q955 rfl) (nw_in q954 rfl) (nw_in q959 rfl) (nw_in q957 rfl) (nw_in q259 rfl) rfl (rcv (C := RJ2) (T := TJ2) (N := 3) hC hb rfl) (by decide +kernel) (by decide) rfl rfl (st_c (cat_i cat_e) (Nat.le_of_ble_eq_true rfl)) dX18_init_72 (kRf fun x11 M10 hw => ?_)
        obtain ⟨hb, hw⟩ := hw
        refine G_castCS (pc := 77) (C := RX10) (T := TX10) (N := 2) hC rfl q3106 hb dX18_init_77 ?_
        refine G_getFN (pc := 80) (ci := 9) (C := RX10) (T := TX10) (N := 2) (f := 0) hC rfl in_X10 (Nat.le_of_ble_eq_true rfl) (nw_in q2399 rfl) (fun _ h => h) dX18_init_80 hw (fun x12 hw => ?_)
        refine G_getIN (pc := 83) (ci := 10) (C := RX11) (T := TX11) (N := 3) (f := 2) hC rfl in_X11 (Nat.le_of_ble_eq_true rfl) (nw_in q2383 rfl) (fun _ h => h) dX18_init_83 hw (fun x13 hw => ?_)
        refine G_isub (pc := 86) hC dX18_init_86 ?_
        refine G_iconst (pc := 87) (v := 2) hC dX18_init_87 (by decide) ?_
        refine G_iload_n (pc := 88) (i := 2) hC dX18_init_88 rfl rfl ?_
        refine G_imul (pc := 89) hC dX18_init_89 ?_
        refine G_icmp_le (pc := 90) (tgt := 97) hC dX18_init_90 (by decide) (fun hc => ?_) (fun hc => ?_)
        · replace hw := hw.1 hc
          refine G_iconst (pc := 97) (v := 0) hC dX18_init_97 (by decide) ?_
          exact g_X18_init_98 hJ hC hQ hin ih  (some b2) v4 v5 (0 : Int32) M10 hw
        · replace hw := hw.2 hc
          exact g_X18_init_93 hJ hC hQ hin ih  (some b2) v4 v5 M10 hw
theorem m_X18_init {l : Launch} {g : gT} {F : Nat} {a0 : Nat} {p1 : Option Nat} {p2 : Int32} {M : hM} {Q : hM → Prop} (hJ : JOK l g) (hw : w_X18_init g F a0 p1 p2 M Q) : MG l g yX18_init (ws_ yX18_init cX18_init 7 none) 42 2047 [va_rf (some a0), va_rf p1, .int p2] M (PU Q) := by
  refine MG_of hJ.2.1 (by decide) (cat_r (cat_r (cat_i cat_e))) (Nat.le_of_ble_eq_true rfl) (fun k hl hg hin hQ hC => ?_)
  subst hl hg
  show GW k 7 M 0 [some (va_rf (some a0)), some (va_rf p1), some (.int p2), none, none, none, none] []
  refine G_aload_n (pc := 0) (i := 0) hC dX18_init_0 rfl rfl ?_
  refine G_objInit (pc := 1) hC q3099 q158 q159 rfl rfl (st_c cat_e (Nat.le_of_ble_eq_true rfl)) dX18_init_1 ?_
  refine G_aload_n (pc := 4) (i := 0) hC dX18_init_4 rfl rfl ?_
  refine G_new (pc := 5) (ci := 21) (C := RJ2) (T := TJ2) (N := 3) (fs := fsJ2) tyJ2 hC rfl in_J2 tyJ2_ok q3100 q161 q87 dfJ2 rfl dX18_init_5 hw (fun q1 M2 hw => ?_)
  refine G_dup (pc := 8) hC dX18_init_8 (rf_cat _) ?_
  obtain ⟨hb, hw⟩ := hw
  refine G_callI (pc := 9) (n := 0) (b := q1) (As := []) (rest := [va_rf (some q1), va_rf (some a0)]) hC (J_L_new hJ hw) (lw_meth q164) q87 q3101 q163 rfl hd_J2_init.2 (by decide) rfl rfl (st_c (cat_r (cat_r cat_e)) (Nat.le_of_ble_eq_true rfl)) dX18_init_9 (kU fun M3 hw => ?_)
  refine G_putF (pc := 12) (ci := 17) (C := RX18) (T := TX18) (N := 2) (f := 0) tyX18 hC rfl in_X18 tyX18_ok nmX18 (Nat.le_of_ble_eq_true rfl) q3136 (fun _ h => h) rfl hin rfl (nR_o _ _) (fR_o _ _) dX18_init_12 hw (fun M4 hw => ?_)
  refine G_aload_n (pc := 15) (i := 1) hC dX18_init_15 rfl rfl ?_
  refine G_getFN (pc := 16) (ci := 8) (C := RX9) (T := TX9) (N := 6) (f := 4) hC rfl in_X9 (Nat.le_of_ble_eq_true rfl) (nw_in q2431 rfl) (fun _ h => h) dX18_init_16 hw (fun x5 hw => ?_)
  refine G_astore_n (pc := 19) (i := 3) (lw := [some (va_rf (some a0)), some (va_rf p1), some (.int p2), some (va_rf x5), none, none, none]) hC dX18_init_19 rfl (Nat.le_of_ble_eq_true rfl) rfl ?_
  refine G_iconst (pc := 20) (v := 0) hC dX18_init_20 (by decide) ?_
  refine G_istore (pc := 21) (i := 4) (lw := [some (va_rf (some a0)), some (va_rf p1), some (.int p2), some (va_rf x5), some (.int (0 : Int32)), none, none]) hC dX18_init_21 (Nat.le_of_ble_eq_true rfl) rfl ?_
  refine G_iconst (pc := 23) (v := 0) hC dX18_init_23 (by decide) ?_
  refine G_istore (pc := 24) (i := 5) (lw := [some (va_rf (some a0)), some (va_rf p1), some (.int p2), some (va_rf x5), some (.int (0 : Int32)), some (.int (0 : Int32)), none]) hC dX18_init_24 (Nat.le_of_ble_eq_true rfl) rfl ?_
  exact g_X18_init_26 hJ hC hQ hin _ x5 (0 : Int32) (0 : Int32) M4 hw
theorem sw_out0_4 {x : Int32} (h0 : ¬ x = (0 : Int32)) (h1 : ¬ x = (1 : Int32)) (h2 : ¬ x = (2 : Int32)) (h3 : ¬ x = (3 : Int32)) (h4 : ¬ x = (4 : Int32)) : x.toInt < 0 ∨ 4 < x.toInt := by
  rcases Int.lt_or_le x.toInt (0) with hy | hy
  · exact Or.inl hy
  · rcases Int.lt_or_le (4) x.toInt with hz | hz
    · exact Or.inr hz
    · exfalso
      rcases (show x.toInt = 0 ∨ x.toInt = 1 ∨ x.toInt = 2 ∨ x.toInt = 3 ∨ x.toInt = 4 by omega) with e | e | e | e | e
      · exact h0 (sw_toInt e (by decide))
      · exact h1 (sw_toInt e (by decide))
      · exact h2 (sw_toInt e (by decide))
      · exact h3 (sw_toInt e (by decide))
      · exact h4 (sw_toInt e (by decide))
def w_X19_property (g : gT) (F : Nat) (a0 : Nat) (p1 : Int32) (M : hM) (Q : Int32 → hM → Prop) : Prop :=
  ((p1 = (0 : Int32) → gF M (some a0) 18 0 fun x1 => gI M x1 10 1 fun x2 => Q x2 M) ∧ (p1 = (1 : Int32) → gF M (some a0) 18 0 fun x3 => gThis M x3 10 fun b5 => w_X11_length g F b5  M (fun x6 M4 => Q x6 M4)) ∧ (p1 = (2 : Int32) → gF M (some a0) 18 1 fun x7 => gI M x7 10 1 fun x8 => Q x8 M) ∧ (p1 = (3 : Int32) → gF M (some a0) 18 1 fun x9 => gThis M x9 10 fun b11 => w_X11_length g F b11  M (fun x12 M10 => Q x12 M10)) ∧ (p1 = (4 : Int32) → gI M (some a0) 18 2 fun x13 => Q x13 M) ∧ (¬ p1 = (0 : Int32) → ¬ p1 = (1 : Int32) → ¬ p1 = (2 : Int32) → ¬ p1 = (3 : Int32) → ¬ p1 = (4 : Int32) → gI M (some a0) 18 3 fun x14 => Q x14 M))
theorem m_X19_property {l : Launch} {g : gT} {F : Nat} {a0 : Nat} {p1 : Int32} {M : hM} {Q : Int32 → hM → Prop} (hJ : JOK l g) (hw : w_X19_property g F a0 p1 M Q) : MG l g yX19_property (ws_ yX19_property cX19_property 2 (some .int)) 2 32 [va_rf (some a0), .int p1] M (PI Q) := by
  refine MG_of hJ.2.1 (by decide) (cat_r (cat_i cat_e)) (Nat.le_of_ble_eq_true rfl) (fun k hl hg hin hQ hC => ?_)
  subst hl hg
  show GW k 2 M 0 [some (va_rf (some a0)), some (.int p1)] []
  refine G_iload_n (pc := 0) (i := 1) hC dX19_property_0 rfl rfl ?_
  by_cases hc0 : p1 = (0 : Int32)
  · replace hw := hw.1 hc0
    refine G_tableIn (pc := 1) (off := 35) (tgt := 36) hC dX19_property_1 (by rw [hc0]; decide) (by rw [hc0]; decide) (by rw [hc0]; rfl) (by decide) ?_
    refine G_aload_n (pc := 36) (i := 0) hC dX19_property_36 rfl rfl ?_
    refine G_getF (pc := 37) (ci := 18) (C := RX19) (T := TX19) (N := 4) (f := 0) hC rfl in_X19 (Nat.le_of_ble_eq_true rfl) q3119 (fun _ h => h) dX19_property_37 hw (fun x1 hw => ?_)
    refine G_getIN (pc := 40) (ci := 10) (C := RX11) (T := TX11) (N := 3) (f := 1) hC rfl in_X11 (Nat.le_of_ble_eq_true rfl) (nw_in q2381 rfl) (fun _ h => h) dX19_property_40 hw (fun x2 hw => ?_)
    exact G_iret (pc := 43) hC rfl hQ dX19_property_43 hw
  by_cases hc1 : p1 = (1 : Int32)
  · replace hw := hw.2.1 hc1
    refine G_tableIn (pc := 1) (off := 43) (tgt := 44) hC dX19_property_1 (by rw [hc1]; decide) (by rw [hc1]; decide) (by rw [hc1]; rfl) (by decide) ?_
    refine G_aload_n (pc := 44) (i := 0) hC dX19_property_44 rfl rfl ?_
    refine G_getF (pc := 45) (ci := 18) (C := RX19) (T := TX19) (N := 4) (f := 0) hC rfl in_X19 (Nat.le_of_ble_eq_true rfl) q3119 (fun _ h => h) dX19_property_45 hw (fun x3 hw => ?_)
    obtain ⟨b5, rfl, hb, hw⟩ := gThis_e hw
    refine G_callV (pc := 48) (n := 0) (C := "MergeWorkbench$Part") (b := b5) (As := []) (rest := []) hC (m_X11_length hJ hw) (lw_V q3161 q2816 q2817 q139 q2818) hd_X11_length (by decide) (rcv (C := RX11) (T := TX11) (N := 3) hC hb rfl) rfl rfl (st_c cat_e (Nat.le_of_ble_eq_true rfl)) dX19_property_48 (kI fun x6 M4 hw => ?_)
    exact G_iret (pc := 51) hC rfl hQ dX19_property_51 hw
  by_cases hc2 : p1 = (2 : Int32)
  · replace hw := hw.2.2.1 hc2
    refine G_tableIn (pc := 1) (off := 51) (tgt := 52) hC dX19_property_1 (by rw [hc2]; decide) (by rw [hc2]; decide) (by rw [hc2]; rfl) (by decide) ?_
    refine G_aload_n (pc := 52) (i := 0) hC dX19_property_52 rfl rfl ?_
    refine G_getF (pc := 53) (ci := 18) (C := RX19) (T := TX19) (N := 4) (f := 1) hC rfl in_X19 (Nat.le_of_ble_eq_true rfl) q3121 (fun _ h => h) dX19_property_53 hw (fun x7 hw => ?_)
    refine G_getIN (pc := 56) (ci := 10) (C := RX11) (T := TX11) (N := 3) (f := 1) hC rfl in_X11 (Nat.le_of_ble_eq_true rfl) (nw_in q2381 rfl) (fun _ h => h) dX19_property_56 hw (fun x8 hw => ?_)
    exact G_iret (pc := 59) hC rfl hQ dX19_property_59 hw
  by_cases hc3 : p1 = (3 : Int32)
  · replace hw := hw.2.2.2.1 hc3
    refine G_tableIn (pc := 1) (off := 59) (tgt := 60) hC dX19_property_1 (by rw [hc3]; decide) (by rw [hc3]; decide) (by rw [hc3]; rfl) (by decide) ?_
    refine G_aload_n (pc := 60) (i := 0) hC dX19_property_60 rfl rfl ?_
    refine G_getF (pc := 61) (ci := 18) (C := RX19) (T := TX19) (N := 4) (f := 1) hC rfl in_X19 (Nat.le_of_ble_eq_true rfl) q3121 (fun _ h => h) dX19_property_61 hw (fun x9 hw => ?_)
    obtain ⟨b11, rfl, hb, hw⟩ := gThis_e hw
    refine G_callV (pc := 64) (n := 0) (C := "MergeWorkbench$Part") (b := b11) (As := []) (rest := []) hC (m_X11_length hJ hw) (lw_V q3161 q2816 q2817 q139 q2818) hd_X11_length (by decide) (rcv (C := RX11) (T := TX11) (N := 3) hC hb rfl) rfl rfl (st_c cat_e (Nat.le_of_ble_eq_true rfl)) dX19_property_64 (kI fun x12 M10 hw => ?_)
    exact G_iret (pc := 67) hC rfl hQ dX19_property_67 hw
  by_cases hc4 : p1 = (4 : Int32)
  · replace hw := hw.2.2.2.2.1 hc4
    refine G_tableIn (pc := 1) (off := 67) (tgt := 68) hC dX19_property_1 (by rw [hc4]; decide) (by rw [hc4]; decide) (by rw [hc4]; rfl) (by decide) ?_
    refine G_aload_n (pc := 68) (i := 0) hC dX19_property_68 rfl rfl ?_
    refine G_getI (pc := 69) (ci := 18) (C := RX19) (T := TX19) (N := 4) (f := 2) hC rfl in_X19 (Nat.le_of_ble_eq_true rfl) q3123 (fun _ h => h) dX19_property_69 hw (fun x13 hw => ?_)
    exact G_iret (pc := 72) hC rfl hQ dX19_property_72 hw
  replace hw := hw.2.2.2.2.2 hc0 hc1 hc2 hc3 hc4
  refine G_tableOut (pc := 1) (tgt := 73) hC dX19_property_1 (sw_out0_4 hc0 hc1 hc2 hc3 hc4) (by decide) ?_
  refine G_aload_n (pc := 73) (i := 0) hC dX19_property_73 rfl rfl ?_
  refine G_getI (pc := 74) (ci := 18) (C := RX19) (T := TX19) (N := 4) (f := 3) hC rfl in_X19 (Nat.le_of_ble_eq_true rfl) q3124 (fun _ h => h) dX19_property_74 hw (fun x14 hw => ?_)
  exact G_iret (pc := 77) hC rfl hQ dX19_property_77 hw
def w_X19_reversed (g : gT) (F : Nat) (a0 : Nat) (M : hM) (Q : Option Nat → hM → Prop) : Prop :=
  nW M 18 fsX19 fun q1 M2 => gF M2 (some a0) 18 1 fun x3 => gF M2 (some a0) 18 0 fun x4 => gI M2 (some a0) 18 2 fun x5 => gI M2 (some a0) 18 3 fun x6 => (isC M2 q1 18 ∧ w_X19_init g F q1 x3 x4 x5 x6 M2 (fun M7 => Q (some q1) M7))
theorem m_X19_reversed {l : Launch} {g : gT} {F : Nat} {a0 : Nat} {M : hM} {Q : Option Nat → hM → Prop} (hJ : JOK l g) (hw : w_X19_reversed g F a0 M Q) : MG l g yX19_reversed (ws_ yX19_reversed cX19_reversed 1 (some (.object "MergeWorkbench$Hunk"))) 2 44 [va_rf (some a0)] M (PR Q) := by
  refine MG_of hJ.2.1 (by decide) (cat_r cat_e) (Nat.le_of_ble_eq_true rfl) (fun k hl hg hin hQ hC => ?_)
  subst hl hg
  show GW k 1 M 0 [some (va_rf (some a0))] []
  refine G_new (pc := 0) (ci := 18) (C := RX19) (T := TX19) (N := 4) (fs := fsX19) tyX19 hC rfl in_X19 tyX19_ok q3188 q3114 q149 dfX19 rfl dX19_reversed_0 hw (fun q1 M2 hw => ?_)
  refine G_dup (pc := 3) hC dX19_reversed_3 (rf_cat _) ?_
  refine G_aload_n (pc := 4) (i := 0) hC dX19_reversed_4 rfl rfl ?_
  refine G_getF (pc := 5) (ci := 18) (C := RX19) (T := TX19) (N := 4) (f := 1) hC rfl in_X19 (Nat.le_of_ble_eq_true rfl) q3121 (fun _ h => h) dX19_reversed_5 hw (fun x3 hw => ?_)
  refine G_aload_n (pc := 8) (i := 0) hC dX19_reversed_8 rfl rfl ?_
  refine G_getF (pc := 9) (ci := 18) (C := RX19) (T := TX19) (N := 4) (f := 0) hC rfl in_X19 (Nat.le_of_ble_eq_true rfl) q3119 (fun _ h => h) dX19_reversed_9 hw (fun x4 hw => ?_)
  refine G_aload_n (pc := 12) (i := 0) hC dX19_reversed_12 rfl rfl ?_
  refine G_getI (pc := 13) (ci := 18) (C := RX19) (T := TX19) (N := 4) (f := 2) hC rfl in_X19 (Nat.le_of_ble_eq_true rfl) q3123 (fun _ h => h) dX19_reversed_13 hw (fun x5 hw => ?_)
  refine G_aload_n (pc := 16) (i := 0) hC dX19_reversed_16 rfl rfl ?_
  refine G_getI (pc := 17) (ci := 18) (C := RX19) (T := TX19) (N := 4) (f := 3) hC rfl in_X19 (Nat.le_of_ble_eq_true rfl) q3124 (fun _ h => h) dX19_reversed_17 hw (fun x6 hw => ?_)
  obtain ⟨hb, hw⟩ := hw
  refine G_callI (pc := 20) (n := 4) (b := q1) (As := [va_rf x3, va_rf x4, .int x5, .int x6]) (rest := [va_rf (some q1)]) hC (m_X19_init hJ hw) (lw_meth q3117) q149 q3189 q3116 rfl hd_X19_init.2 (by decide) rfl rfl (st_c (cat_r cat_e) (Nat.le_of_ble_eq_true rfl)) dX19_reversed_20 (kU fun M7 hw => ?_)
  exact G_aret (pc := 23) hC (Or.inl ⟨_, rfl⟩) hQ dX19_reversed_23 hw
def w_X19_fuzzed (g : gT) (F : Nat) (a0 : Nat) (p1 : Int32) (M : hM) (Q : Option Nat → hM → Prop) : Prop :=
  gI M (some a0) 18 2 fun x1 => gI M (some a0) 18 3 fun x2 => nW M 18 fsX19 fun q3 M4 => gF M4 (some a0) 18 0 fun x5 => gThis M4 x5 10 fun b7 => w_X11_without g F b7 (if x1 < p1 then x1 else p1) (if x2 < p1 then x2 else p1) M4 (fun x8 M6 => gF M6 (some a0) 18 1 fun x9 => gThis M6 x9 10 fun b11 => w_X11_without g F b11 (if x1 < p1 then x1 else p1) (if x2 < p1 then x2 else p1) M6 (fun x12 M10 => gI M10 (some a0) 18 2 fun x13 => gI M10 (some a0) 18 3 fun x14 => (isC M10 q3 18 ∧ w_X19_init g F q3 x8 x12 (x13 - (if x1 < p1 then x1 else p1)) (x14 - (if x2 < p1 then x2 else p1)) M10 (fun M15 => Q (some q3) M15))))
theorem m_X19_fuzzed {l : Launch} {g : gT} {F : Nat} {a0 : Nat} {p1 : Int32} {M : hM} {Q : Option Nat → hM → Prop} (hJ : JOK l g) (hw : w_X19_fuzzed g F a0 p1 M Q) : MG l g yX19_fuzzed (ws_ yX19_fuzzed cX19_fuzzed 4 (some (.object "MergeWorkbench$Hunk"))) 3 65 [va_rf (some a0), .int p1] M (PR Q) := by
  refine MG_of hJ.2.1 (by decide) (cat_r (cat_i cat_e)) (Nat.le_of_ble_eq_true rfl) (fun k hl hg hin hQ hC => ?_)
  subst hl hg
  show GW k 4 M 0 [some (va_rf (some a0)), some (.int p1), none, none] []
  refine G_iload_n (pc := 0) (i := 1) hC dX19_fuzzed_0 rfl rfl ?_
  refine G_aload_n (pc := 1) (i := 0) hC dX19_fuzzed_1 rfl rfl ?_
  refine G_getI (pc := 2) (ci := 18) (C := RX19) (T := TX19) (N := 4) (f := 2) hC rfl in_X19 (Nat.le_of_ble_eq_true rfl) q3123 (fun _ h => h) dX19_fuzzed_2 hw (fun x1 hw => ?_)
  refine G_min (pc := 5) hC q3198 q346 q95 q347 rfl rfl (st_c cat_e (Nat.le_of_ble_eq_true rfl)) dX19_fuzzed_5 ?_
  refine G_istore_n (pc := 8) (i := 2) (lw := [some (va_rf (some a0)), some (.int p1), some (.int (if x1 < p1 then x1 else p1)), none]) hC dX19_fuzzed_8 rfl (Nat.le_of_ble_eq_true rfl) rfl ?_
  refine G_iload_n (pc := 9) (i := 1) hC dX19_fuzzed_9 rfl rfl ?_
  refine G_aload_n (pc := 10) (i := 0) hC dX19_fuzzed_10 rfl rfl ?_
  refine G_getI (pc := 11) (ci := 18) (C := RX19) (T := TX19) (N := 4) (f := 3) hC rfl in_X19 (Nat.le_of_ble_eq_true rfl) q3124 (fun _ h => h) dX19_fuzzed_11 hw (fun x2 hw => ?_)
  refine G_min (pc := 14) hC q3198 q346 q95 q347 rfl rfl (st_c cat_e (Nat.le_of_ble_eq_true rfl)) dX19_fuzzed_14 ?_
  refine G_istore_n (pc := 17) (i := 3) (lw := [some (va_rf (some a0)), some (.int p1), some (.int (if x1 < p1 then x1 else p1)), some (.int (if x2 < p1 then x2 else p1))]) hC dX19_fuzzed_17 rfl (Nat.le_of_ble_eq_true rfl) rfl ?_
  refine G_new (pc := 18) (ci := 18) (C := RX19) (T := TX19) (N := 4) (fs := fsX19) tyX19 hC rfl in_X19 tyX19_ok q3188 q3114 q149 dfX19 rfl dX19_fuzzed_18 hw (fun q3 M4 hw => ?_)
  refine G_dup (pc := 21) hC dX19_fuzzed_21 (rf_cat _) ?_
  refine G_aload_n (pc := 22) (i := 0) hC dX19_fuzzed_22 rfl rfl ?_
  refine G_getF (pc := 23) (ci := 18) (C := RX19) (T := TX19) (N := 4) (f := 0) hC rfl in_X19 (Nat.le_of_ble_eq_true rfl) q3119 (fun _ h => h) dX19_fuzzed_23 hw (fun x5 hw => ?_)
  refine G_iload_n (pc := 26) (i := 2) hC dX19_fuzzed_26 rfl rfl ?_
  refine G_iload_n (pc := 27) (i := 3) hC dX19_fuzzed_27 rfl rfl ?_
  obtain ⟨b7, rfl, hb, hw⟩ := gThis_e hw
  refine G_callV (pc := 28) (n := 2) (C := "MergeWorkbench$Part") (b := b7) (As := [.int (if x1 < p1 then x1 else p1), .int (if x2 < p1 then x2 else p1)]) (rest := [va_rf (some q3), va_rf (some q3)]) hC (m_X11_without hJ hw) (lw_V q3199 q2939 q2940 q139 q2941) hd_X11_without (by decide) (rcv (C := RX11) (T := TX11) (N := 3) hC hb rfl) rfl rfl (st_c (cat_r (cat_r cat_e)) (Nat.le_of_ble_eq_true rfl)) dX19_fuzzed_28 (kRf fun x8 M6 hw => ?_)
  refine G_aload_n (pc := 31) (i := 0) hC dX19_fuzzed_31 rfl rfl ?_
  refine G_getF (pc := 32) (ci := 18) (C := RX19) (T := TX19) (N := 4) (f := 1) hC rfl in_X19 (Nat.le_of_ble_eq_true rfl) q3121 (fun _ h => h) dX19_fuzzed_32 hw (fun x9 hw => ?_)
  refine G_iload_n (pc := 35) (i := 2) hC dX19_fuzzed_35 rfl rfl ?_
  refine G_iload_n (pc := 36) (i := 3) hC dX19_fuzzed_36 rfl rfl ?_
  obtain ⟨b11, rfl, hb, hw⟩ := gThis_e hw
  refine G_callV (pc := 37) (n := 2) (C := "MergeWorkbench$Part") (b := b11) (As := [.int (if x1 < p1 then x1 else p1), .int (if x2 < p1 then x2 else p1)]) (rest := [va_rf x8, va_rf (some q3), va_rf (some q3)]) hC (m_X11_without hJ hw) (lw_V q3199 q2939 q2940 q139 q2941) hd_X11_without (by decide) (rcv (C := RX11) (T := TX11) (N := 3) hC hb rfl) rfl rfl (st_c (cat_r (cat_r (cat_r cat_e))) (Nat.le_of_ble_eq_true rfl)) dX19_fuzzed_37 (kRf fun x12 M10 hw => ?_)
  refine G_aload_n (pc := 40) (i := 0) hC dX19_fuzzed_40 rfl rfl ?_
  refine G_getI (pc := 41) (ci := 18) (C := RX19) (T := TX19) (N := 4) (f := 2) hC rfl in_X19 (Nat.le_of_ble_eq_true rfl) q3123 (fun _ h => h) dX19_fuzzed_41 hw (fun x13 hw => ?_)
  refine G_iload_n (pc := 44) (i := 2) hC dX19_fuzzed_44 rfl rfl ?_
  refine G_isub (pc := 45) hC dX19_fuzzed_45 ?_
  refine G_aload_n (pc := 46) (i := 0) hC dX19_fuzzed_46 rfl rfl ?_
  refine G_getI (pc := 47) (ci := 18) (C := RX19) (T := TX19) (N := 4) (f := 3) hC rfl in_X19 (Nat.le_of_ble_eq_true rfl) q3124 (fun _ h => h) dX19_fuzzed_47 hw (fun x14 hw => ?_)
  refine G_iload_n (pc := 50) (i := 3) hC dX19_fuzzed_50 rfl rfl ?_
  refine G_isub (pc := 51) hC dX19_fuzzed_51 ?_
  obtain ⟨hb, hw⟩ := hw
  refine G_callI (pc := 52) (n := 4) (b := q3) (As := [va_rf x8, va_rf x12, .int (x13 - (if x1 < p1 then x1 else p1)), .int (x14 - (if x2 < p1 then x2 else p1))]) (rest := [va_rf (some q3)]) hC (m_X19_init hJ hw) (lw_meth q3117) q149 q3189 q3116 rfl hd_X19_init.2 (by decide) rfl rfl (st_c (cat_r cat_e) (Nat.le_of_ble_eq_true rfl)) dX19_fuzzed_52 (kU fun M15 hw => ?_)
  exact G_aret (pc := 55) hC (Or.inl ⟨_, rfl⟩) hQ dX19_fuzzed_55 hw
def w_X19_fits_55 (g : gT) (F : Nat) (a0 : Nat) (p1 : Option Nat) (p2 : Int32) (Q : Int32 → hM → Prop) (s0 : Int32) (M : hM) : Prop :=
  ((s0 = 0 ∨ s0 = 1) ∧ Q s0 M)
def w_X19_fits_54 (g : gT) (F : Nat) (a0 : Nat) (p1 : Option Nat) (p2 : Int32) (Q : Int32 → hM → Prop) (M : hM) : Prop :=
  w_X19_fits_55 g F a0 p1 p2 Q (0 : Int32) M
def w_X19_fits (g : gT) (F : Nat) (a0 : Nat) (p1 : Option Nat) (p2 : Int32) (M : hM) (Q : Int32 → hM → Prop) : Prop :=
  ((p2 < 0 → w_X19_fits_54 g F a0 p1 p2 Q M) ∧ (¬ (p2 < 0) → gF M (some a0) 18 0 fun x1 => gThis M x1 10 fun b3 => w_X11_length g F b3  M (fun x4 M2 => gThis M2 p1 21 fun b6 => L_size g b6  M2 (fun x7 M5 => ((x7 < (p2 + x4) → w_X19_fits_54 g F a0 p1 p2 Q M5) ∧ (¬ (x7 < (p2 + x4)) → gF M5 (some a0) 18 0 fun x8 => nW M5 10 fsX11 fun q9 M10 => gF M10 (some a0) 18 0 fun x11 => gThis M10 x11 10 fun b13 => w_X11_length g F b13  M10 (fun x14 M12 => (isC M12 q9 10 ∧ w_X11_init g F q9 (some b6) p2 (p2 + x14) M12 (fun M15 => gThis M15 x8 10 fun b17 => w_X11_isLike g F b17 (some q9) M15 (fun x18 M16 => ((x18 = 0 → w_X19_fits_54 g F a0 p1 p2 Q M16) ∧ (¬ (x18 = 0) → w_X19_fits_55 g F a0 p1 p2 Q (1 : Int32) M16))))))))))))
theorem g_X19_fits_55 {k : kT} {F : Nat} {a0 : Nat} {p1 : Option Nat} {p2 : Int32} {Q : Int32 → hM → Prop} (hJ : JOK (kl k) (kg k)) (hC : CX k 3 cX19_fits RX19 (some .boolean) 44 2085) (hQ : isQ k (PI Q)) (hin : (kt k).name = "fits") : ∀ (s0 : Int32) (M : hM), w_X19_fits_55 (kg k) F a0 p1 p2 Q s0 M → GW k 3 M 55 [some (va_rf (some a0)), some (va_rf p1), some (.int p2)] [.int s0] := by
  intro s0 M hw
  obtain ⟨hz, hw⟩ := hw
  exact G_iret (pc := 55) hC (nz_n hz) hQ dX19_fits_55 hw
theorem g_X19_fits_54 {k : kT} {F : Nat} {a0 : Nat} {p1 : Option Nat} {p2 : Int32} {Q : Int32 → hM → Prop} (hJ : JOK (kl k) (kg k)) (hC : CX k 3 cX19_fits RX19 (some .boolean) 44 2085) (hQ : isQ k (PI Q)) (hin : (kt k).name = "fits") : ∀  (M : hM), w_X19_fits_54 (kg k) F a0 p1 p2 Q  M → GW k 3 M 54 [some (va_rf (some a0)), some (va_rf p1), some (.int p2)] [] := by
  intro  M hw
  refine G_iconst (pc := 54) (v := 0) hC dX19_fits_54 (by decide) ?_
  exact g_X19_fits_55 hJ hC hQ hin  (0 : Int32) M hw
theorem m_X19_fits {l : Launch} {g : gT} {F : Nat} {a0 : Nat} {p1 : Option Nat} {p2 : Int32} {M : hM} {Q : Int32 → hM → Prop} (hJ : JOK l g) (hw : w_X19_fits g F a0 p1 p2 M Q) : MG l g yX19_fits (ws_ yX19_fits cX19_fits 3 (some .boolean)) 44 2085 [va_rf (some a0), va_rf p1, .int p2] M (PI Q) := by
  refine MG_of hJ.2.1 (by decide) (cat_r (cat_r (cat_i cat_e))) (Nat.le_of_ble_eq_true rfl) (fun k hl hg hin hQ hC => ?_)
  subst hl hg
  show GW k 3 M 0 [some (va_rf (some a0)), some (va_rf p1), some (.int p2)] []
  refine G_iload_n (pc := 0) (i := 2) hC dX19_fits_0 rfl rfl ?_
  refine G_if_lt (pc := 1) (tgt := 54) hC dX19_fits_1 (by decide) (fun hc => ?_) (fun hc => ?_)
  · replace hw := hw.1 hc
    exact g_X19_fits_54 hJ hC hQ hin   M hw
  · replace hw := hw.2 hc
    refine G_iload_n (pc := 4) (i := 2) hC dX19_fits_4 rfl rfl ?_
    refine G_aload_n (pc := 5) (i := 0) hC dX19_fits_5 rfl rfl ?_
    refine G_getF (pc := 6) (ci := 18) (C := RX19) (T := TX19) (N := 4) (f := 0) hC rfl in_X19 (Nat.le_of_ble_eq_true rfl) q3119 (fun _ h => h) dX19_fits_6 hw (fun x1 hw => ?_)
    obtain ⟨b3, rfl, hb, hw⟩ := gThis_e hw
    refine G_callV (pc := 9) (n := 0) (C := "MergeWorkbench$Part") (b := b3) (As := []) (rest := [.int p2]) hC (m_X11_length hJ hw) (lw_V q3161 q2816 q2817 q139 q2818) hd_X11_length (by decide) (rcv (C := RX11) (T := TX11) (N := 3) hC hb rfl) rfl rfl (st_c (cat_i cat_e) (Nat.le_of_ble_eq_true rfl)) dX19_fits_9 (kI fun x4 M2 hw => ?_)
    refine G_iadd (pc := 12) hC dX19_fits_12 ?_
    refine G_aload_n (pc := 13) (i := 1) hC dX19_fits_13 rfl rfl ?_
    obtain ⟨b6, rfl, hb, hw⟩ := gThis_e hw
    refine G_callF (pc := 14) (n := 0) (x := ⟨"java/util/List", "size", "()I"⟩) (C := "java/util/ArrayList") (ci := 21) (T := TJ2) (N := 3) (b := b6) (As := []) (rest := [.int (p2 + x4)]) hC (J_L_size hJ hw) (lw_F q3213 q889 q363 q87 q364) (nw_in q888 rfl) (nw_in q887 rfl) (nw_in q891 rfl) (nw_in q890 rfl) (nw_in q259 rfl) rfl (rcv (C := RJ2) (T := TJ2) (N := 3) hC hb rfl) (by decide +kernel) (by decide) rfl rfl (st_c (cat_i cat_e) (Nat.le_of_ble_eq_true rfl)) dX19_fits_14 (kI fun x7 M5 hw => ?_)
    refine G_icmp_gt (pc := 19) (tgt := 54) hC dX19_fits_19 (by decide) (fun hc => ?_) (fun hc => ?_)
    · replace hw := hw.1 hc
      exact g_X19_fits_54 hJ hC hQ hin   M5 hw
    · replace hw := hw.2 hc
      refine G_aload_n (pc := 22) (i := 0) hC dX19_fits_22 rfl rfl ?_
      refine G_getF (pc := 23) (ci := 18) (C := RX19) (T := TX19) (N := 4) (f := 0) hC rfl in_X19 (Nat.le_of_ble_eq_true rfl) q3119 (fun _ h => h) dX19_fits_23 hw (fun x8 hw => ?_)
      refine G_new (pc := 26) (ci := 10) (C := RX11) (T := TX11) (N := 3) (fs := fsX11) tyX11 hC rfl in_X11 tyX11_ok q3214 q2368 q139 dfX11 rfl dX19_fits_26 hw (fun q9 M10 hw => ?_)
      refine G_dup (pc := 29) hC dX19_fits_29 (rf_cat _) ?_
      refine G_aload_n (pc := 30) (i := 1) hC dX19_fits_30 rfl rfl ?_
      refine G_iload_n (pc := 31) (i := 2) hC dX19_fits_31 rfl rfl ?_
      refine G_iload_n (pc := 32) (i := 2) hC dX19_fits_32 rfl rfl ?_
      refine G_aload_n (pc := 33) (i := 0) hC dX19_fits_33 rfl rfl ?_
      refine G_getF (pc := 34) (ci := 18) (C := RX19) (T := TX19) (N := 4) (f := 0) hC rfl in_X19 (Nat.le_of_ble_eq_true rfl) q3119 (fun _ h => h) dX19_fits_34 hw (fun x11 hw => ?_)
      obtain ⟨b13, rfl, hb, hw⟩ := gThis_e hw
      refine G_callV (pc := 37) (n := 0) (C := "MergeWorkbench$Part") (b := b13) (As := []) (rest := [.int p2, .int p2, va_rf (some b6), va_rf (some q9), va_rf (some q9), va_rf x8]) hC (m_X11_length hJ hw) (lw_V q3161 q2816 q2817 q139 q2818) hd_X11_length (by decide) (rcv (C := RX11) (T := TX11) (N := 3) hC hb rfl) rfl rfl (st_c (cat_i (cat_i (cat_r (cat_r (cat_r (cat_r cat_e)))))) (Nat.le_of_ble_eq_true rfl)) dX19_fits_37 (kI fun x14 M12 hw => ?_)
      refine G_iadd (pc := 40) hC dX19_fits_40 ?_
      obtain ⟨hb, hw⟩ := hw
      refine G_callI (pc := 41) (n := 3) (b := q9) (As := [va_rf (some b6), .int p2, .int (p2 + x14)]) (rest := [va_rf (some q9), va_rf x8]) hC (m_X11_init hJ hw) (lw_meth q2371) q139 q3215 q2370 rfl hd_X11_init.2 (by decide) rfl rfl (st_c (cat_r (cat_r cat_e)) (Nat.le_of_ble_eq_true rfl)) dX19_fits_41 (kU fun M15 hw => ?_)
      obtain ⟨b17, rfl, hb, hw⟩ := gThis_e hw
      refine G_callV (pc := 44) (n := 1) (C := "MergeWorkbench$Part") (b := b17) (As := [va_rf (some q9)]) (rest := []) hC (m_X11_isLike hJ hw) (lw_V q3216 q2812 q2813 q139 q2814) hd_X11_isLike (by decide) (rcv (C := RX11) (T := TX11) (N := 3) hC hb rfl) rfl rfl (st_c cat_e (Nat.le_of_ble_eq_true rfl)) dX19_fits_44 (kI fun x18 M16 hw => ?_)
      refine G_if_eq (pc := 47) (tgt := 54) hC dX19_fits_47 (by decide) (fun hc => ?_) (fun hc => ?_)
      · replace hw := hw.1 hc
        exact g_X19_fits_54 hJ hC hQ hin   M16 hw
      · replace hw := hw.2 hc
        refine G_iconst (pc := 50) (v := 1) hC dX19_fits_50 (by decide) ?_
        refine G_goto (pc := 51) (tgt := 55) hC dX19_fits_51 (by decide) ?_
        exact g_X19_fits_55 hJ hC hQ hin  (1 : Int32) M16 hw
theorem hd_X19_fits : yX19_fits.cls = "MergeWorkbench$Hunk" ∧ yX19_fits.cls ≠ "java/lang/invoke/MethodHandle" ∧ yX19_fits.cls ≠ "java/lang/invoke/VarHandle" ∧ (parseMethodDescriptor yX19_fits.desc).map (fun d => d.parameters.length) = some 2 := by decide +kernel
def w_X20_canStand_25 (g : gT) (F : Nat) (a0 : Nat) (p1 : Option Nat) (p2 : Int32) (Q : Int32 → hM → Prop) (s0 : Int32) (M : hM) : Prop :=
  ((s0 = 0 ∨ s0 = 1) ∧ Q s0 M)
def w_X20_canStand_24 (g : gT) (F : Nat) (a0 : Nat) (p1 : Option Nat) (p2 : Int32) (Q : Int32 → hM → Prop) (M : hM) : Prop :=
  w_X20_canStand_25 g F a0 p1 p2 Q (0 : Int32) M
def w_X20_canStand (g : gT) (F : Nat) (a0 : Nat) (p1 : Option Nat) (p2 : Int32) (M : hM) (Q : Int32 → hM → Prop) : Prop :=
  gI M (some a0) 19 4 fun x1 => ((p2 < x1 → w_X20_canStand_24 g F a0 p1 p2 Q M) ∧ (¬ (p2 < x1) → gF M (some a0) 19 0 fun x2 => gThis M p1 18 fun b4 => w_X19_fits g F b4 x2 p2 M (fun x5 M3 => ((x5 = 0 → w_X20_canStand_24 g F a0 p1 p2 Q M3) ∧ (¬ (x5 = 0) → w_X20_canStand_25 g F a0 p1 p2 Q (1 : Int32) M3)))))
theorem g_X20_canStand_25 {k : kT} {F : Nat} {a0 : Nat} {p1 : Option Nat} {p2 : Int32} {Q : Int32 → hM → Prop} (hJ : JOK (kl k) (kg k)) (hC : CX k 3 cX20_canStand RX20 (some .boolean) 45 2107) (hQ : isQ k (PI Q)) (hin : (kt k).name = "canStand") : ∀ (s0 : Int32) (M : hM), w_X20_canStand_25 (kg k) F a0 p1 p2 Q s0 M → GW k 3 M 25 [some (va_rf (some a0)), some (va_rf p1), some (.int p2)] [.int s0] := by
  intro s0 M hw
  obtain ⟨hz, hw⟩ := hw
  exact G_iret (pc := 25) hC (nz_n hz) hQ dX20_canStand_25 hw
theorem g_X20_canStand_24 {k : kT} {F : Nat} {a0 : Nat} {p1 : Option Nat} {p2 : Int32} {Q : Int32 → hM → Prop} (hJ : JOK (kl k) (kg k)) (hC : CX k 3 cX20_canStand RX20 (some .boolean) 45 2107) (hQ : isQ k (PI Q)) (hin : (kt k).name = "canStand") : ∀  (M : hM), w_X20_canStand_24 (kg k) F a0 p1 p2 Q  M → GW k 3 M 24 [some (va_rf (some a0)), some (va_rf p1), some (.int p2)] [] := by
  intro  M hw
  refine G_iconst (pc := 24) (v := 0) hC dX20_canStand_24 (by decide) ?_
  exact g_X20_canStand_25 hJ hC hQ hin  (0 : Int32) M hw
theorem m_X20_canStand {l : Launch} {g : gT} {F : Nat} {a0 : Nat} {p1 : Option Nat} {p2 : Int32} {M : hM} {Q : Int32 → hM → Prop} (hJ : JOK l g) (hw : w_X20_canStand g F a0 p1 p2 M Q) : MG l g yX20_canStand (ws_ yX20_canStand cX20_canStand 3 (some .boolean)) 45 2107 [va_rf (some a0), va_rf p1, .int p2] M (PI Q) := by
  refine MG_of hJ.2.1 (by decide) (cat_r (cat_r (cat_i cat_e))) (Nat.le_of_ble_eq_true rfl) (fun k hl hg hin hQ hC => ?_)
  subst hl hg
  show GW k 3 M 0 [some (va_rf (some a0)), some (va_rf p1), some (.int p2)] []
  refine G_iload_n (pc := 0) (i := 2) hC dX20_canStand_0 rfl rfl ?_
  refine G_aload_n (pc := 1) (i := 0) hC dX20_canStand_1 rfl rfl ?_
  refine G_getI (pc := 2) (ci := 19) (C := RX20) (T := TX20) (N := 7) (f := 4) hC rfl in_X20 (Nat.le_of_ble_eq_true rfl) q3247 (fun _ h => h) dX20_canStand_2 hw (fun x1 hw => ?_)
  refine G_icmp_lt (pc := 5) (tgt := 24) hC dX20_canStand_5 (by decide) (fun hc => ?_) (fun hc => ?_)
  · replace hw := hw.1 hc
    exact g_X20_canStand_24 hJ hC hQ hin   M hw
  · replace hw := hw.2 hc
    refine G_aload_n (pc := 8) (i := 1) hC dX20_canStand_8 rfl rfl ?_
    refine G_aload_n (pc := 9) (i := 0) hC dX20_canStand_9 rfl rfl ?_
    refine G_getF (pc := 10) (ci := 19) (C := RX20) (T := TX20) (N := 7) (f := 0) hC rfl in_X20 (Nat.le_of_ble_eq_true rfl) q3241 (fun _ h => h) dX20_canStand_10 hw (fun x2 hw => ?_)
    refine G_iload_n (pc := 13) (i := 2) hC dX20_canStand_13 rfl rfl ?_
    obtain ⟨b4, rfl, hb, hw⟩ := gThis_e hw
    refine G_callV (pc := 14) (n := 2) (C := "MergeWorkbench$Hunk") (b := b4) (As := [va_rf x2, .int p2]) (rest := []) hC (m_X19_fits hJ hw) (lw_V q3208 q3209 q3210 q149 q3211) hd_X19_fits (by decide) (rcv (C := RX19) (T := TX19) (N := 4) hC hb rfl) rfl rfl (st_c cat_e (Nat.le_of_ble_eq_true rfl)) dX20_canStand_14 (kI fun x5 M3 hw => ?_)
    refine G_if_eq (pc := 17) (tgt := 24) hC dX20_canStand_17 (by decide) (fun hc => ?_) (fun hc => ?_)
    · replace hw := hw.1 hc
      exact g_X20_canStand_24 hJ hC hQ hin   M3 hw
    · replace hw := hw.2 hc
      refine G_iconst (pc := 20) (v := 1) hC dX20_canStand_20 (by decide) ?_
      refine G_goto (pc := 21) (tgt := 25) hC dX20_canStand_21 (by decide) ?_
      exact g_X20_canStand_25 hJ hC hQ hin  (1 : Int32) M3 hw
theorem hd_X20_canStand : yX20_canStand.cls = "MergeWorkbench$Application" ∧ yX20_canStand.cls ≠ "java/lang/invoke/MethodHandle" ∧ yX20_canStand.cls ≠ "java/lang/invoke/VarHandle" ∧ (parseMethodDescriptor yX20_canStand.desc).map (fun d => d.parameters.length) = some 2 := by decide +kernel
def w_X20_find_15 (g : gT) (F : Nat) (a0 : Nat) (p1 : Option Nat) (Q : Int32 → hM → Prop) : Nat → Int32 → Int32 → hM → Prop
  | 0, _, _, _ => False
  | n + 1, v2, v3, M => (((10 : Int32) < v3 → Q (-1 : Int32) M) ∧ (¬ ((10 : Int32) < v3) → (isC M a0 19 ∧ w_X20_canStand g F a0 p1 (v2 + v3) M (fun x2 M1 => ((x2 = 0 → (isC M1 a0 19 ∧ w_X20_canStand g F a0 p1 (v2 - v3) M1 (fun x4 M3 => ((x4 = 0 → w_X20_find_15 g F a0 p1 Q n v2 (v3 + (1 : Int32)) M3) ∧ (¬ (x4 = 0) → Q (v2 - v3) M3))))) ∧ (¬ (x2 = 0) → Q (v2 + v3) M1))))))
def w_X20_find (g : gT) (F : Nat) (a0 : Nat) (p1 : Option Nat) (M : hM) (Q : Int32 → hM → Prop) : Prop :=
  gF M p1 18 0 fun x1 => gI M x1 10 1 fun x2 => gI M (some a0) 19 5 fun x3 => w_X20_find_15 g F a0 p1 Q F (x2 + x3) (0 : Int32) M
theorem g_X20_find_15 {k : kT} {F : Nat} {a0 : Nat} {p1 : Option Nat} {Q : Int32 → hM → Prop} (hJ : JOK (kl k) (kg k)) (hC : CX k 4 cX20_find RX20 (some .int) 46 2129) (hQ : isQ k (PI Q)) (hin : (kt k).name = "find") : ∀ (n : Nat) (v2 : Int32) (v3 : Int32) (M : hM), w_X20_find_15 (kg k) F a0 p1 Q n v2 v3 M → GW k 4 M 15 [some (va_rf (some a0)), some (va_rf p1), some (.int v2), some (.int v3)] [] := by
  intro n
  induction n with
  | zero =>
    intro v2 v3 M hw
    exact hw.elim
  | succ n ih =>
    intro v2 v3 M hw
    refine G_iload_n (pc := 15) (i := 3) hC dX20_find_15 rfl rfl ?_
    refine G_bipush (pc := 16) (v := 10) hC dX20_find_16 (by decide) ?_
    refine G_icmp_gt (pc := 18) (tgt := 57) hC dX20_find_18 (by decide) (fun hc => ?_) (fun hc => ?_)
    · replace hw := hw.1 hc
      refine G_iconst (pc := 57) (v := -1) hC dX20_find_57 (by decide) ?_
      exact G_iret (pc := 58) hC rfl hQ dX20_find_58 hw
    · replace hw := hw.2 hc
      refine G_aload_n (pc := 21) (i := 0) hC dX20_find_21 rfl rfl ?_
      refine G_aload_n (pc := 22) (i := 1) hC dX20_find_22 rfl rfl ?_
      refine G_iload_n (pc := 23) (i := 2) hC dX20_find_23 rfl rfl ?_
      refine G_iload_n (pc := 24) (i := 3) hC dX20_find_24 rfl rfl ?_
      refine G_iadd (pc := 25) hC dX20_find_25 ?_
      obtain ⟨hb, hw⟩ := hw
      refine G_callV (pc := 26) (n := 2) (C := "MergeWorkbench$Application") (b := a0) (As := [va_rf p1, .int (v2 + v3)]) (rest := []) hC (m_X20_canStand hJ hw) (lw_V q3204 q3206 qs51 q150 q3207) hd_X20_canStand (by decide) (rcv (C := RX20) (T := TX20) (N := 7) hC hb rfl) rfl rfl (st_c cat_e (Nat.le_of_ble_eq_true rfl)) dX20_find_26 (kI fun x2 M1 hw => ?_)
      refine G_if_eq (pc := 29) (tgt := 36) hC dX20_find_29 (by decide) (fun hc => ?_) (fun hc => ?_)
      · replace hw := hw.1 hc
        refine G_aload_n (pc := 36) (i := 0) hC dX20_find_36 rfl rfl ?_
        refine G_aload_n (pc := 37) (i := 1) hC dX20_find_37 rfl rfl ?_
        refine G_iload_n (pc := 38) (i := 2) hC dX20_find_38 rfl rfl ?_
        refine G_iload_n (pc := 39) (i := 3) hC dX20_find_39 rfl rfl ?_
        refine G_isub (pc := 40) hC dX20_find_40 ?_
        obtain ⟨hb, hw⟩ := hw
        refine G_callV (pc := 41) (n := 2) (C := "MergeWorkbench$Application") (b := a0) (As := [va_rf p1, .int (v2 - v3)]) (rest := []) hC (m_X20_canStand hJ hw) (lw_V q3204 q3206 qs51 q150 q3207) hd_X20_canStand (by decide) (rcv (C := RX20) (T := TX20) (N := 7) hC hb rfl) rfl rfl (st_c cat_e (Nat.le_of_ble_eq_true rfl)) dX20_find_41 (kI fun x4 M3 hw => ?_)
        refine G_if_eq (pc := 44) (tgt := 51) hC dX20_find_44 (by decide) (fun hc => ?_) (fun hc => ?_)
        · replace hw := hw.1 hc
          refine G_iinc (pc := 51) (i := 3) (v := (v3 + (1 : Int32))) (lw := [some (va_rf (some a0)), some (va_rf p1), some (.int v2), some (.int (v3 + (1 : Int32)))]) hC dX20_find_51 rfl (Nat.le_of_ble_eq_true rfl) rfl rfl ?_
          refine G_goto (pc := 54) (tgt := 15) hC dX20_find_54 (by decide) ?_
          exact ih v2 (v3 + (1 : Int32)) M3 hw
        · replace hw := hw.2 hc
          refine G_iload_n (pc := 47) (i := 2) hC dX20_find_47 rfl rfl ?_
          refine G_iload_n (pc := 48) (i := 3) hC dX20_find_48 rfl rfl ?_
          refine G_isub (pc := 49) hC dX20_find_49 ?_
          exact G_iret (pc := 50) hC rfl hQ dX20_find_50 hw
      · replace hw := hw.2 hc
        refine G_iload_n (pc := 32) (i := 2) hC dX20_find_32 rfl rfl ?_
        refine G_iload_n (pc := 33) (i := 3) hC dX20_find_33 rfl rfl ?_
        refine G_iadd (pc := 34) hC dX20_find_34 ?_
        exact G_iret (pc := 35) hC rfl hQ dX20_find_35 hw
theorem m_X20_find {l : Launch} {g : gT} {F : Nat} {a0 : Nat} {p1 : Option Nat} {M : hM} {Q : Int32 → hM → Prop} (hJ : JOK l g) (hw : w_X20_find g F a0 p1 M Q) : MG l g yX20_find (ws_ yX20_find cX20_find 4 (some .int)) 46 2129 [va_rf (some a0), va_rf p1] M (PI Q) := by
  refine MG_of hJ.2.1 (by decide) (cat_r (cat_r cat_e)) (Nat.le_of_ble_eq_true rfl) (fun k hl hg hin hQ hC => ?_)
  subst hl hg
  show GW k 4 M 0 [some (va_rf (some a0)), some (va_rf p1), none, none] []
  refine G_aload_n (pc := 0) (i := 1) hC dX20_find_0 rfl rfl ?_
  refine G_getFN (pc := 1) (ci := 18) (C := RX19) (T := TX19) (N := 4) (f := 0) hC rfl in_X19 (Nat.le_of_ble_eq_true rfl) (nw_in q3120 rfl) (fun _ h => h) dX20_find_1 hw (fun x1 hw => ?_)
  refine G_getIN (pc := 4) (ci := 10) (C := RX11) (T := TX11) (N := 3) (f := 1) hC rfl in_X11 (Nat.le_of_ble_eq_true rfl) (nw_in q2379 rfl) (fun _ h => h) dX20_find_4 hw (fun x2 hw => ?_)
  refine G_aload_n (pc := 7) (i := 0) hC dX20_find_7 rfl rfl ?_
  refine G_getI (pc := 8) (ci := 19) (C := RX20) (T := TX20) (N := 7) (f := 5) hC rfl in_X20 (Nat.le_of_ble_eq_true rfl) q3248 (fun _ h => h) dX20_find_8 hw (fun x3 hw => ?_)
  refine G_iadd (pc := 11) hC dX20_find_11 ?_
  refine G_istore_n (pc := 12) (i := 2) (lw := [some (va_rf (some a0)), some (va_rf p1), some (.int (x2 + x3)), none]) hC dX20_find_12 rfl (Nat.le_of_ble_eq_true rfl) rfl ?_
  refine G_iconst (pc := 13) (v := 0) hC dX20_find_13 (by decide) ?_
  refine G_istore_n (pc := 14) (i := 3) (lw := [some (va_rf (some a0)), some (va_rf p1), some (.int (x2 + x3)), some (.int (0 : Int32))]) hC dX20_find_14 rfl (Nat.le_of_ble_eq_true rfl) rfl ?_
  exact g_X20_find_15 hJ hC hQ hin _ (x2 + x3) (0 : Int32) M hw
def w_X21_init (g : gT) (F : Nat) (a0 : Nat) (p1 : Int32) (p2 : Int32) (M : hM) (Q : hM → Prop) : Prop :=
  pV M (some a0) 20 0 (.int p1) fun M1 => pV M1 (some a0) 20 1 (.int p2) fun M2 => Q M2
theorem m_X21_init {l : Launch} {g : gT} {F : Nat} {a0 : Nat} {p1 : Int32} {p2 : Int32} {M : hM} {Q : hM → Prop} (hJ : JOK l g) (hw : w_X21_init g F a0 p1 p2 M Q) : MG l g yX21_init (ws_ yX21_init cX21_init 3 none) 1 20 [va_rf (some a0), .int p1, .int p2] M (PU Q) := by
  refine MG_of hJ.2.1 (by decide) (cat_r (cat_i (cat_i cat_e))) (Nat.le_of_ble_eq_true rfl) (fun k hl hg hin hQ hC => ?_)
  subst hl hg
  show GW k 3 M 0 [some (va_rf (some a0)), some (.int p1), some (.int p2)] []
  refine G_aload_n (pc := 0) (i := 0) hC dX21_init_0 rfl rfl ?_
  refine G_objInit (pc := 1) hC q3226 q158 q159 rfl rfl (st_c cat_e (Nat.le_of_ble_eq_true rfl)) dX21_init_1 ?_
  refine G_aload_n (pc := 4) (i := 0) hC dX21_init_4 rfl rfl ?_
  refine G_iload_n (pc := 5) (i := 1) hC dX21_init_5 rfl rfl ?_
  refine G_putF (pc := 6) (ci := 20) (C := RX21) (T := TX21) (N := 2) (f := 0) tyX21 hC rfl in_X21 tyX21_ok nmX21 (Nat.le_of_ble_eq_true rfl) q3227 (fun _ h => h) rfl hin rfl rfl rfl dX21_init_6 hw (fun M1 hw => ?_)
  refine G_aload_n (pc := 9) (i := 0) hC dX21_init_9 rfl rfl ?_
  refine G_iload_n (pc := 10) (i := 2) hC dX21_init_10 rfl rfl ?_
  refine G_putF (pc := 11) (ci := 20) (C := RX21) (T := TX21) (N := 2) (f := 1) tyX21 hC rfl in_X21 tyX21_ok nmX21 (Nat.le_of_ble_eq_true rfl) q3229 (fun _ h => h) rfl hin rfl rfl rfl dX21_init_11 hw (fun M2 hw => ?_)
  exact G_ret (pc := 14) hC hQ dX21_init_14 hw
theorem hd_X19_fuzzed : yX19_fuzzed.cls = "MergeWorkbench$Hunk" ∧ yX19_fuzzed.cls ≠ "java/lang/invoke/MethodHandle" ∧ yX19_fuzzed.cls ≠ "java/lang/invoke/VarHandle" ∧ (parseMethodDescriptor yX19_fuzzed.desc).map (fun d => d.parameters.length) = some 1 := by decide +kernel
theorem hd_X20_find : yX20_find.cls = "MergeWorkbench$Application" ∧ yX20_find.cls ≠ "java/lang/invoke/MethodHandle" ∧ yX20_find.cls ≠ "java/lang/invoke/VarHandle" ∧ (parseMethodDescriptor yX20_find.desc).map (fun d => d.parameters.length) = some 1 := by decide +kernel
theorem hd_X21_init : yX21_init.cls = "MergeWorkbench$Outcome" ∧ yX21_init.cls ≠ "java/lang/invoke/MethodHandle" ∧ yX21_init.cls ≠ "java/lang/invoke/VarHandle" ∧ (parseMethodDescriptor yX21_init.desc).map (fun d => d.parameters.length) = some 2 := by decide +kernel
def w_X20_apply_2 (g : gT) (F : Nat) (a0 : Nat) (p1 : Option Nat) (Q : Option Nat → hM → Prop) : Nat → Int32 → hM → Prop
  | 0, _, _ => False
  | n + 1, v2, M => gI M (some a0) 19 1 fun x1 => ((x1 < v2 → nW M 20 fsX21 fun q2 M3 => (isC M3 q2 20 ∧ w_X21_init g F q2 (-1 : Int32) (-1 : Int32) M3 (fun M4 => Q (some q2) M4))) ∧ (¬ (x1 < v2) → gThis M p1 18 fun b6 => w_X19_fuzzed g F b6 v2 M (fun x7 M5 => (isC M5 a0 19 ∧ w_X20_find g F a0 x7 M5 (fun x9 M8 => ((x9 < 0 → w_X20_apply_2 g F a0 p1 Q n (v2 + (1 : Int32)) M8) ∧ (¬ (x9 < 0) → nW M8 10 fsX11 fun q10 M11 => gF M11 (some a0) 19 0 fun x12 => gI M11 (some a0) 19 4 fun x13 => (isC M11 q10 10 ∧ w_X11_init g F q10 x12 x13 x9 M11 (fun M14 => gF M14 (some a0) 19 2 fun x15 => (isC M14 q10 10 ∧ w_X11_addTo g F q10 x15 M14 (fun M16 => gF M16 x7 18 1 fun x17 => gF M16 (some a0) 19 2 fun x18 => gThis M16 x17 10 fun b20 => w_X11_addTo g F b20 x18 M16 (fun M19 => gF M19 x7 18 0 fun x21 => gThis M19 x21 10 fun b23 => w_X11_length g F b23  M19 (fun x24 M22 => pV M22 (some a0) 19 4 (.int (x9 + x24)) fun M25 => gF M25 x7 18 0 fun x26 => gI M25 x26 10 1 fun x27 => pV M25 (some a0) 19 5 (.int (x9 - x27)) fun M28 => nW M28 20 fsX21 fun q29 M30 => (isC M30 q29 20 ∧ w_X21_init g F q29 x9 v2 M30 (fun M31 => Q (some q29) M31)))))))))))))))
def w_X20_apply (g : gT) (F : Nat) (a0 : Nat) (p1 : Option Nat) (M : hM) (Q : Option Nat → hM → Prop) : Prop :=
  w_X20_apply_2 g F a0 p1 Q F (0 : Int32) M
theorem g_X20_apply_2 {k : kT} {F : Nat} {a0 : Nat} {p1 : Option Nat} {Q : Option Nat → hM → Prop} (hJ : JOK (kl k) (kg k)) (hC : CX k 5 cX20_apply RX20 (some (.object "MergeWorkbench$Outcome")) 47 2152) (hQ : isQ k (PR Q)) (hin : (kt k).name = "apply") : ∀ (n : Nat) (v2 : Int32) (M : hM), w_X20_apply_2 (kg k) F a0 p1 Q n v2 M → GW k 5 M 2 [some (va_rf (some a0)), some (va_rf p1), some (.int v2), none, none] [] := by
  intro n
  induction n with
  | zero =>
    intro v2 M hw
    exact hw.elim
  | succ n ih =>
    intro v2 M hw
    refine G_iload_n (pc := 2) (i := 2) hC dX20_apply_2 rfl rfl ?_
    refine G_aload_n (pc := 3) (i := 0) hC dX20_apply_3 rfl rfl ?_
    refine G_getI (pc := 4) (ci := 19) (C := RX20) (T := TX20) (N := 7) (f := 1) hC rfl in_X20 (Nat.le_of_ble_eq_true rfl) q3242 (fun _ h => h) dX20_apply_4 hw (fun x1 hw => ?_)
    refine G_icmp_gt (pc := 7) (tgt := 108) hC dX20_apply_7 (by decide) (fun hc => ?_) (fun hc => ?_)
    · replace hw := hw.1 hc
      refine G_new (pc := 108) (ci := 20) (C := RX21) (T := TX21) (N := 2) (fs := fsX21) tyX21 hC rfl in_X21 tyX21_ok q3221 q3222 q151 dfX21 rfl dX20_apply_108 hw (fun q2 M3 hw => ?_)
      refine G_dup (pc := 111) hC dX20_apply_111 (rf_cat _) ?_
      refine G_iconst (pc := 112) (v := -1) hC dX20_apply_112 (by decide) ?_
      refine G_iconst (pc := 113) (v := -1) hC dX20_apply_113 (by decide) ?_
      obtain ⟨hb, hw⟩ := hw
      refine G_callI (pc := 114) (n := 2) (b := q2) (As := [.int (-1 : Int32), .int (-1 : Int32)]) (rest := [va_rf (some q2)]) hC (m_X21_init hJ hw) (lw_meth q3225) q151 q3223 q3224 rfl hd_X21_init.2 (by decide) rfl rfl (st_c (cat_r cat_e) (Nat.le_of_ble_eq_true rfl)) dX20_apply_114 (kU fun M4 hw => ?_)
      exact G_aret (pc := 117) hC (Or.inl ⟨_, rfl⟩) hQ dX20_apply_117 hw
    · replace hw := hw.2 hc
      refine G_aload_n (pc := 10) (i := 1) hC dX20_apply_10 rfl rfl ?_
      refine G_iload_n (pc := 11) (i := 2) hC dX20_apply_11 rfl rfl ?_
      obtain ⟨b6, rfl, hb, hw⟩ := gThis_e hw
      refine G_callV (pc := 12) (n := 1) (C := "MergeWorkbench$Hunk") (b := b6) (As := [.int v2]) (rest := []) hC (m_X19_fuzzed hJ hw) (lw_V q3194 q3195 q3196 q149 q3197) hd_X19_fuzzed (by decide) (rcv (C := RX19) (T := TX19) (N := 4) hC hb rfl) rfl rfl (st_c cat_e (Nat.le_of_ble_eq_true rfl)) dX20_apply_12 (kRf fun x7 M5 hw => ?_)
      refine G_astore_n (pc := 15) (i := 3) (lw := [some (va_rf (some a0)), some (va_rf (some b6)), some (.int v2), some (va_rf x7), none]) hC dX20_apply_15 rfl (Nat.le_of_ble_eq_true rfl) rfl ?_
      refine G_aload_n (pc := 16) (i := 0) hC dX20_apply_16 rfl rfl ?_
      refine G_aload_n (pc := 17) (i := 3) hC dX20_apply_17 rfl rfl ?_
      obtain ⟨hb, hw⟩ := hw
      refine G_callV (pc := 18) (n := 1) (C := "MergeWorkbench$Application") (b := a0) (As := [va_rf x7]) (rest := []) hC (m_X20_find hJ hw) (lw_V q3200 q3202 qs50 q150 q3203) hd_X20_find (by decide) (rcv (C := RX20) (T := TX20) (N := 7) hC hb rfl) rfl rfl (st_c cat_e (Nat.le_of_ble_eq_true rfl)) dX20_apply_18 (kI fun x9 M8 hw => ?_)
      refine G_istore (pc := 21) (i := 4) (lw := [some (va_rf (some a0)), some (va_rf (some b6)), some (.int v2), some (va_rf x7), some (.int x9)]) hC dX20_apply_21 (Nat.le_of_ble_eq_true rfl) rfl ?_
      refine G_iload (pc := 23) (i := 4) hC dX20_apply_23 rfl ?_
      refine G_if_lt (pc := 25) (tgt := 102) hC dX20_apply_25 (by decide) (fun hc => ?_) (fun hc => ?_)
      · replace hw := hw.1 hc
        refine G_iinc (pc := 102) (i := 2) (v := (v2 + (1 : Int32))) (lw := [some (va_rf (some a0)), some (va_rf (some b6)), some (.int (v2 + (1 : Int32))), some (va_rf x7), some (.int x9)]) hC dX20_apply_102 rfl (Nat.le_of_ble_eq_true rfl) rfl rfl ?_
        refine G_goto (pc := 105) (tgt := 2) hC dX20_apply_105 (by decide) ?_
        refine G_loc (lv' := [some (va_rf (some a0)), some (va_rf (some b6)), some (.int (v2 + (1 : Int32))), none, none]) ⟨Or.inr rfl, Or.inr rfl, Or.inr rfl, Or.inl rfl, Or.inl rfl, trivial⟩ ?_
        exact ih (v2 + (1 : Int32)) M8 hw
      · replace hw := hw.2 hc
        refine G_new (pc := 28) (ci := 10) (C := RX11) (T := TX11) (N := 3) (fs := fsX11) tyX11 hC rfl in_X11 tyX11_ok q3217 q2368 q139 dfX11 rfl dX20_apply_28 hw (fun q10 M11 hw => ?_)
        refine G_dup (pc := 31) hC dX20_apply_31 (rf_cat _) ?_
        refine G_aload_n (pc := 32) (i := 0) hC dX20_apply_32 rfl rfl ?_
        refine G_getF (pc := 33) (ci := 19) (C := RX20) (T := TX20) (N := 7) (f := 0) hC rfl in_X20 (Nat.le_of_ble_eq_true rfl) q3241 (fun _ h => h) dX20_apply_33 hw (fun x12 hw => ?_)
        refine G_aload_n (pc := 36) (i := 0) hC dX20_apply_36 rfl rfl ?_
        refine G_getI (pc := 37) (ci := 19) (C := RX20) (T := TX20) (N := 7) (f := 4) hC rfl in_X20 (Nat.le_of_ble_eq_true rfl) q3247 (fun _ h => h) dX20_apply_37 hw (fun x13 hw => ?_)
        refine G_iload (pc := 40) (i := 4) hC dX20_apply_40 rfl ?_
        obtain ⟨hb, hw⟩ := hw
        refine G_callI (pc := 42) (n := 3) (b := q10) (As := [va_rf x12, .int x13, .int x9]) (rest := [va_rf (some q10)]) hC (m_X11_init hJ hw) (lw_meth q2371) q139 q3218 q2370 rfl hd_X11_init.2 (by decide) rfl rfl (st_c (cat_r cat_e) (Nat.le_of_ble_eq_true rfl)) dX20_apply_42 (kU fun M14 hw => ?_)
        refine G_aload_n (pc := 45) (i := 0) hC dX20_apply_45 rfl rfl ?_
        refine G_getF (pc := 46) (ci := 19) (C := RX20) (T := TX20) (N := 7) (f := 2) hC rfl in_X20 (Nat.le_of_ble_eq_true rfl) q3243 (fun _ h => h) dX20_apply_46 hw (fun x15 hw => ?_)
        obtain ⟨hb, hw⟩ := hw
        refine G_callV (pc := 49) (n := 1) (C := "MergeWorkbench$Part") (b := q10) (As := [va_rf x15]) (rest := []) hC (m_X11_addTo hJ hw) (lw_V q3219 q3029 q3030 q139 q3031) hd_X11_addTo (by decide) (rcv (C := RX11) (T := TX11) (N := 3) hC hb rfl) rfl rfl (st_c cat_e (Nat.le_of_ble_eq_true rfl)) dX20_apply_49 (kU fun M16 hw => ?_)
        refine G_aload_n (pc := 52) (i := 3) hC dX20_apply_52 rfl rfl ?_
        refine G_getFN (pc := 53) (ci := 18) (C := RX19) (T := TX19) (N := 4) (f := 1) hC rfl in_X19 (Nat.le_of_ble_eq_true rfl) (nw_in q3122 rfl) (fun _ h => h) dX20_apply_53 hw (fun x17 hw => ?_)
        refine G_aload_n (pc := 56) (i := 0) hC dX20_apply_56 rfl rfl ?_
        refine G_getF (pc := 57) (ci := 19) (C := RX20) (T := TX20) (N := 7) (f := 2) hC rfl in_X20 (Nat.le_of_ble_eq_true rfl) q3243 (fun _ h => h) dX20_apply_57 hw (fun x18 hw => ?_)
        obtain ⟨b20, rfl, hb, hw⟩ := gThis_e hw
        refine G_callV (pc := 60) (n := 1) (C := "MergeWorkbench$Part") (b := b20) (As := [va_rf x18]) (rest := []) hC (m_X11_addTo hJ hw) (lw_V q3219 q3029 q3030 q139 q3031) hd_X11_addTo (by decide) (rcv (C := RX11) (T := TX11) (N := 3) hC hb rfl) rfl rfl (st_c cat_e (Nat.le_of_ble_eq_true rfl)) dX20_apply_60 (kU fun M19 hw => ?_)
        refine G_aload_n (pc := 63) (i := 0) hC dX20_apply_63 rfl rfl ?_
        refine G_iload (pc := 64) (i := 4) hC dX20_apply_64 rfl ?_
        refine G_aload_n (pc := 66) (i := 3) hC dX20_apply_66 rfl rfl ?_
        refine G_getFN (pc := 67) (ci := 18) (C := RX19) (T := TX19) (N := 4) (f := 0) hC rfl in_X19 (Nat.le_of_ble_eq_true rfl) (nw_in q3120 rfl) (fun _ h => h) dX20_apply_67 hw (fun x21 hw => ?_)
        obtain ⟨b23, rfl, hb, hw⟩ := gThis_e hw
        refine G_callV (pc := 70) (n := 0) (C := "MergeWorkbench$Part") (b := b23) (As := []) (rest := [.int x9, va_rf (some a0)]) hC (m_X11_length hJ hw) (lw_V q3220 q2816 q2817 q139 q2818) hd_X11_length (by decide) (rcv (C := RX11) (T := TX11) (N := 3) hC hb rfl) rfl rfl (st_c (cat_i (cat_r cat_e)) (Nat.le_of_ble_eq_true rfl)) dX20_apply_70 (kI fun x24 M22 hw => ?_)
        refine G_iadd (pc := 73) hC dX20_apply_73 ?_
        refine G_put (pc := 74) (ci := 19) (C := RX20) (T := TX20) (N := 7) (f := 4) tyX20 hC rfl in_X20 tyX20_ok nmX20 (Nat.le_of_ble_eq_true rfl) q3247 (fun _ h => h) rfl rfl rfl dX20_apply_74 hw (fun M25 hw => ?_)
        refine G_aload_n (pc := 77) (i := 0) hC dX20_apply_77 rfl rfl ?_
        refine G_iload (pc := 78) (i := 4) hC dX20_apply_78 rfl ?_
        refine G_aload_n (pc := 80) (i := 3) hC dX20_apply_80 rfl rfl ?_
        refine G_getFN (pc := 81) (ci := 18) (C := RX19) (T := TX19) (N := 4) (f := 0) hC rfl in_X19 (Nat.le_of_ble_eq_true rfl) (nw_in q3120 rfl) (fun _ h => h) dX20_apply_81 hw (fun x26 hw => ?_)
        refine G_getIN (pc := 84) (ci := 10) (C := RX11) (T := TX11) (N := 3) (f := 1) hC rfl in_X11 (Nat.le_of_ble_eq_true rfl) (nw_in q2379 rfl) (fun _ h => h) dX20_apply_84 hw (fun x27 hw => ?_)
        refine G_isub (pc := 87) hC dX20_apply_87 ?_
        refine G_put (pc := 88) (ci := 19) (C := RX20) (T := TX20) (N := 7) (f := 5) tyX20 hC rfl in_X20 tyX20_ok nmX20 (Nat.le_of_ble_eq_true rfl) q3248 (fun _ h => h) rfl rfl rfl dX20_apply_88 hw (fun M28 hw => ?_)
        refine G_new (pc := 91) (ci := 20) (C := RX21) (T := TX21) (N := 2) (fs := fsX21) tyX21 hC rfl in_X21 tyX21_ok q3221 q3222 q151 dfX21 rfl dX20_apply_91 hw (fun q29 M30 hw => ?_)
        refine G_dup (pc := 94) hC dX20_apply_94 (rf_cat _) ?_
        refine G_iload (pc := 95) (i := 4) hC dX20_apply_95 rfl ?_
        refine G_iload_n (pc := 97) (i := 2) hC dX20_apply_97 rfl rfl ?_
        obtain ⟨hb, hw⟩ := hw
        refine G_callI (pc := 98) (n := 2) (b := q29) (As := [.int x9, .int v2]) (rest := [va_rf (some q29)]) hC (m_X21_init hJ hw) (lw_meth q3225) q151 q3223 q3224 rfl hd_X21_init.2 (by decide) rfl rfl (st_c (cat_r cat_e) (Nat.le_of_ble_eq_true rfl)) dX20_apply_98 (kU fun M31 hw => ?_)
        exact G_aret (pc := 101) hC (Or.inl ⟨_, rfl⟩) hQ dX20_apply_101 hw
theorem m_X20_apply {l : Launch} {g : gT} {F : Nat} {a0 : Nat} {p1 : Option Nat} {M : hM} {Q : Option Nat → hM → Prop} (hJ : JOK l g) (hw : w_X20_apply g F a0 p1 M Q) : MG l g yX20_apply (ws_ yX20_apply cX20_apply 5 (some (.object "MergeWorkbench$Outcome"))) 47 2152 [va_rf (some a0), va_rf p1] M (PR Q) := by
  refine MG_of hJ.2.1 (by decide) (cat_r (cat_r cat_e)) (Nat.le_of_ble_eq_true rfl) (fun k hl hg hin hQ hC => ?_)
  subst hl hg
  show GW k 5 M 0 [some (va_rf (some a0)), some (va_rf p1), none, none, none] []
  refine G_iconst (pc := 0) (v := 0) hC dX20_apply_0 (by decide) ?_
  refine G_istore_n (pc := 1) (i := 2) (lw := [some (va_rf (some a0)), some (va_rf p1), some (.int (0 : Int32)), none, none]) hC dX20_apply_1 rfl (Nat.le_of_ble_eq_true rfl) rfl ?_
  exact g_X20_apply_2 hJ hC hQ hin _ (0 : Int32) M hw
theorem hd_X19_reversed : yX19_reversed.cls = "MergeWorkbench$Hunk" ∧ yX19_reversed.cls ≠ "java/lang/invoke/MethodHandle" ∧ yX19_reversed.cls ≠ "java/lang/invoke/VarHandle" ∧ (parseMethodDescriptor yX19_reversed.desc).map (fun d => d.parameters.length) = some 0 := by decide +kernel
theorem hd_X20_apply : yX20_apply.cls = "MergeWorkbench$Application" ∧ yX20_apply.cls ≠ "java/lang/invoke/MethodHandle" ∧ yX20_apply.cls ≠ "java/lang/invoke/VarHandle" ∧ (parseMethodDescriptor yX20_apply.desc).map (fun d => d.parameters.length) = some 1 := by decide +kernel
def w_X20_init_120 (g : gT) (F : Nat) (a0 : Nat) (p1 : Option Nat) (p2 : Option Nat) (p3 : Int32) (p4 : Int32) (Q : hM → Prop) (K47 : (Option Nat) → hM → Prop) (v5 : Option Nat) (s0 : Option Nat) (s1 : Int32) (s2 : Int32) (M : hM) : Prop :=
  pV M s0 19 6 (.int (s1 + s2)) fun M1 => K47 v5 M1
def w_X20_init_85 (g : gT) (F : Nat) (a0 : Nat) (p1 : Option Nat) (p2 : Option Nat) (p3 : Int32) (p4 : Int32) (Q : hM → Prop) (K47 : (Option Nat) → hM → Prop) (v5 : Option Nat) (s0 : Option Nat) (s1 : Option Nat) (M : hM) : Prop :=
  gThis M s0 19 fun b2 => w_X20_apply g F b2 s1 M (fun x3 M1 => gF M1 (some a0) 19 3 fun x4 => gThis M1 x4 21 fun b6 => L_add g b6 x3 M1 (fun x7 M5 => gI M5 (some a0) 19 6 fun x8 => gI M5 x3 20 1 fun x9 => ((x9 < 0 → w_X20_init_120 g F a0 p1 p2 p3 p4 Q K47 v5 (some a0) x8 (0 : Int32) M5) ∧ (¬ (x9 < 0) → w_X20_init_120 g F a0 p1 p2 p3 p4 Q K47 v5 (some a0) x8 (1 : Int32) M5))))
def w_X20_init_47 (g : gT) (F : Nat) (a0 : Nat) (p1 : Option Nat) (p2 : Option Nat) (p3 : Int32) (p4 : Int32) (Q : hM → Prop) : Nat → (Option Nat) → hM → Prop
  | 0, _, _ => False
  | n + 1, v5, M => gThis M v5 26 fun b2 => T_has g b2  M (fun x3 M1 => ((x3 = 0 → nW M1 10 fsX11 fun q4 M5 => gI M5 (some a0) 19 4 fun x6 => gThis M5 p2 21 fun b8 => L_size g b8  M5 (fun x9 M7 => (isC M7 q4 10 ∧ w_X11_init g F q4 (some b8) x6 x9 M7 (fun M10 => gF M10 (some a0) 19 2 fun x11 => (isC M10 q4 10 ∧ w_X11_addTo g F q4 x11 M10 (fun M12 => Q M12)))))) ∧ (¬ (x3 = 0) → (isC M1 b2 26 ∧ T_next g b2  M1 (fun x14 M13 => ckC M13 x14 18 (((p4 = 0 → w_X20_init_85 g F a0 p1 p2 p3 p4 Q (fun v5 M => w_X20_init_47 g F a0 p1 p2 p3 p4 Q n v5 M) (some b2) (some a0) x14 M13) ∧ (¬ (p4 = 0) → gThis M13 x14 18 fun b16 => w_X19_reversed g F b16  M13 (fun x17 M15 => w_X20_init_85 g F a0 p1 p2 p3 p4 Q (fun v5 M => w_X20_init_47 g F a0 p1 p2 p3 p4 Q n v5 M) (some b2) (some a0) x17 M15)))))))))
def w_X20_init (g : gT) (F : Nat) (a0 : Nat) (p1 : Option Nat) (p2 : Option Nat) (p3 : Int32) (p4 : Int32) (M : hM) (Q : hM → Prop) : Prop :=
  nW M 21 fsJ2 fun q1 M2 => (isC M2 q1 21 ∧ L_new g q1  M2 (fun M3 => pV M3 (some a0) 19 2 (va_rf (some q1)) fun M4 => nW M4 21 fsJ2 fun q5 M6 => (isC M6 q5 21 ∧ L_new g q5  M6 (fun M7 => pV M7 (some a0) 19 3 (va_rf (some q5)) fun M8 => pV M8 (some a0) 19 0 (va_rf p2) fun M9 => pV M9 (some a0) 19 1 (.int p3) fun M10 => gF M10 p1 17 0 fun x11 => gThis M10 x11 21 fun b13 => L_itr g b13  M10 (fun x14 M12 => w_X20_init_47 g F a0 p1 p2 p3 p4 Q F x14 M12)))))
theorem g_X20_init_120 {k : kT} {F : Nat} {a0 : Nat} {p1 : Option Nat} {p2 : Option Nat} {p3 : Int32} {p4 : Int32} {Q : hM → Prop} {K47 : (Option Nat) → hM → Prop} (hJ : JOK (kl k) (kg k)) (hC : CX k 8 cX20_init RX20 none 48 2176) (hQ : isQ k (PU Q)) (hin : (kt k).name = "<init>") (hK47 : ∀ (v5 : Option Nat) (M : hM), K47 v5 M → GW k 8 M 47 [some (va_rf (some a0)), some (va_rf p1), some (va_rf p2), some (.int p3), some (.int p4), some (va_rf v5), none, none] []) : ∀ (v5 : Option Nat) (s0 : Option Nat) (s1 : Int32) (s2 : Int32) (M : hM), w_X20_init_120 (kg k) F a0 p1 p2 p3 p4 Q K47 v5 s0 s1 s2 M → GW k 8 M 120 [some (va_rf (some a0)), some (va_rf p1), some (va_rf p2), some (.int p3), some (.int p4), some (va_rf v5), none, none] [.int s2, .int s1, va_rf s0] := by
  intro v5 s0 s1 s2 M hw
  refine G_iadd (pc := 120) hC dX20_init_120 ?_
  refine G_put (pc := 121) (ci := 19) (C := RX20) (T := TX20) (N := 7) (f := 6) tyX20 hC rfl in_X20 tyX20_ok nmX20 (Nat.le_of_ble_eq_true rfl) q3249 (fun _ h => h) rfl rfl rfl dX20_init_121 hw (fun M1 hw => ?_)
  refine G_goto (pc := 124) (tgt := 47) hC dX20_init_124 (by decide) ?_
  exact hK47 v5 M1 hw
theorem g_X20_init_85 {k : kT} {F : Nat} {a0 : Nat} {p1 : Option Nat} {p2 : Option Nat} {p3 : Int32} {p4 : Int32} {Q : hM → Prop} {K47 : (Option Nat) → hM → Prop} (hJ : JOK (kl k) (kg k)) (hC : CX k 8 cX20_init RX20 none 48 2176) (hQ : isQ k (PU Q)) (hin : (kt k).name = "<init>") (hK47 : ∀ (v5 : Option Nat) (M : hM), K47 v5 M → GW k 8 M 47 [some (va_rf (some a0)), some (va_rf p1), some (va_rf p2), some (.int p3), some (.int p4), some (va_rf v5), none, none] []) : ∀ (v5 : Option Nat) (s0 : Option Nat) (s1 : Option Nat) (M : hM), w_X20_init_85 (kg k) F a0 p1 p2 p3 p4 Q K47 v5 s0 s1 M → GW k 8 M 85 [some (va_rf (some a0)), some (va_rf p1), some (va_rf p2), some (.int p3), some (.int p4), some (va_rf v5), none, none] [va_rf s1, va_rf s0] := by
  intro v5 s0 s1 M hw
  obtain ⟨b2, rfl, hb, hw⟩ := gThis_e hw
  refine G_callV (pc := 85) (n := 1) (C := "MergeWorkbench$Application") (b := b2) (As := [va_rf s1]) (rest := []) hC (m_X20_apply hJ hw) (lw_V q3190 q3192 qs49 q150 q3193) hd_X20_apply (by decide) (rcv (C := RX20) (T := TX20) (N := 7) hC hb rfl) rfl rfl (st_c cat_e (Nat.le_of_ble_eq_true rfl)) dX20_init_85 (kRf fun x3 M1 hw => ?_)
  refine G_astore (pc := 88) (i := 7) (lw := [some (va_rf (some a0)), some (va_rf p1), some (va_rf p2), some (.int p3), some (.int p4), some (va_rf v5), none, some (va_rf x3)]) hC dX20_init_88 (Nat.le_of_ble_eq_true rfl) rfl ?_
  refine G_aload_n (pc := 90) (i := 0) hC dX20_init_90 rfl rfl ?_
  refine G_getF (pc := 91) (ci := 19) (C := RX20) (T := TX20) (N := 7) (f := 3) hC rfl in_X20 (Nat.le_of_ble_eq_true rfl) q3245 (fun _ h => h) dX20_init_91 hw (fun x4 hw => ?_)
  refine G_aload (pc := 94) (i := 7) hC dX20_init_94 rfl ?_
  obtain ⟨b6, rfl, hb, hw⟩ := gThis_e hw
  refine G_callF (pc := 96) (n := 1) (x := ⟨"java/util/List", "add", "(Ljava/lang/Object;)Z"⟩) (C := "java/util/ArrayList") (ci := 21) (T := TJ2) (N := 3) (b := b6) (As := [va_rf x3]) (rest := []) hC (J_L_add hJ hw) (lw_F q3238 q260 q262 q87 q264) (nw_in q258 rfl) (nw_in q257 rfl) (nw_in q263 rfl) (nw_in q261 rfl) (nw_in q259 rfl) rfl (rcv (C := RJ2) (T := TJ2) (N := 3) hC hb rfl) (by decide +kernel) (by decide) rfl rfl (st_c cat_e (Nat.le_of_ble_eq_true rfl)) dX20_init_96 (kI fun x7 M5 hw => ?_)
  refine G_pop (pc := 101) hC dX20_init_101 rfl ?_
  refine G_aload_n (pc := 102) (i := 0) hC dX20_init_102 rfl rfl ?_
  refine G_dup (pc := 103) hC dX20_init_103 (rf_cat _) ?_
  refine G_getI (pc := 104) (ci := 19) (C := RX20) (T := TX20) (N := 7) (f := 6) hC rfl in_X20 (Nat.le_of_ble_eq_true rfl) q3249 (fun _ h => h) dX20_init_104 hw (fun x8 hw => ?_)
  refine G_aload (pc := 107) (i := 7) hC dX20_init_107 rfl ?_
  refine G_getIN (pc := 109) (ci := 20) (C := RX21) (T := TX21) (N := 2) (f := 1) hC rfl in_X21 (Nat.le_of_ble_eq_true rfl) (nw_in q3230 rfl) (fun _ h => h) dX20_init_109 hw (fun x9 hw => ?_)
  refine G_if_lt (pc := 112) (tgt := 119) hC dX20_init_112 (by decide) (fun hc => ?_) (fun hc => ?_)
  · replace hw := hw.1 hc
    refine G_iconst (pc := 119) (v := 0) hC dX20_init_119 (by decide) ?_
    refine G_loc (lv' := [some (va_rf (some a0)), some (va_rf p1), some (va_rf p2), some (.int p3), some (.int p4), some (va_rf v5), none, none]) ⟨Or.inr rfl, Or.inr rfl, Or.inr rfl, Or.inr rfl, Or.inr rfl, Or.inr rfl, Or.inr rfl, Or.inl rfl, trivial⟩ ?_
    exact g_X20_init_120 hJ hC hQ hin hK47  v5 (some a0) x8 (0 : Int32) M5 hw
  · replace hw := hw.2 hc
    refine G_iconst (pc := 115) (v := 1) hC dX20_init_115 (by decide) ?_
    refine G_goto (pc := 116) (tgt := 120) hC dX20_init_116 (by decide) ?_
    refine G_loc (lv' := [some (va_rf (some a0)), some (va_rf p1), some (va_rf p2), some (.int p3), some (.int p4), some (va_rf v5), none, none]) ⟨Or.inr rfl, Or.inr rfl, Or.inr rfl, Or.inr rfl, Or.inr rfl, Or.inr rfl, Or.inr rfl, Or.inl rfl, trivial⟩ ?_
    exact g_X20_init_120 hJ hC hQ hin hK47  v5 (some a0) x8 (1 : Int32) M5 hw
theorem g_X20_init_47 {k : kT} {F : Nat} {a0 : Nat} {p1 : Option Nat} {p2 : Option Nat} {p3 : Int32} {p4 : Int32} {Q : hM → Prop} (hJ : JOK (kl k) (kg k)) (hC : CX k 8 cX20_init RX20 none 48 2176) (hQ : isQ k (PU Q)) (hin : (kt k).name = "<init>") : ∀ (n : Nat) (v5 : Option Nat) (M : hM), w_X20_init_47 (kg k) F a0 p1 p2 p3 p4 Q n v5 M → GW k 8 M 47 [some (va_rf (some a0)), some (va_rf p1), some (va_rf p2), some (.int p3), some (.int p4), some (va_rf v5), none, none] [] := by
  intro n
  induction n with
  | zero =>
    intro v5 M hw
    exact hw.elim
  | succ n ih =>
    intro v5 M hw
    refine G_aload (pc := 47) (i := 5) hC dX20_init_47 rfl ?_
    obtain ⟨b2, rfl, hb, hw⟩ := gThis_e hw
    refine G_callF (pc := 49) (n := 0) (x := ⟨"java/util/Iterator", "hasNext", "()Z"⟩) (C := "java/util/ArrayList$Itr") (ci := 26) (T := TJ24) (N := 4) (b := b2) (As := []) (rest := []) hC (J_T_has hJ hw) (lw_F q3180 q909 q911 q112 q913) (nw_in q878 rfl) (nw_in q877 rfl) (nw_in q912 rfl) (nw_in q910 rfl) (nw_in q908 rfl) rfl (rcv (C := RJ24) (T := TJ24) (N := 4) hC hb rfl) (by decide +kernel) (by decide) rfl rfl (st_c cat_e (Nat.le_of_ble_eq_true rfl)) dX20_init_49 (kI fun x3 M1 hw => ?_)
    refine G_if_eq (pc := 54) (tgt := 127) hC dX20_init_54 (by decide) (fun hc => ?_) (fun hc => ?_)
    · replace hw := hw.1 hc
      refine G_new (pc := 127) (ci := 10) (C := RX11) (T := TX11) (N := 3) (fs := fsX11) tyX11 hC rfl in_X11 tyX11_ok q3217 q2368 q139 dfX11 rfl dX20_init_127 hw (fun q4 M5 hw => ?_)
      refine G_dup (pc := 130) hC dX20_init_130 (rf_cat _) ?_
      refine G_aload_n (pc := 131) (i := 2) hC dX20_init_131 rfl rfl ?_
      refine G_aload_n (pc := 132) (i := 0) hC dX20_init_132 rfl rfl ?_
      refine G_getI (pc := 133) (ci := 19) (C := RX20) (T := TX20) (N := 7) (f := 4) hC rfl in_X20 (Nat.le_of_ble_eq_true rfl) q3247 (fun _ h => h) dX20_init_133 hw (fun x6 hw => ?_)
      refine G_aload_n (pc := 136) (i := 2) hC dX20_init_136 rfl rfl ?_
      obtain ⟨b8, rfl, hb, hw⟩ := gThis_e hw
      refine G_callF (pc := 137) (n := 0) (x := ⟨"java/util/List", "size", "()I"⟩) (C := "java/util/ArrayList") (ci := 21) (T := TJ2) (N := 3) (b := b8) (As := []) (rest := [.int x6, va_rf (some b8), va_rf (some q4), va_rf (some q4)]) hC (J_L_size hJ hw) (lw_F q3240 q889 q363 q87 q364) (nw_in q888 rfl) (nw_in q887 rfl) (nw_in q891 rfl) (nw_in q890 rfl) (nw_in q259 rfl) rfl (rcv (C := RJ2) (T := TJ2) (N := 3) hC hb rfl) (by decide +kernel) (by decide) rfl rfl (st_c (cat_i (cat_r (cat_r (cat_r cat_e)))) (Nat.le_of_ble_eq_true rfl)) dX20_init_137 (kI fun x9 M7 hw => ?_)
      obtain ⟨hb, hw⟩ := hw
      refine G_callI (pc := 142) (n := 3) (b := q4) (As := [va_rf (some b8), .int x6, .int x9]) (rest := [va_rf (some q4)]) hC (m_X11_init hJ hw) (lw_meth q2371) q139 q3218 q2370 rfl hd_X11_init.2 (by decide) rfl rfl (st_c (cat_r cat_e) (Nat.le_of_ble_eq_true rfl)) dX20_init_142 (kU fun M10 hw => ?_)
      refine G_aload_n (pc := 145) (i := 0) hC dX20_init_145 rfl rfl ?_
      refine G_getF (pc := 146) (ci := 19) (C := RX20) (T := TX20) (N := 7) (f := 2) hC rfl in_X20 (Nat.le_of_ble_eq_true rfl) q3243 (fun _ h => h) dX20_init_146 hw (fun x11 hw => ?_)
      obtain ⟨hb, hw⟩ := hw
      refine G_callV (pc := 149) (n := 1) (C := "MergeWorkbench$Part") (b := q4) (As := [va_rf x11]) (rest := []) hC (m_X11_addTo hJ hw) (lw_V q3219 q3029 q3030 q139 q3031) hd_X11_addTo (by decide) (rcv (C := RX11) (T := TX11) (N := 3) hC hb rfl) rfl rfl (st_c cat_e (Nat.le_of_ble_eq_true rfl)) dX20_init_149 (kU fun M12 hw => ?_)
      exact G_ret (pc := 152) hC hQ dX20_init_152 hw
    · replace hw := hw.2 hc
      refine G_aload (pc := 57) (i := 5) hC dX20_init_57 rfl ?_
      obtain ⟨hb, hw⟩ := hw
      refine G_callF (pc := 59) (n := 0) (x := ⟨"java/util/Iterator", "next", "()Ljava/lang/Object;"⟩) (C := "java/util/ArrayList$Itr") (ci := 26) (T := TJ24) (N := 4) (b := b2) (As := []) (rest := []) hC (J_T_next hJ hw) (lw_F q3182 q1119 q1121 q112 q1123) (nw_in q937 rfl) (nw_in q936 rfl) (nw_in q1122 rfl) (nw_in q1120 rfl) (nw_in q908 rfl) rfl (rcv (C := RJ24) (T := TJ24) (N := 4) hC hb rfl) (by decide +kernel) (by decide) rfl rfl (st_c cat_e (Nat.le_of_ble_eq_true rfl)) dX20_init_59 (kRf fun x14 M13 hw => ?_)
      obtain ⟨hb, hw⟩ := hw
      refine G_castCS (pc := 64) (C := RX19) (T := TX19) (N := 4) hC rfl q3183 hb dX20_init_64 ?_
      refine G_astore (pc := 67) (i := 6) (lw := [some (va_rf (some a0)), some (va_rf p1), some (va_rf p2), some (.int p3), some (.int p4), some (va_rf (some b2)), some (va_rf x14), none]) hC dX20_init_67 (Nat.le_of_ble_eq_true rfl) rfl ?_
      refine G_aload_n (pc := 69) (i := 0) hC dX20_init_69 rfl rfl ?_
      refine G_iload (pc := 70) (i := 4) hC dX20_init_70 rfl ?_
      refine G_if_eq (pc := 72) (tgt := 83) hC dX20_init_72 (by decide) (fun hc => ?_) (fun hc => ?_)
      · replace hw := hw.1 hc
        refine G_aload (pc := 83) (i := 6) hC dX20_init_83 rfl ?_
        refine G_loc (lv' := [some (va_rf (some a0)), some (va_rf p1), some (va_rf p2), some (.int p3), some (.int p4), some (va_rf (some b2)), none, none]) ⟨Or.inr rfl, Or.inr rfl, Or.inr rfl, Or.inr rfl, Or.inr rfl, Or.inr rfl, Or.inl rfl, Or.inr rfl, trivial⟩ ?_
        exact g_X20_init_85 hJ hC hQ hin ih  (some b2) (some a0) x14 M13 hw
      · replace hw := hw.2 hc
        refine G_aload (pc := 75) (i := 6) hC dX20_init_75 rfl ?_
        obtain ⟨b16, rfl, hb, hw⟩ := gThis_e hw
        refine G_callV (pc := 77) (n := 0) (C := "MergeWorkbench$Hunk") (b := b16) (As := []) (rest := [va_rf (some a0)]) hC (m_X19_reversed hJ hw) (lw_V q3184 q3185 q3186 q149 q3187) hd_X19_reversed (by decide) (rcv (C := RX19) (T := TX19) (N := 4) hC hb rfl) rfl rfl (st_c (cat_r cat_e) (Nat.le_of_ble_eq_true rfl)) dX20_init_77 (kRf fun x17 M15 hw => ?_)
        refine G_goto (pc := 80) (tgt := 85) hC dX20_init_80 (by decide) ?_
        refine G_loc (lv' := [some (va_rf (some a0)), some (va_rf p1), some (va_rf p2), some (.int p3), some (.int p4), some (va_rf (some b2)), none, none]) ⟨Or.inr rfl, Or.inr rfl, Or.inr rfl, Or.inr rfl, Or.inr rfl, Or.inr rfl, Or.inl rfl, Or.inr rfl, trivial⟩ ?_
        exact g_X20_init_85 hJ hC hQ hin ih  (some b2) (some a0) x17 M15 hw
theorem m_X20_init {l : Launch} {g : gT} {F : Nat} {a0 : Nat} {p1 : Option Nat} {p2 : Option Nat} {p3 : Int32} {p4 : Int32} {M : hM} {Q : hM → Prop} (hJ : JOK l g) (hw : w_X20_init g F a0 p1 p2 p3 p4 M Q) : MG l g yX20_init (ws_ yX20_init cX20_init 8 none) 48 2176 [va_rf (some a0), va_rf p1, va_rf p2, .int p3, .int p4] M (PU Q) := by
  refine MG_of hJ.2.1 (by decide) (cat_r (cat_r (cat_r (cat_i (cat_i cat_e))))) (Nat.le_of_ble_eq_true rfl) (fun k hl hg hin hQ hC => ?_)
  subst hl hg
  show GW k 8 M 0 [some (va_rf (some a0)), some (va_rf p1), some (va_rf p2), some (.int p3), some (.int p4), none, none, none] []
  refine G_aload_n (pc := 0) (i := 0) hC dX20_init_0 rfl rfl ?_
  refine G_objInit (pc := 1) hC q3174 q158 q159 rfl rfl (st_c cat_e (Nat.le_of_ble_eq_true rfl)) dX20_init_1 ?_
  refine G_aload_n (pc := 4) (i := 0) hC dX20_init_4 rfl rfl ?_
  refine G_new (pc := 5) (ci := 21) (C := RJ2) (T := TJ2) (N := 3) (fs := fsJ2) tyJ2 hC rfl in_J2 tyJ2_ok q3175 q161 q87 dfJ2 rfl dX20_init_5 hw (fun q1 M2 hw => ?_)
  refine G_dup (pc := 8) hC dX20_init_8 (rf_cat _) ?_
  obtain ⟨hb, hw⟩ := hw
  refine G_callI (pc := 9) (n := 0) (b := q1) (As := []) (rest := [va_rf (some q1), va_rf (some a0)]) hC (J_L_new hJ hw) (lw_meth q164) q87 q3176 q163 rfl hd_J2_init.2 (by decide) rfl rfl (st_c (cat_r (cat_r cat_e)) (Nat.le_of_ble_eq_true rfl)) dX20_init_9 (kU fun M3 hw => ?_)
  refine G_putF (pc := 12) (ci := 19) (C := RX20) (T := TX20) (N := 7) (f := 2) tyX20 hC rfl in_X20 tyX20_ok nmX20 (Nat.le_of_ble_eq_true rfl) q3243 (fun _ h => h) rfl hin rfl (nR_o _ _) (fR_o _ _) dX20_init_12 hw (fun M4 hw => ?_)
  refine G_aload_n (pc := 15) (i := 0) hC dX20_init_15 rfl rfl ?_
  refine G_new (pc := 16) (ci := 21) (C := RJ2) (T := TJ2) (N := 3) (fs := fsJ2) tyJ2 hC rfl in_J2 tyJ2_ok q3175 q161 q87 dfJ2 rfl dX20_init_16 hw (fun q5 M6 hw => ?_)
  refine G_dup (pc := 19) hC dX20_init_19 (rf_cat _) ?_
  obtain ⟨hb, hw⟩ := hw
  refine G_callI (pc := 20) (n := 0) (b := q5) (As := []) (rest := [va_rf (some q5), va_rf (some a0)]) hC (J_L_new hJ hw) (lw_meth q164) q87 q3176 q163 rfl hd_J2_init.2 (by decide) rfl rfl (st_c (cat_r (cat_r cat_e)) (Nat.le_of_ble_eq_true rfl)) dX20_init_20 (kU fun M7 hw => ?_)
  refine G_putF (pc := 23) (ci := 19) (C := RX20) (T := TX20) (N := 7) (f := 3) tyX20 hC rfl in_X20 tyX20_ok nmX20 (Nat.le_of_ble_eq_true rfl) q3245 (fun _ h => h) rfl hin rfl (nR_o _ _) (fR_o _ _) dX20_init_23 hw (fun M8 hw => ?_)
  refine G_aload_n (pc := 26) (i := 0) hC dX20_init_26 rfl rfl ?_
  refine G_aload_n (pc := 27) (i := 2) hC dX20_init_27 rfl rfl ?_
  refine G_putF (pc := 28) (ci := 19) (C := RX20) (T := TX20) (N := 7) (f := 0) tyX20 hC rfl in_X20 tyX20_ok nmX20 (Nat.le_of_ble_eq_true rfl) q3241 (fun _ h => h) rfl hin rfl (nR_o _ _) (fR_o _ _) dX20_init_28 hw (fun M9 hw => ?_)
  refine G_aload_n (pc := 31) (i := 0) hC dX20_init_31 rfl rfl ?_
  refine G_iload_n (pc := 32) (i := 3) hC dX20_init_32 rfl rfl ?_
  refine G_putF (pc := 33) (ci := 19) (C := RX20) (T := TX20) (N := 7) (f := 1) tyX20 hC rfl in_X20 tyX20_ok nmX20 (Nat.le_of_ble_eq_true rfl) q3242 (fun _ h => h) rfl hin rfl rfl rfl dX20_init_33 hw (fun M10 hw => ?_)
  refine G_aload_n (pc := 36) (i := 1) hC dX20_init_36 rfl rfl ?_
  refine G_getFN (pc := 37) (ci := 17) (C := RX18) (T := TX18) (N := 2) (f := 0) hC rfl in_X18 (Nat.le_of_ble_eq_true rfl) (nw_in q3137 rfl) (fun _ h => h) dX20_init_37 hw (fun x11 hw => ?_)
  obtain ⟨b13, rfl, hb, hw⟩ := gThis_e hw
  refine G_callF (pc := 40) (n := 0) (x := ⟨"java/util/List", "iterator", "()Ljava/util/Iterator;"⟩) (C := "java/util/ArrayList") (ci := 21) (T := TJ2) (N := 3) (b := b13) (As := []) (rest := []) hC (J_L_itr hJ hw) (lw_F q3178 q1193 q803 q87 q804) (nw_in q1192 rfl) (nw_in q1191 rfl) (nw_in q1195 rfl) (nw_in q1194 rfl) (nw_in q259 rfl) rfl (rcv (C := RJ2) (T := TJ2) (N := 3) hC hb rfl) (by decide +kernel) (by decide) rfl rfl (st_c cat_e (Nat.le_of_ble_eq_true rfl)) dX20_init_40 (kRf fun x14 M12 hw => ?_)
  refine G_astore (pc := 45) (i := 5) (lw := [some (va_rf (some a0)), some (va_rf p1), some (va_rf p2), some (.int p3), some (.int p4), some (va_rf x14), none, none]) hC dX20_init_45 (Nat.le_of_ble_eq_true rfl) rfl ?_
  exact g_X20_init_47 hJ hC hQ hin _ x14 M12 hw
theorem hd_X10_init : yX10_init.cls = "MergeWorkbench$Difference" ∧ yX10_init.cls ≠ "java/lang/invoke/MethodHandle" ∧ yX10_init.cls ≠ "java/lang/invoke/VarHandle" ∧ (parseMethodDescriptor yX10_init.desc).map (fun d => d.parameters.length) = some 2 := by decide +kernel
def w_X9_addDifference_55 (g : gT) (F : Nat) (a0 : Nat) (p1 : Int32) (p2 : Int32) (p3 : Int32) (p4 : Int32) (Q : hM → Prop) (M : hM) : Prop :=
  Q M
def w_X9_addDifference_11 (g : gT) (F : Nat) (a0 : Nat) (p1 : Int32) (p2 : Int32) (p3 : Int32) (p4 : Int32) (Q : hM → Prop) (M : hM) : Prop :=
  gF M (some a0) 8 4 fun x1 => nW M 9 fsX10 fun q2 M3 => nW M3 10 fsX11 fun q4 M5 => gF M5 (some a0) 8 0 fun x6 => (isC M5 q4 10 ∧ w_X11_init g F q4 x6 p1 p2 M5 (fun M7 => nW M7 10 fsX11 fun q8 M9 => gF M9 (some a0) 8 1 fun x10 => (isC M9 q8 10 ∧ w_X11_init g F q8 x10 p3 p4 M9 (fun M11 => (isC M11 q2 9 ∧ w_X10_init g F q2 (some q4) (some q8) M11 (fun M12 => gThis M12 x1 21 fun b14 => L_add g b14 (some q2) M12 (fun x15 M13 => w_X9_addDifference_55 g F a0 p1 p2 p3 p4 Q M13)))))))
def w_X9_addDifference (g : gT) (F : Nat) (a0 : Nat) (p1 : Int32) (p2 : Int32) (p3 : Int32) (p4 : Int32) (M : hM) (Q : hM → Prop) : Prop :=
  ((p1 < p2 → w_X9_addDifference_11 g F a0 p1 p2 p3 p4 Q M) ∧ (¬ (p1 < p2) → ((p4 ≤ p3 → w_X9_addDifference_55 g F a0 p1 p2 p3 p4 Q M) ∧ (¬ (p4 ≤ p3) → w_X9_addDifference_11 g F a0 p1 p2 p3 p4 Q M))))
theorem g_X9_addDifference_55 {k : kT} {F : Nat} {a0 : Nat} {p1 : Int32} {p2 : Int32} {p3 : Int32} {p4 : Int32} {Q : hM → Prop} (hJ : JOK (kl k) (kg k)) (hC : CX k 5 cX9_addDifference RX9 none 41 2021) (hQ : isQ k (PU Q)) (hin : (kt k).name = "addDifference") : ∀  (M : hM), w_X9_addDifference_55 (kg k) F a0 p1 p2 p3 p4 Q  M → GW k 5 M 55 [some (va_rf (some a0)), some (.int p1), some (.int p2), some (.int p3), some (.int p4)] [] := by
  intro  M hw
  exact G_ret (pc := 55) hC hQ dX9_addDifference_55 hw
theorem g_X9_addDifference_11 {k : kT} {F : Nat} {a0 : Nat} {p1 : Int32} {p2 : Int32} {p3 : Int32} {p4 : Int32} {Q : hM → Prop} (hJ : JOK (kl k) (kg k)) (hC : CX k 5 cX9_addDifference RX9 none 41 2021) (hQ : isQ k (PU Q)) (hin : (kt k).name = "addDifference") : ∀  (M : hM), w_X9_addDifference_11 (kg k) F a0 p1 p2 p3 p4 Q  M → GW k 5 M 11 [some (va_rf (some a0)), some (.int p1), some (.int p2), some (.int p3), some (.int p4)] [] := by
  intro  M hw
  refine G_aload_n (pc := 11) (i := 0) hC dX9_addDifference_11 rfl rfl ?_
  refine G_getF (pc := 12) (ci := 8) (C := RX9) (T := TX9) (N := 6) (f := 4) hC rfl in_X9 (Nat.le_of_ble_eq_true rfl) q2430 (fun _ h => h) dX9_addDifference_12 hw (fun x1 hw => ?_)
  refine G_new (pc := 15) (ci := 9) (C := RX10) (T := TX10) (N := 2) (fs := fsX10) tyX10 hC rfl in_X10 tyX10_ok q2365 q2366 q138 dfX10 rfl dX9_addDifference_15 hw (fun q2 M3 hw => ?_)
  refine G_dup (pc := 18) hC dX9_addDifference_18 (rf_cat _) ?_
  refine G_new (pc := 19) (ci := 10) (C := RX11) (T := TX11) (N := 3) (fs := fsX11) tyX11 hC rfl in_X11 tyX11_ok q2367 q2368 q139 dfX11 rfl dX9_addDifference_19 hw (fun q4 M5 hw => ?_)
  refine G_dup (pc := 22) hC dX9_addDifference_22 (rf_cat _) ?_
  refine G_aload_n (pc := 23) (i := 0) hC dX9_addDifference_23 rfl rfl ?_
  refine G_getF (pc := 24) (ci := 8) (C := RX9) (T := TX9) (N := 6) (f := 0) hC rfl in_X9 (Nat.le_of_ble_eq_true rfl) q2414 (fun _ h => h) dX9_addDifference_24 hw (fun x6 hw => ?_)
  refine G_iload_n (pc := 27) (i := 1) hC dX9_addDifference_27 rfl rfl ?_
  refine G_iload_n (pc := 28) (i := 2) hC dX9_addDifference_28 rfl rfl ?_
  obtain ⟨hb, hw⟩ := hw
  refine G_callI (pc := 29) (n := 3) (b := q4) (As := [va_rf x6, .int p1, .int p2]) (rest := [va_rf (some q4), va_rf (some q2), va_rf (some q2), va_rf x1]) hC (m_X11_init hJ hw) (lw_meth q2371) q139 q2369 q2370 rfl hd_X11_init.2 (by decide) rfl rfl (st_c (cat_r (cat_r (cat_r (cat_r cat_e)))) (Nat.le_of_ble_eq_true rfl)) dX9_addDifference_29 (kU fun M7 hw => ?_)
  refine G_new (pc := 32) (ci := 10) (C := RX11) (T := TX11) (N := 3) (fs := fsX11) tyX11 hC rfl in_X11 tyX11_ok q2367 q2368 q139 dfX11 rfl dX9_addDifference_32 hw (fun q8 M9 hw => ?_)
  refine G_dup (pc := 35) hC dX9_addDifference_35 (rf_cat _) ?_
  refine G_aload_n (pc := 36) (i := 0) hC dX9_addDifference_36 rfl rfl ?_
  refine G_getF (pc := 37) (ci := 8) (C := RX9) (T := TX9) (N := 6) (f := 1) hC rfl in_X9 (Nat.le_of_ble_eq_true rfl) q2420 (fun _ h => h) dX9_addDifference_37 hw (fun x10 hw => ?_)
  refine G_iload_n (pc := 40) (i := 3) hC dX9_addDifference_40 rfl rfl ?_
  refine G_iload (pc := 41) (i := 4) hC dX9_addDifference_41 rfl ?_
  obtain ⟨hb, hw⟩ := hw
  refine G_callI (pc := 43) (n := 3) (b := q8) (As := [va_rf x10, .int p3, .int p4]) (rest := [va_rf (some q8), va_rf (some q4), va_rf (some q2), va_rf (some q2), va_rf x1]) hC (m_X11_init hJ hw) (lw_meth q2371) q139 q2369 q2370 rfl hd_X11_init.2 (by decide) rfl rfl (st_c (cat_r (cat_r (cat_r (cat_r (cat_r cat_e))))) (Nat.le_of_ble_eq_true rfl)) dX9_addDifference_43 (kU fun M11 hw => ?_)
  obtain ⟨hb, hw⟩ := hw
  refine G_callI (pc := 46) (n := 2) (b := q2) (As := [va_rf (some q4), va_rf (some q8)]) (rest := [va_rf (some q2), va_rf x1]) hC (m_X10_init hJ hw) (lw_meth q2396) q138 q2394 q2395 rfl hd_X10_init.2 (by decide) rfl rfl (st_c (cat_r (cat_r cat_e)) (Nat.le_of_ble_eq_true rfl)) dX9_addDifference_46 (kU fun M12 hw => ?_)
  obtain ⟨b14, rfl, hb, hw⟩ := gThis_e hw
  refine G_callF (pc := 49) (n := 1) (x := ⟨"java/util/List", "add", "(Ljava/lang/Object;)Z"⟩) (C := "java/util/ArrayList") (ci := 21) (T := TJ2) (N := 3) (b := b14) (As := [va_rf (some q2)]) (rest := []) hC (J_L_add hJ hw) (lw_F q2410 q260 q262 q87 q264) (nw_in q258 rfl) (nw_in q257 rfl) (nw_in q263 rfl) (nw_in q261 rfl) (nw_in q259 rfl) rfl (rcv (C := RJ2) (T := TJ2) (N := 3) hC hb rfl) (by decide +kernel) (by decide) rfl rfl (st_c cat_e (Nat.le_of_ble_eq_true rfl)) dX9_addDifference_49 (kI fun x15 M13 hw => ?_)
  refine G_pop (pc := 54) hC dX9_addDifference_54 rfl ?_
  exact g_X9_addDifference_55 hJ hC hQ hin   M13 hw
theorem m_X9_addDifference {l : Launch} {g : gT} {F : Nat} {a0 : Nat} {p1 : Int32} {p2 : Int32} {p3 : Int32} {p4 : Int32} {M : hM} {Q : hM → Prop} (hJ : JOK l g) (hw : w_X9_addDifference g F a0 p1 p2 p3 p4 M Q) : MG l g yX9_addDifference (ws_ yX9_addDifference cX9_addDifference 5 none) 41 2021 [va_rf (some a0), .int p1, .int p2, .int p3, .int p4] M (PU Q) := by
  refine MG_of hJ.2.1 (by decide) (cat_r (cat_i (cat_i (cat_i (cat_i cat_e))))) (Nat.le_of_ble_eq_true rfl) (fun k hl hg hin hQ hC => ?_)
  subst hl hg
  show GW k 5 M 0 [some (va_rf (some a0)), some (.int p1), some (.int p2), some (.int p3), some (.int p4)] []
  refine G_iload_n (pc := 0) (i := 1) hC dX9_addDifference_0 rfl rfl ?_
  refine G_iload_n (pc := 1) (i := 2) hC dX9_addDifference_1 rfl rfl ?_
  refine G_icmp_lt (pc := 2) (tgt := 11) hC dX9_addDifference_2 (by decide) (fun hc => ?_) (fun hc => ?_)
  · replace hw := hw.1 hc
    exact g_X9_addDifference_11 hJ hC hQ hin   M hw
  · replace hw := hw.2 hc
    refine G_iload_n (pc := 5) (i := 3) hC dX9_addDifference_5 rfl rfl ?_
    refine G_iload (pc := 6) (i := 4) hC dX9_addDifference_6 rfl ?_
    refine G_icmp_ge (pc := 8) (tgt := 55) hC dX9_addDifference_8 (by decide) (fun hc => ?_) (fun hc => ?_)
    · replace hw := hw.1 hc
      exact g_X9_addDifference_55 hJ hC hQ hin   M hw
    · replace hw := hw.2 hc
      exact g_X9_addDifference_11 hJ hC hQ hin   M hw
theorem hd_J2_init_2 : yJ2_init_2.cls = "java/util/ArrayList" ∧ yJ2_init_2.cls ≠ "java/lang/invoke/MethodHandle" ∧ yJ2_init_2.cls ≠ "java/lang/invoke/VarHandle" ∧ (parseMethodDescriptor yJ2_init_2.desc).map (fun d => d.parameters.length) = some 1 := by decide +kernel
theorem hd_X5_anchored : yX5_anchored.cls = "MergeWorkbench$Aligner" ∧ yX5_anchored.cls ≠ "java/lang/invoke/MethodHandle" ∧ yX5_anchored.cls ≠ "java/lang/invoke/VarHandle" ∧ (parseMethodDescriptor yX5_anchored.desc).map (fun d => d.parameters.length) = some 0 := by decide +kernel
theorem hd_X5_init : yX5_init.cls = "MergeWorkbench$Aligner" ∧ yX5_init.cls ≠ "java/lang/invoke/MethodHandle" ∧ yX5_init.cls ≠ "java/lang/invoke/VarHandle" ∧ (parseMethodDescriptor yX5_init.desc).map (fun d => d.parameters.length) = some 2 := by decide +kernel
theorem hd_X5_plain : yX5_plain.cls = "MergeWorkbench$Aligner" ∧ yX5_plain.cls ≠ "java/lang/invoke/MethodHandle" ∧ yX5_plain.cls ≠ "java/lang/invoke/VarHandle" ∧ (parseMethodDescriptor yX5_plain.desc).map (fun d => d.parameters.length) = some 0 := by decide +kernel
theorem hd_X9_addDifference : yX9_addDifference.cls = "MergeWorkbench$Comparison" ∧ yX9_addDifference.cls ≠ "java/lang/invoke/MethodHandle" ∧ yX9_addDifference.cls ≠ "java/lang/invoke/VarHandle" ∧ (parseMethodDescriptor yX9_addDifference.desc).map (fun d => d.parameters.length) = some 4 := by decide +kernel
def w_X9_init_114 (g : gT) (F : Nat) (a0 : Nat) (p1 : Option Nat) (p2 : Option Nat) (p3 : Int32) (Q : hM → Prop) : Nat → Int32 → Int32 → (Option Nat) → hM → Prop
  | 0, _, _, _, _ => False
  | n + 1, v5, v6, v7, M => gThis M v7 26 fun b2 => T_has g b2  M (fun x3 M1 => ((x3 = 0 → gF M1 (some a0) 8 0 fun x4 => gThis M1 x4 21 fun b6 => L_size g b6  M1 (fun x7 M5 => gF M5 (some a0) 8 1 fun x8 => gThis M5 x8 21 fun b10 => L_size g b10  M5 (fun x11 M9 => (isC M9 a0 8 ∧ w_X9_addDifference g F a0 v5 x7 v6 x11 M9 (fun M12 => Q M12))))) ∧ (¬ (x3 = 0) → (isC M1 b2 26 ∧ T_next g b2  M1 (fun x14 M13 => ckC M13 x14 5 (gI M13 x14 5 0 fun x15 => gI M13 x14 5 1 fun x16 => (isC M13 a0 8 ∧ w_X9_addDifference g F a0 v5 x15 v6 x16 M13 (fun M17 => gI M17 x14 5 0 fun x18 => gI M17 x14 5 1 fun x19 => w_X9_init_114 g F a0 p1 p2 p3 Q n (x18 + (1 : Int32)) (x19 + (1 : Int32)) (some b2) M17))))))))
def w_X9_init_85 (g : gT) (F : Nat) (a0 : Nat) (p1 : Option Nat) (p2 : Option Nat) (p3 : Int32) (Q : hM → Prop) (v4 : Option Nat) (s0 : Option Nat) (s1 : Option Nat) (M : hM) : Prop :=
  pV M s0 8 2 (va_rf s1) fun M1 => gI M1 v4 4 3 fun x2 => pV M1 (some a0) 8 3 (.int x2) fun M3 => gF M3 (some a0) 8 2 fun x4 => gThis M3 x4 21 fun b6 => L_itr g b6  M3 (fun x7 M5 => w_X9_init_114 g F a0 p1 p2 p3 Q F (0 : Int32) (0 : Int32) x7 M5)
def w_X9_init (g : gT) (F : Nat) (a0 : Nat) (p1 : Option Nat) (p2 : Option Nat) (p3 : Int32) (M : hM) (Q : hM → Prop) : Prop :=
  nW M 21 fsJ2 fun q1 M2 => (isC M2 q1 21 ∧ L_new g q1  M2 (fun M3 => pV M3 (some a0) 8 4 (va_rf (some q1)) fun M4 => nW M4 21 fsJ2 fun q5 M6 => (isC M6 q5 21 ∧ L_new g q5  M6 (fun M7 => pV M7 (some a0) 8 5 (va_rf (some q5)) fun M8 => nW M8 21 fsJ2 fun q9 M10 => (isC M10 q9 21 ∧ L_newC g q9 p1 M10 (fun M11 => pV M11 (some a0) 8 0 (va_rf (some q9)) fun M12 => nW M12 21 fsJ2 fun q13 M14 => (isC M14 q13 21 ∧ L_newC g q13 p2 M14 (fun M15 => pV M15 (some a0) 8 1 (va_rf (some q13)) fun M16 => nW M16 4 fsX5 fun q17 M18 => gF M18 (some a0) 8 0 fun x19 => gF M18 (some a0) 8 1 fun x20 => (isC M18 q17 4 ∧ w_X5_init g F q17 x19 x20 M18 (fun M21 => ((¬ p3 = 0 → (isC M21 q17 4 ∧ w_X5_anchored g F q17  M21 (fun x23 M22 => w_X9_init_85 g F a0 p1 p2 p3 Q (some q17) (some a0) x23 M22))) ∧ (p3 = 0 → (isC M21 q17 4 ∧ w_X5_plain g F q17  M21 (fun x25 M24 => w_X9_init_85 g F a0 p1 p2 p3 Q (some q17) (some a0) x25 M24))))))))))))))
theorem g_X9_init_114 {k : kT} {F : Nat} {a0 : Nat} {p1 : Option Nat} {p2 : Option Nat} {p3 : Int32} {Q : hM → Prop} (hJ : JOK (kl k) (kg k)) (hC : CX k 9 cX9_init RX9 none 44 2103) (hQ : isQ k (PU Q)) (hin : (kt k).name = "<init>") : ∀ (n : Nat) (v5 : Int32) (v6 : Int32) (v7 : Option Nat) (M : hM), w_X9_init_114 (kg k) F a0 p1 p2 p3 Q n v5 v6 v7 M → GW k 9 M 114 [some (va_rf (some a0)), some (va_rf p1), some (va_rf p2), some (.int p3), none, some (.int v5), some (.int v6), some (va_rf v7), none] [] := by
  intro n
  induction n with
  | zero =>
    intro v5 v6 v7 M hw
    exact hw.elim
  | succ n ih =>
    intro v5 v6 v7 M hw
    refine G_aload (pc := 114) (i := 7) hC dX9_init_114 rfl ?_
    obtain ⟨b2, rfl, hb, hw⟩ := gThis_e hw
    refine G_callF (pc := 116) (n := 0) (x := ⟨"java/util/Iterator", "hasNext", "()Z"⟩) (C := "java/util/ArrayList$Itr") (ci := 26) (T := TJ24) (N := 4) (b := b2) (As := []) (rest := []) hC (J_T_has hJ hw) (lw_F q2357 q909 q911 q112 q913) (nw_in q878 rfl) (nw_in q877 rfl) (nw_in q912 rfl) (nw_in q910 rfl) (nw_in q908 rfl) rfl (rcv (C := RJ24) (T := TJ24) (N := 4) hC hb rfl) (by decide +kernel) (by decide) rfl rfl (st_c cat_e (Nat.le_of_ble_eq_true rfl)) dX9_init_116 (kI fun x3 M1 hw => ?_)
    refine G_if_eq (pc := 121) (tgt := 175) hC dX9_init_121 (by decide) (fun hc => ?_) (fun hc => ?_)
    · replace hw := hw.1 hc
      refine G_aload_n (pc := 175) (i := 0) hC dX9_init_175 rfl rfl ?_
      refine G_iload (pc := 176) (i := 5) hC dX9_init_176 rfl ?_
      refine G_aload_n (pc := 178) (i := 0) hC dX9_init_178 rfl rfl ?_
      refine G_getF (pc := 179) (ci := 8) (C := RX9) (T := TX9) (N := 6) (f := 0) hC rfl in_X9 (Nat.le_of_ble_eq_true rfl) q2414 (fun _ h => h) dX9_init_179 hw (fun x4 hw => ?_)
      obtain ⟨b6, rfl, hb, hw⟩ := gThis_e hw
      refine G_callF (pc := 182) (n := 0) (x := ⟨"java/util/List", "size", "()I"⟩) (C := "java/util/ArrayList") (ci := 21) (T := TJ2) (N := 3) (b := b6) (As := []) (rest := [.int v5, va_rf (some a0)]) hC (J_L_size hJ hw) (lw_F q2412 q889 q363 q87 q364) (nw_in q888 rfl) (nw_in q887 rfl) (nw_in q891 rfl) (nw_in q890 rfl) (nw_in q259 rfl) rfl (rcv (C := RJ2) (T := TJ2) (N := 3) hC hb rfl) (by decide +kernel) (by decide) rfl rfl (st_c (cat_i (cat_r cat_e)) (Nat.le_of_ble_eq_true rfl)) dX9_init_182 (kI fun x7 M5 hw => ?_)
      refine G_iload (pc := 187) (i := 6) hC dX9_init_187 rfl ?_
      refine G_aload_n (pc := 189) (i := 0) hC dX9_init_189 rfl rfl ?_
      refine G_getF (pc := 190) (ci := 8) (C := RX9) (T := TX9) (N := 6) (f := 1) hC rfl in_X9 (Nat.le_of_ble_eq_true rfl) q2420 (fun _ h => h) dX9_init_190 hw (fun x8 hw => ?_)
      obtain ⟨b10, rfl, hb, hw⟩ := gThis_e hw
      refine G_callF (pc := 193) (n := 0) (x := ⟨"java/util/List", "size", "()I"⟩) (C := "java/util/ArrayList") (ci := 21) (T := TJ2) (N := 3) (b := b10) (As := []) (rest := [.int v6, .int x7, .int v5, va_rf (some a0)]) hC (J_L_size hJ hw) (lw_F q2412 q889 q363 q87 q364) (nw_in q888 rfl) (nw_in q887 rfl) (nw_in q891 rfl) (nw_in q890 rfl) (nw_in q259 rfl) rfl (rcv (C := RJ2) (T := TJ2) (N := 3) hC hb rfl) (by decide +kernel) (by decide) rfl rfl (st_c (cat_i (cat_i (cat_i (cat_r cat_e)))) (Nat.le_of_ble_eq_true rfl)) dX9_init_193 (kI fun x11 M9 hw => ?_)
      obtain ⟨hb, hw⟩ := hw
      refine G_callV (pc := 198) (n := 4) (C := "MergeWorkbench$Comparison") (b := a0) (As := [.int v5, .int x7, .int v6, .int x11]) (rest := []) hC (m_X9_addDifference hJ hw) (lw_V q2361 q2363 qs36 q134 q2364) hd_X9_addDifference (by decide) (rcv (C := RX9) (T := TX9) (N := 6) hC hb rfl) rfl rfl (st_c cat_e (Nat.le_of_ble_eq_true rfl)) dX9_init_198 (kU fun M12 hw => ?_)
      exact G_ret (pc := 201) hC hQ dX9_init_201 hw
    · replace hw := hw.2 hc
      refine G_aload (pc := 124) (i := 7) hC dX9_init_124 rfl ?_
      obtain ⟨hb, hw⟩ := hw
      refine G_callF (pc := 126) (n := 0) (x := ⟨"java/util/Iterator", "next", "()Ljava/lang/Object;"⟩) (C := "java/util/ArrayList$Itr") (ci := 26) (T := TJ24) (N := 4) (b := b2) (As := []) (rest := []) hC (J_T_next hJ hw) (lw_F q2359 q1119 q1121 q112 q1123) (nw_in q937 rfl) (nw_in q936 rfl) (nw_in q1122 rfl) (nw_in q1120 rfl) (nw_in q908 rfl) rfl (rcv (C := RJ24) (T := TJ24) (N := 4) hC hb rfl) (by decide +kernel) (by decide) rfl rfl (st_c cat_e (Nat.le_of_ble_eq_true rfl)) dX9_init_126 (kRf fun x14 M13 hw => ?_)
      obtain ⟨hb, hw⟩ := hw
      refine G_castCS (pc := 131) (C := RX6) (T := TX6) (N := 2) hC rfl q2360 hb dX9_init_131 ?_
      refine G_astore (pc := 134) (i := 8) (lw := [some (va_rf (some a0)), some (va_rf p1), some (va_rf p2), some (.int p3), none, some (.int v5), some (.int v6), some (va_rf (some b2)), some (va_rf x14)]) hC dX9_init_134 (Nat.le_of_ble_eq_true rfl) rfl ?_
      refine G_aload_n (pc := 136) (i := 0) hC dX9_init_136 rfl rfl ?_
      refine G_iload (pc := 137) (i := 5) hC dX9_init_137 rfl ?_
      refine G_aload (pc := 139) (i := 8) hC dX9_init_139 rfl ?_
      refine G_getIN (pc := 141) (ci := 5) (C := RX6) (T := TX6) (N := 2) (f := 0) hC rfl in_X6 (Nat.le_of_ble_eq_true rfl) (nw_in q1700 rfl) (fun _ h => h) dX9_init_141 hw (fun x15 hw => ?_)
      refine G_iload (pc := 144) (i := 6) hC dX9_init_144 rfl ?_
      refine G_aload (pc := 146) (i := 8) hC dX9_init_146 rfl ?_
      refine G_getIN (pc := 148) (ci := 5) (C := RX6) (T := TX6) (N := 2) (f := 1) hC rfl in_X6 (Nat.le_of_ble_eq_true rfl) (nw_in q1704 rfl) (fun _ h => h) dX9_init_148 hw (fun x16 hw => ?_)
      obtain ⟨hb, hw⟩ := hw
      refine G_callV (pc := 151) (n := 4) (C := "MergeWorkbench$Comparison") (b := a0) (As := [.int v5, .int x15, .int v6, .int x16]) (rest := []) hC (m_X9_addDifference hJ hw) (lw_V q2361 q2363 qs36 q134 q2364) hd_X9_addDifference (by decide) (rcv (C := RX9) (T := TX9) (N := 6) hC hb rfl) rfl rfl (st_c cat_e (Nat.le_of_ble_eq_true rfl)) dX9_init_151 (kU fun M17 hw => ?_)
      refine G_aload (pc := 154) (i := 8) hC dX9_init_154 rfl ?_
      refine G_getIN (pc := 156) (ci := 5) (C := RX6) (T := TX6) (N := 2) (f := 0) hC rfl in_X6 (Nat.le_of_ble_eq_true rfl) (nw_in q1700 rfl) (fun _ h => h) dX9_init_156 hw (fun x18 hw => ?_)
      refine G_iconst (pc := 159) (v := 1) hC dX9_init_159 (by decide) ?_
      refine G_iadd (pc := 160) hC dX9_init_160 ?_
      refine G_istore (pc := 161) (i := 5) (lw := [some (va_rf (some a0)), some (va_rf p1), some (va_rf p2), some (.int p3), none, some (.int (x18 + (1 : Int32))), some (.int v6), some (va_rf (some b2)), some (va_rf x14)]) hC dX9_init_161 (Nat.le_of_ble_eq_true rfl) rfl ?_
      refine G_aload (pc := 163) (i := 8) hC dX9_init_163 rfl ?_
      refine G_getIN (pc := 165) (ci := 5) (C := RX6) (T := TX6) (N := 2) (f := 1) hC rfl in_X6 (Nat.le_of_ble_eq_true rfl) (nw_in q1704 rfl) (fun _ h => h) dX9_init_165 hw (fun x19 hw => ?_)
      refine G_iconst (pc := 168) (v := 1) hC dX9_init_168 (by decide) ?_
      refine G_iadd (pc := 169) hC dX9_init_169 ?_
      refine G_istore (pc := 170) (i := 6) (lw := [some (va_rf (some a0)), some (va_rf p1), some (va_rf p2), some (.int p3), none, some (.int (x18 + (1 : Int32))), some (.int (x19 + (1 : Int32))), some (va_rf (some b2)), some (va_rf x14)]) hC dX9_init_170 (Nat.le_of_ble_eq_true rfl) rfl ?_
      refine G_goto (pc := 172) (tgt := 114) hC dX9_init_172 (by decide) ?_
      refine G_loc (lv' := [some (va_rf (some a0)), some (va_rf p1), some (va_rf p2), some (.int p3), none, some (.int (x18 + (1 : Int32))), some (.int (x19 + (1 : Int32))), some (va_rf (some b2)), none]) ⟨Or.inr rfl, Or.inr rfl, Or.inr rfl, Or.inr rfl, Or.inr rfl, Or.inr rfl, Or.inr rfl, Or.inr rfl, Or.inl rfl, trivial⟩ ?_
      exact ih (x18 + (1 : Int32)) (x19 + (1 : Int32)) (some b2) M17 hw
theorem g_X9_init_85 {k : kT} {F : Nat} {a0 : Nat} {p1 : Option Nat} {p2 : Option Nat} {p3 : Int32} {Q : hM → Prop} (hJ : JOK (kl k) (kg k)) (hC : CX k 9 cX9_init RX9 none 44 2103) (hQ : isQ k (PU Q)) (hin : (kt k).name = "<init>") : ∀ (v4 : Option Nat) (s0 : Option Nat) (s1 : Option Nat) (M : hM), w_X9_init_85 (kg k) F a0 p1 p2 p3 Q v4 s0 s1 M → GW k 9 M 85 [some (va_rf (some a0)), some (va_rf p1), some (va_rf p2), some (.int p3), some (va_rf v4), none, none, none, none] [va_rf s1, va_rf s0] := by
  intro v4 s0 s1 M hw
  refine G_putF (pc := 85) (ci := 8) (C := RX9) (T := TX9) (N := 6) (f := 2) tyX9 hC rfl in_X9 tyX9_ok nmX9 (Nat.le_of_ble_eq_true rfl) q2425 (fun _ h => h) rfl hin rfl (nR_o _ _) (fR_o _ _) dX9_init_85 hw (fun M1 hw => ?_)
  refine G_aload_n (pc := 88) (i := 0) hC dX9_init_88 rfl rfl ?_
  refine G_aload (pc := 89) (i := 4) hC dX9_init_89 rfl ?_
  refine G_getIN (pc := 91) (ci := 4) (C := RX5) (T := TX5) (N := 4) (f := 3) hC rfl in_X5 (Nat.le_of_ble_eq_true rfl) (nw_in q1644 rfl) (fun _ h => h) dX9_init_91 hw (fun x2 hw => ?_)
  refine G_putF (pc := 94) (ci := 8) (C := RX9) (T := TX9) (N := 6) (f := 3) tyX9 hC rfl in_X9 tyX9_ok nmX9 (Nat.le_of_ble_eq_true rfl) q2428 (fun _ h => h) rfl hin rfl rfl rfl dX9_init_94 hw (fun M3 hw => ?_)
  refine G_iconst (pc := 97) (v := 0) hC dX9_init_97 (by decide) ?_
  refine G_istore (pc := 98) (i := 5) (lw := [some (va_rf (some a0)), some (va_rf p1), some (va_rf p2), some (.int p3), some (va_rf v4), some (.int (0 : Int32)), none, none, none]) hC dX9_init_98 (Nat.le_of_ble_eq_true rfl) rfl ?_
  refine G_iconst (pc := 100) (v := 0) hC dX9_init_100 (by decide) ?_
  refine G_istore (pc := 101) (i := 6) (lw := [some (va_rf (some a0)), some (va_rf p1), some (va_rf p2), some (.int p3), some (va_rf v4), some (.int (0 : Int32)), some (.int (0 : Int32)), none, none]) hC dX9_init_101 (Nat.le_of_ble_eq_true rfl) rfl ?_
  refine G_aload_n (pc := 103) (i := 0) hC dX9_init_103 rfl rfl ?_
  refine G_getF (pc := 104) (ci := 8) (C := RX9) (T := TX9) (N := 6) (f := 2) hC rfl in_X9 (Nat.le_of_ble_eq_true rfl) q2425 (fun _ h => h) dX9_init_104 hw (fun x4 hw => ?_)
  obtain ⟨b6, rfl, hb, hw⟩ := gThis_e hw
  refine G_callF (pc := 107) (n := 0) (x := ⟨"java/util/List", "iterator", "()Ljava/util/Iterator;"⟩) (C := "java/util/ArrayList") (ci := 21) (T := TJ2) (N := 3) (b := b6) (As := []) (rest := []) hC (J_L_itr hJ hw) (lw_F q2355 q1193 q803 q87 q804) (nw_in q1192 rfl) (nw_in q1191 rfl) (nw_in q1195 rfl) (nw_in q1194 rfl) (nw_in q259 rfl) rfl (rcv (C := RJ2) (T := TJ2) (N := 3) hC hb rfl) (by decide +kernel) (by decide) rfl rfl (st_c cat_e (Nat.le_of_ble_eq_true rfl)) dX9_init_107 (kRf fun x7 M5 hw => ?_)
  refine G_astore (pc := 112) (i := 7) (lw := [some (va_rf (some a0)), some (va_rf p1), some (va_rf p2), some (.int p3), some (va_rf v4), some (.int (0 : Int32)), some (.int (0 : Int32)), some (va_rf x7), none]) hC dX9_init_112 (Nat.le_of_ble_eq_true rfl) rfl ?_
  refine G_loc (lv' := [some (va_rf (some a0)), some (va_rf p1), some (va_rf p2), some (.int p3), none, some (.int (0 : Int32)), some (.int (0 : Int32)), some (va_rf x7), none]) ⟨Or.inr rfl, Or.inr rfl, Or.inr rfl, Or.inr rfl, Or.inl rfl, Or.inr rfl, Or.inr rfl, Or.inr rfl, Or.inr rfl, trivial⟩ ?_
  exact g_X9_init_114 hJ hC hQ hin _ (0 : Int32) (0 : Int32) x7 M5 hw
theorem m_X9_init {l : Launch} {g : gT} {F : Nat} {a0 : Nat} {p1 : Option Nat} {p2 : Option Nat} {p3 : Int32} {M : hM} {Q : hM → Prop} (hJ : JOK l g) (hw : w_X9_init g F a0 p1 p2 p3 M Q) : MG l g yX9_init (ws_ yX9_init cX9_init 9 none) 44 2103 [va_rf (some a0), va_rf p1, va_rf p2, .int p3] M (PU Q) := by
  refine MG_of hJ.2.1 (by decide) (cat_r (cat_r (cat_r (cat_i cat_e)))) (Nat.le_of_ble_eq_true rfl) (fun k hl hg hin hQ hC => ?_)
  subst hl hg
  show GW k 9 M 0 [some (va_rf (some a0)), some (va_rf p1), some (va_rf p2), some (.int p3), none, none, none, none, none] []
  refine G_aload_n (pc := 0) (i := 0) hC dX9_init_0 rfl rfl ?_
  refine G_objInit (pc := 1) hC q2189 q158 q159 rfl rfl (st_c cat_e (Nat.le_of_ble_eq_true rfl)) dX9_init_1 ?_
  refine G_aload_n (pc := 4) (i := 0) hC dX9_init_4 rfl rfl ?_
  refine G_new (pc := 5) (ci := 21) (C := RJ2) (T := TJ2) (N := 3) (fs := fsJ2) tyJ2 hC rfl in_J2 tyJ2_ok q2190 q161 q87 dfJ2 rfl dX9_init_5 hw (fun q1 M2 hw => ?_)
  refine G_dup (pc := 8) hC dX9_init_8 (rf_cat _) ?_
  obtain ⟨hb, hw⟩ := hw
  refine G_callI (pc := 9) (n := 0) (b := q1) (As := []) (rest := [va_rf (some q1), va_rf (some a0)]) hC (J_L_new hJ hw) (lw_meth q164) q87 q2191 q163 rfl hd_J2_init.2 (by decide) rfl rfl (st_c (cat_r (cat_r cat_e)) (Nat.le_of_ble_eq_true rfl)) dX9_init_9 (kU fun M3 hw => ?_)
  refine G_putF (pc := 12) (ci := 8) (C := RX9) (T := TX9) (N := 6) (f := 4) tyX9 hC rfl in_X9 tyX9_ok nmX9 (Nat.le_of_ble_eq_true rfl) q2430 (fun _ h => h) rfl hin rfl (nR_o _ _) (fR_o _ _) dX9_init_12 hw (fun M4 hw => ?_)
  refine G_aload_n (pc := 15) (i := 0) hC dX9_init_15 rfl rfl ?_
  refine G_new (pc := 16) (ci := 21) (C := RJ2) (T := TJ2) (N := 3) (fs := fsJ2) tyJ2 hC rfl in_J2 tyJ2_ok q2190 q161 q87 dfJ2 rfl dX9_init_16 hw (fun q5 M6 hw => ?_)
  refine G_dup (pc := 19) hC dX9_init_19 (rf_cat _) ?_
  obtain ⟨hb, hw⟩ := hw
  refine G_callI (pc := 20) (n := 0) (b := q5) (As := []) (rest := [va_rf (some q5), va_rf (some a0)]) hC (J_L_new hJ hw) (lw_meth q164) q87 q2191 q163 rfl hd_J2_init.2 (by decide) rfl rfl (st_c (cat_r (cat_r cat_e)) (Nat.le_of_ble_eq_true rfl)) dX9_init_20 (kU fun M7 hw => ?_)
  refine G_putF (pc := 23) (ci := 8) (C := RX9) (T := TX9) (N := 6) (f := 5) tyX9 hC rfl in_X9 tyX9_ok nmX9 (Nat.le_of_ble_eq_true rfl) q2434 (fun _ h => h) rfl hin rfl (nR_o _ _) (fR_o _ _) dX9_init_23 hw (fun M8 hw => ?_)
  refine G_aload_n (pc := 26) (i := 0) hC dX9_init_26 rfl rfl ?_
  refine G_new (pc := 27) (ci := 21) (C := RJ2) (T := TJ2) (N := 3) (fs := fsJ2) tyJ2 hC rfl in_J2 tyJ2_ok q2190 q161 q87 dfJ2 rfl dX9_init_27 hw (fun q9 M10 hw => ?_)
  refine G_dup (pc := 30) hC dX9_init_30 (rf_cat _) ?_
  refine G_aload_n (pc := 31) (i := 1) hC dX9_init_31 rfl rfl ?_
  obtain ⟨hb, hw⟩ := hw
  refine G_callI (pc := 32) (n := 1) (b := q9) (As := [va_rf p1]) (rest := [va_rf (some q9), va_rf (some a0)]) hC (J_L_newC hJ hw) (lw_meth q735) q87 q2192 q734 rfl hd_J2_init_2.2 (by decide) rfl rfl (st_c (cat_r (cat_r cat_e)) (Nat.le_of_ble_eq_true rfl)) dX9_init_32 (kU fun M11 hw => ?_)
  refine G_putF (pc := 35) (ci := 8) (C := RX9) (T := TX9) (N := 6) (f := 0) tyX9 hC rfl in_X9 tyX9_ok nmX9 (Nat.le_of_ble_eq_true rfl) q2414 (fun _ h => h) rfl hin rfl (nR_o _ _) (fR_o _ _) dX9_init_35 hw (fun M12 hw => ?_)
  refine G_aload_n (pc := 38) (i := 0) hC dX9_init_38 rfl rfl ?_
  refine G_new (pc := 39) (ci := 21) (C := RJ2) (T := TJ2) (N := 3) (fs := fsJ2) tyJ2 hC rfl in_J2 tyJ2_ok q2190 q161 q87 dfJ2 rfl dX9_init_39 hw (fun q13 M14 hw => ?_)
  refine G_dup (pc := 42) hC dX9_init_42 (rf_cat _) ?_
  refine G_aload_n (pc := 43) (i := 2) hC dX9_init_43 rfl rfl ?_
  obtain ⟨hb, hw⟩ := hw
  refine G_callI (pc := 44) (n := 1) (b := q13) (As := [va_rf p2]) (rest := [va_rf (some q13), va_rf (some a0)]) hC (J_L_newC hJ hw) (lw_meth q735) q87 q2192 q734 rfl hd_J2_init_2.2 (by decide) rfl rfl (st_c (cat_r (cat_r cat_e)) (Nat.le_of_ble_eq_true rfl)) dX9_init_44 (kU fun M15 hw => ?_)
  refine G_putF (pc := 47) (ci := 8) (C := RX9) (T := TX9) (N := 6) (f := 1) tyX9 hC rfl in_X9 tyX9_ok nmX9 (Nat.le_of_ble_eq_true rfl) q2420 (fun _ h => h) rfl hin rfl (nR_o _ _) (fR_o _ _) dX9_init_47 hw (fun M16 hw => ?_)
  refine G_new (pc := 50) (ci := 4) (C := RX5) (T := TX5) (N := 4) (fs := fsX5) tyX5 hC rfl in_X5 tyX5_ok q2193 q1634 q123 dfX5 rfl dX9_init_50 hw (fun q17 M18 hw => ?_)
  refine G_dup (pc := 53) hC dX9_init_53 (rf_cat _) ?_
  refine G_aload_n (pc := 54) (i := 0) hC dX9_init_54 rfl rfl ?_
  refine G_getF (pc := 55) (ci := 8) (C := RX9) (T := TX9) (N := 6) (f := 0) hC rfl in_X9 (Nat.le_of_ble_eq_true rfl) q2414 (fun _ h => h) dX9_init_55 hw (fun x19 hw => ?_)
  refine G_aload_n (pc := 58) (i := 0) hC dX9_init_58 rfl rfl ?_
  refine G_getF (pc := 59) (ci := 8) (C := RX9) (T := TX9) (N := 6) (f := 1) hC rfl in_X9 (Nat.le_of_ble_eq_true rfl) q2420 (fun _ h => h) dX9_init_59 hw (fun x20 hw => ?_)
  obtain ⟨hb, hw⟩ := hw
  refine G_callI (pc := 62) (n := 2) (b := q17) (As := [va_rf x19, va_rf x20]) (rest := [va_rf (some q17)]) hC (m_X5_init hJ hw) (lw_meth q1637) q123 q2194 q1636 rfl hd_X5_init.2 (by decide) rfl rfl (st_c (cat_r cat_e) (Nat.le_of_ble_eq_true rfl)) dX9_init_62 (kU fun M21 hw => ?_)
  refine G_astore (pc := 65) (i := 4) (lw := [some (va_rf (some a0)), some (va_rf p1), some (va_rf p2), some (.int p3), some (va_rf (some q17)), none, none, none, none]) hC dX9_init_65 (Nat.le_of_ble_eq_true rfl) rfl ?_
  refine G_aload_n (pc := 67) (i := 0) hC dX9_init_67 rfl rfl ?_
  refine G_iload_n (pc := 68) (i := 3) hC dX9_init_68 rfl rfl ?_
  refine G_if_ne (pc := 69) (tgt := 80) hC dX9_init_69 (by decide) (fun hc => ?_) (fun hc => ?_)
  · replace hw := hw.1 hc
    refine G_aload (pc := 80) (i := 4) hC dX9_init_80 rfl ?_
    obtain ⟨hb, hw⟩ := hw
    refine G_callV (pc := 82) (n := 0) (C := "MergeWorkbench$Aligner") (b := q17) (As := []) (rest := [va_rf (some a0)]) hC (m_X5_anchored hJ hw) (lw_V q2196 q2197 q2198 q123 q2199) hd_X5_anchored (by decide) (rcv (C := RX5) (T := TX5) (N := 4) hC hb rfl) rfl rfl (st_c (cat_r cat_e) (Nat.le_of_ble_eq_true rfl)) dX9_init_82 (kRf fun x23 M22 hw => ?_)
    exact g_X9_init_85 hJ hC hQ hin  (some q17) (some a0) x23 M22 hw
  · replace hw := hw.2 hc
    refine G_aload (pc := 72) (i := 4) hC dX9_init_72 rfl ?_
    obtain ⟨hb, hw⟩ := hw
    refine G_callV (pc := 74) (n := 0) (C := "MergeWorkbench$Aligner") (b := q17) (As := []) (rest := [va_rf (some a0)]) hC (m_X5_plain hJ hw) (lw_V q2195 q1656 q1657 q123 q1658) hd_X5_plain (by decide) (rcv (C := RX5) (T := TX5) (N := 4) hC hb rfl) rfl rfl (st_c (cat_r cat_e) (Nat.le_of_ble_eq_true rfl)) dX9_init_74 (kRf fun x25 M24 hw => ?_)
    refine G_goto (pc := 77) (tgt := 85) hC dX9_init_77 (by decide) ?_
    exact g_X9_init_85 hJ hC hQ hin  (some q17) (some a0) x25 M24 hw
theorem hd_X12_init : yX12_init.cls = "MergeWorkbench$Comparison$1" ∧ yX12_init.cls ≠ "java/lang/invoke/MethodHandle" ∧ yX12_init.cls ≠ "java/lang/invoke/VarHandle" ∧ (parseMethodDescriptor yX12_init.desc).map (fun d => d.parameters.length) = some 1 := by decide +kernel
def w_X9_iterator (g : gT) (F : Nat) (a0 : Nat) (M : hM) (Q : Option Nat → hM → Prop) : Prop :=
  nW M 11 fsX12 fun q1 M2 => (isC M2 q1 11 ∧ w_X12_init g F q1 (some a0) M2 (fun M3 => Q (some q1) M3))
theorem m_X9_iterator {l : Launch} {g : gT} {F : Nat} {a0 : Nat} {M : hM} {Q : Option Nat → hM → Prop} (hJ : JOK l g) (hw : w_X9_iterator g F a0 M Q) : MG l g yX9_iterator (ws_ yX9_iterator cX9_iterator 1 (some (.object "java/util/Iterator"))) 2 41 [va_rf (some a0)] M (PR Q) := by
  refine MG_of hJ.2.1 (by decide) (cat_r cat_e) (Nat.le_of_ble_eq_true rfl) (fun k hl hg hin hQ hC => ?_)
  subst hl hg
  show GW k 1 M 0 [some (va_rf (some a0))] []
  refine G_new (pc := 0) (ci := 11) (C := RX12) (T := TX12) (N := 4) (fs := fsX12) tyX12 hC rfl in_X12 tyX12_ok q2505 q950 q140 dfX12 rfl dX9_iterator_0 hw (fun q1 M2 hw => ?_)
  refine G_dup (pc := 3) hC dX9_iterator_3 (rf_cat _) ?_
  refine G_aload_n (pc := 4) (i := 0) hC dX9_iterator_4 rfl rfl ?_
  obtain ⟨hb, hw⟩ := hw
  refine G_callI (pc := 5) (n := 1) (b := q1) (As := [va_rf (some a0)]) (rest := [va_rf (some q1)]) hC (m_X12_init hJ hw) (lw_meth q2508) q140 q2506 q2507 rfl hd_X12_init.2 (by decide) rfl rfl (st_c (cat_r cat_e) (Nat.le_of_ble_eq_true rfl)) dX9_iterator_5 (kU fun M3 hw => ?_)
  exact G_aret (pc := 8) hC (Or.inl ⟨_, rfl⟩) hQ dX9_iterator_8 hw
theorem hd_X13_find : yX13_find.cls = "MergeWorkbench$Comparison$MoveFinder" ∧ yX13_find.cls ≠ "java/lang/invoke/MethodHandle" ∧ yX13_find.cls ≠ "java/lang/invoke/VarHandle" ∧ (parseMethodDescriptor yX13_find.desc).map (fun d => d.parameters.length) = some 1 := by decide +kernel
theorem hd_X13_init : yX13_init.cls = "MergeWorkbench$Comparison$MoveFinder" ∧ yX13_init.cls ≠ "java/lang/invoke/MethodHandle" ∧ yX13_init.cls ≠ "java/lang/invoke/VarHandle" ∧ (parseMethodDescriptor yX13_init.desc).map (fun d => d.parameters.length) = some 1 := by decide +kernel
def w_X9_findMoves (g : gT) (F : Nat) (a0 : Nat) (p1 : Int32) (M : hM) (Q : Int32 → hM → Prop) : Prop :=
  nW M 12 fsX13 fun q1 M2 => (isC M2 q1 12 ∧ w_X13_init g F q1 (some a0) M2 (fun M3 => (isC M3 q1 12 ∧ w_X13_find g F q1 p1 M3 (fun M4 => gF M4 (some a0) 8 5 fun x5 => gThis M4 x5 21 fun b7 => L_size g b7  M4 (fun x8 M6 => Q x8 M6)))))
theorem m_X9_findMoves {l : Launch} {g : gT} {F : Nat} {a0 : Nat} {p1 : Int32} {M : hM} {Q : Int32 → hM → Prop} (hJ : JOK l g) (hw : w_X9_findMoves g F a0 p1 M Q) : MG l g yX9_findMoves (ws_ yX9_findMoves cX9_findMoves 2 (some .int)) 45 2115 [va_rf (some a0), .int p1] M (PI Q) := by
  refine MG_of hJ.2.1 (by decide) (cat_r (cat_i cat_e)) (Nat.le_of_ble_eq_true rfl) (fun k hl hg hin hQ hC => ?_)
  subst hl hg
  show GW k 2 M 0 [some (va_rf (some a0)), some (.int p1)] []
  refine G_new (pc := 0) (ci := 12) (C := RX13) (T := TX13) (N := 3) (fs := fsX13) tyX13 hC rfl in_X13 tyX13_ok q2562 q2563 q142 dfX13 rfl dX9_findMoves_0 hw (fun q1 M2 hw => ?_)
  refine G_dup (pc := 3) hC dX9_findMoves_3 (rf_cat _) ?_
  refine G_aload_n (pc := 4) (i := 0) hC dX9_findMoves_4 rfl rfl ?_
  obtain ⟨hb, hw⟩ := hw
  refine G_callI (pc := 5) (n := 1) (b := q1) (As := [va_rf (some a0)]) (rest := [va_rf (some q1)]) hC (m_X13_init hJ hw) (lw_meth q2566) q142 q2564 q2565 rfl hd_X13_init.2 (by decide) rfl rfl (st_c (cat_r cat_e) (Nat.le_of_ble_eq_true rfl)) dX9_findMoves_5 (kU fun M3 hw => ?_)
  refine G_iload_n (pc := 8) (i := 1) hC dX9_findMoves_8 rfl rfl ?_
  obtain ⟨hb, hw⟩ := hw
  refine G_callV (pc := 9) (n := 1) (C := "MergeWorkbench$Comparison$MoveFinder") (b := q1) (As := [.int p1]) (rest := []) hC (m_X13_find hJ hw) (lw_V q2660 q2661 q2662 q142 q2663) hd_X13_find (by decide) (rcv (C := RX13) (T := TX13) (N := 3) hC hb rfl) rfl rfl (st_c cat_e (Nat.le_of_ble_eq_true rfl)) dX9_findMoves_9 (kU fun M4 hw => ?_)
  refine G_aload_n (pc := 12) (i := 0) hC dX9_findMoves_12 rfl rfl ?_
  refine G_getF (pc := 13) (ci := 8) (C := RX9) (T := TX9) (N := 6) (f := 5) hC rfl in_X9 (Nat.le_of_ble_eq_true rfl) q2434 (fun _ h => h) dX9_findMoves_13 hw (fun x5 hw => ?_)
  obtain ⟨b7, rfl, hb, hw⟩ := gThis_e hw
  refine G_callF (pc := 16) (n := 0) (x := ⟨"java/util/List", "size", "()I"⟩) (C := "java/util/ArrayList") (ci := 21) (T := TJ2) (N := 3) (b := b7) (As := []) (rest := []) hC (J_L_size hJ hw) (lw_F q2412 q889 q363 q87 q364) (nw_in q888 rfl) (nw_in q887 rfl) (nw_in q891 rfl) (nw_in q890 rfl) (nw_in q259 rfl) rfl (rcv (C := RJ2) (T := TJ2) (N := 3) hC hb rfl) (by decide +kernel) (by decide) rfl rfl (st_c cat_e (Nat.le_of_ble_eq_true rfl)) dX9_findMoves_16 (kI fun x8 M6 hw => ?_)
  exact G_iret (pc := 21) hC rfl hQ dX9_findMoves_21 hw
theorem hd_J3_init : yJ3_init.cls = "java/util/ArrayDeque" ∧ yJ3_init.cls ≠ "java/lang/invoke/MethodHandle" ∧ yJ3_init.cls ≠ "java/lang/invoke/VarHandle" ∧ (parseMethodDescriptor yJ3_init.desc).map (fun d => d.parameters.length) = some 0 := by decide +kernel
def w_X2_init (g : gT) (F : Nat) (a0 : Nat) (M : hM) (Q : hM → Prop) : Prop :=
  nW M 22 fsJ3 fun q1 M2 => (isC M2 q1 22 ∧ D_new g q1  M2 (fun M3 => pV M3 (some a0) 1 0 (va_rf (some q1)) fun M4 => Q M4))
theorem m_X2_init {l : Launch} {g : gT} {F : Nat} {a0 : Nat} {M : hM} {Q : hM → Prop} (hJ : JOK l g) (hw : w_X2_init g F a0 M Q) : MG l g yX2_init (ws_ yX2_init cX2_init 1 none) 41 2020 [va_rf (some a0)] M (PU Q) := by
  refine MG_of hJ.2.1 (by decide) (cat_r cat_e) (Nat.le_of_ble_eq_true rfl) (fun k hl hg hin hQ hC => ?_)
  subst hl hg
  show GW k 1 M 0 [some (va_rf (some a0))] []
  refine G_aload_n (pc := 0) (i := 0) hC dX2_init_0 rfl rfl ?_
  refine G_objInit (pc := 1) hC q196 q158 q159 rfl rfl (st_c cat_e (Nat.le_of_ble_eq_true rfl)) dX2_init_1 ?_
  refine G_aload_n (pc := 4) (i := 0) hC dX2_init_4 rfl rfl ?_
  refine G_new (pc := 5) (ci := 22) (C := RJ3) (T := TJ3) (N := 3) (fs := fsJ3) tyJ3 hC rfl in_J3 tyJ3_ok q197 q198 q89 dfJ3 rfl dX2_init_5 hw (fun q1 M2 hw => ?_)
  refine G_dup (pc := 8) hC dX2_init_8 (rf_cat _) ?_
  obtain ⟨hb, hw⟩ := hw
  refine G_callI (pc := 9) (n := 0) (b := q1) (As := []) (rest := [va_rf (some q1), va_rf (some a0)]) hC (J_D_new hJ hw) (lw_meth q201) q89 q199 q200 rfl hd_J3_init.2 (by decide) rfl rfl (st_c (cat_r (cat_r cat_e)) (Nat.le_of_ble_eq_true rfl)) dX2_init_9 (kU fun M3 hw => ?_)
  refine G_putF (pc := 12) (ci := 1) (C := RX2) (T := TX2) (N := 1) (f := 0) tyX2 hC rfl in_X2 tyX2_ok nmX2 (Nat.le_of_ble_eq_true rfl) q217 (fun _ h => h) rfl hin rfl (nR_o _ _) (fR_o _ _) dX2_init_12 hw (fun M4 hw => ?_)
  exact G_ret (pc := 15) hC hQ dX2_init_15 hw
theorem hd_J3_addFirst : yJ3_addFirst.cls = "java/util/ArrayDeque" ∧ yJ3_addFirst.cls ≠ "java/lang/invoke/MethodHandle" ∧ yJ3_addFirst.cls ≠ "java/lang/invoke/VarHandle" ∧ (parseMethodDescriptor yJ3_addFirst.desc).map (fun d => d.parameters.length) = some 1 := by decide +kernel
theorem hd_J3_removeLast : yJ3_removeLast.cls = "java/util/ArrayDeque" ∧ yJ3_removeLast.cls ≠ "java/lang/invoke/MethodHandle" ∧ yJ3_removeLast.cls ≠ "java/lang/invoke/VarHandle" ∧ (parseMethodDescriptor yJ3_removeLast.desc).map (fun d => d.parameters.length) = some 0 := by decide +kernel
theorem hd_J3_size : yJ3_size.cls = "java/util/ArrayDeque" ∧ yJ3_size.cls ≠ "java/lang/invoke/MethodHandle" ∧ yJ3_size.cls ≠ "java/lang/invoke/VarHandle" ∧ (parseMethodDescriptor yJ3_size.desc).map (fun d => d.parameters.length) = some 0 := by decide +kernel
theorem hd_X4_init : yX4_init.cls = "MergeWorkbench$Change" ∧ yX4_init.cls ≠ "java/lang/invoke/MethodHandle" ∧ yX4_init.cls ≠ "java/lang/invoke/VarHandle" ∧ (parseMethodDescriptor yX4_init.desc).map (fun d => d.parameters.length) = some 2 := by decide +kernel
def w_X2_add_42 (g : gT) (F : Nat) (a0 : Nat) (p1 : Int32) (p2 : Option Nat) (Q : hM → Prop) (M : hM) : Prop :=
  Q M
def w_X2_add (g : gT) (F : Nat) (a0 : Nat) (p1 : Int32) (p2 : Option Nat) (M : hM) (Q : hM → Prop) : Prop :=
  gF M (some a0) 1 0 fun x1 => nW M 3 fsX4 fun q2 M3 => (isC M3 q2 3 ∧ w_X4_init g F q2 p1 p2 M3 (fun M4 => gThis M4 x1 22 fun b6 => D_addF g b6 (some q2) M4 (fun M5 => gF M5 (some a0) 1 0 fun x7 => gThis M5 x7 22 fun b9 => D_size g b9  M5 (fun x10 M8 => ((x10 ≤ (8 : Int32) → w_X2_add_42 g F a0 p1 p2 Q M8) ∧ (¬ (x10 ≤ (8 : Int32)) → gF M8 (some a0) 1 0 fun x11 => gThis M8 x11 22 fun b13 => D_remL g b13  M8 (fun x14 M12 => w_X2_add_42 g F a0 p1 p2 Q M12)))))))
theorem g_X2_add_42 {k : kT} {F : Nat} {a0 : Nat} {p1 : Int32} {p2 : Option Nat} {Q : hM → Prop} (hJ : JOK (kl k) (kg k)) (hC : CX k 3 cX2_add RX2 none 41 2022) (hQ : isQ k (PU Q)) (hin : (kt k).name = "add") : ∀  (M : hM), w_X2_add_42 (kg k) F a0 p1 p2 Q  M → GW k 3 M 42 [some (va_rf (some a0)), some (.int p1), some (va_rf p2)] [] := by
  intro  M hw
  exact G_ret (pc := 42) hC hQ dX2_add_42 hw
theorem m_X2_add {l : Launch} {g : gT} {F : Nat} {a0 : Nat} {p1 : Int32} {p2 : Option Nat} {M : hM} {Q : hM → Prop} (hJ : JOK l g) (hw : w_X2_add g F a0 p1 p2 M Q) : MG l g yX2_add (ws_ yX2_add cX2_add 3 none) 41 2022 [va_rf (some a0), .int p1, va_rf p2] M (PU Q) := by
  refine MG_of hJ.2.1 (by decide) (cat_r (cat_i (cat_r cat_e))) (Nat.le_of_ble_eq_true rfl) (fun k hl hg hin hQ hC => ?_)
  subst hl hg
  show GW k 3 M 0 [some (va_rf (some a0)), some (.int p1), some (va_rf p2)] []
  refine G_aload_n (pc := 0) (i := 0) hC dX2_add_0 rfl rfl ?_
  refine G_getF (pc := 1) (ci := 1) (C := RX2) (T := TX2) (N := 1) (f := 0) hC rfl in_X2 (Nat.le_of_ble_eq_true rfl) q217 (fun _ h => h) dX2_add_1 hw (fun x1 hw => ?_)
  refine G_new (pc := 4) (ci := 3) (C := RX4) (T := TX4) (N := 2) (fs := fsX4) tyX4 hC rfl in_X4 tyX4_ok q1276 q1277 q118 dfX4 rfl dX2_add_4 hw (fun q2 M3 hw => ?_)
  refine G_dup (pc := 7) hC dX2_add_7 (rf_cat _) ?_
  refine G_iload_n (pc := 8) (i := 1) hC dX2_add_8 rfl rfl ?_
  refine G_aload_n (pc := 9) (i := 2) hC dX2_add_9 rfl rfl ?_
  obtain ⟨hb, hw⟩ := hw
  refine G_callI (pc := 10) (n := 2) (b := q2) (As := [.int p1, va_rf p2]) (rest := [va_rf (some q2), va_rf x1]) hC (m_X4_init hJ hw) (lw_meth q1280) q118 q1278 q1279 rfl hd_X4_init.2 (by decide) rfl rfl (st_c (cat_r (cat_r cat_e)) (Nat.le_of_ble_eq_true rfl)) dX2_add_10 (kU fun M4 hw => ?_)
  obtain ⟨b6, rfl, hb, hw⟩ := gThis_e hw
  refine G_callF (pc := 13) (n := 1) (x := ⟨"java/util/Deque", "addFirst", "(Ljava/lang/Object;)V"⟩) (C := "java/util/ArrayDeque") (ci := 22) (T := TJ3) (N := 3) (b := b6) (As := [va_rf (some q2)]) (rest := []) hC (J_D_addF hJ hw) (lw_F q1292 q1296 q1298 q89 q1300) (nw_in q1294 rfl) (nw_in q1293 rfl) (nw_in q1299 rfl) (nw_in q1297 rfl) (nw_in q1295 rfl) rfl (rcv (C := RJ3) (T := TJ3) (N := 3) hC hb rfl) (by decide +kernel) (by decide) rfl rfl (st_c cat_e (Nat.le_of_ble_eq_true rfl)) dX2_add_13 (kU fun M5 hw => ?_)
  refine G_aload_n (pc := 18) (i := 0) hC dX2_add_18 rfl rfl ?_
  refine G_getF (pc := 19) (ci := 1) (C := RX2) (T := TX2) (N := 1) (f := 0) hC rfl in_X2 (Nat.le_of_ble_eq_true rfl) q217 (fun _ h => h) dX2_add_19 hw (fun x7 hw => ?_)
  obtain ⟨b9, rfl, hb, hw⟩ := gThis_e hw
  refine G_callF (pc := 22) (n := 0) (x := ⟨"java/util/Deque", "size", "()I"⟩) (C := "java/util/ArrayDeque") (ci := 22) (T := TJ3) (N := 3) (b := b9) (As := []) (rest := []) hC (J_D_size hJ hw) (lw_F q1322 q1325 q768 q89 q769) (nw_in q1324 rfl) (nw_in q1323 rfl) (nw_in q1327 rfl) (nw_in q1326 rfl) (nw_in q1295 rfl) rfl (rcv (C := RJ3) (T := TJ3) (N := 3) hC hb rfl) (by decide +kernel) (by decide) rfl rfl (st_c cat_e (Nat.le_of_ble_eq_true rfl)) dX2_add_22 (kI fun x10 M8 hw => ?_)
  refine G_bipush (pc := 27) (v := 8) hC dX2_add_27 (by decide) ?_
  refine G_icmp_le (pc := 29) (tgt := 42) hC dX2_add_29 (by decide) (fun hc => ?_) (fun hc => ?_)
  · replace hw := hw.1 hc
    exact g_X2_add_42 hJ hC hQ hin   M8 hw
  · replace hw := hw.2 hc
    refine G_aload_n (pc := 32) (i := 0) hC dX2_add_32 rfl rfl ?_
    refine G_getF (pc := 33) (ci := 1) (C := RX2) (T := TX2) (N := 1) (f := 0) hC rfl in_X2 (Nat.le_of_ble_eq_true rfl) q217 (fun _ h => h) dX2_add_33 hw (fun x11 hw => ?_)
    obtain ⟨b13, rfl, hb, hw⟩ := gThis_e hw
    refine G_callF (pc := 36) (n := 0) (x := ⟨"java/util/Deque", "removeLast", "()Ljava/lang/Object;"⟩) (C := "java/util/ArrayDeque") (ci := 22) (T := TJ3) (N := 3) (b := b13) (As := []) (rest := []) hC (J_D_remL hJ hw) (lw_F q1329 q1332 q1334 q89 q1336) (nw_in q1331 rfl) (nw_in q1330 rfl) (nw_in q1335 rfl) (nw_in q1333 rfl) (nw_in q1295 rfl) rfl (rcv (C := RJ3) (T := TJ3) (N := 3) hC hb rfl) (by decide +kernel) (by decide) rfl rfl (st_c cat_e (Nat.le_of_ble_eq_true rfl)) dX2_add_36 (kRf fun x14 M12 hw => ?_)
    refine G_pop (pc := 41) hC dX2_add_41 (rf_cat _) ?_
    exact g_X2_add_42 hJ hC hQ hin   M12 hw
theorem at_X1_requireState_4 : ∀ w ∈ vx_at0 RX1 9 "java/lang/IllegalStateException" nmE, w ∈ lw_all ∨ w ∈ nwAll := at_in [98, 400, 409, 420, 423, 425, 401, 402, 158, 159, 403, 408, 421, 629, 390, 630, 392, 631, 394, 404, 406, 396, 1248, 1249, 1250, 686, 686, 687, 688, 689, 689, 690, 691, 401, 1247, 1239, 1241, 415, 1242, 1243, 1244, 1245, 399, 398, 1246] [381, 383, 385, 1240] (by decide +kernel) (by decide +kernel) (by decide +kernel)
theorem ag_X1_requireState_4 : (Cond.classLink RX1 7 "java/lang/IllegalStateException" :: Cond.initialized "java/lang/IllegalStateException" :: vx_at0 RX1 9 "java/lang/IllegalStateException" nmE).all vx_ot = true := by decide +kernel
def w_X1_requireState (g : gT) (F : Nat) (p0 : Int32) (M : hM) (Q : hM → Prop) (X : String → Nat → hM → Prop) : Prop :=
  ((¬ p0 = 0 → Q M) ∧ (p0 = 0 → thr M "java/lang/IllegalStateException" X))
theorem m_X1_requireState {l : Launch} {g : gT} {F : Nat} {p0 : Int32} {M : hM} {Q : hM → Prop} {X : String → Nat → hM → Prop} (hJ : JOK l g) (hw : w_X1_requireState g F p0 M Q X) : MX l g yX1_requireState (ws_ yX1_requireState cX1_requireState 1 none) 6 96 [.int p0] M (PU Q) X := by
  refine MX_of hJ.2.1 (by decide) (cat_i cat_e) (Nat.le_of_ble_eq_true rfl) (fun k hl hg hin hno hQ hC => ?_)
  subst hl hg
  show GW k 1 M 0 [some (.int p0)] []
  refine G_iload_n (pc := 0) (i := 0) hC dX1_requireState_0 rfl rfl ?_
  refine G_if_ne (pc := 1) (tgt := 12) hC dX1_requireState_1 (by decide) (fun hc => ?_) (fun hc => ?_)
  · replace hw := hw.1 hc
    exact G_retX (pc := 12) hC hQ dX1_requireState_12 hw
  · replace hw := hw.2 hc
    exact G_throw0 (pc := 4) (cls := "java/lang/IllegalStateException") (names := nmE) (ik := 7) (ic := 9) hJ.1 hC hno hQ (by decide +kernel) nmE_fit q1238 q110 at_X1_requireState_4 ag_X1_requireState_4 dX1_requireState_4 dX1_requireState_7 dX1_requireState_8 dX1_requireState_11 rfl rfl (st_c cat_e (Nat.le_of_ble_eq_true rfl)) hw
theorem hd_J3_isEmpty : yJ3_isEmpty.cls = "java/util/ArrayDeque" ∧ yJ3_isEmpty.cls ≠ "java/lang/invoke/MethodHandle" ∧ yJ3_isEmpty.cls ≠ "java/lang/invoke/VarHandle" ∧ (parseMethodDescriptor yJ3_isEmpty.desc).map (fun d => d.parameters.length) = some 0 := by decide +kernel
theorem hd_J3_removeFirst : yJ3_removeFirst.cls = "java/util/ArrayDeque" ∧ yJ3_removeFirst.cls ≠ "java/lang/invoke/MethodHandle" ∧ yJ3_removeFirst.cls ≠ "java/lang/invoke/VarHandle" ∧ (parseMethodDescriptor yJ3_removeFirst.desc).map (fun d => d.parameters.length) = some 0 := by decide +kernel
theorem hd_X1_requireState : yX1_requireState.cls = "MergeWorkbench" ∧ yX1_requireState.cls ≠ "java/lang/invoke/MethodHandle" ∧ yX1_requireState.cls ≠ "java/lang/invoke/VarHandle" ∧ (parseMethodDescriptor yX1_requireState.desc).map (fun d => d.parameters.length) = some 1 := by decide +kernel
def w_X2_remove_17 (g : gT) (F : Nat) (a0 : Nat) (Q : Option Nat → hM → Prop) (X : String → Nat → hM → Prop) (s0 : Int32) (M : hM) : Prop :=
  w_X1_requireState g F s0 M (fun M1 => gF M1 (some a0) 1 0 fun x2 => gThis M1 x2 22 fun b4 => D_remF g b4  M1 (fun x5 M3 => ckC M3 x5 3 (Q x5 M3))) X
def w_X2_remove (g : gT) (F : Nat) (a0 : Nat) (M : hM) (Q : Option Nat → hM → Prop) (X : String → Nat → hM → Prop) : Prop :=
  gF M (some a0) 1 0 fun x1 => gThis M x1 22 fun b3 => D_emp g b3  M (fun x4 M2 => ((¬ x4 = 0 → w_X2_remove_17 g F a0 Q X (0 : Int32) M2) ∧ (x4 = 0 → w_X2_remove_17 g F a0 Q X (1 : Int32) M2)))
theorem g_X2_remove_17 {k : kT} {F : Nat} {a0 : Nat} {Q : Option Nat → hM → Prop} {X : String → Nat → hM → Prop} (hJ : JOK (kl k) (kg k)) (hC : CX k 1 cX2_remove RX2 (some (.object "MergeWorkbench$Change")) 41 2021) (hQ : isQX k (PR Q) X) (hin : (kt k).name = "remove") (hno : ∀ x ∈ (kc k).exceptionTable.toList, False) : ∀ (s0 : Int32) (M : hM), w_X2_remove_17 (kg k) F a0 Q X s0 M → GW k 1 M 17 [some (va_rf (some a0))] [.int s0] := by
  intro s0 M hw
  refine GX_callSN (pc := 17) (n := 1) (As := [.int s0]) (rest := []) hC (m_X1_requireState hJ hw) (lw_meth q1237) (nw_in q3291 rfl) q84 q1236 hd_X1_requireState.2 (by decide) rfl rfl (st_c cat_e (Nat.le_of_ble_eq_true rfl)) dX2_remove_17 (fun E q M hx => GX_out hC hno hQ hx) (kU fun M1 hw => ?_)
  refine G_aload_n (pc := 20) (i := 0) hC dX2_remove_20 rfl rfl ?_
  refine G_getF (pc := 21) (ci := 1) (C := RX2) (T := TX2) (N := 1) (f := 0) hC rfl in_X2 (Nat.le_of_ble_eq_true rfl) q217 (fun _ h => h) dX2_remove_21 hw (fun x2 hw => ?_)
  obtain ⟨b4, rfl, hb, hw⟩ := gThis_e hw
  refine G_callF (pc := 24) (n := 0) (x := ⟨"java/util/Deque", "removeFirst", "()Ljava/lang/Object;"⟩) (C := "java/util/ArrayDeque") (ci := 22) (T := TJ3) (N := 3) (b := b4) (As := []) (rest := []) hC (J_D_remF hJ hw) (lw_F q3293 q3296 q3298 q89 q3300) (nw_in q3295 rfl) (nw_in q3294 rfl) (nw_in q3299 rfl) (nw_in q3297 rfl) (nw_in q1295 rfl) rfl (rcv (C := RJ3) (T := TJ3) (N := 3) hC hb rfl) (by decide +kernel) (by decide) rfl rfl (st_c cat_e (Nat.le_of_ble_eq_true rfl)) dX2_remove_24 (kRf fun x5 M3 hw => ?_)
  obtain ⟨hb, hw⟩ := hw
  refine G_castCS (pc := 29) (C := RX4) (T := TX4) (N := 2) hC rfl q1276 hb dX2_remove_29 ?_
  exact G_aretX (pc := 32) hC (Or.inl ⟨_, rfl⟩) hQ dX2_remove_32 hw
theorem m_X2_remove {l : Launch} {g : gT} {F : Nat} {a0 : Nat} {M : hM} {Q : Option Nat → hM → Prop} {X : String → Nat → hM → Prop} (hJ : JOK l g) (hw : w_X2_remove g F a0 M Q X) : MX l g yX2_remove (ws_ yX2_remove cX2_remove 1 (some (.object "MergeWorkbench$Change"))) 41 2021 [va_rf (some a0)] M (PR Q) X := by
  refine MX_of hJ.2.1 (by decide) (cat_r cat_e) (Nat.le_of_ble_eq_true rfl) (fun k hl hg hin hno hQ hC => ?_)
  subst hl hg
  show GW k 1 M 0 [some (va_rf (some a0))] []
  refine G_aload_n (pc := 0) (i := 0) hC dX2_remove_0 rfl rfl ?_
  refine G_getF (pc := 1) (ci := 1) (C := RX2) (T := TX2) (N := 1) (f := 0) hC rfl in_X2 (Nat.le_of_ble_eq_true rfl) q217 (fun _ h => h) dX2_remove_1 hw (fun x1 hw => ?_)
  obtain ⟨b3, rfl, hb, hw⟩ := gThis_e hw
  refine G_callFJ (pc := 4) (n := 0) (x := ⟨"java/util/Deque", "isEmpty", "()Z"⟩) (J := "java/util/Collection") (C := "java/util/ArrayDeque") (ci := 22) (T := TJ3) (N := 3) (b := b3) (As := []) (rest := []) hC (J_D_emp hJ hw) (lw_meth q932) (Or.inr (xt_in 1 rfl)) (xt_in 3 rfl) (nw_in q3287 rfl) (nw_in q3286 rfl) (by decide) (by decide) q3288 q930 q89 (nw_in q3290 rfl) (nw_in q3289 rfl) (nw_in q1295 rfl) rfl (rcv (C := RJ3) (T := TJ3) (N := 3) hC hb rfl) (by decide +kernel) (by decide) rfl rfl (st_c cat_e (Nat.le_of_ble_eq_true rfl)) dX2_remove_4 (kI fun x4 M2 hw => ?_)
  refine G_if_ne (pc := 9) (tgt := 16) hC dX2_remove_9 (by decide) (fun hc => ?_) (fun hc => ?_)
  · replace hw := hw.1 hc
    refine G_iconst (pc := 16) (v := 0) hC dX2_remove_16 (by decide) ?_
    exact g_X2_remove_17 hJ hC hQ hin hno  (0 : Int32) M2 hw
  · replace hw := hw.2 hc
    refine G_iconst (pc := 12) (v := 1) hC dX2_remove_12 (by decide) ?_
    refine G_goto (pc := 13) (tgt := 17) hC dX2_remove_13 (by decide) ?_
    exact g_X2_remove_17 hJ hC hQ hin hno  (1 : Int32) M2 hw
theorem hd_J5_init : yJ5_init.cls = "java/lang/StringBuilder" ∧ yJ5_init.cls ≠ "java/lang/invoke/MethodHandle" ∧ yJ5_init.cls ≠ "java/lang/invoke/VarHandle" ∧ (parseMethodDescriptor yJ5_init.desc).map (fun d => d.parameters.length) = some 0 := by decide +kernel
theorem hd_X2_init : yX2_init.cls = "MergeWorkbench$History" ∧ yX2_init.cls ≠ "java/lang/invoke/MethodHandle" ∧ yX2_init.cls ≠ "java/lang/invoke/VarHandle" ∧ (parseMethodDescriptor yX2_init.desc).map (fun d => d.parameters.length) = some 0 := by decide +kernel
def w_X1_init_44 (g : gT) (F : Nat) (a0 : Nat) (Q : hM → Prop) : Nat → Int32 → hM → Prop
  | 0, _, _ => False
  | n + 1, v1, M => (((4 : Int32) ≤ v1 → Q M) ∧ (¬ ((4 : Int32) ≤ v1) → gF M (some a0) 0 0 fun x1 => nW M 21 fsJ2 fun q2 M3 => (isC M3 q2 21 ∧ L_new g q2  M3 (fun M4 => gThis M4 x1 21 fun b6 => L_add g b6 (some q2) M4 (fun x7 M5 => w_X1_init_44 g F a0 Q n (v1 + (1 : Int32)) M5)))))
def w_X1_init (g : gT) (F : Nat) (a0 : Nat) (M : hM) (Q : hM → Prop) : Prop :=
  nW M 21 fsJ2 fun q1 M2 => (isC M2 q1 21 ∧ L_new g q1  M2 (fun M3 => pV M3 (some a0) 0 0 (va_rf (some q1)) fun M4 => nW M4 1 fsX2 fun q5 M6 => (isC M6 q5 1 ∧ w_X2_init g F q5  M6 (fun M7 => pV M7 (some a0) 0 1 (va_rf (some q5)) fun M8 => nW M8 23 fsJ5 fun q9 M10 => (isC M10 q9 23 ∧ S_new g q9  M10 (fun M11 => pV M11 (some a0) 0 2 (va_rf (some q9)) fun M12 => pV M12 (some a0) 0 4 (.int (1 : Int32)) fun M13 => w_X1_init_44 g F a0 Q F (0 : Int32) M13))))))
theorem g_X1_init_44 {k : kT} {F : Nat} {a0 : Nat} {Q : hM → Prop} (hJ : JOK (kl k) (kg k)) (hC : CX k 2 cX1_init RX1 none 42 2040) (hQ : isQ k (PU Q)) (hin : (kt k).name = "<init>") : ∀ (n : Nat) (v1 : Int32) (M : hM), w_X1_init_44 (kg k) F a0 Q n v1 M → GW k 2 M 44 [some (va_rf (some a0)), some (.int v1)] [] := by
  intro n
  induction n with
  | zero =>
    intro v1 M hw
    exact hw.elim
  | succ n ih =>
    intro v1 M hw
    refine G_iload_n (pc := 44) (i := 1) hC dX1_init_44 rfl rfl ?_
    refine G_iconst (pc := 45) (v := 4) hC dX1_init_45 (by decide) ?_
    refine G_icmp_ge (pc := 46) (tgt := 72) hC dX1_init_46 (by decide) (fun hc => ?_) (fun hc => ?_)
    · replace hw := hw.1 hc
      exact G_ret (pc := 72) hC hQ dX1_init_72 hw
    · replace hw := hw.2 hc
      refine G_aload_n (pc := 49) (i := 0) hC dX1_init_49 rfl rfl ?_
      refine G_getF (pc := 50) (ci := 0) (C := RX1) (T := TX1) (N := 10) (f := 0) hC rfl in_X1 (Nat.le_of_ble_eq_true rfl) q694 (fun _ h => h) dX1_init_50 hw (fun x1 hw => ?_)
      refine G_new (pc := 53) (ci := 21) (C := RJ2) (T := TJ2) (N := 3) (fs := fsJ2) tyJ2 hC rfl in_J2 tyJ2_ok q160 q161 q87 dfJ2 rfl dX1_init_53 hw (fun q2 M3 hw => ?_)
      refine G_dup (pc := 56) hC dX1_init_56 (rf_cat _) ?_
      obtain ⟨hb, hw⟩ := hw
      refine G_callI (pc := 57) (n := 0) (b := q2) (As := []) (rest := [va_rf (some q2), va_rf x1]) hC (J_L_new hJ hw) (lw_meth q164) q87 q162 q163 rfl hd_J2_init.2 (by decide) rfl rfl (st_c (cat_r (cat_r cat_e)) (Nat.le_of_ble_eq_true rfl)) dX1_init_57 (kU fun M4 hw => ?_)
      obtain ⟨b6, rfl, hb, hw⟩ := gThis_e hw
      refine G_callF (pc := 60) (n := 1) (x := ⟨"java/util/List", "add", "(Ljava/lang/Object;)Z"⟩) (C := "java/util/ArrayList") (ci := 21) (T := TJ2) (N := 3) (b := b6) (As := [va_rf (some q2)]) (rest := []) hC (J_L_add hJ hw) (lw_F q256 q260 q262 q87 q264) (nw_in q258 rfl) (nw_in q257 rfl) (nw_in q263 rfl) (nw_in q261 rfl) (nw_in q259 rfl) rfl (rcv (C := RJ2) (T := TJ2) (N := 3) hC hb rfl) (by decide +kernel) (by decide) rfl rfl (st_c cat_e (Nat.le_of_ble_eq_true rfl)) dX1_init_60 (kI fun x7 M5 hw => ?_)
      refine G_pop (pc := 65) hC dX1_init_65 rfl ?_
      refine G_iinc (pc := 66) (i := 1) (v := (v1 + (1 : Int32))) (lw := [some (va_rf (some a0)), some (.int (v1 + (1 : Int32)))]) hC dX1_init_66 rfl (Nat.le_of_ble_eq_true rfl) rfl rfl ?_
      refine G_goto (pc := 69) (tgt := 44) hC dX1_init_69 (by decide) ?_
      exact ih (v1 + (1 : Int32)) M5 hw
theorem m_X1_init {l : Launch} {g : gT} {F : Nat} {a0 : Nat} {M : hM} {Q : hM → Prop} (hJ : JOK l g) (hw : w_X1_init g F a0 M Q) : MG l g yX1_init (ws_ yX1_init cX1_init 2 none) 42 2040 [va_rf (some a0)] M (PU Q) := by
  refine MG_of hJ.2.1 (by decide) (cat_r cat_e) (Nat.le_of_ble_eq_true rfl) (fun k hl hg hin hQ hC => ?_)
  subst hl hg
  show GW k 2 M 0 [some (va_rf (some a0)), none] []
  refine G_aload_n (pc := 0) (i := 0) hC dX1_init_0 rfl rfl ?_
  refine G_objInit (pc := 1) hC q157 q158 q159 rfl rfl (st_c cat_e (Nat.le_of_ble_eq_true rfl)) dX1_init_1 ?_
  refine G_aload_n (pc := 4) (i := 0) hC dX1_init_4 rfl rfl ?_
  refine G_new (pc := 5) (ci := 21) (C := RJ2) (T := TJ2) (N := 3) (fs := fsJ2) tyJ2 hC rfl in_J2 tyJ2_ok q160 q161 q87 dfJ2 rfl dX1_init_5 hw (fun q1 M2 hw => ?_)
  refine G_dup (pc := 8) hC dX1_init_8 (rf_cat _) ?_
  obtain ⟨hb, hw⟩ := hw
  refine G_callI (pc := 9) (n := 0) (b := q1) (As := []) (rest := [va_rf (some q1), va_rf (some a0)]) hC (J_L_new hJ hw) (lw_meth q164) q87 q162 q163 rfl hd_J2_init.2 (by decide) rfl rfl (st_c (cat_r (cat_r cat_e)) (Nat.le_of_ble_eq_true rfl)) dX1_init_9 (kU fun M3 hw => ?_)
  refine G_putF (pc := 12) (ci := 0) (C := RX1) (T := TX1) (N := 10) (f := 0) tyX1 hC rfl in_X1 tyX1_ok nmX1 (Nat.le_of_ble_eq_true rfl) q694 (fun _ h => h) rfl hin rfl (nR_o _ _) (fR_o _ _) dX1_init_12 hw (fun M4 hw => ?_)
  refine G_aload_n (pc := 15) (i := 0) hC dX1_init_15 rfl rfl ?_
  refine G_new (pc := 16) (ci := 1) (C := RX2) (T := TX2) (N := 1) (fs := fsX2) tyX2 hC rfl in_X2 tyX2_ok q191 q192 q88 dfX2 rfl dX1_init_16 hw (fun q5 M6 hw => ?_)
  refine G_dup (pc := 19) hC dX1_init_19 (rf_cat _) ?_
  obtain ⟨hb, hw⟩ := hw
  refine G_callIN (pc := 20) (n := 0) (b := q5) (As := []) (rest := [va_rf (some q5), va_rf (some a0)]) hC (m_X2_init hJ hw) (lw_meth q195) (nw_in q193 rfl) q88 q194 rfl hd_X2_init.2 (by decide) rfl rfl (st_c (cat_r (cat_r cat_e)) (Nat.le_of_ble_eq_true rfl)) dX1_init_20 (kU fun M7 hw => ?_)
  refine G_putF (pc := 23) (ci := 0) (C := RX1) (T := TX1) (N := 10) (f := 1) tyX1 hC rfl in_X1 tyX1_ok nmX1 (Nat.le_of_ble_eq_true rfl) q695 (fun _ h => h) rfl hin rfl (nR_o _ _) (fR_o _ _) dX1_init_23 hw (fun M8 hw => ?_)
  refine G_aload_n (pc := 26) (i := 0) hC dX1_init_26 rfl rfl ?_
  refine G_new (pc := 27) (ci := 23) (C := RJ5) (T := TJ5) (N := 4) (fs := fsJ5) tyJ5 hC rfl in_J5 tyJ5_ok q222 q223 q91 dfJ5 rfl dX1_init_27 hw (fun q9 M10 hw => ?_)
  refine G_dup (pc := 30) hC dX1_init_30 (rf_cat _) ?_
  obtain ⟨hb, hw⟩ := hw
  refine G_callI (pc := 31) (n := 0) (b := q9) (As := []) (rest := [va_rf (some q9), va_rf (some a0)]) hC (J_S_new hJ hw) (lw_meth q226) q91 q224 q225 rfl hd_J5_init.2 (by decide) rfl rfl (st_c (cat_r (cat_r cat_e)) (Nat.le_of_ble_eq_true rfl)) dX1_init_31 (kU fun M11 hw => ?_)
  refine G_putF (pc := 34) (ci := 0) (C := RX1) (T := TX1) (N := 10) (f := 2) tyX1 hC rfl in_X1 tyX1_ok nmX1 (Nat.le_of_ble_eq_true rfl) q696 (fun _ h => h) rfl hin rfl (nR_o _ _) (fR_o _ _) dX1_init_34 hw (fun M12 hw => ?_)
  refine G_aload_n (pc := 37) (i := 0) hC dX1_init_37 rfl rfl ?_
  refine G_iconst (pc := 38) (v := 1) hC dX1_init_38 (by decide) ?_
  refine G_put (pc := 39) (ci := 0) (C := RX1) (T := TX1) (N := 10) (f := 4) tyX1 hC rfl in_X1 tyX1_ok nmX1 (Nat.le_of_ble_eq_true rfl) q698 (fun _ h => h) rfl rfl rfl dX1_init_39 hw (fun M13 hw => ?_)
  refine G_iconst (pc := 42) (v := 0) hC dX1_init_42 (by decide) ?_
  refine G_istore_n (pc := 43) (i := 1) (lw := [some (va_rf (some a0)), some (.int (0 : Int32))]) hC dX1_init_43 rfl (Nat.le_of_ble_eq_true rfl) rfl ?_
  exact g_X1_init_44 hJ hC hQ hin _ (0 : Int32) M13 hw
def w_X1_setShrinking (g : gT) (F : Nat) (a0 : Nat) (p1 : Int32) (M : hM) (Q : Int32 → hM → Prop) : Prop :=
  gI M (some a0) 0 4 fun x1 => pZ M (some a0) 0 4 p1 fun M2 => ((x1 = 0 ∨ x1 = 1) ∧ Q x1 M2)
theorem m_X1_setShrinking {l : Launch} {g : gT} {F : Nat} {a0 : Nat} {p1 : Int32} {M : hM} {Q : Int32 → hM → Prop} (hJ : JOK l g) (hw : w_X1_setShrinking g F a0 p1 M Q) : MG l g yX1_setShrinking (ws_ yX1_setShrinking cX1_setShrinking 3 (some .boolean)) 1 12 [va_rf (some a0), .int p1] M (PI Q) := by
  refine MG_of hJ.2.1 (by decide) (cat_r (cat_i cat_e)) (Nat.le_of_ble_eq_true rfl) (fun k hl hg hin hQ hC => ?_)
  subst hl hg
  show GW k 3 M 0 [some (va_rf (some a0)), some (.int p1), none] []
  refine G_aload_n (pc := 0) (i := 0) hC dX1_setShrinking_0 rfl rfl ?_
  refine G_getI (pc := 1) (ci := 0) (C := RX1) (T := TX1) (N := 10) (f := 4) hC rfl in_X1 (Nat.le_of_ble_eq_true rfl) q698 (fun _ h => h) dX1_setShrinking_1 hw (fun x1 hw => ?_)
  refine G_istore_n (pc := 4) (i := 2) (lw := [some (va_rf (some a0)), some (.int p1), some (.int x1)]) hC dX1_setShrinking_4 rfl (Nat.le_of_ble_eq_true rfl) rfl ?_
  refine G_aload_n (pc := 5) (i := 0) hC dX1_setShrinking_5 rfl rfl ?_
  refine G_iload_n (pc := 6) (i := 1) hC dX1_setShrinking_6 rfl rfl ?_
  obtain ⟨hz, hw⟩ := hw
  refine G_put (pc := 7) (ci := 0) (C := RX1) (T := TX1) (N := 10) (f := 4) tyX1 hC rfl in_X1 tyX1_ok nmX1 (Nat.le_of_ble_eq_true rfl) q698 (fun _ h => h) rfl (nz_n hz) (nz_f hz) dX1_setShrinking_7 hw (fun M2 hw => ?_)
  refine G_iload_n (pc := 10) (i := 2) hC dX1_setShrinking_10 rfl rfl ?_
  obtain ⟨hz, hw⟩ := hw
  exact G_iret (pc := 11) hC (nz_n hz) hQ dX1_setShrinking_11 hw
def w_X1_allLines_12 (g : gT) (F : Nat) (a0 : Nat) (Q : Int32 → hM → Prop) : Nat → Int32 → (Option Nat) → hM → Prop
  | 0, _, _, _ => False
  | n + 1, v1, v2, M => gThis M v2 26 fun b2 => T_has g b2  M (fun x3 M1 => ((x3 = 0 → Q v1 M1) ∧ (¬ (x3 = 0) → (isC M1 b2 26 ∧ T_next g b2  M1 (fun x5 M4 => ckC M4 x5 21 (gThis M4 x5 21 fun b7 => L_size g b7  M4 (fun x8 M6 => w_X1_allLines_12 g F a0 Q n (v1 + x8) (some b2) M6)))))))
def w_X1_allLines (g : gT) (F : Nat) (a0 : Nat) (M : hM) (Q : Int32 → hM → Prop) : Prop :=
  gF M (some a0) 0 0 fun x1 => gThis M x1 21 fun b3 => L_itr g b3  M (fun x4 M2 => w_X1_allLines_12 g F a0 Q F (0 : Int32) x4 M2)
theorem g_X1_allLines_12 {k : kT} {F : Nat} {a0 : Nat} {Q : Int32 → hM → Prop} (hJ : JOK (kl k) (kg k)) (hC : CX k 4 cX1_allLines RX1 (some .int) 41 2022) (hQ : isQ k (PI Q)) (hin : (kt k).name = "allLines") : ∀ (n : Nat) (v1 : Int32) (v2 : Option Nat) (M : hM), w_X1_allLines_12 (kg k) F a0 Q n v1 v2 M → GW k 4 M 12 [some (va_rf (some a0)), some (.int v1), some (va_rf v2), none] [] := by
  intro n
  induction n with
  | zero =>
    intro v1 v2 M hw
    exact hw.elim
  | succ n ih =>
    intro v1 v2 M hw
    refine G_aload_n (pc := 12) (i := 2) hC dX1_allLines_12 rfl rfl ?_
    obtain ⟨b2, rfl, hb, hw⟩ := gThis_e hw
    refine G_callF (pc := 13) (n := 0) (x := ⟨"java/util/Iterator", "hasNext", "()Z"⟩) (C := "java/util/ArrayList$Itr") (ci := 26) (T := TJ24) (N := 4) (b := b2) (As := []) (rest := []) hC (J_T_has hJ hw) (lw_F q1200 q909 q911 q112 q913) (nw_in q878 rfl) (nw_in q877 rfl) (nw_in q912 rfl) (nw_in q910 rfl) (nw_in q908 rfl) rfl (rcv (C := RJ24) (T := TJ24) (N := 4) hC hb rfl) (by decide +kernel) (by decide) rfl rfl (st_c cat_e (Nat.le_of_ble_eq_true rfl)) dX1_allLines_13 (kI fun x3 M1 hw => ?_)
    refine G_if_eq (pc := 18) (tgt := 43) hC dX1_allLines_18 (by decide) (fun hc => ?_) (fun hc => ?_)
    · replace hw := hw.1 hc
      refine G_iload_n (pc := 43) (i := 1) hC dX1_allLines_43 rfl rfl ?_
      exact G_iret (pc := 44) hC rfl hQ dX1_allLines_44 hw
    · replace hw := hw.2 hc
      refine G_aload_n (pc := 21) (i := 2) hC dX1_allLines_21 rfl rfl ?_
      obtain ⟨hb, hw⟩ := hw
      refine G_callF (pc := 22) (n := 0) (x := ⟨"java/util/Iterator", "next", "()Ljava/lang/Object;"⟩) (C := "java/util/ArrayList$Itr") (ci := 26) (T := TJ24) (N := 4) (b := b2) (As := []) (rest := []) hC (J_T_next hJ hw) (lw_F q1202 q1119 q1121 q112 q1123) (nw_in q937 rfl) (nw_in q936 rfl) (nw_in q1122 rfl) (nw_in q1120 rfl) (nw_in q908 rfl) rfl (rcv (C := RJ24) (T := TJ24) (N := 4) hC hb rfl) (by decide +kernel) (by decide) rfl rfl (st_c cat_e (Nat.le_of_ble_eq_true rfl)) dX1_allLines_22 (kRf fun x5 M4 hw => ?_)
      obtain ⟨hb, hw⟩ := hw
      refine G_castC (pc := 27) (C := RJ2) (T := TJ2) (N := 3) (nm := "java/util/List") hC rfl q1203 (nw_in q259 rfl) hb dX1_allLines_27 ?_
      refine G_astore_n (pc := 30) (i := 3) (lw := [some (va_rf (some a0)), some (.int v1), some (va_rf (some b2)), some (va_rf x5)]) hC dX1_allLines_30 rfl (Nat.le_of_ble_eq_true rfl) rfl ?_
      refine G_iload_n (pc := 31) (i := 1) hC dX1_allLines_31 rfl rfl ?_
      refine G_aload_n (pc := 32) (i := 3) hC dX1_allLines_32 rfl rfl ?_
      obtain ⟨b7, rfl, hb, hw⟩ := gThis_e hw
      refine G_callF (pc := 33) (n := 0) (x := ⟨"java/util/List", "size", "()I"⟩) (C := "java/util/ArrayList") (ci := 21) (T := TJ2) (N := 3) (b := b7) (As := []) (rest := [.int v1]) hC (J_L_size hJ hw) (lw_F q1205 q889 q363 q87 q364) (nw_in q888 rfl) (nw_in q887 rfl) (nw_in q891 rfl) (nw_in q890 rfl) (nw_in q259 rfl) rfl (rcv (C := RJ2) (T := TJ2) (N := 3) hC hb rfl) (by decide +kernel) (by decide) rfl rfl (st_c (cat_i cat_e) (Nat.le_of_ble_eq_true rfl)) dX1_allLines_33 (kI fun x8 M6 hw => ?_)
      refine G_iadd (pc := 38) hC dX1_allLines_38 ?_
      refine G_istore_n (pc := 39) (i := 1) (lw := [some (va_rf (some a0)), some (.int (v1 + x8)), some (va_rf (some b2)), some (va_rf (some b7))]) hC dX1_allLines_39 rfl (Nat.le_of_ble_eq_true rfl) rfl ?_
      refine G_goto (pc := 40) (tgt := 12) hC dX1_allLines_40 (by decide) ?_
      refine G_loc (lv' := [some (va_rf (some a0)), some (.int (v1 + x8)), some (va_rf (some b2)), none]) ⟨Or.inr rfl, Or.inr rfl, Or.inr rfl, Or.inl rfl, trivial⟩ ?_
      exact ih (v1 + x8) (some b2) M6 hw
theorem m_X1_allLines {l : Launch} {g : gT} {F : Nat} {a0 : Nat} {M : hM} {Q : Int32 → hM → Prop} (hJ : JOK l g) (hw : w_X1_allLines g F a0 M Q) : MG l g yX1_allLines (ws_ yX1_allLines cX1_allLines 4 (some .int)) 41 2022 [va_rf (some a0)] M (PI Q) := by
  refine MG_of hJ.2.1 (by decide) (cat_r cat_e) (Nat.le_of_ble_eq_true rfl) (fun k hl hg hin hQ hC => ?_)
  subst hl hg
  show GW k 4 M 0 [some (va_rf (some a0)), none, none, none] []
  refine G_iconst (pc := 0) (v := 0) hC dX1_allLines_0 (by decide) ?_
  refine G_istore_n (pc := 1) (i := 1) (lw := [some (va_rf (some a0)), some (.int (0 : Int32)), none, none]) hC dX1_allLines_1 rfl (Nat.le_of_ble_eq_true rfl) rfl ?_
  refine G_aload_n (pc := 2) (i := 0) hC dX1_allLines_2 rfl rfl ?_
  refine G_getF (pc := 3) (ci := 0) (C := RX1) (T := TX1) (N := 10) (f := 0) hC rfl in_X1 (Nat.le_of_ble_eq_true rfl) q694 (fun _ h => h) dX1_allLines_3 hw (fun x1 hw => ?_)
  obtain ⟨b3, rfl, hb, hw⟩ := gThis_e hw
  refine G_callF (pc := 6) (n := 0) (x := ⟨"java/util/List", "iterator", "()Ljava/util/Iterator;"⟩) (C := "java/util/ArrayList") (ci := 21) (T := TJ2) (N := 3) (b := b3) (As := []) (rest := []) hC (J_L_itr hJ hw) (lw_F q1190 q1193 q803 q87 q804) (nw_in q1192 rfl) (nw_in q1191 rfl) (nw_in q1195 rfl) (nw_in q1194 rfl) (nw_in q259 rfl) rfl (rcv (C := RJ2) (T := TJ2) (N := 3) hC hb rfl) (by decide +kernel) (by decide) rfl rfl (st_c cat_e (Nat.le_of_ble_eq_true rfl)) dX1_allLines_6 (kRf fun x4 M2 hw => ?_)
  refine G_astore_n (pc := 11) (i := 2) (lw := [some (va_rf (some a0)), some (.int (0 : Int32)), some (va_rf x4), none]) hC dX1_allLines_11 rfl (Nat.le_of_ble_eq_true rfl) rfl ?_
  exact g_X1_allLines_12 hJ hC hQ hin _ (0 : Int32) x4 M2 hw
theorem hd_X1_allLines : yX1_allLines.cls = "MergeWorkbench" ∧ yX1_allLines.cls ≠ "java/lang/invoke/MethodHandle" ∧ yX1_allLines.cls ≠ "java/lang/invoke/VarHandle" ∧ (parseMethodDescriptor yX1_allLines.desc).map (fun d => d.parameters.length) = some 0 := by decide +kernel
def w_X1_save (g : gT) (F : Nat) (a0 : Nat) (M : hM) (Q : Int32 → hM → Prop) : Prop :=
  nW M 21 fsJ2 fun q1 M2 => gF M2 (some a0) 0 0 fun x3 => (isC M2 q1 21 ∧ L_newC g q1 x3 M2 (fun M4 => pV M4 (some a0) 0 8 (va_rf (some q1)) fun M5 => gI M5 (some a0) 0 3 fun x6 => pV M5 (some a0) 0 9 (.int x6) fun M7 => (isC M7 a0 0 ∧ w_X1_allLines g F a0  M7 (fun x9 M8 => Q x9 M8))))
theorem m_X1_save {l : Launch} {g : gT} {F : Nat} {a0 : Nat} {M : hM} {Q : Int32 → hM → Prop} (hJ : JOK l g) (hw : w_X1_save g F a0 M Q) : MG l g yX1_save (ws_ yX1_save cX1_save 1 (some .int)) 42 2045 [va_rf (some a0)] M (PI Q) := by
  refine MG_of hJ.2.1 (by decide) (cat_r cat_e) (Nat.le_of_ble_eq_true rfl) (fun k hl hg hin hQ hC => ?_)
  subst hl hg
  show GW k 1 M 0 [some (va_rf (some a0))] []
  refine G_aload_n (pc := 0) (i := 0) hC dX1_save_0 rfl rfl ?_
  refine G_new (pc := 1) (ci := 21) (C := RJ2) (T := TJ2) (N := 3) (fs := fsJ2) tyJ2 hC rfl in_J2 tyJ2_ok q160 q161 q87 dfJ2 rfl dX1_save_1 hw (fun q1 M2 hw => ?_)
  refine G_dup (pc := 4) hC dX1_save_4 (rf_cat _) ?_
  refine G_aload_n (pc := 5) (i := 0) hC dX1_save_5 rfl rfl ?_
  refine G_getF (pc := 6) (ci := 0) (C := RX1) (T := TX1) (N := 10) (f := 0) hC rfl in_X1 (Nat.le_of_ble_eq_true rfl) q694 (fun _ h => h) dX1_save_6 hw (fun x3 hw => ?_)
  obtain ⟨hb, hw⟩ := hw
  refine G_callI (pc := 9) (n := 1) (b := q1) (As := [va_rf x3]) (rest := [va_rf (some q1), va_rf (some a0)]) hC (J_L_newC hJ hw) (lw_meth q735) q87 q733 q734 rfl hd_J2_init_2.2 (by decide) rfl rfl (st_c (cat_r (cat_r cat_e)) (Nat.le_of_ble_eq_true rfl)) dX1_save_9 (kU fun M4 hw => ?_)
  refine G_put (pc := 12) (ci := 0) (C := RX1) (T := TX1) (N := 10) (f := 8) tyX1 hC rfl in_X1 tyX1_ok nmX1 (Nat.le_of_ble_eq_true rfl) q702 (fun _ h => h) rfl (nR_o _ _) (fR_o _ _) dX1_save_12 hw (fun M5 hw => ?_)
  refine G_aload_n (pc := 15) (i := 0) hC dX1_save_15 rfl rfl ?_
  refine G_aload_n (pc := 16) (i := 0) hC dX1_save_16 rfl rfl ?_
  refine G_getI (pc := 17) (ci := 0) (C := RX1) (T := TX1) (N := 10) (f := 3) hC rfl in_X1 (Nat.le_of_ble_eq_true rfl) q697 (fun _ h => h) dX1_save_17 hw (fun x6 hw => ?_)
  refine G_put (pc := 20) (ci := 0) (C := RX1) (T := TX1) (N := 10) (f := 9) tyX1 hC rfl in_X1 tyX1_ok nmX1 (Nat.le_of_ble_eq_true rfl) q703 (fun _ h => h) rfl rfl rfl dX1_save_20 hw (fun M7 hw => ?_)
  refine G_aload_n (pc := 23) (i := 0) hC dX1_save_23 rfl rfl ?_
  obtain ⟨hb, hw⟩ := hw
  refine G_callV (pc := 24) (n := 0) (C := "MergeWorkbench") (b := a0) (As := []) (rest := []) hC (m_X1_allLines hJ hw) (lw_V q1185 q1187 qs9 q84 q1188) hd_X1_allLines (by decide) (rcv (C := RX1) (T := TX1) (N := 10) hC hb rfl) rfl rfl (st_c cat_e (Nat.le_of_ble_eq_true rfl)) dX1_save_24 (kI fun x9 M8 hw => ?_)
  exact G_iret (pc := 27) hC rfl hQ dX1_save_27 hw
def w_X1_isRegister (g : gT) (F : Nat) (p0 : Int32) (M : hM) (Q : Int32 → hM → Prop) : Prop :=
  w_X1_isBetween g F p0 (0 : Int32) (3 : Int32) M (fun x2 M1 => ((x2 = 0 ∨ x2 = 1) ∧ Q x2 M1))
theorem m_X1_isRegister {l : Launch} {g : gT} {F : Nat} {p0 : Int32} {M : hM} {Q : Int32 → hM → Prop} (hJ : JOK l g) (hw : w_X1_isRegister g F p0 M Q) : MG l g yX1_isRegister (ws_ yX1_isRegister cX1_isRegister 1 (some .boolean)) 2 34 [.int p0] M (PI Q) := by
  refine MG_of hJ.2.1 (by decide) (cat_i cat_e) (Nat.le_of_ble_eq_true rfl) (fun k hl hg hin hQ hC => ?_)
  subst hl hg
  show GW k 1 M 0 [some (.int p0)] []
  refine G_iload_n (pc := 0) (i := 0) hC dX1_isRegister_0 rfl rfl ?_
  refine G_iconst (pc := 1) (v := 0) hC dX1_isRegister_1 (by decide) ?_
  refine G_iconst (pc := 2) (v := 3) hC dX1_isRegister_2 (by decide) ?_
  refine G_callS (pc := 3) (n := 3) (As := [.int p0, .int (0 : Int32), .int (3 : Int32)]) (rest := []) hC (m_X1_isBetween hJ hw) (lw_S q1222 q1223 q84 q1224) hd_X1_isBetween.2 (by decide) rfl rfl (st_c cat_e (Nat.le_of_ble_eq_true rfl)) dX1_isRegister_3 (kI fun x2 M1 hw => ?_)
  obtain ⟨hz, hw⟩ := hw
  exact G_iret (pc := 6) hC (nz_n hz) hQ dX1_isRegister_6 hw
theorem at_X1_require_4 : ∀ w ∈ vx_at0 RX1 3 "java/lang/IllegalArgumentException" nmE, w ∈ lw_all ∨ w ∈ nwAll := at_in [98, 400, 409, 420, 423, 425, 401, 402, 158, 159, 403, 408, 421, 629, 390, 630, 392, 631, 394, 404, 406, 396, 1230, 1231, 1232, 686, 686, 687, 688, 689, 689, 690, 691, 401, 1229, 601, 603, 414, 604, 605, 606, 607, 399, 398, 608] [381, 383, 385, 602] (by decide +kernel) (by decide +kernel) (by decide +kernel)
theorem ag_X1_require_4 : (Cond.classLink RX1 1 "java/lang/IllegalArgumentException" :: Cond.initialized "java/lang/IllegalArgumentException" :: vx_at0 RX1 3 "java/lang/IllegalArgumentException" nmE).all vx_ot = true := by decide +kernel
def w_X1_require (g : gT) (F : Nat) (p0 : Int32) (M : hM) (Q : hM → Prop) (X : String → Nat → hM → Prop) : Prop :=
  ((¬ p0 = 0 → Q M) ∧ (p0 = 0 → thr M "java/lang/IllegalArgumentException" X))
theorem m_X1_require {l : Launch} {g : gT} {F : Nat} {p0 : Int32} {M : hM} {Q : hM → Prop} {X : String → Nat → hM → Prop} (hJ : JOK l g) (hw : w_X1_require g F p0 M Q X) : MX l g yX1_require (ws_ yX1_require cX1_require 1 none) 6 96 [.int p0] M (PU Q) X := by
  refine MX_of hJ.2.1 (by decide) (cat_i cat_e) (Nat.le_of_ble_eq_true rfl) (fun k hl hg hin hno hQ hC => ?_)
  subst hl hg
  show GW k 1 M 0 [some (.int p0)] []
  refine G_iload_n (pc := 0) (i := 0) hC dX1_require_0 rfl rfl ?_
  refine G_if_ne (pc := 1) (tgt := 12) hC dX1_require_1 (by decide) (fun hc => ?_) (fun hc => ?_)
  · replace hw := hw.1 hc
    exact G_retX (pc := 12) hC hQ dX1_require_12 hw
  · replace hw := hw.2 hc
    exact G_throw0 (pc := 4) (cls := "java/lang/IllegalArgumentException") (names := nmE) (ik := 1) (ic := 3) hJ.1 hC hno hQ (by decide +kernel) nmE_fit q1228 q107 at_X1_require_4 ag_X1_require_4 dX1_require_4 dX1_require_7 dX1_require_8 dX1_require_11 rfl rfl (st_c cat_e (Nat.le_of_ble_eq_true rfl)) hw
theorem hd_X1_isRegister : yX1_isRegister.cls = "MergeWorkbench" ∧ yX1_isRegister.cls ≠ "java/lang/invoke/MethodHandle" ∧ yX1_isRegister.cls ≠ "java/lang/invoke/VarHandle" ∧ (parseMethodDescriptor yX1_isRegister.desc).map (fun d => d.parameters.length) = some 1 := by decide +kernel
theorem hd_X1_require : yX1_require.cls = "MergeWorkbench" ∧ yX1_require.cls ≠ "java/lang/invoke/MethodHandle" ∧ yX1_require.cls ≠ "java/lang/invoke/VarHandle" ∧ (parseMethodDescriptor yX1_require.desc).map (fun d => d.parameters.length) = some 1 := by decide +kernel
def w_X1_document (g : gT) (F : Nat) (a0 : Nat) (p1 : Int32) (M : hM) (Q : Option Nat → hM → Prop) (X : String → Nat → hM → Prop) : Prop :=
  w_X1_isRegister g F p1 M (fun x2 M1 => w_X1_require g F x2 M1 (fun M3 => gF M3 (some a0) 0 0 fun x4 => gThis M3 x4 21 fun b6 => L_get g b6 p1 M3 (fun x7 M5 => ckC M5 x7 21 (Q x7 M5))) X)
theorem m_X1_document {l : Launch} {g : gT} {F : Nat} {a0 : Nat} {p1 : Int32} {M : hM} {Q : Option Nat → hM → Prop} {X : String → Nat → hM → Prop} (hJ : JOK l g) (hw : w_X1_document g F a0 p1 M Q X) : MX l g yX1_document (ws_ yX1_document cX1_document 2 (some (.object "java/util/List"))) 41 2021 [va_rf (some a0), .int p1] M (PR Q) X := by
  refine MX_of hJ.2.1 (by decide) (cat_r (cat_i cat_e)) (Nat.le_of_ble_eq_true rfl) (fun k hl hg hin hno hQ hC => ?_)
  subst hl hg
  show GW k 2 M 0 [some (va_rf (some a0)), some (.int p1)] []
  refine G_iload_n (pc := 0) (i := 1) hC dX1_document_0 rfl rfl ?_
  refine G_callS (pc := 1) (n := 1) (As := [.int p1]) (rest := []) hC (m_X1_isRegister hJ hw) (lw_S q1219 q1220 q84 q1221) hd_X1_isRegister.2 (by decide) rfl rfl (st_c cat_e (Nat.le_of_ble_eq_true rfl)) dX1_document_1 (kI fun x2 M1 hw => ?_)
  refine GX_callS (pc := 4) (n := 1) (As := [.int x2]) (rest := []) hC (m_X1_require hJ hw) (lw_S q1225 q1226 q84 q1227) hd_X1_require.2 (by decide) rfl rfl (st_c cat_e (Nat.le_of_ble_eq_true rfl)) dX1_document_4 (fun E q M hx => GX_out hC hno hQ hx) (kU fun M3 hw => ?_)
  refine G_aload_n (pc := 7) (i := 0) hC dX1_document_7 rfl rfl ?_
  refine G_getF (pc := 8) (ci := 0) (C := RX1) (T := TX1) (N := 10) (f := 0) hC rfl in_X1 (Nat.le_of_ble_eq_true rfl) q694 (fun _ h => h) dX1_document_8 hw (fun x4 hw => ?_)
  refine G_iload_n (pc := 11) (i := 1) hC dX1_document_11 rfl rfl ?_
  obtain ⟨b6, rfl, hb, hw⟩ := gThis_e hw
  refine G_callF (pc := 12) (n := 1) (x := ⟨"java/util/List", "get", "(I)Ljava/lang/Object;"⟩) (C := "java/util/ArrayList") (ci := 21) (T := TJ2) (N := 3) (b := b6) (As := [.int p1]) (rest := []) hC (J_L_get hJ hw) (lw_F q1234 q956 q958 q87 q960) (nw_in q955 rfl) (nw_in q954 rfl) (nw_in q959 rfl) (nw_in q957 rfl) (nw_in q259 rfl) rfl (rcv (C := RJ2) (T := TJ2) (N := 3) hC hb rfl) (by decide +kernel) (by decide) rfl rfl (st_c cat_e (Nat.le_of_ble_eq_true rfl)) dX1_document_12 (kRf fun x7 M5 hw => ?_)
  obtain ⟨hb, hw⟩ := hw
  refine G_castC (pc := 17) (C := RJ2) (T := TJ2) (N := 3) (nm := "java/util/List") hC rfl q1203 (nw_in q259 rfl) hb dX1_document_17 ?_
  exact G_aretX (pc := 20) hC (Or.inl ⟨_, rfl⟩) hQ dX1_document_20 hw
theorem hd_J2_set : yJ2_set.cls = "java/util/ArrayList" ∧ yJ2_set.cls ≠ "java/lang/invoke/MethodHandle" ∧ yJ2_set.cls ≠ "java/lang/invoke/VarHandle" ∧ (parseMethodDescriptor yJ2_set.desc).map (fun d => d.parameters.length) = some 2 := by decide +kernel
theorem hd_X2_add : yX2_add.cls = "MergeWorkbench$History" ∧ yX2_add.cls ≠ "java/lang/invoke/MethodHandle" ∧ yX2_add.cls ≠ "java/lang/invoke/VarHandle" ∧ (parseMethodDescriptor yX2_add.desc).map (fun d => d.parameters.length) = some 2 := by decide +kernel
def w_X1_change (g : gT) (F : Nat) (a0 : Nat) (p1 : Int32) (p2 : Option Nat) (M : hM) (Q : hM → Prop) : Prop :=
  gF M (some a0) 0 1 fun x1 => gF M (some a0) 0 0 fun x2 => gThis M x2 21 fun b4 => L_set g b4 p1 p2 M (fun x5 M3 => ckC M3 x5 21 (gThis M3 x1 1 fun b7 => w_X2_add g F b7 p1 x5 M3 (fun M6 => Q M6)))
theorem m_X1_change {l : Launch} {g : gT} {F : Nat} {a0 : Nat} {p1 : Int32} {p2 : Option Nat} {M : hM} {Q : hM → Prop} (hJ : JOK l g) (hw : w_X1_change g F a0 p1 p2 M Q) : MG l g yX1_change (ws_ yX1_change cX1_change 3 none) 42 2044 [va_rf (some a0), .int p1, va_rf p2] M (PU Q) := by
  refine MG_of hJ.2.1 (by decide) (cat_r (cat_i (cat_r cat_e))) (Nat.le_of_ble_eq_true rfl) (fun k hl hg hin hQ hC => ?_)
  subst hl hg
  show GW k 3 M 0 [some (va_rf (some a0)), some (.int p1), some (va_rf p2)] []
  refine G_aload_n (pc := 0) (i := 0) hC dX1_change_0 rfl rfl ?_
  refine G_getF (pc := 1) (ci := 0) (C := RX1) (T := TX1) (N := 10) (f := 1) hC rfl in_X1 (Nat.le_of_ble_eq_true rfl) q695 (fun _ h => h) dX1_change_1 hw (fun x1 hw => ?_)
  refine G_iload_n (pc := 4) (i := 1) hC dX1_change_4 rfl rfl ?_
  refine G_aload_n (pc := 5) (i := 0) hC dX1_change_5 rfl rfl ?_
  refine G_getF (pc := 6) (ci := 0) (C := RX1) (T := TX1) (N := 10) (f := 0) hC rfl in_X1 (Nat.le_of_ble_eq_true rfl) q694 (fun _ h => h) dX1_change_6 hw (fun x2 hw => ?_)
  refine G_iload_n (pc := 9) (i := 1) hC dX1_change_9 rfl rfl ?_
  refine G_aload_n (pc := 10) (i := 2) hC dX1_change_10 rfl rfl ?_
  obtain ⟨b4, rfl, hb, hw⟩ := gThis_e hw
  refine G_callF (pc := 11) (n := 2) (x := ⟨"java/util/List", "set", "(ILjava/lang/Object;)Ljava/lang/Object;"⟩) (C := "java/util/ArrayList") (ci := 21) (T := TJ2) (N := 3) (b := b4) (As := [.int p1, va_rf p2]) (rest := [.int p1, va_rf x1]) hC (J_L_set hJ hw) (lw_F q1259 q1262 q1264 q87 q1266) (nw_in q1261 rfl) (nw_in q1260 rfl) (nw_in q1265 rfl) (nw_in q1263 rfl) (nw_in q259 rfl) rfl (rcv (C := RJ2) (T := TJ2) (N := 3) hC hb rfl) (by decide +kernel) (by decide) rfl rfl (st_c (cat_i (cat_r cat_e)) (Nat.le_of_ble_eq_true rfl)) dX1_change_11 (kRf fun x5 M3 hw => ?_)
  obtain ⟨hb, hw⟩ := hw
  refine G_castC (pc := 16) (C := RJ2) (T := TJ2) (N := 3) (nm := "java/util/List") hC rfl q1203 (nw_in q259 rfl) hb dX1_change_16 ?_
  obtain ⟨b7, rfl, hb, hw⟩ := gThis_e hw
  refine G_callV (pc := 19) (n := 2) (C := "MergeWorkbench$History") (b := b7) (As := [.int p1, va_rf x5]) (rest := []) hC (m_X2_add hJ hw) (lw_V q1272 q1273 q1274 q88 q1275) hd_X2_add (by decide) (rcv (C := RX2) (T := TX2) (N := 1) hC hb rfl) rfl rfl (st_c cat_e (Nat.le_of_ble_eq_true rfl)) dX1_change_19 (kU fun M6 hw => ?_)
  exact G_ret (pc := 22) hC hQ dX1_change_22 hw
theorem hd_X1_change : yX1_change.cls = "MergeWorkbench" ∧ yX1_change.cls ≠ "java/lang/invoke/MethodHandle" ∧ yX1_change.cls ≠ "java/lang/invoke/VarHandle" ∧ (parseMethodDescriptor yX1_change.desc).map (fun d => d.parameters.length) = some 2 := by decide +kernel
theorem hd_X1_document : yX1_document.cls = "MergeWorkbench" ∧ yX1_document.cls ≠ "java/lang/invoke/MethodHandle" ∧ yX1_document.cls ≠ "java/lang/invoke/VarHandle" ∧ (parseMethodDescriptor yX1_document.desc).map (fun d => d.parameters.length) = some 1 := by decide +kernel
def w_X1_append_32 (g : gT) (F : Nat) (a0 : Nat) (p1 : Int32) (p2 : Int32) (Q : Int32 → hM → Prop) (X : String → Nat → hM → Prop) (v3 : Option Nat) (s0 : Int32) (M : hM) : Prop :=
  w_X1_requireState g F s0 M (fun M1 => nW M1 21 fsJ2 fun q2 M3 => (isC M3 q2 21 ∧ L_newC g q2 v3 M3 (fun M4 => B_of g p2 M4 (fun x6 M5 => (isC M5 q2 21 ∧ L_add g q2 x6 M5 (fun x8 M7 => (isC M7 a0 0 ∧ w_X1_change g F a0 p1 (some q2) M7 (fun M9 => (isC M9 q2 21 ∧ L_size g q2  M9 (fun x11 M10 => Q x11 M10)))))))))) X
def w_X1_append (g : gT) (F : Nat) (a0 : Nat) (p1 : Int32) (p2 : Int32) (M : hM) (Q : Int32 → hM → Prop) (X : String → Nat → hM → Prop) : Prop :=
  (isC M a0 0 ∧ w_X1_document g F a0 p1 M (fun x2 M1 => w_X1_isBetween g F p2 (0 : Int32) (25 : Int32) M1 (fun x4 M3 => w_X1_require g F x4 M3 (fun M5 => gThis M5 x2 21 fun b7 => L_size g b7  M5 (fun x8 M6 => (((24 : Int32) ≤ x8 → w_X1_append_32 g F a0 p1 p2 Q X (some b7) (0 : Int32) M6) ∧ (¬ ((24 : Int32) ≤ x8) → w_X1_append_32 g F a0 p1 p2 Q X (some b7) (1 : Int32) M6)))) X)) X)
theorem g_X1_append_32 {k : kT} {F : Nat} {a0 : Nat} {p1 : Int32} {p2 : Int32} {Q : Int32 → hM → Prop} {X : String → Nat → hM → Prop} (hJ : JOK (kl k) (kg k)) (hC : CX k 5 cX1_append RX1 (some .int) 43 2066) (hQ : isQX k (PI Q) X) (hin : (kt k).name = "append") (hno : ∀ x ∈ (kc k).exceptionTable.toList, False) : ∀ (v3 : Option Nat) (s0 : Int32) (M : hM), w_X1_append_32 (kg k) F a0 p1 p2 Q X v3 s0 M → GW k 5 M 32 [some (va_rf (some a0)), some (.int p1), some (.int p2), some (va_rf v3), none] [.int s0] := by
  intro v3 s0 M hw
  refine GX_callS (pc := 32) (n := 1) (As := [.int s0]) (rest := []) hC (m_X1_requireState hJ hw) (lw_S q1235 q1236 q84 q1237) hd_X1_requireState.2 (by decide) rfl rfl (st_c cat_e (Nat.le_of_ble_eq_true rfl)) dX1_append_32 (fun E q M hx => GX_out hC hno hQ hx) (kU fun M1 hw => ?_)
  refine G_new (pc := 35) (ci := 21) (C := RJ2) (T := TJ2) (N := 3) (fs := fsJ2) tyJ2 hC rfl in_J2 tyJ2_ok q160 q161 q87 dfJ2 rfl dX1_append_35 hw (fun q2 M3 hw => ?_)
  refine G_dup (pc := 38) hC dX1_append_38 (rf_cat _) ?_
  refine G_aload_n (pc := 39) (i := 3) hC dX1_append_39 rfl rfl ?_
  obtain ⟨hb, hw⟩ := hw
  refine G_callI (pc := 40) (n := 1) (b := q2) (As := [va_rf v3]) (rest := [va_rf (some q2)]) hC (J_L_newC hJ hw) (lw_meth q735) q87 q733 q734 rfl hd_J2_init_2.2 (by decide) rfl rfl (st_c (cat_r cat_e) (Nat.le_of_ble_eq_true rfl)) dX1_append_40 (kU fun M4 hw => ?_)
  refine G_astore (pc := 43) (i := 4) (lw := [some (va_rf (some a0)), some (.int p1), some (.int p2), some (va_rf v3), some (va_rf (some q2))]) hC dX1_append_43 (Nat.le_of_ble_eq_true rfl) rfl ?_
  refine G_aload (pc := 45) (i := 4) hC dX1_append_45 rfl ?_
  refine G_iload_n (pc := 47) (i := 2) hC dX1_append_47 rfl rfl ?_
  refine G_callS (pc := 48) (n := 1) (As := [.int p2]) (rest := [va_rf (some q2)]) hC (J_B_of hJ hw) (lw_S q1253 q992 q106 q993) hd_J19_valueOf.2 (by decide) rfl rfl (st_c (cat_r cat_e) (Nat.le_of_ble_eq_true rfl)) dX1_append_48 (kRf fun x6 M5 hw => ?_)
  obtain ⟨hb, hw⟩ := hw
  refine G_callF (pc := 51) (n := 1) (x := ⟨"java/util/List", "add", "(Ljava/lang/Object;)Z"⟩) (C := "java/util/ArrayList") (ci := 21) (T := TJ2) (N := 3) (b := q2) (As := [va_rf x6]) (rest := []) hC (J_L_add hJ hw) (lw_F q256 q260 q262 q87 q264) (nw_in q258 rfl) (nw_in q257 rfl) (nw_in q263 rfl) (nw_in q261 rfl) (nw_in q259 rfl) rfl (rcv (C := RJ2) (T := TJ2) (N := 3) hC hb rfl) (by decide +kernel) (by decide) rfl rfl (st_c cat_e (Nat.le_of_ble_eq_true rfl)) dX1_append_51 (kI fun x8 M7 hw => ?_)
  refine G_pop (pc := 56) hC dX1_append_56 rfl ?_
  refine G_aload_n (pc := 57) (i := 0) hC dX1_append_57 rfl rfl ?_
  refine G_iload_n (pc := 58) (i := 1) hC dX1_append_58 rfl rfl ?_
  refine G_aload (pc := 59) (i := 4) hC dX1_append_59 rfl ?_
  obtain ⟨hb, hw⟩ := hw
  refine G_callV (pc := 61) (n := 2) (C := "MergeWorkbench") (b := a0) (As := [.int p1, va_rf (some q2)]) (rest := []) hC (m_X1_change hJ hw) (lw_V q1254 q1256 qs11 q84 q1257) hd_X1_change (by decide) (rcv (C := RX1) (T := TX1) (N := 10) hC hb rfl) rfl rfl (st_c cat_e (Nat.le_of_ble_eq_true rfl)) dX1_append_61 (kU fun M9 hw => ?_)
  refine G_aload (pc := 64) (i := 4) hC dX1_append_64 rfl ?_
  obtain ⟨hb, hw⟩ := hw
  refine G_callF (pc := 66) (n := 0) (x := ⟨"java/util/List", "size", "()I"⟩) (C := "java/util/ArrayList") (ci := 21) (T := TJ2) (N := 3) (b := q2) (As := []) (rest := []) hC (J_L_size hJ hw) (lw_F q1205 q889 q363 q87 q364) (nw_in q888 rfl) (nw_in q887 rfl) (nw_in q891 rfl) (nw_in q890 rfl) (nw_in q259 rfl) rfl (rcv (C := RJ2) (T := TJ2) (N := 3) hC hb rfl) (by decide +kernel) (by decide) rfl rfl (st_c cat_e (Nat.le_of_ble_eq_true rfl)) dX1_append_66 (kI fun x11 M10 hw => ?_)
  exact G_iretX (pc := 71) hC rfl hQ dX1_append_71 hw
theorem m_X1_append {l : Launch} {g : gT} {F : Nat} {a0 : Nat} {p1 : Int32} {p2 : Int32} {M : hM} {Q : Int32 → hM → Prop} {X : String → Nat → hM → Prop} (hJ : JOK l g) (hw : w_X1_append g F a0 p1 p2 M Q X) : MX l g yX1_append (ws_ yX1_append cX1_append 5 (some .int)) 43 2066 [va_rf (some a0), .int p1, .int p2] M (PI Q) X := by
  refine MX_of hJ.2.1 (by decide) (cat_r (cat_i (cat_i cat_e))) (Nat.le_of_ble_eq_true rfl) (fun k hl hg hin hno hQ hC => ?_)
  subst hl hg
  show GW k 5 M 0 [some (va_rf (some a0)), some (.int p1), some (.int p2), none, none] []
  refine G_aload_n (pc := 0) (i := 0) hC dX1_append_0 rfl rfl ?_
  refine G_iload_n (pc := 1) (i := 1) hC dX1_append_1 rfl rfl ?_
  obtain ⟨hb, hw⟩ := hw
  refine GX_callV (pc := 2) (n := 1) (C := "MergeWorkbench") (b := a0) (As := [.int p1]) (rest := []) hC (m_X1_document hJ hw) (lw_V q1215 q1217 qs10 q84 q1218) hd_X1_document (by decide) (rcv (C := RX1) (T := TX1) (N := 10) hC hb rfl) rfl rfl (st_c cat_e (Nat.le_of_ble_eq_true rfl)) dX1_append_2 (fun E q M hx => GX_out hC hno hQ hx) (kRf fun x2 M1 hw => ?_)
  refine G_astore_n (pc := 5) (i := 3) (lw := [some (va_rf (some a0)), some (.int p1), some (.int p2), some (va_rf x2), none]) hC dX1_append_5 rfl (Nat.le_of_ble_eq_true rfl) rfl ?_
  refine G_iload_n (pc := 6) (i := 2) hC dX1_append_6 rfl rfl ?_
  refine G_iconst (pc := 7) (v := 0) hC dX1_append_7 (by decide) ?_
  refine G_bipush (pc := 8) (v := 25) hC dX1_append_8 (by decide) ?_
  refine G_callS (pc := 10) (n := 3) (As := [.int p2, .int (0 : Int32), .int (25 : Int32)]) (rest := []) hC (m_X1_isBetween hJ hw) (lw_S q1222 q1223 q84 q1224) hd_X1_isBetween.2 (by decide) rfl rfl (st_c cat_e (Nat.le_of_ble_eq_true rfl)) dX1_append_10 (kI fun x4 M3 hw => ?_)
  refine GX_callS (pc := 13) (n := 1) (As := [.int x4]) (rest := []) hC (m_X1_require hJ hw) (lw_S q1225 q1226 q84 q1227) hd_X1_require.2 (by decide) rfl rfl (st_c cat_e (Nat.le_of_ble_eq_true rfl)) dX1_append_13 (fun E q M hx => GX_out hC hno hQ hx) (kU fun M5 hw => ?_)
  refine G_aload_n (pc := 16) (i := 3) hC dX1_append_16 rfl rfl ?_
  obtain ⟨b7, rfl, hb, hw⟩ := gThis_e hw
  refine G_callF (pc := 17) (n := 0) (x := ⟨"java/util/List", "size", "()I"⟩) (C := "java/util/ArrayList") (ci := 21) (T := TJ2) (N := 3) (b := b7) (As := []) (rest := []) hC (J_L_size hJ hw) (lw_F q1205 q889 q363 q87 q364) (nw_in q888 rfl) (nw_in q887 rfl) (nw_in q891 rfl) (nw_in q890 rfl) (nw_in q259 rfl) rfl (rcv (C := RJ2) (T := TJ2) (N := 3) hC hb rfl) (by decide +kernel) (by decide) rfl rfl (st_c cat_e (Nat.le_of_ble_eq_true rfl)) dX1_append_17 (kI fun x8 M6 hw => ?_)
  refine G_bipush (pc := 22) (v := 24) hC dX1_append_22 (by decide) ?_
  refine G_icmp_ge (pc := 24) (tgt := 31) hC dX1_append_24 (by decide) (fun hc => ?_) (fun hc => ?_)
  · replace hw := hw.1 hc
    refine G_iconst (pc := 31) (v := 0) hC dX1_append_31 (by decide) ?_
    exact g_X1_append_32 hJ hC hQ hin hno  (some b7) (0 : Int32) M6 hw
  · replace hw := hw.2 hc
    refine G_iconst (pc := 27) (v := 1) hC dX1_append_27 (by decide) ?_
    refine G_goto (pc := 28) (tgt := 32) hC dX1_append_28 (by decide) ?_
    exact g_X1_append_32 hJ hC hQ hin hno  (some b7) (1 : Int32) M6 hw
theorem at_X1_requireIndex_11 : ∀ w ∈ vx_at0 RX1 18 "java/lang/IndexOutOfBoundsException" nmE, w ∈ lw_all ∨ w ∈ nwAll := at_in [98, 400, 409, 420, 423, 425, 401, 402, 158, 159, 403, 408, 421, 629, 390, 630, 392, 631, 394, 404, 406, 396, 1371, 1372, 1373, 686, 686, 687, 688, 689, 689, 690, 691, 401, 1370, 379, 387, 388, 389, 391, 393, 395, 399, 398, 397] [381, 383, 385, 380] (by decide +kernel) (by decide +kernel) (by decide +kernel)
theorem ag_X1_requireIndex_11 : (Cond.classLink RX1 16 "java/lang/IndexOutOfBoundsException" :: Cond.initialized "java/lang/IndexOutOfBoundsException" :: vx_at0 RX1 18 "java/lang/IndexOutOfBoundsException" nmE).all vx_ot = true := by decide +kernel
def w_X1_requireIndex (g : gT) (F : Nat) (p0 : Int32) (p1 : Int32) (M : hM) (Q : hM → Prop) (X : String → Nat → hM → Prop) : Prop :=
  w_X1_isBetween g F p0 (0 : Int32) (p1 - (1 : Int32)) M (fun x2 M1 => ((¬ x2 = 0 → Q M1) ∧ (x2 = 0 → thr M1 "java/lang/IndexOutOfBoundsException" X)))
theorem m_X1_requireIndex {l : Launch} {g : gT} {F : Nat} {p0 : Int32} {p1 : Int32} {M : hM} {Q : hM → Prop} {X : String → Nat → hM → Prop} (hJ : JOK l g) (hw : w_X1_requireIndex g F p0 p1 M Q X) : MX l g yX1_requireIndex (ws_ yX1_requireIndex cX1_requireIndex 2 none) 6 96 [.int p0, .int p1] M (PU Q) X := by
  refine MX_of hJ.2.1 (by decide) (cat_i (cat_i cat_e)) (Nat.le_of_ble_eq_true rfl) (fun k hl hg hin hno hQ hC => ?_)
  subst hl hg
  show GW k 2 M 0 [some (.int p0), some (.int p1)] []
  refine G_iload_n (pc := 0) (i := 0) hC dX1_requireIndex_0 rfl rfl ?_
  refine G_iconst (pc := 1) (v := 0) hC dX1_requireIndex_1 (by decide) ?_
  refine G_iload_n (pc := 2) (i := 1) hC dX1_requireIndex_2 rfl rfl ?_
  refine G_iconst (pc := 3) (v := 1) hC dX1_requireIndex_3 (by decide) ?_
  refine G_isub (pc := 4) hC dX1_requireIndex_4 ?_
  refine G_callS (pc := 5) (n := 3) (As := [.int p0, .int (0 : Int32), .int (p1 - (1 : Int32))]) (rest := []) hC (m_X1_isBetween hJ hw) (lw_S q1222 q1223 q84 q1224) hd_X1_isBetween.2 (by decide) rfl rfl (st_c cat_e (Nat.le_of_ble_eq_true rfl)) dX1_requireIndex_5 (kI fun x2 M1 hw => ?_)
  refine G_if_ne (pc := 8) (tgt := 19) hC dX1_requireIndex_8 (by decide) (fun hc => ?_) (fun hc => ?_)
  · replace hw := hw.1 hc
    exact G_retX (pc := 19) hC hQ dX1_requireIndex_19 hw
  · replace hw := hw.2 hc
    exact G_throw0 (pc := 11) (cls := "java/lang/IndexOutOfBoundsException") (names := nmE) (ik := 16) (ic := 18) hJ.1 hC hno hQ (by decide +kernel) nmE_fit q1369 q102 at_X1_requireIndex_11 ag_X1_requireIndex_11 dX1_requireIndex_11 dX1_requireIndex_14 dX1_requireIndex_15 dX1_requireIndex_18 rfl rfl (st_c cat_e (Nat.le_of_ble_eq_true rfl)) hw
theorem hd_J2_add_3 : yJ2_add_3.cls = "java/util/ArrayList" ∧ yJ2_add_3.cls ≠ "java/lang/invoke/MethodHandle" ∧ yJ2_add_3.cls ≠ "java/lang/invoke/VarHandle" ∧ (parseMethodDescriptor yJ2_add_3.desc).map (fun d => d.parameters.length) = some 2 := by decide +kernel
theorem hd_X1_requireIndex : yX1_requireIndex.cls = "MergeWorkbench" ∧ yX1_requireIndex.cls ≠ "java/lang/invoke/MethodHandle" ∧ yX1_requireIndex.cls ≠ "java/lang/invoke/VarHandle" ∧ (parseMethodDescriptor yX1_requireIndex.desc).map (fun d => d.parameters.length) = some 2 := by decide +kernel
def w_X1_insert_34 (g : gT) (F : Nat) (a0 : Nat) (p1 : Int32) (p2 : Int32) (p3 : Int32) (Q : Int32 → hM → Prop) (X : String → Nat → hM → Prop) (v4 : Option Nat) (s0 : Int32) (M : hM) : Prop :=
  w_X1_requireState g F s0 M (fun M1 => gThis M1 v4 21 fun b3 => L_size g b3  M1 (fun x4 M2 => w_X1_requireIndex g F p2 (x4 + (1 : Int32)) M2 (fun M5 => nW M5 21 fsJ2 fun q6 M7 => (isC M7 q6 21 ∧ L_newC g q6 (some b3) M7 (fun M8 => B_of g p3 M8 (fun x10 M9 => (isC M9 q6 21 ∧ L_ins g q6 p2 x10 M9 (fun M11 => (isC M11 a0 0 ∧ w_X1_change g F a0 p1 (some q6) M11 (fun M12 => (isC M12 q6 21 ∧ L_size g q6  M12 (fun x14 M13 => Q x14 M13)))))))))) X)) X
def w_X1_insert (g : gT) (F : Nat) (a0 : Nat) (p1 : Int32) (p2 : Int32) (p3 : Int32) (M : hM) (Q : Int32 → hM → Prop) (X : String → Nat → hM → Prop) : Prop :=
  (isC M a0 0 ∧ w_X1_document g F a0 p1 M (fun x2 M1 => w_X1_isBetween g F p3 (0 : Int32) (25 : Int32) M1 (fun x4 M3 => w_X1_require g F x4 M3 (fun M5 => gThis M5 x2 21 fun b7 => L_size g b7  M5 (fun x8 M6 => (((24 : Int32) ≤ x8 → w_X1_insert_34 g F a0 p1 p2 p3 Q X (some b7) (0 : Int32) M6) ∧ (¬ ((24 : Int32) ≤ x8) → w_X1_insert_34 g F a0 p1 p2 p3 Q X (some b7) (1 : Int32) M6)))) X)) X)
theorem g_X1_insert_34 {k : kT} {F : Nat} {a0 : Nat} {p1 : Int32} {p2 : Int32} {p3 : Int32} {Q : Int32 → hM → Prop} {X : String → Nat → hM → Prop} (hJ : JOK (kl k) (kg k)) (hC : CX k 6 cX1_insert RX1 (some .int) 43 2066) (hQ : isQX k (PI Q) X) (hin : (kt k).name = "insert") (hno : ∀ x ∈ (kc k).exceptionTable.toList, False) : ∀ (v4 : Option Nat) (s0 : Int32) (M : hM), w_X1_insert_34 (kg k) F a0 p1 p2 p3 Q X v4 s0 M → GW k 6 M 34 [some (va_rf (some a0)), some (.int p1), some (.int p2), some (.int p3), some (va_rf v4), none] [.int s0] := by
  intro v4 s0 M hw
  refine GX_callS (pc := 34) (n := 1) (As := [.int s0]) (rest := []) hC (m_X1_requireState hJ hw) (lw_S q1235 q1236 q84 q1237) hd_X1_requireState.2 (by decide) rfl rfl (st_c cat_e (Nat.le_of_ble_eq_true rfl)) dX1_insert_34 (fun E q M hx => GX_out hC hno hQ hx) (kU fun M1 hw => ?_)
  refine G_iload_n (pc := 37) (i := 2) hC dX1_insert_37 rfl rfl ?_
  refine G_aload (pc := 38) (i := 4) hC dX1_insert_38 rfl ?_
  obtain ⟨b3, rfl, hb, hw⟩ := gThis_e hw
  refine G_callF (pc := 40) (n := 0) (x := ⟨"java/util/List", "size", "()I"⟩) (C := "java/util/ArrayList") (ci := 21) (T := TJ2) (N := 3) (b := b3) (As := []) (rest := [.int p2]) hC (J_L_size hJ hw) (lw_F q1205 q889 q363 q87 q364) (nw_in q888 rfl) (nw_in q887 rfl) (nw_in q891 rfl) (nw_in q890 rfl) (nw_in q259 rfl) rfl (rcv (C := RJ2) (T := TJ2) (N := 3) hC hb rfl) (by decide +kernel) (by decide) rfl rfl (st_c (cat_i cat_e) (Nat.le_of_ble_eq_true rfl)) dX1_insert_40 (kI fun x4 M2 hw => ?_)
  refine G_iconst (pc := 45) (v := 1) hC dX1_insert_45 (by decide) ?_
  refine G_iadd (pc := 46) hC dX1_insert_46 ?_
  refine GX_callS (pc := 47) (n := 2) (As := [.int p2, .int (x4 + (1 : Int32))]) (rest := []) hC (m_X1_requireIndex hJ hw) (lw_S q1366 q1367 q84 q1368) hd_X1_requireIndex.2 (by decide) rfl rfl (st_c cat_e (Nat.le_of_ble_eq_true rfl)) dX1_insert_47 (fun E q M hx => GX_out hC hno hQ hx) (kU fun M5 hw => ?_)
  refine G_new (pc := 50) (ci := 21) (C := RJ2) (T := TJ2) (N := 3) (fs := fsJ2) tyJ2 hC rfl in_J2 tyJ2_ok q160 q161 q87 dfJ2 rfl dX1_insert_50 hw (fun q6 M7 hw => ?_)
  refine G_dup (pc := 53) hC dX1_insert_53 (rf_cat _) ?_
  refine G_aload (pc := 54) (i := 4) hC dX1_insert_54 rfl ?_
  obtain ⟨hb, hw⟩ := hw
  refine G_callI (pc := 56) (n := 1) (b := q6) (As := [va_rf (some b3)]) (rest := [va_rf (some q6)]) hC (J_L_newC hJ hw) (lw_meth q735) q87 q733 q734 rfl hd_J2_init_2.2 (by decide) rfl rfl (st_c (cat_r cat_e) (Nat.le_of_ble_eq_true rfl)) dX1_insert_56 (kU fun M8 hw => ?_)
  refine G_astore (pc := 59) (i := 5) (lw := [some (va_rf (some a0)), some (.int p1), some (.int p2), some (.int p3), some (va_rf (some b3)), some (va_rf (some q6))]) hC dX1_insert_59 (Nat.le_of_ble_eq_true rfl) rfl ?_
  refine G_aload (pc := 61) (i := 5) hC dX1_insert_61 rfl ?_
  refine G_iload_n (pc := 63) (i := 2) hC dX1_insert_63 rfl rfl ?_
  refine G_iload_n (pc := 64) (i := 3) hC dX1_insert_64 rfl rfl ?_
  refine G_callS (pc := 65) (n := 1) (As := [.int p3]) (rest := [.int p2, va_rf (some q6)]) hC (J_B_of hJ hw) (lw_S q1253 q992 q106 q993) hd_J19_valueOf.2 (by decide) rfl rfl (st_c (cat_i (cat_r cat_e)) (Nat.le_of_ble_eq_true rfl)) dX1_insert_65 (kRf fun x10 M9 hw => ?_)
  obtain ⟨hb, hw⟩ := hw
  refine G_callF (pc := 68) (n := 2) (x := ⟨"java/util/List", "add", "(ILjava/lang/Object;)V"⟩) (C := "java/util/ArrayList") (ci := 21) (T := TJ2) (N := 3) (b := q6) (As := [.int p2, va_rf x10]) (rest := []) hC (J_L_ins hJ hw) (lw_F q1375 q1378 q372 q87 q373) (nw_in q1377 rfl) (nw_in q1376 rfl) (nw_in q1380 rfl) (nw_in q1379 rfl) (nw_in q259 rfl) rfl (rcv (C := RJ2) (T := TJ2) (N := 3) hC hb rfl) (by decide +kernel) (by decide) rfl rfl (st_c cat_e (Nat.le_of_ble_eq_true rfl)) dX1_insert_68 (kU fun M11 hw => ?_)
  refine G_aload_n (pc := 73) (i := 0) hC dX1_insert_73 rfl rfl ?_
  refine G_iload_n (pc := 74) (i := 1) hC dX1_insert_74 rfl rfl ?_
  refine G_aload (pc := 75) (i := 5) hC dX1_insert_75 rfl ?_
  obtain ⟨hb, hw⟩ := hw
  refine G_callV (pc := 77) (n := 2) (C := "MergeWorkbench") (b := a0) (As := [.int p1, va_rf (some q6)]) (rest := []) hC (m_X1_change hJ hw) (lw_V q1254 q1256 qs11 q84 q1257) hd_X1_change (by decide) (rcv (C := RX1) (T := TX1) (N := 10) hC hb rfl) rfl rfl (st_c cat_e (Nat.le_of_ble_eq_true rfl)) dX1_insert_77 (kU fun M12 hw => ?_)
  refine G_aload (pc := 80) (i := 5) hC dX1_insert_80 rfl ?_
  obtain ⟨hb, hw⟩ := hw
  refine G_callF (pc := 82) (n := 0) (x := ⟨"java/util/List", "size", "()I"⟩) (C := "java/util/ArrayList") (ci := 21) (T := TJ2) (N := 3) (b := q6) (As := []) (rest := []) hC (J_L_size hJ hw) (lw_F q1205 q889 q363 q87 q364) (nw_in q888 rfl) (nw_in q887 rfl) (nw_in q891 rfl) (nw_in q890 rfl) (nw_in q259 rfl) rfl (rcv (C := RJ2) (T := TJ2) (N := 3) hC hb rfl) (by decide +kernel) (by decide) rfl rfl (st_c cat_e (Nat.le_of_ble_eq_true rfl)) dX1_insert_82 (kI fun x14 M13 hw => ?_)
  exact G_iretX (pc := 87) hC rfl hQ dX1_insert_87 hw
theorem m_X1_insert {l : Launch} {g : gT} {F : Nat} {a0 : Nat} {p1 : Int32} {p2 : Int32} {p3 : Int32} {M : hM} {Q : Int32 → hM → Prop} {X : String → Nat → hM → Prop} (hJ : JOK l g) (hw : w_X1_insert g F a0 p1 p2 p3 M Q X) : MX l g yX1_insert (ws_ yX1_insert cX1_insert 6 (some .int)) 43 2066 [va_rf (some a0), .int p1, .int p2, .int p3] M (PI Q) X := by
  refine MX_of hJ.2.1 (by decide) (cat_r (cat_i (cat_i (cat_i cat_e)))) (Nat.le_of_ble_eq_true rfl) (fun k hl hg hin hno hQ hC => ?_)
  subst hl hg
  show GW k 6 M 0 [some (va_rf (some a0)), some (.int p1), some (.int p2), some (.int p3), none, none] []
  refine G_aload_n (pc := 0) (i := 0) hC dX1_insert_0 rfl rfl ?_
  refine G_iload_n (pc := 1) (i := 1) hC dX1_insert_1 rfl rfl ?_
  obtain ⟨hb, hw⟩ := hw
  refine GX_callV (pc := 2) (n := 1) (C := "MergeWorkbench") (b := a0) (As := [.int p1]) (rest := []) hC (m_X1_document hJ hw) (lw_V q1215 q1217 qs10 q84 q1218) hd_X1_document (by decide) (rcv (C := RX1) (T := TX1) (N := 10) hC hb rfl) rfl rfl (st_c cat_e (Nat.le_of_ble_eq_true rfl)) dX1_insert_2 (fun E q M hx => GX_out hC hno hQ hx) (kRf fun x2 M1 hw => ?_)
  refine G_astore (pc := 5) (i := 4) (lw := [some (va_rf (some a0)), some (.int p1), some (.int p2), some (.int p3), some (va_rf x2), none]) hC dX1_insert_5 (Nat.le_of_ble_eq_true rfl) rfl ?_
  refine G_iload_n (pc := 7) (i := 3) hC dX1_insert_7 rfl rfl ?_
  refine G_iconst (pc := 8) (v := 0) hC dX1_insert_8 (by decide) ?_
  refine G_bipush (pc := 9) (v := 25) hC dX1_insert_9 (by decide) ?_
  refine G_callS (pc := 11) (n := 3) (As := [.int p3, .int (0 : Int32), .int (25 : Int32)]) (rest := []) hC (m_X1_isBetween hJ hw) (lw_S q1222 q1223 q84 q1224) hd_X1_isBetween.2 (by decide) rfl rfl (st_c cat_e (Nat.le_of_ble_eq_true rfl)) dX1_insert_11 (kI fun x4 M3 hw => ?_)
  refine GX_callS (pc := 14) (n := 1) (As := [.int x4]) (rest := []) hC (m_X1_require hJ hw) (lw_S q1225 q1226 q84 q1227) hd_X1_require.2 (by decide) rfl rfl (st_c cat_e (Nat.le_of_ble_eq_true rfl)) dX1_insert_14 (fun E q M hx => GX_out hC hno hQ hx) (kU fun M5 hw => ?_)
  refine G_aload (pc := 17) (i := 4) hC dX1_insert_17 rfl ?_
  obtain ⟨b7, rfl, hb, hw⟩ := gThis_e hw
  refine G_callF (pc := 19) (n := 0) (x := ⟨"java/util/List", "size", "()I"⟩) (C := "java/util/ArrayList") (ci := 21) (T := TJ2) (N := 3) (b := b7) (As := []) (rest := []) hC (J_L_size hJ hw) (lw_F q1205 q889 q363 q87 q364) (nw_in q888 rfl) (nw_in q887 rfl) (nw_in q891 rfl) (nw_in q890 rfl) (nw_in q259 rfl) rfl (rcv (C := RJ2) (T := TJ2) (N := 3) hC hb rfl) (by decide +kernel) (by decide) rfl rfl (st_c cat_e (Nat.le_of_ble_eq_true rfl)) dX1_insert_19 (kI fun x8 M6 hw => ?_)
  refine G_bipush (pc := 24) (v := 24) hC dX1_insert_24 (by decide) ?_
  refine G_icmp_ge (pc := 26) (tgt := 33) hC dX1_insert_26 (by decide) (fun hc => ?_) (fun hc => ?_)
  · replace hw := hw.1 hc
    refine G_iconst (pc := 33) (v := 0) hC dX1_insert_33 (by decide) ?_
    exact g_X1_insert_34 hJ hC hQ hin hno  (some b7) (0 : Int32) M6 hw
  · replace hw := hw.2 hc
    refine G_iconst (pc := 29) (v := 1) hC dX1_insert_29 (by decide) ?_
    refine G_goto (pc := 30) (tgt := 34) hC dX1_insert_30 (by decide) ?_
    exact g_X1_insert_34 hJ hC hQ hin hno  (some b7) (1 : Int32) M6 hw
def w_X1_delete (g : gT) (F : Nat) (a0 : Nat) (p1 : Int32) (p2 : Int32) (M : hM) (Q : Int32 → hM → Prop) (X : String → Nat → hM → Prop) : Prop :=
  (isC M a0 0 ∧ w_X1_document g F a0 p1 M (fun x2 M1 => gThis M1 x2 21 fun b4 => L_size g b4  M1 (fun x5 M3 => w_X1_requireIndex g F p2 x5 M3 (fun M6 => nW M6 21 fsJ2 fun q7 M8 => (isC M8 q7 21 ∧ L_newC g q7 (some b4) M8 (fun M9 => (isC M9 q7 21 ∧ L_rem g q7 p2 M9 (fun x11 M10 => ckB g M10 x11 (gBx g M10 x11 fun b13 => B_val g b13  M10 (fun x14 M12 => (isC M12 a0 0 ∧ w_X1_change g F a0 p1 (some q7) M12 (fun M15 => Q x14 M15))))))))) X)) X)
theorem m_X1_delete {l : Launch} {g : gT} {F : Nat} {a0 : Nat} {p1 : Int32} {p2 : Int32} {M : hM} {Q : Int32 → hM → Prop} {X : String → Nat → hM → Prop} (hJ : JOK l g) (hw : w_X1_delete g F a0 p1 p2 M Q X) : MX l g yX1_delete (ws_ yX1_delete cX1_delete 6 (some .int)) 43 2066 [va_rf (some a0), .int p1, .int p2] M (PI Q) X := by
  refine MX_of hJ.2.1 (by decide) (cat_r (cat_i (cat_i cat_e))) (Nat.le_of_ble_eq_true rfl) (fun k hl hg hin hno hQ hC => ?_)
  subst hl hg
  show GW k 6 M 0 [some (va_rf (some a0)), some (.int p1), some (.int p2), none, none, none] []
  refine G_aload_n (pc := 0) (i := 0) hC dX1_delete_0 rfl rfl ?_
  refine G_iload_n (pc := 1) (i := 1) hC dX1_delete_1 rfl rfl ?_
  obtain ⟨hb, hw⟩ := hw
  refine GX_callV (pc := 2) (n := 1) (C := "MergeWorkbench") (b := a0) (As := [.int p1]) (rest := []) hC (m_X1_document hJ hw) (lw_V q1215 q1217 qs10 q84 q1218) hd_X1_document (by decide) (rcv (C := RX1) (T := TX1) (N := 10) hC hb rfl) rfl rfl (st_c cat_e (Nat.le_of_ble_eq_true rfl)) dX1_delete_2 (fun E q M hx => GX_out hC hno hQ hx) (kRf fun x2 M1 hw => ?_)
  refine G_astore_n (pc := 5) (i := 3) (lw := [some (va_rf (some a0)), some (.int p1), some (.int p2), some (va_rf x2), none, none]) hC dX1_delete_5 rfl (Nat.le_of_ble_eq_true rfl) rfl ?_
  refine G_iload_n (pc := 6) (i := 2) hC dX1_delete_6 rfl rfl ?_
  refine G_aload_n (pc := 7) (i := 3) hC dX1_delete_7 rfl rfl ?_
  obtain ⟨b4, rfl, hb, hw⟩ := gThis_e hw
  refine G_callF (pc := 8) (n := 0) (x := ⟨"java/util/List", "size", "()I"⟩) (C := "java/util/ArrayList") (ci := 21) (T := TJ2) (N := 3) (b := b4) (As := []) (rest := [.int p2]) hC (J_L_size hJ hw) (lw_F q1205 q889 q363 q87 q364) (nw_in q888 rfl) (nw_in q887 rfl) (nw_in q891 rfl) (nw_in q890 rfl) (nw_in q259 rfl) rfl (rcv (C := RJ2) (T := TJ2) (N := 3) hC hb rfl) (by decide +kernel) (by decide) rfl rfl (st_c (cat_i cat_e) (Nat.le_of_ble_eq_true rfl)) dX1_delete_8 (kI fun x5 M3 hw => ?_)
  refine GX_callS (pc := 13) (n := 2) (As := [.int p2, .int x5]) (rest := []) hC (m_X1_requireIndex hJ hw) (lw_S q1366 q1367 q84 q1368) hd_X1_requireIndex.2 (by decide) rfl rfl (st_c cat_e (Nat.le_of_ble_eq_true rfl)) dX1_delete_13 (fun E q M hx => GX_out hC hno hQ hx) (kU fun M6 hw => ?_)
  refine G_new (pc := 16) (ci := 21) (C := RJ2) (T := TJ2) (N := 3) (fs := fsJ2) tyJ2 hC rfl in_J2 tyJ2_ok q160 q161 q87 dfJ2 rfl dX1_delete_16 hw (fun q7 M8 hw => ?_)
  refine G_dup (pc := 19) hC dX1_delete_19 (rf_cat _) ?_
  refine G_aload_n (pc := 20) (i := 3) hC dX1_delete_20 rfl rfl ?_
  obtain ⟨hb, hw⟩ := hw
  refine G_callI (pc := 21) (n := 1) (b := q7) (As := [va_rf (some b4)]) (rest := [va_rf (some q7)]) hC (J_L_newC hJ hw) (lw_meth q735) q87 q733 q734 rfl hd_J2_init_2.2 (by decide) rfl rfl (st_c (cat_r cat_e) (Nat.le_of_ble_eq_true rfl)) dX1_delete_21 (kU fun M9 hw => ?_)
  refine G_astore (pc := 24) (i := 4) (lw := [some (va_rf (some a0)), some (.int p1), some (.int p2), some (va_rf (some b4)), some (va_rf (some q7)), none]) hC dX1_delete_24 (Nat.le_of_ble_eq_true rfl) rfl ?_
  refine G_aload (pc := 26) (i := 4) hC dX1_delete_26 rfl ?_
  refine G_iload_n (pc := 28) (i := 2) hC dX1_delete_28 rfl rfl ?_
  obtain ⟨hb, hw⟩ := hw
  refine G_callF (pc := 29) (n := 1) (x := ⟨"java/util/List", "remove", "(I)Ljava/lang/Object;"⟩) (C := "java/util/ArrayList") (ci := 21) (T := TJ2) (N := 3) (b := q7) (As := [.int p2]) (rest := []) hC (J_L_rem hJ hw) (lw_F q1392 q1395 q1397 q87 q1399) (nw_in q1394 rfl) (nw_in q1393 rfl) (nw_in q1398 rfl) (nw_in q1396 rfl) (nw_in q259 rfl) rfl (rcv (C := RJ2) (T := TJ2) (N := 3) hC hb rfl) (by decide +kernel) (by decide) rfl rfl (st_c cat_e (Nat.le_of_ble_eq_true rfl)) dX1_delete_29 (kRf fun x11 M10 hw => ?_)
  obtain ⟨hb, hw⟩ := hw
  refine G_castBS (pc := 34) hJ.1 hC q1409 hb dX1_delete_34 ?_
  obtain ⟨b13, rfl, hb, hw⟩ := gBx_e hw
  refine G_callV (pc := 37) (n := 0) (C := "java/lang/Integer") (b := b13) (As := []) (rest := []) hC (J_B_val hJ hw) (lw_V q1410 q988 q989 q106 q990) hd_J19_intValue (by decide) (rcvB hJ.1 hC hb) rfl rfl (st_c cat_e (Nat.le_of_ble_eq_true rfl)) dX1_delete_37 (kI fun x14 M12 hw => ?_)
  refine G_istore (pc := 40) (i := 5) (lw := [some (va_rf (some a0)), some (.int p1), some (.int p2), some (va_rf (some b4)), some (va_rf (some q7)), some (.int x14)]) hC dX1_delete_40 (Nat.le_of_ble_eq_true rfl) rfl ?_
  refine G_aload_n (pc := 42) (i := 0) hC dX1_delete_42 rfl rfl ?_
  refine G_iload_n (pc := 43) (i := 1) hC dX1_delete_43 rfl rfl ?_
  refine G_aload (pc := 44) (i := 4) hC dX1_delete_44 rfl ?_
  obtain ⟨hb, hw⟩ := hw
  refine G_callV (pc := 46) (n := 2) (C := "MergeWorkbench") (b := a0) (As := [.int p1, va_rf (some q7)]) (rest := []) hC (m_X1_change hJ hw) (lw_V q1254 q1256 qs11 q84 q1257) hd_X1_change (by decide) (rcv (C := RX1) (T := TX1) (N := 10) hC hb rfl) rfl rfl (st_c cat_e (Nat.le_of_ble_eq_true rfl)) dX1_delete_46 (kU fun M15 hw => ?_)
  refine G_iload (pc := 49) (i := 5) hC dX1_delete_49 rfl ?_
  exact G_iretX (pc := 51) hC rfl hQ dX1_delete_51 hw
def w_X1_length (g : gT) (F : Nat) (a0 : Nat) (p1 : Int32) (M : hM) (Q : Int32 → hM → Prop) (X : String → Nat → hM → Prop) : Prop :=
  (isC M a0 0 ∧ w_X1_document g F a0 p1 M (fun x2 M1 => gThis M1 x2 21 fun b4 => L_size g b4  M1 (fun x5 M3 => Q x5 M3)) X)
theorem m_X1_length {l : Launch} {g : gT} {F : Nat} {a0 : Nat} {p1 : Int32} {M : hM} {Q : Int32 → hM → Prop} {X : String → Nat → hM → Prop} (hJ : JOK l g) (hw : w_X1_length g F a0 p1 M Q X) : MX l g yX1_length (ws_ yX1_length cX1_length 2 (some .int)) 42 2042 [va_rf (some a0), .int p1] M (PI Q) X := by
  refine MX_of hJ.2.1 (by decide) (cat_r (cat_i cat_e)) (Nat.le_of_ble_eq_true rfl) (fun k hl hg hin hno hQ hC => ?_)
  subst hl hg
  show GW k 2 M 0 [some (va_rf (some a0)), some (.int p1)] []
  refine G_aload_n (pc := 0) (i := 0) hC dX1_length_0 rfl rfl ?_
  refine G_iload_n (pc := 1) (i := 1) hC dX1_length_1 rfl rfl ?_
  obtain ⟨hb, hw⟩ := hw
  refine GX_callV (pc := 2) (n := 1) (C := "MergeWorkbench") (b := a0) (As := [.int p1]) (rest := []) hC (m_X1_document hJ hw) (lw_V q1215 q1217 qs10 q84 q1218) hd_X1_document (by decide) (rcv (C := RX1) (T := TX1) (N := 10) hC hb rfl) rfl rfl (st_c cat_e (Nat.le_of_ble_eq_true rfl)) dX1_length_2 (fun E q M hx => GX_out hC hno hQ hx) (kRf fun x2 M1 hw => ?_)
  obtain ⟨b4, rfl, hb, hw⟩ := gThis_e hw
  refine G_callF (pc := 5) (n := 0) (x := ⟨"java/util/List", "size", "()I"⟩) (C := "java/util/ArrayList") (ci := 21) (T := TJ2) (N := 3) (b := b4) (As := []) (rest := []) hC (J_L_size hJ hw) (lw_F q1205 q889 q363 q87 q364) (nw_in q888 rfl) (nw_in q887 rfl) (nw_in q891 rfl) (nw_in q890 rfl) (nw_in q259 rfl) rfl (rcv (C := RJ2) (T := TJ2) (N := 3) hC hb rfl) (by decide +kernel) (by decide) rfl rfl (st_c cat_e (Nat.le_of_ble_eq_true rfl)) dX1_length_5 (kI fun x5 M3 hw => ?_)
  exact G_iretX (pc := 10) hC rfl hQ dX1_length_10 hw
def w_X1_line (g : gT) (F : Nat) (a0 : Nat) (p1 : Int32) (p2 : Int32) (M : hM) (Q : Int32 → hM → Prop) (X : String → Nat → hM → Prop) : Prop :=
  (isC M a0 0 ∧ w_X1_document g F a0 p1 M (fun x2 M1 => gThis M1 x2 21 fun b4 => L_size g b4  M1 (fun x5 M3 => w_X1_requireIndex g F p2 x5 M3 (fun M6 => (isC M6 b4 21 ∧ L_get g b4 p2 M6 (fun x8 M7 => ckB g M7 x8 (gBx g M7 x8 fun b10 => B_val g b10  M7 (fun x11 M9 => Q x11 M9))))) X)) X)
theorem m_X1_line {l : Launch} {g : gT} {F : Nat} {a0 : Nat} {p1 : Int32} {p2 : Int32} {M : hM} {Q : Int32 → hM → Prop} {X : String → Nat → hM → Prop} (hJ : JOK l g) (hw : w_X1_line g F a0 p1 p2 M Q X) : MX l g yX1_line (ws_ yX1_line cX1_line 4 (some .int)) 42 2042 [va_rf (some a0), .int p1, .int p2] M (PI Q) X := by
  refine MX_of hJ.2.1 (by decide) (cat_r (cat_i (cat_i cat_e))) (Nat.le_of_ble_eq_true rfl) (fun k hl hg hin hno hQ hC => ?_)
  subst hl hg
  show GW k 4 M 0 [some (va_rf (some a0)), some (.int p1), some (.int p2), none] []
  refine G_aload_n (pc := 0) (i := 0) hC dX1_line_0 rfl rfl ?_
  refine G_iload_n (pc := 1) (i := 1) hC dX1_line_1 rfl rfl ?_
  obtain ⟨hb, hw⟩ := hw
  refine GX_callV (pc := 2) (n := 1) (C := "MergeWorkbench") (b := a0) (As := [.int p1]) (rest := []) hC (m_X1_document hJ hw) (lw_V q1215 q1217 qs10 q84 q1218) hd_X1_document (by decide) (rcv (C := RX1) (T := TX1) (N := 10) hC hb rfl) rfl rfl (st_c cat_e (Nat.le_of_ble_eq_true rfl)) dX1_line_2 (fun E q M hx => GX_out hC hno hQ hx) (kRf fun x2 M1 hw => ?_)
  refine G_astore_n (pc := 5) (i := 3) (lw := [some (va_rf (some a0)), some (.int p1), some (.int p2), some (va_rf x2)]) hC dX1_line_5 rfl (Nat.le_of_ble_eq_true rfl) rfl ?_
  refine G_iload_n (pc := 6) (i := 2) hC dX1_line_6 rfl rfl ?_
  refine G_aload_n (pc := 7) (i := 3) hC dX1_line_7 rfl rfl ?_
  obtain ⟨b4, rfl, hb, hw⟩ := gThis_e hw
  refine G_callF (pc := 8) (n := 0) (x := ⟨"java/util/List", "size", "()I"⟩) (C := "java/util/ArrayList") (ci := 21) (T := TJ2) (N := 3) (b := b4) (As := []) (rest := [.int p2]) hC (J_L_size hJ hw) (lw_F q1205 q889 q363 q87 q364) (nw_in q888 rfl) (nw_in q887 rfl) (nw_in q891 rfl) (nw_in q890 rfl) (nw_in q259 rfl) rfl (rcv (C := RJ2) (T := TJ2) (N := 3) hC hb rfl) (by decide +kernel) (by decide) rfl rfl (st_c (cat_i cat_e) (Nat.le_of_ble_eq_true rfl)) dX1_line_8 (kI fun x5 M3 hw => ?_)
  refine GX_callS (pc := 13) (n := 2) (As := [.int p2, .int x5]) (rest := []) hC (m_X1_requireIndex hJ hw) (lw_S q1366 q1367 q84 q1368) hd_X1_requireIndex.2 (by decide) rfl rfl (st_c cat_e (Nat.le_of_ble_eq_true rfl)) dX1_line_13 (fun E q M hx => GX_out hC hno hQ hx) (kU fun M6 hw => ?_)
  refine G_aload_n (pc := 16) (i := 3) hC dX1_line_16 rfl rfl ?_
  refine G_iload_n (pc := 17) (i := 2) hC dX1_line_17 rfl rfl ?_
  obtain ⟨hb, hw⟩ := hw
  refine G_callF (pc := 18) (n := 1) (x := ⟨"java/util/List", "get", "(I)Ljava/lang/Object;"⟩) (C := "java/util/ArrayList") (ci := 21) (T := TJ2) (N := 3) (b := b4) (As := [.int p2]) (rest := []) hC (J_L_get hJ hw) (lw_F q1234 q956 q958 q87 q960) (nw_in q955 rfl) (nw_in q954 rfl) (nw_in q959 rfl) (nw_in q957 rfl) (nw_in q259 rfl) rfl (rcv (C := RJ2) (T := TJ2) (N := 3) hC hb rfl) (by decide +kernel) (by decide) rfl rfl (st_c cat_e (Nat.le_of_ble_eq_true rfl)) dX1_line_18 (kRf fun x8 M7 hw => ?_)
  obtain ⟨hb, hw⟩ := hw
  refine G_castBS (pc := 23) hJ.1 hC q1409 hb dX1_line_23 ?_
  obtain ⟨b10, rfl, hb, hw⟩ := gBx_e hw
  refine G_callV (pc := 26) (n := 0) (C := "java/lang/Integer") (b := b10) (As := []) (rest := []) hC (J_B_val hJ hw) (lw_V q1410 q988 q989 q106 q990) hd_J19_intValue (by decide) (rcvB hJ.1 hC hb) rfl rfl (st_c cat_e (Nat.le_of_ble_eq_true rfl)) dX1_line_26 (kI fun x11 M9 hw => ?_)
  exact G_iretX (pc := 29) hC rfl hQ dX1_line_29 hw
def w_X1_copy (g : gT) (F : Nat) (a0 : Nat) (p1 : Int32) (p2 : Int32) (M : hM) (Q : Int32 → hM → Prop) (X : String → Nat → hM → Prop) : Prop :=
  (isC M a0 0 ∧ w_X1_document g F a0 p1 M (fun x2 M1 => (isC M1 a0 0 ∧ w_X1_document g F a0 p2 M1 (fun x4 M3 => nW M3 21 fsJ2 fun q5 M6 => (isC M6 q5 21 ∧ L_newC g q5 x2 M6 (fun M7 => (isC M7 a0 0 ∧ w_X1_change g F a0 p2 (some q5) M7 (fun M8 => gThis M8 x2 21 fun b10 => L_size g b10  M8 (fun x11 M9 => Q x11 M9)))))) X)) X)
theorem m_X1_copy {l : Launch} {g : gT} {F : Nat} {a0 : Nat} {p1 : Int32} {p2 : Int32} {M : hM} {Q : Int32 → hM → Prop} {X : String → Nat → hM → Prop} (hJ : JOK l g) (hw : w_X1_copy g F a0 p1 p2 M Q X) : MX l g yX1_copy (ws_ yX1_copy cX1_copy 4 (some .int)) 43 2066 [va_rf (some a0), .int p1, .int p2] M (PI Q) X := by
  refine MX_of hJ.2.1 (by decide) (cat_r (cat_i (cat_i cat_e))) (Nat.le_of_ble_eq_true rfl) (fun k hl hg hin hno hQ hC => ?_)
  subst hl hg
  show GW k 4 M 0 [some (va_rf (some a0)), some (.int p1), some (.int p2), none] []
  refine G_aload_n (pc := 0) (i := 0) hC dX1_copy_0 rfl rfl ?_
  refine G_iload_n (pc := 1) (i := 1) hC dX1_copy_1 rfl rfl ?_
  obtain ⟨hb, hw⟩ := hw
  refine GX_callV (pc := 2) (n := 1) (C := "MergeWorkbench") (b := a0) (As := [.int p1]) (rest := []) hC (m_X1_document hJ hw) (lw_V q1215 q1217 qs10 q84 q1218) hd_X1_document (by decide) (rcv (C := RX1) (T := TX1) (N := 10) hC hb rfl) rfl rfl (st_c cat_e (Nat.le_of_ble_eq_true rfl)) dX1_copy_2 (fun E q M hx => GX_out hC hno hQ hx) (kRf fun x2 M1 hw => ?_)
  refine G_astore_n (pc := 5) (i := 3) (lw := [some (va_rf (some a0)), some (.int p1), some (.int p2), some (va_rf x2)]) hC dX1_copy_5 rfl (Nat.le_of_ble_eq_true rfl) rfl ?_
  refine G_aload_n (pc := 6) (i := 0) hC dX1_copy_6 rfl rfl ?_
  refine G_iload_n (pc := 7) (i := 2) hC dX1_copy_7 rfl rfl ?_
  obtain ⟨hb, hw⟩ := hw
  refine GX_callV (pc := 8) (n := 1) (C := "MergeWorkbench") (b := a0) (As := [.int p2]) (rest := []) hC (m_X1_document hJ hw) (lw_V q1215 q1217 qs10 q84 q1218) hd_X1_document (by decide) (rcv (C := RX1) (T := TX1) (N := 10) hC hb rfl) rfl rfl (st_c cat_e (Nat.le_of_ble_eq_true rfl)) dX1_copy_8 (fun E q M hx => GX_out hC hno hQ hx) (kRf fun x4 M3 hw => ?_)
  refine G_pop (pc := 11) hC dX1_copy_11 (rf_cat _) ?_
  refine G_aload_n (pc := 12) (i := 0) hC dX1_copy_12 rfl rfl ?_
  refine G_iload_n (pc := 13) (i := 2) hC dX1_copy_13 rfl rfl ?_
  refine G_new (pc := 14) (ci := 21) (C := RJ2) (T := TJ2) (N := 3) (fs := fsJ2) tyJ2 hC rfl in_J2 tyJ2_ok q160 q161 q87 dfJ2 rfl dX1_copy_14 hw (fun q5 M6 hw => ?_)
  refine G_dup (pc := 17) hC dX1_copy_17 (rf_cat _) ?_
  refine G_aload_n (pc := 18) (i := 3) hC dX1_copy_18 rfl rfl ?_
  obtain ⟨hb, hw⟩ := hw
  refine G_callI (pc := 19) (n := 1) (b := q5) (As := [va_rf x2]) (rest := [va_rf (some q5), .int p2, va_rf (some a0)]) hC (J_L_newC hJ hw) (lw_meth q735) q87 q733 q734 rfl hd_J2_init_2.2 (by decide) rfl rfl (st_c (cat_r (cat_i (cat_r cat_e))) (Nat.le_of_ble_eq_true rfl)) dX1_copy_19 (kU fun M7 hw => ?_)
  obtain ⟨hb, hw⟩ := hw
  refine G_callV (pc := 22) (n := 2) (C := "MergeWorkbench") (b := a0) (As := [.int p2, va_rf (some q5)]) (rest := []) hC (m_X1_change hJ hw) (lw_V q1254 q1256 qs11 q84 q1257) hd_X1_change (by decide) (rcv (C := RX1) (T := TX1) (N := 10) hC hb rfl) rfl rfl (st_c cat_e (Nat.le_of_ble_eq_true rfl)) dX1_copy_22 (kU fun M8 hw => ?_)
  refine G_aload_n (pc := 25) (i := 3) hC dX1_copy_25 rfl rfl ?_
  obtain ⟨b10, rfl, hb, hw⟩ := gThis_e hw
  refine G_callF (pc := 26) (n := 0) (x := ⟨"java/util/List", "size", "()I"⟩) (C := "java/util/ArrayList") (ci := 21) (T := TJ2) (N := 3) (b := b10) (As := []) (rest := []) hC (J_L_size hJ hw) (lw_F q1205 q889 q363 q87 q364) (nw_in q888 rfl) (nw_in q887 rfl) (nw_in q891 rfl) (nw_in q890 rfl) (nw_in q259 rfl) rfl (rcv (C := RJ2) (T := TJ2) (N := 3) hC hb rfl) (by decide +kernel) (by decide) rfl rfl (st_c cat_e (Nat.le_of_ble_eq_true rfl)) dX1_copy_26 (kI fun x11 M9 hw => ?_)
  exact G_iretX (pc := 31) hC rfl hQ dX1_copy_31 hw
theorem hd_J2_equals : yJ2_equals.cls = "java/util/ArrayList" ∧ yJ2_equals.cls ≠ "java/lang/invoke/MethodHandle" ∧ yJ2_equals.cls ≠ "java/lang/invoke/VarHandle" ∧ (parseMethodDescriptor yJ2_equals.desc).map (fun d => d.parameters.length) = some 1 := by decide +kernel
def w_X1_isSame (g : gT) (F : Nat) (a0 : Nat) (p1 : Int32) (p2 : Int32) (M : hM) (Q : Int32 → hM → Prop) (X : String → Nat → hM → Prop) : Prop :=
  (isC M a0 0 ∧ w_X1_document g F a0 p1 M (fun x2 M1 => (isC M1 a0 0 ∧ w_X1_document g F a0 p2 M1 (fun x4 M3 => gThis M3 x2 21 fun b6 => L_eq g b6 x4 M3 (fun x7 M5 => ((x7 = 0 ∨ x7 = 1) ∧ Q x7 M5))) X)) X)
theorem m_X1_isSame {l : Launch} {g : gT} {F : Nat} {a0 : Nat} {p1 : Int32} {p2 : Int32} {M : hM} {Q : Int32 → hM → Prop} {X : String → Nat → hM → Prop} (hJ : JOK l g) (hw : w_X1_isSame g F a0 p1 p2 M Q X) : MX l g yX1_isSame (ws_ yX1_isSame cX1_isSame 3 (some .boolean)) 42 2042 [va_rf (some a0), .int p1, .int p2] M (PI Q) X := by
  refine MX_of hJ.2.1 (by decide) (cat_r (cat_i (cat_i cat_e))) (Nat.le_of_ble_eq_true rfl) (fun k hl hg hin hno hQ hC => ?_)
  subst hl hg
  show GW k 3 M 0 [some (va_rf (some a0)), some (.int p1), some (.int p2)] []
  refine G_aload_n (pc := 0) (i := 0) hC dX1_isSame_0 rfl rfl ?_
  refine G_iload_n (pc := 1) (i := 1) hC dX1_isSame_1 rfl rfl ?_
  obtain ⟨hb, hw⟩ := hw
  refine GX_callV (pc := 2) (n := 1) (C := "MergeWorkbench") (b := a0) (As := [.int p1]) (rest := []) hC (m_X1_document hJ hw) (lw_V q1215 q1217 qs10 q84 q1218) hd_X1_document (by decide) (rcv (C := RX1) (T := TX1) (N := 10) hC hb rfl) rfl rfl (st_c cat_e (Nat.le_of_ble_eq_true rfl)) dX1_isSame_2 (fun E q M hx => GX_out hC hno hQ hx) (kRf fun x2 M1 hw => ?_)
  refine G_aload_n (pc := 5) (i := 0) hC dX1_isSame_5 rfl rfl ?_
  refine G_iload_n (pc := 6) (i := 2) hC dX1_isSame_6 rfl rfl ?_
  obtain ⟨hb, hw⟩ := hw
  refine GX_callV (pc := 7) (n := 1) (C := "MergeWorkbench") (b := a0) (As := [.int p2]) (rest := [va_rf x2]) hC (m_X1_document hJ hw) (lw_V q1215 q1217 qs10 q84 q1218) hd_X1_document (by decide) (rcv (C := RX1) (T := TX1) (N := 10) hC hb rfl) rfl rfl (st_c (cat_r cat_e) (Nat.le_of_ble_eq_true rfl)) dX1_isSame_7 (fun E q M hx => GX_out hC hno hQ hx) (kRf fun x4 M3 hw => ?_)
  obtain ⟨b6, rfl, hb, hw⟩ := gThis_e hw
  refine G_callF (pc := 10) (n := 1) (x := ⟨"java/util/List", "equals", "(Ljava/lang/Object;)Z"⟩) (C := "java/util/ArrayList") (ci := 21) (T := TJ2) (N := 3) (b := b6) (As := [va_rf x4]) (rest := []) hC (J_L_eq hJ hw) (lw_F q1440 q1443 q1445 q87 q1447) (nw_in q1442 rfl) (nw_in q1441 rfl) (nw_in q1446 rfl) (nw_in q1444 rfl) (nw_in q259 rfl) rfl (rcv (C := RJ2) (T := TJ2) (N := 3) hC hb rfl) (by decide +kernel) (by decide) rfl rfl (st_c cat_e (Nat.le_of_ble_eq_true rfl)) dX1_isSame_10 (kI fun x7 M5 hw => ?_)
  obtain ⟨hz, hw⟩ := hw
  exact G_iretX (pc := 15) hC (nz_n hz) hQ dX1_isSame_15 hw
def w_X1_distance (g : gT) (F : Nat) (a0 : Nat) (p1 : Int32) (p2 : Int32) (M : hM) (Q : Int32 → hM → Prop) (X : String → Nat → hM → Prop) : Prop :=
  (isC M a0 0 ∧ w_X1_document g F a0 p1 M (fun x2 M1 => (isC M1 a0 0 ∧ w_X1_document g F a0 p2 M1 (fun x4 M3 => gThis M3 x2 21 fun b6 => L_size g b6  M3 (fun x7 M5 => gThis M5 x4 21 fun b9 => L_size g b9  M5 (fun x10 M8 => nW M8 4 fsX5 fun q11 M12 => (isC M12 q11 4 ∧ w_X5_init g F q11 (some b6) (some b9) M12 (fun M13 => (isC M13 q11 4 ∧ w_X5_plain g F q11  M13 (fun x15 M14 => gThis M14 x15 21 fun b17 => L_size g b17  M14 (fun x18 M16 => Q ((x7 + x10) - ((2 : Int32) * x18)) M16)))))))) X)) X)
theorem m_X1_distance {l : Launch} {g : gT} {F : Nat} {a0 : Nat} {p1 : Int32} {p2 : Int32} {M : hM} {Q : Int32 → hM → Prop} {X : String → Nat → hM → Prop} (hJ : JOK l g) (hw : w_X1_distance g F a0 p1 p2 M Q X) : MX l g yX1_distance (ws_ yX1_distance cX1_distance 5 (some .int)) 44 2098 [va_rf (some a0), .int p1, .int p2] M (PI Q) X := by
  refine MX_of hJ.2.1 (by decide) (cat_r (cat_i (cat_i cat_e))) (Nat.le_of_ble_eq_true rfl) (fun k hl hg hin hno hQ hC => ?_)
  subst hl hg
  show GW k 5 M 0 [some (va_rf (some a0)), some (.int p1), some (.int p2), none, none] []
  refine G_aload_n (pc := 0) (i := 0) hC dX1_distance_0 rfl rfl ?_
  refine G_iload_n (pc := 1) (i := 1) hC dX1_distance_1 rfl rfl ?_
  obtain ⟨hb, hw⟩ := hw
  refine GX_callV (pc := 2) (n := 1) (C := "MergeWorkbench") (b := a0) (As := [.int p1]) (rest := []) hC (m_X1_document hJ hw) (lw_V q1215 q1217 qs10 q84 q1218) hd_X1_document (by decide) (rcv (C := RX1) (T := TX1) (N := 10) hC hb rfl) rfl rfl (st_c cat_e (Nat.le_of_ble_eq_true rfl)) dX1_distance_2 (fun E q M hx => GX_out hC hno hQ hx) (kRf fun x2 M1 hw => ?_)
  refine G_astore_n (pc := 5) (i := 3) (lw := [some (va_rf (some a0)), some (.int p1), some (.int p2), some (va_rf x2), none]) hC dX1_distance_5 rfl (Nat.le_of_ble_eq_true rfl) rfl ?_
  refine G_aload_n (pc := 6) (i := 0) hC dX1_distance_6 rfl rfl ?_
  refine G_iload_n (pc := 7) (i := 2) hC dX1_distance_7 rfl rfl ?_
  obtain ⟨hb, hw⟩ := hw
  refine GX_callV (pc := 8) (n := 1) (C := "MergeWorkbench") (b := a0) (As := [.int p2]) (rest := []) hC (m_X1_document hJ hw) (lw_V q1215 q1217 qs10 q84 q1218) hd_X1_document (by decide) (rcv (C := RX1) (T := TX1) (N := 10) hC hb rfl) rfl rfl (st_c cat_e (Nat.le_of_ble_eq_true rfl)) dX1_distance_8 (fun E q M hx => GX_out hC hno hQ hx) (kRf fun x4 M3 hw => ?_)
  refine G_astore (pc := 11) (i := 4) (lw := [some (va_rf (some a0)), some (.int p1), some (.int p2), some (va_rf x2), some (va_rf x4)]) hC dX1_distance_11 (Nat.le_of_ble_eq_true rfl) rfl ?_
  refine G_aload_n (pc := 13) (i := 3) hC dX1_distance_13 rfl rfl ?_
  obtain ⟨b6, rfl, hb, hw⟩ := gThis_e hw
  refine G_callF (pc := 14) (n := 0) (x := ⟨"java/util/List", "size", "()I"⟩) (C := "java/util/ArrayList") (ci := 21) (T := TJ2) (N := 3) (b := b6) (As := []) (rest := []) hC (J_L_size hJ hw) (lw_F q1205 q889 q363 q87 q364) (nw_in q888 rfl) (nw_in q887 rfl) (nw_in q891 rfl) (nw_in q890 rfl) (nw_in q259 rfl) rfl (rcv (C := RJ2) (T := TJ2) (N := 3) hC hb rfl) (by decide +kernel) (by decide) rfl rfl (st_c cat_e (Nat.le_of_ble_eq_true rfl)) dX1_distance_14 (kI fun x7 M5 hw => ?_)
  refine G_aload (pc := 19) (i := 4) hC dX1_distance_19 rfl ?_
  obtain ⟨b9, rfl, hb, hw⟩ := gThis_e hw
  refine G_callF (pc := 21) (n := 0) (x := ⟨"java/util/List", "size", "()I"⟩) (C := "java/util/ArrayList") (ci := 21) (T := TJ2) (N := 3) (b := b9) (As := []) (rest := [.int x7]) hC (J_L_size hJ hw) (lw_F q1205 q889 q363 q87 q364) (nw_in q888 rfl) (nw_in q887 rfl) (nw_in q891 rfl) (nw_in q890 rfl) (nw_in q259 rfl) rfl (rcv (C := RJ2) (T := TJ2) (N := 3) hC hb rfl) (by decide +kernel) (by decide) rfl rfl (st_c (cat_i cat_e) (Nat.le_of_ble_eq_true rfl)) dX1_distance_21 (kI fun x10 M8 hw => ?_)
  refine G_iadd (pc := 26) hC dX1_distance_26 ?_
  refine G_iconst (pc := 27) (v := 2) hC dX1_distance_27 (by decide) ?_
  refine G_new (pc := 28) (ci := 4) (C := RX5) (T := TX5) (N := 4) (fs := fsX5) tyX5 hC rfl in_X5 tyX5_ok q1633 q1634 q123 dfX5 rfl dX1_distance_28 hw (fun q11 M12 hw => ?_)
  refine G_dup (pc := 31) hC dX1_distance_31 (rf_cat _) ?_
  refine G_aload_n (pc := 32) (i := 3) hC dX1_distance_32 rfl rfl ?_
  refine G_aload (pc := 33) (i := 4) hC dX1_distance_33 rfl ?_
  obtain ⟨hb, hw⟩ := hw
  refine G_callI (pc := 35) (n := 2) (b := q11) (As := [va_rf (some b6), va_rf (some b9)]) (rest := [va_rf (some q11), .int (2 : Int32), .int (x7 + x10)]) hC (m_X5_init hJ hw) (lw_meth q1637) q123 q1635 q1636 rfl hd_X5_init.2 (by decide) rfl rfl (st_c (cat_r (cat_i (cat_i cat_e))) (Nat.le_of_ble_eq_true rfl)) dX1_distance_35 (kU fun M13 hw => ?_)
  obtain ⟨hb, hw⟩ := hw
  refine G_callV (pc := 38) (n := 0) (C := "MergeWorkbench$Aligner") (b := q11) (As := []) (rest := [.int (2 : Int32), .int (x7 + x10)]) hC (m_X5_plain hJ hw) (lw_V q1655 q1656 q1657 q123 q1658) hd_X5_plain (by decide) (rcv (C := RX5) (T := TX5) (N := 4) hC hb rfl) rfl rfl (st_c (cat_i (cat_i cat_e)) (Nat.le_of_ble_eq_true rfl)) dX1_distance_38 (kRf fun x15 M14 hw => ?_)
  obtain ⟨b17, rfl, hb, hw⟩ := gThis_e hw
  refine G_callF (pc := 41) (n := 0) (x := ⟨"java/util/List", "size", "()I"⟩) (C := "java/util/ArrayList") (ci := 21) (T := TJ2) (N := 3) (b := b17) (As := []) (rest := [.int (2 : Int32), .int (x7 + x10)]) hC (J_L_size hJ hw) (lw_F q1205 q889 q363 q87 q364) (nw_in q888 rfl) (nw_in q887 rfl) (nw_in q891 rfl) (nw_in q890 rfl) (nw_in q259 rfl) rfl (rcv (C := RJ2) (T := TJ2) (N := 3) hC hb rfl) (by decide +kernel) (by decide) rfl rfl (st_c (cat_i (cat_i cat_e)) (Nat.le_of_ble_eq_true rfl)) dX1_distance_41 (kI fun x18 M16 hw => ?_)
  refine G_imul (pc := 46) hC dX1_distance_46 ?_
  refine G_isub (pc := 47) hC dX1_distance_47 ?_
  exact G_iretX (pc := 48) hC rfl hQ dX1_distance_48 hw
theorem hd_J5_append_3 : yJ5_append_3.cls = "java/lang/StringBuilder" ∧ yJ5_append_3.cls ≠ "java/lang/invoke/MethodHandle" ∧ yJ5_append_3.cls ≠ "java/lang/invoke/VarHandle" ∧ (parseMethodDescriptor yJ5_append_3.desc).map (fun d => d.parameters.length) = some 1 := by decide +kernel
theorem hd_J5_length : yJ5_length.cls = "java/lang/StringBuilder" ∧ yJ5_length.cls ≠ "java/lang/invoke/MethodHandle" ∧ yJ5_length.cls ≠ "java/lang/invoke/VarHandle" ∧ (parseMethodDescriptor yJ5_length.desc).map (fun d => d.parameters.length) = some 0 := by decide +kernel
def w_X1_feed_17 (g : gT) (F : Nat) (a0 : Nat) (p1 : Int32) (Q : Int32 → hM → Prop) (X : String → Nat → hM → Prop) (s0 : Int32) (M : hM) : Prop :=
  w_X1_requireState g F s0 M (fun M1 => gF M1 (some a0) 0 2 fun x2 => gThis M1 x2 23 fun b4 => S_app g b4 p1 M1 (fun x5 M3 => gF M3 (some a0) 0 2 fun x6 => gThis M3 x6 23 fun b8 => S_sbl g b8  M3 (fun x9 M7 => Q x9 M7))) X
def w_X1_feed (g : gT) (F : Nat) (a0 : Nat) (p1 : Int32) (M : hM) (Q : Int32 → hM → Prop) (X : String → Nat → hM → Prop) : Prop :=
  gF M (some a0) 0 2 fun x1 => gThis M x1 23 fun b3 => S_sbl g b3  M (fun x4 M2 => (((50 : Int32) ≤ x4 → w_X1_feed_17 g F a0 p1 Q X (0 : Int32) M2) ∧ (¬ ((50 : Int32) ≤ x4) → w_X1_feed_17 g F a0 p1 Q X (1 : Int32) M2)))
theorem g_X1_feed_17 {k : kT} {F : Nat} {a0 : Nat} {p1 : Int32} {Q : Int32 → hM → Prop} {X : String → Nat → hM → Prop} (hJ : JOK (kl k) (kg k)) (hC : CX k 2 cX1_feed RX1 (some .int) 41 2021) (hQ : isQX k (PI Q) X) (hin : (kt k).name = "feed") (hno : ∀ x ∈ (kc k).exceptionTable.toList, False) : ∀ (s0 : Int32) (M : hM), w_X1_feed_17 (kg k) F a0 p1 Q X s0 M → GW k 2 M 17 [some (va_rf (some a0)), some (.int p1)] [.int s0] := by
  intro s0 M hw
  refine GX_callS (pc := 17) (n := 1) (As := [.int s0]) (rest := []) hC (m_X1_requireState hJ hw) (lw_S q1235 q1236 q84 q1237) hd_X1_requireState.2 (by decide) rfl rfl (st_c cat_e (Nat.le_of_ble_eq_true rfl)) dX1_feed_17 (fun E q M hx => GX_out hC hno hQ hx) (kU fun M1 hw => ?_)
  refine G_aload_n (pc := 20) (i := 0) hC dX1_feed_20 rfl rfl ?_
  refine G_getF (pc := 21) (ci := 0) (C := RX1) (T := TX1) (N := 10) (f := 2) hC rfl in_X1 (Nat.le_of_ble_eq_true rfl) q696 (fun _ h => h) dX1_feed_21 hw (fun x2 hw => ?_)
  refine G_iload_n (pc := 24) (i := 1) hC dX1_feed_24 rfl rfl ?_
  obtain ⟨b4, rfl, hb, hw⟩ := gThis_e hw
  refine G_callV (pc := 25) (n := 1) (C := "java/lang/StringBuilder") (b := b4) (As := [.int p1]) (rest := []) hC (J_S_app hJ hw) (lw_V q1723 q1724 q1725 q91 q1726) hd_J5_append_3 (by decide) (rcv (C := RJ5) (T := TJ5) (N := 4) hC hb rfl) rfl rfl (st_c cat_e (Nat.le_of_ble_eq_true rfl)) dX1_feed_25 (kRf fun x5 M3 hw => ?_)
  refine G_pop (pc := 28) hC dX1_feed_28 (rf_cat _) ?_
  refine G_aload_n (pc := 29) (i := 0) hC dX1_feed_29 rfl rfl ?_
  refine G_getF (pc := 30) (ci := 0) (C := RX1) (T := TX1) (N := 10) (f := 2) hC rfl in_X1 (Nat.le_of_ble_eq_true rfl) q696 (fun _ h => h) dX1_feed_30 hw (fun x6 hw => ?_)
  obtain ⟨b8, rfl, hb, hw⟩ := gThis_e hw
  refine G_callV (pc := 33) (n := 0) (C := "java/lang/StringBuilder") (b := b8) (As := []) (rest := []) hC (J_S_sbl hJ hw) (lw_V q1722 q586 q3871 q91 q587) hd_J5_length (by decide) (rcv (C := RJ5) (T := TJ5) (N := 4) hC hb rfl) rfl rfl (st_c cat_e (Nat.le_of_ble_eq_true rfl)) dX1_feed_33 (kI fun x9 M7 hw => ?_)
  exact G_iretX (pc := 36) hC rfl hQ dX1_feed_36 hw
theorem m_X1_feed {l : Launch} {g : gT} {F : Nat} {a0 : Nat} {p1 : Int32} {M : hM} {Q : Int32 → hM → Prop} {X : String → Nat → hM → Prop} (hJ : JOK l g) (hw : w_X1_feed g F a0 p1 M Q X) : MX l g yX1_feed (ws_ yX1_feed cX1_feed 2 (some .int)) 41 2021 [va_rf (some a0), .int p1] M (PI Q) X := by
  refine MX_of hJ.2.1 (by decide) (cat_r (cat_i cat_e)) (Nat.le_of_ble_eq_true rfl) (fun k hl hg hin hno hQ hC => ?_)
  subst hl hg
  show GW k 2 M 0 [some (va_rf (some a0)), some (.int p1)] []
  refine G_aload_n (pc := 0) (i := 0) hC dX1_feed_0 rfl rfl ?_
  refine G_getF (pc := 1) (ci := 0) (C := RX1) (T := TX1) (N := 10) (f := 2) hC rfl in_X1 (Nat.le_of_ble_eq_true rfl) q696 (fun _ h => h) dX1_feed_1 hw (fun x1 hw => ?_)
  obtain ⟨b3, rfl, hb, hw⟩ := gThis_e hw
  refine G_callV (pc := 4) (n := 0) (C := "java/lang/StringBuilder") (b := b3) (As := []) (rest := []) hC (J_S_sbl hJ hw) (lw_V q1722 q586 q3871 q91 q587) hd_J5_length (by decide) (rcv (C := RJ5) (T := TJ5) (N := 4) hC hb rfl) rfl rfl (st_c cat_e (Nat.le_of_ble_eq_true rfl)) dX1_feed_4 (kI fun x4 M2 hw => ?_)
  refine G_bipush (pc := 7) (v := 50) hC dX1_feed_7 (by decide) ?_
  refine G_icmp_ge (pc := 9) (tgt := 16) hC dX1_feed_9 (by decide) (fun hc => ?_) (fun hc => ?_)
  · replace hw := hw.1 hc
    refine G_iconst (pc := 16) (v := 0) hC dX1_feed_16 (by decide) ?_
    exact g_X1_feed_17 hJ hC hQ hin hno  (0 : Int32) M2 hw
  · replace hw := hw.2 hc
    refine G_iconst (pc := 12) (v := 1) hC dX1_feed_12 (by decide) ?_
    refine G_goto (pc := 13) (tgt := 17) hC dX1_feed_13 (by decide) ?_
    exact g_X1_feed_17 hJ hC hQ hin hno  (1 : Int32) M2 hw
theorem hd_J5_setLength : yJ5_setLength.cls = "java/lang/StringBuilder" ∧ yJ5_setLength.cls ≠ "java/lang/invoke/MethodHandle" ∧ yJ5_setLength.cls ≠ "java/lang/invoke/VarHandle" ∧ (parseMethodDescriptor yJ5_setLength.desc).map (fun d => d.parameters.length) = some 1 := by decide +kernel
theorem hd_J5_toString : yJ5_toString.cls = "java/lang/StringBuilder" ∧ yJ5_toString.cls ≠ "java/lang/invoke/MethodHandle" ∧ yJ5_toString.cls ≠ "java/lang/invoke/VarHandle" ∧ (parseMethodDescriptor yJ5_toString.desc).map (fun d => d.parameters.length) = some 0 := by decide +kernel
theorem hd_X7_document : yX7_document.cls = "MergeWorkbench$Reader" ∧ yX7_document.cls ≠ "java/lang/invoke/MethodHandle" ∧ yX7_document.cls ≠ "java/lang/invoke/VarHandle" ∧ (parseMethodDescriptor yX7_document.desc).map (fun d => d.parameters.length) = some 0 := by decide +kernel
theorem hd_X7_init : yX7_init.cls = "MergeWorkbench$Reader" ∧ yX7_init.cls ≠ "java/lang/invoke/MethodHandle" ∧ yX7_init.cls ≠ "java/lang/invoke/VarHandle" ∧ (parseMethodDescriptor yX7_init.desc).map (fun d => d.parameters.length) = some 1 := by decide +kernel
abbrev hh_X1_readDocument : List (Nat × Nat × Nat × Nat) := [(0, 56, 66, 141), (0, 56, 85, 0), (66, 75, 85, 0), (85, 87, 85, 0)]
def w_X1_readDocument_40 (g : gT) (F : Nat) (a0 : Nat) (p1 : Int32) (Q : Int32 → hM → Prop) (X : String → Nat → hM → Prop) (v2 : Option Nat) (s0 : Int32) (M : hM) : Prop :=
  w_X1_requireState g F s0 M (fun M1 => (isC M1 a0 0 ∧ w_X1_change g F a0 p1 v2 M1 (fun M2 => gThis M2 v2 21 fun b4 => L_size g b4  M2 (fun x5 M3 => gF M3 (some a0) 0 2 fun x6 => gThis M3 x6 23 fun b8 => S_set g b8 (0 : Int32) M3 (fun M7 => Q x5 M7))))) (fun E9 q10 M11 => (E9 = "MergeWorkbench$SyntaxException" ∧ gI M11 (some q10) 7 6 fun x12 => gF M11 (some a0) 0 2 fun x13 => gThis M11 x13 23 fun b15 => S_set g b15 (0 : Int32) M11 (fun M14 => Q ((-100 : Int32) - x12) M14)) ∨ (E9 = "java/lang/IllegalArgumentException" ∧ finW g a0 E9 q10 M11 X) ∨ (E9 = "java/lang/IllegalStateException" ∧ finW g a0 E9 q10 M11 X))
def w_X1_readDocument (g : gT) (F : Nat) (a0 : Nat) (p1 : Int32) (M : hM) (Q : Int32 → hM → Prop) (X : String → Nat → hM → Prop) : Prop :=
  (isC M a0 0 ∧ w_X1_document g F a0 p1 M (fun x2 M1 => nW M1 6 fsX7 fun q3 M4 => gF M4 (some a0) 0 2 fun x5 => gThis M4 x5 23 fun b7 => S_str g b7  M4 (fun x8 M6 => (isC M6 q3 6 ∧ w_X7_init g F q3 x8 M6 (fun M9 => (isC M9 q3 6 ∧ w_X7_document g F q3  M9 (fun x11 M10 => gThis M10 x11 21 fun b13 => L_size g b13  M10 (fun x14 M12 => (((24 : Int32) < x14 → w_X1_readDocument_40 g F a0 p1 Q X (some b13) (0 : Int32) M12) ∧ (¬ ((24 : Int32) < x14) → w_X1_readDocument_40 g F a0 p1 Q X (some b13) (1 : Int32) M12)))) (fun E15 q16 M17 => (E15 = "MergeWorkbench$SyntaxException" ∧ gI M17 (some q16) 7 6 fun x18 => gF M17 (some a0) 0 2 fun x19 => gThis M17 x19 23 fun b21 => S_set g b21 (0 : Int32) M17 (fun M20 => Q ((-100 : Int32) - x18) M20)) ∨ (E15 = "java/lang/IllegalArgumentException" ∧ finW g a0 E15 q16 M17 X) ∨ (E15 = "java/lang/IllegalStateException" ∧ finW g a0 E15 q16 M17 X))))))) (fun E22 q23 M24 => (E22 = "MergeWorkbench$SyntaxException" ∧ gI M24 (some q23) 7 6 fun x25 => gF M24 (some a0) 0 2 fun x26 => gThis M24 x26 23 fun b28 => S_set g b28 (0 : Int32) M24 (fun M27 => Q ((-100 : Int32) - x25) M27)) ∨ (E22 = "java/lang/IllegalArgumentException" ∧ finW g a0 E22 q23 M24 X) ∨ (E22 = "java/lang/IllegalStateException" ∧ finW g a0 E22 q23 M24 X)))
theorem g_X1_readDocument_40 {k : kT} {F : Nat} {a0 : Nat} {p1 : Int32} {Q : Int32 → hM → Prop} {X : String → Nat → hM → Prop} (hJ : JOK (kl k) (kg k)) (hC : CX k 5 cX1_readDocument RX1 (some .int) 55 2336) (hQ : isQX k (PI Q) X) (hin : (kt k).name = "readDocument") (htab : (kc k).exceptionTable.toList = tableOf hh_X1_readDocument) : ∀ (v2 : Option Nat) (s0 : Int32) (M : hM), w_X1_readDocument_40 (kg k) F a0 p1 Q X v2 s0 M → GW k 5 M 40 [some (va_rf (some a0)), some (.int p1), some (va_rf v2), none, none] [.int s0] := by
  intro v2 s0 M hw
  refine GX_callS (pc := 40) (n := 1) (As := [.int s0]) (rest := []) hC (m_X1_requireState hJ hw) (lw_S q1235 q1236 q84 q1237) hd_X1_requireState.2 (by decide) rfl rfl (st_c cat_e (Nat.le_of_ble_eq_true rfl)) dX1_readDocument_40 (fun E9 q10 M11 hx => ?_) (kU fun M1 hw => ?_)
  · rcases hx with ⟨rfl, hw⟩ | ⟨rfl, hw⟩ | ⟨rfl, hw⟩
    · refine GX_catch (pc := 40) (tgt := 66) hJ.1 hC htab [] ⟨0, 56, 66, 141⟩ [⟨0, 56, 85, 0⟩, ⟨66, 75, 85, 0⟩, ⟨85, 87, 85, 0⟩] rfl trivial (by decide) (by decide) q1750 (nw_in q1813 rfl) rfl ?_
      refine G_astore_n (pc := 66) (i := 2) (lw := [some (va_rf (some a0)), some (.int p1), some (va_rf (some q10)), none, none]) hC dX1_readDocument_66 rfl (Nat.le_of_ble_eq_true rfl) rfl ?_
      refine G_bipush (pc := 67) (v := -100) hC dX1_readDocument_67 (by decide) ?_
      refine G_aload_n (pc := 69) (i := 2) hC dX1_readDocument_69 rfl rfl ?_
      refine G_getIN (pc := 70) (ci := 7) (C := RX8) (T := TX8) (N := 7) (f := 6) hC rfl in_X8 (Nat.le_of_ble_eq_true rfl) (nw_in q1825 rfl) (fun _ h => h) dX1_readDocument_70 hw (fun x12 hw => ?_)
      refine G_isub (pc := 73) hC dX1_readDocument_73 ?_
      refine G_istore_n (pc := 74) (i := 3) (lw := [some (va_rf (some a0)), some (.int p1), some (va_rf (some q10)), some (.int ((-100 : Int32) - x12)), none]) hC dX1_readDocument_74 rfl (Nat.le_of_ble_eq_true rfl) rfl ?_
      refine G_aload_n (pc := 75) (i := 0) hC dX1_readDocument_75 rfl rfl ?_
      refine G_getF (pc := 76) (ci := 0) (C := RX1) (T := TX1) (N := 10) (f := 2) hC rfl in_X1 (Nat.le_of_ble_eq_true rfl) q696 (fun _ h => h) dX1_readDocument_76 hw (fun x13 hw => ?_)
      refine G_iconst (pc := 79) (v := 0) hC dX1_readDocument_79 (by decide) ?_
      obtain ⟨b15, rfl, hb, hw⟩ := gThis_e hw
      refine G_callV (pc := 80) (n := 1) (C := "java/lang/StringBuilder") (b := b15) (As := [.int (0 : Int32)]) (rest := []) hC (J_S_set hJ hw) (lw_V q2118 q2119 q2120 q91 q2121) hd_J5_setLength (by decide) (rcv (C := RJ5) (T := TJ5) (N := 4) hC hb rfl) rfl rfl (st_c cat_e (Nat.le_of_ble_eq_true rfl)) dX1_readDocument_80 (kU fun M14 hw => ?_)
      refine G_iload_n (pc := 83) (i := 3) hC dX1_readDocument_83 rfl rfl ?_
      exact G_iretX (pc := 84) hC rfl hQ dX1_readDocument_84 hw
    · exact GX_fin (pc := 40) hJ hC htab hQ (by decide) (by decide +kernel) rfl rfl rfl hw
    · exact GX_fin (pc := 40) hJ hC htab hQ (by decide) (by decide +kernel) rfl rfl rfl hw
  refine G_aload_n (pc := 43) (i := 0) hC dX1_readDocument_43 rfl rfl ?_
  refine G_iload_n (pc := 44) (i := 1) hC dX1_readDocument_44 rfl rfl ?_
  refine G_aload_n (pc := 45) (i := 2) hC dX1_readDocument_45 rfl rfl ?_
  obtain ⟨hb, hw⟩ := hw
  refine G_callV (pc := 46) (n := 2) (C := "MergeWorkbench") (b := a0) (As := [.int p1, va_rf v2]) (rest := []) hC (m_X1_change hJ hw) (lw_V q1254 q1256 qs11 q84 q1257) hd_X1_change (by decide) (rcv (C := RX1) (T := TX1) (N := 10) hC hb rfl) rfl rfl (st_c cat_e (Nat.le_of_ble_eq_true rfl)) dX1_readDocument_46 (kU fun M2 hw => ?_)
  refine G_aload_n (pc := 49) (i := 2) hC dX1_readDocument_49 rfl rfl ?_
  obtain ⟨b4, rfl, hb, hw⟩ := gThis_e hw
  refine G_callF (pc := 50) (n := 0) (x := ⟨"java/util/List", "size", "()I"⟩) (C := "java/util/ArrayList") (ci := 21) (T := TJ2) (N := 3) (b := b4) (As := []) (rest := []) hC (J_L_size hJ hw) (lw_F q1205 q889 q363 q87 q364) (nw_in q888 rfl) (nw_in q887 rfl) (nw_in q891 rfl) (nw_in q890 rfl) (nw_in q259 rfl) rfl (rcv (C := RJ2) (T := TJ2) (N := 3) hC hb rfl) (by decide +kernel) (by decide) rfl rfl (st_c cat_e (Nat.le_of_ble_eq_true rfl)) dX1_readDocument_50 (kI fun x5 M3 hw => ?_)
  refine G_istore_n (pc := 55) (i := 3) (lw := [some (va_rf (some a0)), some (.int p1), some (va_rf (some b4)), some (.int x5), none]) hC dX1_readDocument_55 rfl (Nat.le_of_ble_eq_true rfl) rfl ?_
  refine G_aload_n (pc := 56) (i := 0) hC dX1_readDocument_56 rfl rfl ?_
  refine G_getF (pc := 57) (ci := 0) (C := RX1) (T := TX1) (N := 10) (f := 2) hC rfl in_X1 (Nat.le_of_ble_eq_true rfl) q696 (fun _ h => h) dX1_readDocument_57 hw (fun x6 hw => ?_)
  refine G_iconst (pc := 60) (v := 0) hC dX1_readDocument_60 (by decide) ?_
  obtain ⟨b8, rfl, hb, hw⟩ := gThis_e hw
  refine G_callV (pc := 61) (n := 1) (C := "java/lang/StringBuilder") (b := b8) (As := [.int (0 : Int32)]) (rest := []) hC (J_S_set hJ hw) (lw_V q2118 q2119 q2120 q91 q2121) hd_J5_setLength (by decide) (rcv (C := RJ5) (T := TJ5) (N := 4) hC hb rfl) rfl rfl (st_c cat_e (Nat.le_of_ble_eq_true rfl)) dX1_readDocument_61 (kU fun M7 hw => ?_)
  refine G_iload_n (pc := 64) (i := 3) hC dX1_readDocument_64 rfl rfl ?_
  exact G_iretX (pc := 65) hC rfl hQ dX1_readDocument_65 hw
theorem m_X1_readDocument {l : Launch} {g : gT} {F : Nat} {a0 : Nat} {p1 : Int32} {M : hM} {Q : Int32 → hM → Prop} {X : String → Nat → hM → Prop} (hJ : JOK l g) (hw : w_X1_readDocument g F a0 p1 M Q X) : MX l g yX1_readDocument (wsW_ yX1_readDocument cX1_readDocument 5 (some .int) hh_X1_readDocument) 55 2336 [va_rf (some a0), .int p1] M (PI Q) X := by
  refine MX_ofH hJ.2.1 (by decide) (cat_r (cat_i cat_e)) (Nat.le_of_ble_eq_true rfl) (fun k hl hg hin htab hQ hC => ?_)
  subst hl hg
  show GW k 5 M 0 [some (va_rf (some a0)), some (.int p1), none, none, none] []
  refine G_aload_n (pc := 0) (i := 0) hC dX1_readDocument_0 rfl rfl ?_
  refine G_iload_n (pc := 1) (i := 1) hC dX1_readDocument_1 rfl rfl ?_
  obtain ⟨hb, hw⟩ := hw
  refine GX_callV (pc := 2) (n := 1) (C := "MergeWorkbench") (b := a0) (As := [.int p1]) (rest := []) hC (m_X1_document hJ hw) (lw_V q1215 q1217 qs10 q84 q1218) hd_X1_document (by decide) (rcv (C := RX1) (T := TX1) (N := 10) hC hb rfl) rfl rfl (st_c cat_e (Nat.le_of_ble_eq_true rfl)) dX1_readDocument_2 (fun E22 q23 M24 hx => ?_) (kRf fun x2 M1 hw => ?_)
  · rcases hx with ⟨rfl, hw⟩ | ⟨rfl, hw⟩ | ⟨rfl, hw⟩
    · refine GX_catch (pc := 2) (tgt := 66) hJ.1 hC htab [] ⟨0, 56, 66, 141⟩ [⟨0, 56, 85, 0⟩, ⟨66, 75, 85, 0⟩, ⟨85, 87, 85, 0⟩] rfl trivial (by decide) (by decide) q1750 (nw_in q1813 rfl) rfl ?_
      refine G_astore_n (pc := 66) (i := 2) (lw := [some (va_rf (some a0)), some (.int p1), some (va_rf (some q23)), none, none]) hC dX1_readDocument_66 rfl (Nat.le_of_ble_eq_true rfl) rfl ?_
      refine G_bipush (pc := 67) (v := -100) hC dX1_readDocument_67 (by decide) ?_
      refine G_aload_n (pc := 69) (i := 2) hC dX1_readDocument_69 rfl rfl ?_
      refine G_getIN (pc := 70) (ci := 7) (C := RX8) (T := TX8) (N := 7) (f := 6) hC rfl in_X8 (Nat.le_of_ble_eq_true rfl) (nw_in q1825 rfl) (fun _ h => h) dX1_readDocument_70 hw (fun x25 hw => ?_)
      refine G_isub (pc := 73) hC dX1_readDocument_73 ?_
      refine G_istore_n (pc := 74) (i := 3) (lw := [some (va_rf (some a0)), some (.int p1), some (va_rf (some q23)), some (.int ((-100 : Int32) - x25)), none]) hC dX1_readDocument_74 rfl (Nat.le_of_ble_eq_true rfl) rfl ?_
      refine G_aload_n (pc := 75) (i := 0) hC dX1_readDocument_75 rfl rfl ?_
      refine G_getF (pc := 76) (ci := 0) (C := RX1) (T := TX1) (N := 10) (f := 2) hC rfl in_X1 (Nat.le_of_ble_eq_true rfl) q696 (fun _ h => h) dX1_readDocument_76 hw (fun x26 hw => ?_)
      refine G_iconst (pc := 79) (v := 0) hC dX1_readDocument_79 (by decide) ?_
      obtain ⟨b28, rfl, hb, hw⟩ := gThis_e hw
      refine G_callV (pc := 80) (n := 1) (C := "java/lang/StringBuilder") (b := b28) (As := [.int (0 : Int32)]) (rest := []) hC (J_S_set hJ hw) (lw_V q2118 q2119 q2120 q91 q2121) hd_J5_setLength (by decide) (rcv (C := RJ5) (T := TJ5) (N := 4) hC hb rfl) rfl rfl (st_c cat_e (Nat.le_of_ble_eq_true rfl)) dX1_readDocument_80 (kU fun M27 hw => ?_)
      refine G_iload_n (pc := 83) (i := 3) hC dX1_readDocument_83 rfl rfl ?_
      exact G_iretX (pc := 84) hC rfl hQ dX1_readDocument_84 hw
    · exact GX_fin (pc := 2) hJ hC htab hQ (by decide) (by decide +kernel) rfl rfl rfl hw
    · exact GX_fin (pc := 2) hJ hC htab hQ (by decide) (by decide +kernel) rfl rfl rfl hw
  refine G_pop (pc := 5) hC dX1_readDocument_5 (rf_cat _) ?_
  refine G_new (pc := 6) (ci := 6) (C := RX7) (T := TX7) (N := 3) (fs := fsX7) tyX7 hC rfl in_X7 tyX7_ok q1751 q1752 q125 dfX7 rfl dX1_readDocument_6 hw (fun q3 M4 hw => ?_)
  refine G_dup (pc := 9) hC dX1_readDocument_9 (rf_cat _) ?_
  refine G_aload_n (pc := 10) (i := 0) hC dX1_readDocument_10 rfl rfl ?_
  refine G_getF (pc := 11) (ci := 0) (C := RX1) (T := TX1) (N := 10) (f := 2) hC rfl in_X1 (Nat.le_of_ble_eq_true rfl) q696 (fun _ h => h) dX1_readDocument_11 hw (fun x5 hw => ?_)
  obtain ⟨b7, rfl, hb, hw⟩ := gThis_e hw
  refine G_callV (pc := 14) (n := 0) (C := "java/lang/StringBuilder") (b := b7) (As := []) (rest := [va_rf (some q3), va_rf (some q3)]) hC (J_S_str hJ hw) (lw_V q1753 q565 q566 q91 q567) hd_J5_toString (by decide) (rcv (C := RJ5) (T := TJ5) (N := 4) hC hb rfl) rfl rfl (st_c (cat_r (cat_r cat_e)) (Nat.le_of_ble_eq_true rfl)) dX1_readDocument_14 (kRf fun x8 M6 hw => ?_)
  obtain ⟨hb, hw⟩ := hw
  refine G_callI (pc := 17) (n := 1) (b := q3) (As := [va_rf x8]) (rest := [va_rf (some q3)]) hC (m_X7_init hJ hw) (lw_meth q1756) q125 q1754 q1755 rfl hd_X7_init.2 (by decide) rfl rfl (st_c (cat_r cat_e) (Nat.le_of_ble_eq_true rfl)) dX1_readDocument_17 (kU fun M9 hw => ?_)
  obtain ⟨hb, hw⟩ := hw
  refine GX_callV (pc := 20) (n := 0) (C := "MergeWorkbench$Reader") (b := q3) (As := []) (rest := []) hC (m_X7_document hJ hw) (lw_V q1768 q1769 q1770 q125 q1771) hd_X7_document (by decide) (rcv (C := RX7) (T := TX7) (N := 3) hC hb rfl) rfl rfl (st_c cat_e (Nat.le_of_ble_eq_true rfl)) dX1_readDocument_20 (fun E15 q16 M17 hx => ?_) (kRf fun x11 M10 hw => ?_)
  · rcases hx with ⟨rfl, hw⟩ | ⟨rfl, hw⟩ | ⟨rfl, hw⟩
    · refine GX_catch (pc := 20) (tgt := 66) hJ.1 hC htab [] ⟨0, 56, 66, 141⟩ [⟨0, 56, 85, 0⟩, ⟨66, 75, 85, 0⟩, ⟨85, 87, 85, 0⟩] rfl trivial (by decide) (by decide) q1750 (nw_in q1813 rfl) rfl ?_
      refine G_astore_n (pc := 66) (i := 2) (lw := [some (va_rf (some a0)), some (.int p1), some (va_rf (some q16)), none, none]) hC dX1_readDocument_66 rfl (Nat.le_of_ble_eq_true rfl) rfl ?_
      refine G_bipush (pc := 67) (v := -100) hC dX1_readDocument_67 (by decide) ?_
      refine G_aload_n (pc := 69) (i := 2) hC dX1_readDocument_69 rfl rfl ?_
      refine G_getIN (pc := 70) (ci := 7) (C := RX8) (T := TX8) (N := 7) (f := 6) hC rfl in_X8 (Nat.le_of_ble_eq_true rfl) (nw_in q1825 rfl) (fun _ h => h) dX1_readDocument_70 hw (fun x18 hw => ?_)
      refine G_isub (pc := 73) hC dX1_readDocument_73 ?_
      refine G_istore_n (pc := 74) (i := 3) (lw := [some (va_rf (some a0)), some (.int p1), some (va_rf (some q16)), some (.int ((-100 : Int32) - x18)), none]) hC dX1_readDocument_74 rfl (Nat.le_of_ble_eq_true rfl) rfl ?_
      refine G_aload_n (pc := 75) (i := 0) hC dX1_readDocument_75 rfl rfl ?_
      refine G_getF (pc := 76) (ci := 0) (C := RX1) (T := TX1) (N := 10) (f := 2) hC rfl in_X1 (Nat.le_of_ble_eq_true rfl) q696 (fun _ h => h) dX1_readDocument_76 hw (fun x19 hw => ?_)
      refine G_iconst (pc := 79) (v := 0) hC dX1_readDocument_79 (by decide) ?_
      obtain ⟨b21, rfl, hb, hw⟩ := gThis_e hw
      refine G_callV (pc := 80) (n := 1) (C := "java/lang/StringBuilder") (b := b21) (As := [.int (0 : Int32)]) (rest := []) hC (J_S_set hJ hw) (lw_V q2118 q2119 q2120 q91 q2121) hd_J5_setLength (by decide) (rcv (C := RJ5) (T := TJ5) (N := 4) hC hb rfl) rfl rfl (st_c cat_e (Nat.le_of_ble_eq_true rfl)) dX1_readDocument_80 (kU fun M20 hw => ?_)
      refine G_iload_n (pc := 83) (i := 3) hC dX1_readDocument_83 rfl rfl ?_
      exact G_iretX (pc := 84) hC rfl hQ dX1_readDocument_84 hw
    · exact GX_fin (pc := 20) hJ hC htab hQ (by decide) (by decide +kernel) rfl rfl rfl hw
    · exact GX_fin (pc := 20) hJ hC htab hQ (by decide) (by decide +kernel) rfl rfl rfl hw
  refine G_astore_n (pc := 23) (i := 2) (lw := [some (va_rf (some a0)), some (.int p1), some (va_rf x11), none, none]) hC dX1_readDocument_23 rfl (Nat.le_of_ble_eq_true rfl) rfl ?_
  refine G_aload_n (pc := 24) (i := 2) hC dX1_readDocument_24 rfl rfl ?_
  obtain ⟨b13, rfl, hb, hw⟩ := gThis_e hw
  refine G_callF (pc := 25) (n := 0) (x := ⟨"java/util/List", "size", "()I"⟩) (C := "java/util/ArrayList") (ci := 21) (T := TJ2) (N := 3) (b := b13) (As := []) (rest := []) hC (J_L_size hJ hw) (lw_F q1205 q889 q363 q87 q364) (nw_in q888 rfl) (nw_in q887 rfl) (nw_in q891 rfl) (nw_in q890 rfl) (nw_in q259 rfl) rfl (rcv (C := RJ2) (T := TJ2) (N := 3) hC hb rfl) (by decide +kernel) (by decide) rfl rfl (st_c cat_e (Nat.le_of_ble_eq_true rfl)) dX1_readDocument_25 (kI fun x14 M12 hw => ?_)
  refine G_bipush (pc := 30) (v := 24) hC dX1_readDocument_30 (by decide) ?_
  refine G_icmp_gt (pc := 32) (tgt := 39) hC dX1_readDocument_32 (by decide) (fun hc => ?_) (fun hc => ?_)
  · replace hw := hw.1 hc
    refine G_iconst (pc := 39) (v := 0) hC dX1_readDocument_39 (by decide) ?_
    exact g_X1_readDocument_40 hJ hC hQ hin htab  (some b13) (0 : Int32) M12 hw
  · replace hw := hw.2 hc
    refine G_iconst (pc := 35) (v := 1) hC dX1_readDocument_35 (by decide) ?_
    refine G_goto (pc := 36) (tgt := 40) hC dX1_readDocument_36 (by decide) ?_
    exact g_X1_readDocument_40 hJ hC hQ hin htab  (some b13) (1 : Int32) M12 hw
